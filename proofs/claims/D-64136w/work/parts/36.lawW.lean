/-! THE LAW'S WORLD: the component's typed heap beside the twin's cells; rows of its calls -/
set_option maxRecDepth 100000
def wL (D : va_G) (dA : Nat → ClassId) (ev : Nat → Nat) (A : Nat → Prop) (s : State) (h : Hp) (ad : Nat → Nat) (σ : St) (H : Heap) (locs : List Loc) : Prop :=
  wX D dA ev A s h H locs ∧ va_P D vwCl (wsM dA ad σ) H ∧ va_D A (wsM dA ad σ) ∧ ∀ b ∈ h.1, ∀ x ∈ wsM dA ad σ, x.1 ≠ b
/-- a heap parted: the component's cells (h2), the twin's (ad, σ) -/
def Split (h h2 : Hp) (ad : Nat → Nat) (σ : St) : Prop :=
  h2.2 = h.2 ∧ (∀ b ∈ h2.1, b ∈ h.1) ∧ h2.1.Nodup ∧ ∀ dA : Nat → ClassId, (∀ x ∈ wsM dA ad σ, x.1 ∈ h.1 ∧ cellOf dA h x.1 = x.2 ∧ x.1 ∉ h2.1) ∧ ((wsM dA ad σ).map (fun q => q.1)).Nodup
theorem wsM_D {dA : Nat → ClassId} {A : Nat → Prop} {ws : va_W} (hn : (ws.map (fun q => q.1)).Nodup) (hA : ∀ x ∈ ws, A x.1) : va_D A ws := by
  refine ⟨fun i j x y hi hj hxy => ?_, fun k x hx => hA _ (List.mem_of_getElem? hx)⟩
  have h1 : (ws.map (fun q => q.1))[i]? = some x.1 := by rw [List.getElem?_map, hi]; rfl
  have h2 : (ws.map (fun q => q.1))[j]? = some x.1 := by rw [List.getElem?_map, hj]; exact congrArg some hxy.symm
  exact (List.getElem?_inj (List.getElem?_eq_some_iff.mp h1).1 hn).mp (h1.trans h2.symm)
theorem AX_in {dA : Nat → ClassId} {h : Hp} {sz q : Nat} (hq : AX dA h sz q) : q ∈ h.1 ∨ sz ≤ q := by
  rcases hq with ⟨k, e, hk⟩ | hq
  · obtain ⟨b, hb, hh⟩ := List.mem_map.mp (List.mem_of_getElem? (show (h.1.map (fun a => (a, cellOf dA h a)))[k]? = some (q, e) from hk))
    cases hh
    exact Or.inl hb
  · exact Or.inr hq
theorem AM_in {dA : Nat → ClassId} {ad : Nat → Nat} {σ : St} {sz q : Nat} (hq : AM dA ad σ sz q) : (∃ x ∈ wsM dA ad σ, x.1 = q) ∨ sz ≤ q := by
  rcases hq with ⟨k, e, hk⟩ | hq
  · exact Or.inl ⟨_, List.mem_of_getElem? hk, rfl⟩
  · exact Or.inr hq
section
variable {p : Program} {l : Launch} {e : Env} {R : Room} {s : State} {m : MethodId} {args : Array Value} {below : List Frame} {meth : Method} {c : Code} {H : Heap} {locs : List Loc} {cells slots : Nat} {Q : State → Prop} {pc : Nat} {ls : Array Slot} {rest st : List Value} {D : va_G} {dA : Nat → ClassId} {ev ad : Nat → Nat} {A : Nat → Prop} {h : Hp} {σ : St} {cc : ByteArray} {nL : Nat} {ret : Option FieldType} {own : String} {a : Nat}
theorem wL_split {h2 : Hp} (hM : wX D dA ev A s h H locs) (hs : Split h h2 ad σ) : wL D dA ev A s h2 ad σ H locs := by
  obtain ⟨h1, h3, h4, h5⟩ := hs
  obtain ⟨h6, h7⟩ := h5 dA
  have hat : ∀ b ∈ h.1, va_at D vwCl (b, cellOf dA h b) H := fun b hb => by
    obtain ⟨k, hk⟩ := wsX_get (dA := dA) hb
    exact hM.2.1 k _ hk
  have hc : ∀ b, cellOf dA h2 b = cellOf dA h b := fun b => by unfold cellOf; rw [h1]
  refine ⟨⟨hM.1, wsX_P (fun b hb => ?_), wsX_D h4 (fun b hb => wX_in hM (h3 b hb)), hM.2.2.2⟩, fun k x hx => ?_, wsM_D (dA := dA) h7 (fun x hx => wX_in hM (h6 x hx).1), fun b hb x hx hxb => (h6 x hx).2.2 (by rw [hxb]; exact hb)⟩
  · rw [hc]; exact hat b (h3 b hb)
  · have hm := List.mem_of_getElem? hx
    have z := hat x.1 (h6 x hm).1
    rw [(h6 x hm).2.1] at z
    exact z
theorem wL_afterX (C : CxM p s m meth c args A own cc nL ret) {t : State} {H1 : Heap} {locs1 : List Loc} {u : Hp} (hL : wL D dA ev A s h ad σ H locs) (ht : t.heap = H1) (hB : BX D dA (AX dA h H.size) u t) (hz : H.size ≤ H1.size) (hk : ∀ q : Nat, q < H.size → ¬ AX dA h H.size q → H1[q]? = H[q]?) (hS : va_S A s.heap H1 locs1) : wL D dA ev A s u ad σ H1 locs1 := by
  refine ⟨wX_after C hL.1 ht hB hS, hL.2.1.kept (fun k x hx => ?_), hL.2.2.1, fun b hb x hx hxb => ?_⟩
  · have hlt := (hL.2.1 k x hx).lt
    refine hk _ hlt (fun z => ?_)
    rcases AX_in z with z | z
    · exact hL.2.2.2 _ z x (List.mem_of_getElem? hx) rfl
    · omega
  · obtain ⟨k, hk1⟩ := wsX_get (dA := dA) hb
    obtain ⟨j, hj⟩ := List.getElem?_of_mem hx
    have hlt := (hL.2.1 j x hj).lt
    rcases AX_in (hB.2.2.2 k _ hk1) with z | z
    · exact hL.2.2.2 _ z x hx hxb
    · have : H.size ≤ b := z
      omega
theorem wL_afterT (C : CxM p s m meth c args A own cc nL ret) {t : State} {H1 : Heap} {locs1 : List Loc} {u : St} (hL : wL D dA ev A s h ad σ H locs) (ht : t.heap = H1) (hB : BM D dA ad (AM dA ad σ H.size) u t) (hz : H.size ≤ H1.size) (hk : ∀ q : Nat, q < H.size → ¬ AM dA ad σ H.size q → H1[q]? = H[q]?) (hS : va_S A s.heap H1 locs1) : wL D dA ev A s h ad u H1 locs1 := by
  have hadr : ∀ x ∈ wsM dA ad u, ∃ y ∈ wsM dA ad σ, y.1 = x.1 := fun x hx => by
    have h1 : x.1 ∈ (wsM dA ad u).map (fun q => q.1) := List.mem_map.mpr ⟨x, hx, rfl⟩
    rw [wM_ad dA ad u σ] at h1
    obtain ⟨y, hy, e⟩ := List.mem_map.mp h1
    exact ⟨y, hy, e⟩
  refine ⟨⟨hL.1.1, hL.1.2.1.kept (fun k x hx => ?_), hL.1.2.2.1, hS, hL.1.2.2.2.2⟩, by rw [← ht]; exact hB.1, ?_, fun b hb x hx hxb => ?_⟩
  · have hlt := (hL.1.2.1 k x hx).lt
    obtain ⟨b, hb, rfl⟩ := List.mem_map.mp (List.mem_of_getElem? (show (h.1.map (fun a => (a, cellOf dA h a)))[k]? = some x from hx))
    refine hk _ hlt (fun z => ?_)
    rcases AM_in z with ⟨x, hx, z⟩ | z
    · exact hL.2.2.2 _ hb x hx z
    · exact absurd hlt (Nat.not_lt.mpr z)
  · refine ⟨hB.2.2.1, fun k x hx => ?_⟩
    obtain ⟨y, hy, e⟩ := hadr x (List.mem_of_getElem? hx)
    obtain ⟨j, hj⟩ := List.getElem?_of_mem hy
    rw [← e]; exact hL.2.2.1.2 j y hj
  · obtain ⟨y, hy, e⟩ := hadr x hx
    exact hL.2.2.2 b hb y hy (e.trans hxb)
theorem AL_free (C : CxM p s m meth c args A own cc nL ret) (hL : wL D dA ev A s h ad σ H locs) : ∀ q, AM dA ad σ H.size q → A q :=
  va_free (wc := wsM dA ad σ) hL.2.2.1 hL.1.2.2.2.1 C.2.2.2.2.2.2.2 (List.range 22) (wM_sub dA ad σ)
/-- a call of the twin -/
theorem runT_V (C : CxM p s m meth c args A own cc nL ret) (hL : wL D dA ev A s h ad σ H locs) (hsize : ls.size = nL) (na : Nat) {maxL idx : Nat} {y : MethodName} {bytes : ByteArray} {rt : Option FieldType} {rm : Room} {As : List Value} {Qc : Array Value → State → Outcome → State → Prop} {free : Addr → Prop}
    (hm : Met l y (ws_ y bytes maxL rt) rm (PcM D dA ad σ H.size (.ref (ad 0) :: As)) Qc 0 0 free) (hw : GoodIn lw_all (wsV own idx RX10 y (ws_ y bytes maxL rt))) (hrc : rm.cells = 0) (hrs : rm.slots = 0) (hd : y.cls = RX10 ∧ y.cls ≠ "java/lang/invoke/MethodHandle" ∧ y.cls ≠ "java/lang/invoke/VarHandle" ∧ (parseMethodDescriptor y.desc).map (fun d => d.parameters.length) = some na) (hR : rm.frames + 1 ≤ R.frames ∧ 8 + (maxL + 11) + rm.locals ≤ R.locals) (hna : As.length = na) (hrest : (rest.map fun v => v.category).sum ≤ 8) (hst : st = As.reverse ++ .ref (ad 0) :: rest) (hdg : decode cc pc = .ok (.invokevirtual idx, 3)) (hf : cells + 0 ≤ R.cells ∧ slots + 0 ≤ R.slots) :
    va_Run p l e R s m args below meth c H locs cells slots 0 0 (F0 m pc ls st) rest (Qc (Value.ref (ad 0) :: As).toArray) free := by
  subst hst
  have hK : va_K D vwCl (tyM dA) s := hL.1.1.sub [0, 1, 2, 3] rfl
  exact va_runV (As := As) (rest := rest) (CxF C) hm (cwV na C.2.2.2.2.2.2.1 hw rfl hrc hrs hd hR) ⟨PcM_blind D dA ad σ H.size _, va_recv hK hL.2.1 (ci := 9) (q0 := 0) rfl (wM_o dA ad σ), fun U hU hW => ⟨rfl, by rw [hU], by rw [hU]; exact hL.2.1, va_K.moved hW.alike hK, hL.2.2.1.weaken (fun _ _ _ _ => trivial)⟩⟩ rfl hna hsize rfl (lv_room hrest) hdg hf
theorem rL_goi (C : CxM p s m meth c args A own cc nL ret) (hL : wL D dA ev A s h ad σ H locs) {mc ms : Nat} {av : Array Value} {Qr : Int32 → Hp → Prop} (hr : va_Run p l e R s m args below meth c H locs cells slots mc ms (F0 m pc ls st) rest (va_Qi Qr (BX D dA (AX dA h H.size)) (AX dA h H.size) av) (AX dA h H.size))
    (kk : ∀ (r : Int32) (u : Hp) (H1 : Heap) (locs1 : List Loc), Qr r u → wL D dA ev A s u ad σ H1 locs1 → W p l e R s m args below meth c H1 locs1 (cells + mc) (slots + ms) Q (F0 m (pc + 3) ls (.int r :: rest))) : W p l e R s m args below meth c H locs cells slots Q (F0 m pc ls st) :=
  va_calli hr hL.1.2.2.2.1 (fun q _ hh => AX_free hL.1 C.2.2.2.2.2.2.2 q hh) (AX_free hL.1 C.2.2.2.2.2.2.2) (fun r u _ H1 locs1 ht _ hq hB hz hk hS => kk r u H1 locs1 hq (wL_afterX C hL ht hB hz hk hS))
/-- of a method that might throw, but doesn't -/
theorem rLZ_goi (C : CxM p s m meth c args A own cc nL ret) (hL : wL D dA ev A s h ad σ H locs) {mc ms : Nat} {av : Array Value} {Qr : Int32 → Hp → Prop} (hr : vx_Run p l e R s m args below meth c H locs cells slots mc ms (F0 m pc ls st) rest (va_Qi Qr (BX D dA (AX dA h H.size)) (AX dA h H.size) av) (XP D dA (AX dA h H.size) (fun _ _ => False)) (AX dA h H.size))
    (kk : ∀ (r : Int32) (u : Hp) (H1 : Heap) (locs1 : List Loc), Qr r u → wL D dA ev A s u ad σ H1 locs1 → W p l e R s m args below meth c H1 locs1 (cells + mc) (slots + ms) Q (F0 m (pc + 3) ls (.int r :: rest))) : W p l e R s m args below meth c H locs cells slots Q (F0 m pc ls st) :=
  vx_calli hr hL.1.2.2.2.1 (fun q _ hh => AX_free hL.1 C.2.2.2.2.2.2.2 q hh) (AX_free hL.1 C.2.2.2.2.2.2.2) (fun q _ hh => AX_free hL.1 C.2.2.2.2.2.2.2 q hh) (fun _ _ _ _ _ _ _ _ _ _ hB _ _ _ _ _ _ => hB.1.elim) (fun r u _ H1 locs1 ht _ hq hB hz hk hS => kk r u H1 locs1 hq (wL_afterX C hL ht hB hz hk hS))
theorem rT_goi (C : CxM p s m meth c args A own cc nL ret) (hL : wL D dA ev A s h ad σ H locs) {mc ms : Nat} {av : Array Value} {Qr : Int32 → St → Prop} (hr : va_Run p l e R s m args below meth c H locs cells slots mc ms (F0 m pc ls st) rest (va_Qi Qr (BM D dA ad (AM dA ad σ H.size)) (AM dA ad σ H.size) av) (AM dA ad σ H.size))
    (kk : ∀ (r : Int32) (u : St) (H1 : Heap) (locs1 : List Loc), Qr r u → wL D dA ev A s h ad u H1 locs1 → W p l e R s m args below meth c H1 locs1 (cells + mc) (slots + ms) Q (F0 m (pc + 3) ls (.int r :: rest))) : W p l e R s m args below meth c H locs cells slots Q (F0 m pc ls st) :=
  va_calli hr hL.1.2.2.2.1 (fun q _ hh => AL_free C hL q hh) (AL_free C hL) (fun r u _ H1 locs1 ht _ hq hB hz hk hS => kk r u H1 locs1 hq (wL_afterT C hL ht hB hz hk hS))
theorem rL_gol (C : CxM p s m meth c args A own cc nL ret) (hL : wL D dA ev A s h ad σ H locs) {mc ms : Nat} {av : Array Value} {Qr : Int64 → Hp → Prop} (hr : va_Run p l e R s m args below meth c H locs cells slots mc ms (F0 m pc ls st) rest (va_Ql Qr (BX D dA (AX dA h H.size)) (AX dA h H.size) av) (AX dA h H.size))
    (kk : ∀ (r : Int64) (u : Hp) (H1 : Heap) (locs1 : List Loc), Qr r u → wL D dA ev A s u ad σ H1 locs1 → W p l e R s m args below meth c H1 locs1 (cells + mc) (slots + ms) Q (F0 m (pc + 3) ls (.long r :: rest))) : W p l e R s m args below meth c H locs cells slots Q (F0 m pc ls st) :=
  va_calll hr hL.1.2.2.2.1 (fun q _ hh => AX_free hL.1 C.2.2.2.2.2.2.2 q hh) (AX_free hL.1 C.2.2.2.2.2.2.2) (fun r u _ H1 locs1 ht _ hq hB hz hk hS => kk r u H1 locs1 hq (wL_afterX C hL ht hB hz hk hS))
/-- of a method that might throw, but doesn't -/
theorem rLZ_gol (C : CxM p s m meth c args A own cc nL ret) (hL : wL D dA ev A s h ad σ H locs) {mc ms : Nat} {av : Array Value} {Qr : Int64 → Hp → Prop} (hr : vx_Run p l e R s m args below meth c H locs cells slots mc ms (F0 m pc ls st) rest (va_Ql Qr (BX D dA (AX dA h H.size)) (AX dA h H.size) av) (XP D dA (AX dA h H.size) (fun _ _ => False)) (AX dA h H.size))
    (kk : ∀ (r : Int64) (u : Hp) (H1 : Heap) (locs1 : List Loc), Qr r u → wL D dA ev A s u ad σ H1 locs1 → W p l e R s m args below meth c H1 locs1 (cells + mc) (slots + ms) Q (F0 m (pc + 3) ls (.long r :: rest))) : W p l e R s m args below meth c H locs cells slots Q (F0 m pc ls st) :=
  vx_calll hr hL.1.2.2.2.1 (fun q _ hh => AX_free hL.1 C.2.2.2.2.2.2.2 q hh) (AX_free hL.1 C.2.2.2.2.2.2.2) (fun q _ hh => AX_free hL.1 C.2.2.2.2.2.2.2 q hh) (fun _ _ _ _ _ _ _ _ _ _ hB _ _ _ _ _ _ => hB.1.elim) (fun r u _ H1 locs1 ht _ hq hB hz hk hS => kk r u H1 locs1 hq (wL_afterX C hL ht hB hz hk hS))
theorem rT_gol (C : CxM p s m meth c args A own cc nL ret) (hL : wL D dA ev A s h ad σ H locs) {mc ms : Nat} {av : Array Value} {Qr : Int64 → St → Prop} (hr : va_Run p l e R s m args below meth c H locs cells slots mc ms (F0 m pc ls st) rest (va_Ql Qr (BM D dA ad (AM dA ad σ H.size)) (AM dA ad σ H.size) av) (AM dA ad σ H.size))
    (kk : ∀ (r : Int64) (u : St) (H1 : Heap) (locs1 : List Loc), Qr r u → wL D dA ev A s h ad u H1 locs1 → W p l e R s m args below meth c H1 locs1 (cells + mc) (slots + ms) Q (F0 m (pc + 3) ls (.long r :: rest))) : W p l e R s m args below meth c H locs cells slots Q (F0 m pc ls st) :=
  va_calll hr hL.1.2.2.2.1 (fun q _ hh => AL_free C hL q hh) (AL_free C hL) (fun r u _ H1 locs1 ht _ hq hB hz hk hS => kk r u H1 locs1 hq (wL_afterT C hL ht hB hz hk hS))
theorem rL_gov (C : CxM p s m meth c args A own cc nL ret) (hL : wL D dA ev A s h ad σ H locs) {mc ms : Nat} {av : Array Value} {Qr : Hp → Prop} (hr : va_Run p l e R s m args below meth c H locs cells slots mc ms (F0 m pc ls st) rest (va_Qv Qr (BX D dA (AX dA h H.size)) (AX dA h H.size) av) (AX dA h H.size))
    (kk : ∀ (u : Hp) (H1 : Heap) (locs1 : List Loc), Qr u → wL D dA ev A s u ad σ H1 locs1 → W p l e R s m args below meth c H1 locs1 (cells + mc) (slots + ms) Q (F0 m (pc + 3) ls (rest))) : W p l e R s m args below meth c H locs cells slots Q (F0 m pc ls st) :=
  va_callv hr hL.1.2.2.2.1 (fun q _ hh => AX_free hL.1 C.2.2.2.2.2.2.2 q hh) (AX_free hL.1 C.2.2.2.2.2.2.2) (fun u _ H1 locs1 ht _ hq hB hz hk hS => kk u H1 locs1 hq (wL_afterX C hL ht hB hz hk hS))
/-- of a method that might throw, but doesn't -/
theorem rLZ_gov (C : CxM p s m meth c args A own cc nL ret) (hL : wL D dA ev A s h ad σ H locs) {mc ms : Nat} {av : Array Value} {Qr : Hp → Prop} (hr : vx_Run p l e R s m args below meth c H locs cells slots mc ms (F0 m pc ls st) rest (va_Qv Qr (BX D dA (AX dA h H.size)) (AX dA h H.size) av) (XP D dA (AX dA h H.size) (fun _ _ => False)) (AX dA h H.size))
    (kk : ∀ (u : Hp) (H1 : Heap) (locs1 : List Loc), Qr u → wL D dA ev A s u ad σ H1 locs1 → W p l e R s m args below meth c H1 locs1 (cells + mc) (slots + ms) Q (F0 m (pc + 3) ls (rest))) : W p l e R s m args below meth c H locs cells slots Q (F0 m pc ls st) :=
  vx_callv hr hL.1.2.2.2.1 (fun q _ hh => AX_free hL.1 C.2.2.2.2.2.2.2 q hh) (AX_free hL.1 C.2.2.2.2.2.2.2) (fun q _ hh => AX_free hL.1 C.2.2.2.2.2.2.2 q hh) (fun _ _ _ _ _ _ _ _ _ _ hB _ _ _ _ _ _ => hB.1.elim) (fun u _ H1 locs1 ht _ hq hB hz hk hS => kk u H1 locs1 hq (wL_afterX C hL ht hB hz hk hS))
theorem rT_gov (C : CxM p s m meth c args A own cc nL ret) (hL : wL D dA ev A s h ad σ H locs) {mc ms : Nat} {av : Array Value} {Qr : St → Prop} (hr : va_Run p l e R s m args below meth c H locs cells slots mc ms (F0 m pc ls st) rest (va_Qv Qr (BM D dA ad (AM dA ad σ H.size)) (AM dA ad σ H.size) av) (AM dA ad σ H.size))
    (kk : ∀ (u : St) (H1 : Heap) (locs1 : List Loc), Qr u → wL D dA ev A s h ad u H1 locs1 → W p l e R s m args below meth c H1 locs1 (cells + mc) (slots + ms) Q (F0 m (pc + 3) ls (rest))) : W p l e R s m args below meth c H locs cells slots Q (F0 m pc ls st) :=
  va_callv hr hL.1.2.2.2.1 (fun q _ hh => AL_free C hL q hh) (AL_free C hL) (fun u _ H1 locs1 ht _ hq hB hz hk hS => kk u H1 locs1 hq (wL_afterT C hL ht hB hz hk hS))
end
