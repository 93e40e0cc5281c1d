/-! THE COMPONENT'S METHODS THAT THROW OR CATCH: their contract and rows -/
set_option maxRecDepth 100000
abbrev nmX : List String := ["java/lang/RuntimeException", "java/lang/Exception"]
abbrev eIAE : String := "java/lang/IllegalArgumentException"
abbrev eISE : String := "java/lang/IllegalStateException"
abbrev eIOB : String := "java/lang/IndexOutOfBoundsException"
abbrev eNSE : String := "java/util/NoSuchElementException"
theorem at_iob : vx_at0 "LeastSolutions" 152 "java/lang/IndexOutOfBoundsException" nmX = [80, 181, 190, 196, 199, 201, 182, 183, 118, 119, 184, 189, 197, 214, 171, 215, 173, 216, 175, 185, 187, 177, 886, 887, 888, 206, 162, 206, 207, 208, 209, 164, 209, 210, 211, 182, 166, 885, 877, 878, 879, 194, 880, 881, 882, 883, 212, 179, 884].filterMap (fun i => lw_tbl[i]?) := by decide +kernel
theorem atk_iob : (Cond.classLink "LeastSolutions" 150 "java/lang/IndexOutOfBoundsException") ∈ lw_all ∧ (Cond.initialized "java/lang/IndexOutOfBoundsException") ∈ lw_all := ⟨lw_w 876 rfl rfl, lw_w 100 rfl rfl⟩
theorem at_ise : vx_at0 "LeastSolutions" 162 "java/lang/IllegalStateException" nmX = [80, 181, 190, 196, 199, 201, 182, 183, 118, 119, 184, 189, 197, 214, 171, 215, 173, 216, 175, 185, 187, 177, 803, 804, 805, 206, 162, 206, 207, 208, 209, 164, 209, 210, 211, 182, 166, 802, 794, 795, 796, 193, 797, 798, 799, 800, 212, 179, 801].filterMap (fun i => lw_tbl[i]?) := by decide +kernel
theorem atk_ise : (Cond.classLink "LeastSolutions" 160 "java/lang/IllegalStateException") ∈ lw_all ∧ (Cond.initialized "java/lang/IllegalStateException") ∈ lw_all := ⟨lw_w 793 rfl rfl, lw_w 103 rfl rfl⟩
theorem at_iae : vx_at0 "LeastSolutions" 183 "java/lang/IllegalArgumentException" nmX = [80, 181, 190, 196, 199, 201, 182, 183, 118, 119, 184, 189, 197, 214, 171, 215, 173, 216, 175, 185, 187, 177, 203, 204, 205, 206, 162, 206, 207, 208, 209, 164, 209, 210, 211, 182, 166, 930, 160, 161, 168, 169, 170, 172, 174, 176, 212, 179, 178].filterMap (fun i => lw_tbl[i]?) := by decide +kernel
theorem atk_iae : (Cond.classLink "LeastSolutions" 181 "java/lang/IllegalArgumentException") ∈ lw_all ∧ (Cond.initialized "java/lang/IllegalArgumentException") ∈ lw_all := ⟨lw_w 929 rfl rfl, lw_w 83 rfl rfl⟩
theorem at_nse : vx_at0 "LeastSolutions" 268 "java/util/NoSuchElementException" nmX = [80, 181, 190, 196, 199, 201, 182, 183, 118, 119, 184, 189, 197, 214, 171, 215, 173, 216, 175, 185, 187, 177, 1378, 1379, 1380, 206, 162, 206, 207, 208, 209, 164, 209, 210, 211, 182, 166, 1377, 1369, 1370, 1371, 195, 1372, 1373, 1374, 1375, 212, 179, 1376].filterMap (fun i => lw_tbl[i]?) := by decide +kernel
theorem atk_nse : (Cond.classLink "LeastSolutions" 266 "java/util/NoSuchElementException") ∈ lw_all ∧ (Cond.initialized "java/util/NoSuchElementException") ∈ lw_all := ⟨lw_w 1368 rfl rfl, lw_w 111 rfl rfl⟩
theorem at_sig : vx_at0 "LeastSolutions$Reader" 11 "java/lang/IllegalArgumentException" nmX = [80, 181, 190, 196, 199, 201, 182, 183, 118, 119, 184, 189, 197, 214, 171, 215, 173, 216, 175, 185, 187, 177, 203, 204, 205, 206, 162, 206, 207, 208, 209, 164, 209, 210, 211, 182, 166, 202, 160, 161, 168, 169, 170, 172, 174, 176, 212, 179, 178].filterMap (fun i => lw_tbl[i]?) := by decide +kernel
theorem atk_sig : (Cond.classLink "LeastSolutions$Reader" 9 "java/lang/IllegalArgumentException") ∈ lw_all ∧ (Cond.initialized "java/lang/IllegalArgumentException") ∈ lw_all := ⟨lw_w 159 rfl rfl, lw_w 83 rfl rfl⟩
theorem atg_iob : (vx_at0 "LeastSolutions" 152 eIOB nmX).all (fun w => goodWord w || nxOk w) = true ∧ (Cond.classLink "LeastSolutions" 150 eIOB :: Cond.initialized eIOB :: vx_at0 "LeastSolutions" 152 eIOB nmX).all vx_ot = true := ⟨by decide +kernel, by decide +kernel⟩
theorem atg_ise : (vx_at0 "LeastSolutions" 162 eISE nmX).all (fun w => goodWord w || nxOk w) = true ∧ (Cond.classLink "LeastSolutions" 160 eISE :: Cond.initialized eISE :: vx_at0 "LeastSolutions" 162 eISE nmX).all vx_ot = true := ⟨by decide +kernel, by decide +kernel⟩
theorem atg_iae : (vx_at0 "LeastSolutions" 183 eIAE nmX).all (fun w => goodWord w || nxOk w) = true ∧ (Cond.classLink "LeastSolutions" 181 eIAE :: Cond.initialized eIAE :: vx_at0 "LeastSolutions" 183 eIAE nmX).all vx_ot = true := ⟨by decide +kernel, by decide +kernel⟩
theorem atg_nse : (vx_at0 "LeastSolutions" 268 eNSE nmX).all (fun w => goodWord w || nxOk w) = true ∧ (Cond.classLink "LeastSolutions" 266 eNSE :: Cond.initialized eNSE :: vx_at0 "LeastSolutions" 268 eNSE nmX).all vx_ot = true := ⟨by decide +kernel, by decide +kernel⟩
theorem atg_sig : (vx_at0 "LeastSolutions$Reader" 11 eIAE nmX).all (fun w => goodWord w || nxOk w) = true ∧ (Cond.classLink "LeastSolutions$Reader" 9 eIAE :: Cond.initialized eIAE :: vx_at0 "LeastSolutions$Reader" 11 eIAE nmX).all vx_ot = true := ⟨by decide +kernel, by decide +kernel⟩
/-- a list of words that the tables hold, each good or of the kind that rides apart -/
theorem at_all {args : Array Value} {s : State} {L : List Cond} (ps : List Nat) (hp : L = ps.filterMap (fun i => lw_tbl[i]?)) (hg : L.all (fun w => goodWord w || nxOk w) = true) (h1 : ∀ w ∈ lw_all, w.before args s = true) (h2 : ∀ w ∈ nxw, va_Nw w s) : ∀ w ∈ L, w.before args s = true := by
  intro w hw
  have hm : w ∈ lw_tbl := by
    rw [hp] at hw
    obtain ⟨i, -, hi⟩ := List.mem_filterMap.mp hw
    exact List.mem_of_getElem? hi
  have hk := List.all_eq_true.mp hg w hw
  simp only [Bool.or_eq_true] at hk
  rcases hk with k | k
  · exact h1 w (List.mem_filter.mpr ⟨hm, k⟩)
  · exact va_Nw.use (nx_tab k) (h2 w (nx_in hm k))
/-- what throwing needs besides: two statics of Throwable, and which exceptions are no others -/
def ZX (A : Nat → Prop) (U : State) (H : Heap) : Prop :=
  vx_Zq Bundle.tN "UNASSIGNED_STACK" Bundle.steD A U H ∧ vx_Zq Bundle.tN "SUPPRESSED_SENTINEL" Bundle.listD A U H ∧
  va_Nc eISE eIAE U ∧ va_Nc eIAE eIOB U ∧ va_Nc eNSE eIAE U ∧ va_Nc eNSE eISE U
theorem ZX_go {A B : Nat → Prop} {s U : State} {H : Heap} {locs : List Loc} (h : ZX A s s.heap) (hS : va_S A s.heap H locs) (hB : ∀ q, B q → A q) (hU : U.heap = H) (hW : s.WarmedH U.vm) : ZX B U U.heap := by
  subst hU
  have hq : ∀ a : Nat, a < s.heap.size → ¬ A a → U.heap[a]? = s.heap[a]? := fun a h1 h2 => hS.2.1 a h1 h2
  exact ⟨((vx_Zq.moved hW.alike h.1).kept hq).narrow hB, ((vx_Zq.moved hW.alike h.2.1).kept hq).narrow hB, va_Nc.moved hW.alike h.2.2.1, va_Nc.moved hW.alike h.2.2.2.1, va_Nc.moved hW.alike h.2.2.2.2.1, va_Nc.moved hW.alike h.2.2.2.2.2⟩
theorem ZX_same {A : Nat → Prop} {u U : State} {H : Heap} (h : ZX A u H) (hvm : u.vm = U.vm) : ZX A U H := by
  have hv : u.vm.Alike U.vm := by rw [hvm]; exact Vm.Alike.refl _
  exact ⟨vx_Zq.moved hv h.1, vx_Zq.moved hv h.2.1, va_Nc.moved hv h.2.2.1, va_Nc.moved hv h.2.2.2.1, va_Nc.moved hv h.2.2.2.2.1, va_Nc.moved hv h.2.2.2.2.2⟩
def PcZ (D : va_G) (dA : Nat → ClassId) (ev : Nat → Nat) (h : Hp) (sz : Nat) (av : List Value) : Array Value → State → Prop :=
  va_Pc av (fun U => (U.heap.size = sz ∧ va_P D vwCl (wsX dA h) U.heap ∧ va_K D vwCl (tyX dA) U ∧ va_D (fun _ => True) (wsX dA h) ∧ EX ev (AX dA h sz) U U.heap) ∧ ZX (AX dA h sz) U U.heap)
theorem PcZ_blind (D : va_G) (dA : Nat → ClassId) (ev : Nat → Nat) (h : Hp) (sz : Nat) (av : List Value) : FrameBlind (PcZ D dA ev h sz av) := by
  intro a U g mk q
  obtain ⟨q0, ⟨q1, qP, qK, qD, qE⟩, qZ⟩ := q
  exact ⟨q0, ⟨q1, qP, va_K.moved (u := U) (U := U.calling g mk a) (Vm.Alike.refl U.vm) qK, qD, EX_same qE rfl⟩, ZX_same qZ rfl⟩
/-- how a method is left by an exception: its class and the heap -/
def XP (D : va_G) (dA : Nat → ClassId) (A : Nat → Prop) (Xr : String → Hp → Prop) : String → State → State → Prop :=
  vx_X (fun _ : Hp => True) (fun E u t => Xr E u ∧ BX D dA A u t) A
section
variable {p : Program} {l : Launch} {e : Env} {R : Room} {s : State} {m : MethodId} {args : Array Value} {below : List Frame} {meth : Method} {c : Code} {H : Heap} {locs : List Loc} {cells slots : Nat} {Q : State → Prop} {pc : Nat} {ls : Array Slot} {rest st : List Value} {D : va_G} {dA : Nat → ClassId} {ev : Nat → Nat} {A : Nat → Prop} {h : Hp} {cc : ByteArray} {nL : Nat} {ret : Option FieldType} {own : String} {a : Nat}
theorem wX_preZ (C : CxM p s m meth c args A own cc nL ret) (hM : wX D dA ev A s h H locs) (hZ : ZX A s s.heap) (av : List Value) (U : State) (hU : U.heap = H) (hW : s.WarmedH U.vm) : PcZ D dA ev h H.size av av.toArray U :=
  ⟨rfl, (wX_pre C hM av U hU hW).2, ZX_go hZ hM.2.2.2.1 (AX_free hM C.2.2.2.2.2.2.2) hU hW⟩
/-- an exception goes on to the caller -/
theorem rZ_out {Qc : Array Value → State → Outcome → State → Prop} {Xr : String → Hp → Prop} {sz MC MS : Nat} {h2 : Hp} {E : String} {ce : Cell} {q : Nat} (C : CxM p s m meth c args (AX dA h sz) own cc nL ret) (hM : wX D dA ev (AX dA h sz) s h2 H locs) (htab : ∀ x ∈ c.exceptionTable.toList, covers x pc = false) (hcs : cells ≤ MC ∧ slots ≤ MS) (hq : Xr E h2) (hcell : H[q]? = some ce) (hv : ce.vm = .none) (hcl : s.vm.findClass E = some ce.cls) :
    vx_W p l e R s m args below meth c H locs cells slots (vx_MQ below Qc (XP D dA (AX dA h sz) Xr) args s MC MS (AX dA h sz)) (F0 m pc ls rest) q :=
  vx_out htab C.2.2.2.1 hcell hv hcl (fun t ht hW => ⟨h2, trivial, ⟨hq, by rw [ht]; exact hM.2.1, va_K.moved hW hM.1, hM.2.2.1⟩, hM.2.2.2.1.F ht⟩) hM.2.2.2.1.2.2 hcs.1 hcs.2
/-- throw new E() -/
theorem rZ_throw {Qc : Array Value → State → Outcome → State → Prop} {Xr : String → Hp → Prop} {sz MC MS ik ic : Nat} {h2 : Hp} {cls : String} (hl : l.stackTraces = false) (C : CxM p s m meth c args (AX dA h sz) own cc nL ret) (hM : wX D dA ev (AX dA h sz) s h2 H locs) (hZ : ZX (AX dA h sz) s s.heap) (hsize : ls.size = nL) (hcls : Bundle.fit cls = true)
    (hk : Cond.classLink own ik cls ∈ lw_all ∧ Cond.initialized cls ∈ lw_all) (ps : List Nat) (hp : vx_at0 own ic cls nmX = ps.filterMap (fun i => lw_tbl[i]?)) (hg : (vx_at0 own ic cls nmX).all (fun w => goodWord w || nxOk w) = true) (hot : (Cond.classLink own ik cls :: Cond.initialized cls :: vx_at0 own ic cls nmX).all vx_ot = true)
    (htab : ∀ x ∈ c.exceptionTable.toList, covers x (pc + 7) = false) (hR : 6 ≤ R.frames ∧ (rest.map fun v => v.category).sum + 81 ≤ R.locals ∧ cells + 1 ≤ R.cells ∧ slots + 6 ≤ R.slots) (hcs : cells + 1 ≤ MC ∧ slots + 6 ≤ MS) (hq : Xr cls h2)
    (d0 : decode cc pc = .ok (.new ik, 3)) (d3 : decode cc (pc + 3) = .ok (.dup, 1)) (d4 : decode cc (pc + 4) = .ok (.invokespecial ic, 3)) (d7 : decode cc (pc + 7) = .ok (.athrow, 1)) :
    W p l e R s m args below meth c H locs cells slots (vx_MQ below Qc (XP D dA (AX dA h sz) Xr) args s MC MS (AX dA h sz)) (F0 m pc ls rest) :=
  vx_throw0 (names := nmX) C.1 C.2.1 hl C.2.2.2.2.2.1 hcls (by decide) (C.2.2.2.2.2.2.1 _ hk.1) (C.2.2.2.2.2.2.1 _ hk.2) (at_all ps hp hg C.2.2.2.2.2.2.1 hM.2.2.2.2.2.2.2.2.1) (fun w hw => List.all_eq_true.mp hot w hw) hZ.1 hZ.2.1 hM.2.2.2.1 (by rw [hsize, C.2.2.2.2.1]) d0 d3 d4 d7 htab hR.1 hR.2.1 hR.2.2.1 hR.2.2.2 C.2.2.2.1
    (fun t hW h1 h3 => ⟨h2, trivial, ⟨hq, hM.2.1.kept (fun k x hx => h3 x.1 (vx_lt hM.2.1 hx)), va_K.moved hW hM.1, hM.2.2.1⟩, Nat.le_trans hM.2.2.2.1.1 h1, fun q hq1 hq2 => (h3 q (Nat.lt_of_lt_of_le hq1 hM.2.2.2.1.1)).trans (hM.2.2.2.1.2.1 q hq1 hq2)⟩) hM.2.2.2.1.2.2 hcs.1 hcs.2
/-- throw of an exception of the pool -/
theorem rZ_athrow {Qc : Array Value → State → Outcome → State → Prop} {Xr : String → Hp → Prop} {sz MC MS : Nat} {h2 : Hp} {q : Nat} (C : CxM p s m meth c args (AX dA h sz) own cc nL ret) (hM : wX D dA ev (AX dA h sz) s h2 H locs) (htab : ∀ x ∈ c.exceptionTable.toList, covers x pc = false) (hcs : cells ≤ MC ∧ slots ≤ MS) (ho : hok h2 q 12) (hq : Xr eIAE h2) (hdg : decode cc pc = .ok (.athrow, 1)) :
    W p l e R s m args below meth c H locs cells slots (vx_MQ below Qc (XP D dA (AX dA h sz) Xr) args s MC MS (AX dA h sz)) (F0 m pc ls (.ref q :: rest)) := by
  obtain ⟨q0, hq0⟩ := wX_obj hM ho (by omega)
  obtain ⟨q', h1, cell, g1, g2, g3, -⟩ := hM.2.1 q0 _ hq0
  exact vx_athrow C.1 C.2.1 hdg (rZ_out C hM htab hcs hq g1 g3 (by rw [g2]; exact (hM.1.1 12 (RJ3, TJ3, 0) rfl).2.1))
/-- the signal is made -/
theorem rZ_make {ik ic : Nat} {cls : String} (hl : l.stackTraces = false) (C : CxM p s m meth c args A own cc nL ret) (hM : wX D dA ev A s h H locs) (hZ : ZX A s s.heap) (hsize : ls.size = nL) (hc : cls = RJ3) (hcls : Bundle.fit cls = true)
    (hk : Cond.classLink own ik cls ∈ lw_all ∧ Cond.initialized cls ∈ lw_all) (ps : List Nat) (hp : vx_at0 own ic cls nmX = ps.filterMap (fun i => lw_tbl[i]?)) (hg : (vx_at0 own ic cls nmX).all (fun w => goodWord w || nxOk w) = true) (hot : (Cond.classLink own ik cls :: Cond.initialized cls :: vx_at0 own ic cls nmX).all vx_ot = true)
    (hR : 6 ≤ R.frames ∧ (rest.map fun v => v.category).sum + 81 ≤ R.locals ∧ cells + 1 ≤ R.cells ∧ slots + 6 ≤ R.slots)
    (d0 : decode cc pc = .ok (.new ik, 3)) (d3 : decode cc (pc + 3) = .ok (.dup, 1)) (d4 : decode cc (pc + 4) = .ok (.invokespecial ic, 3))
    (kk : ∀ (q : Nat) (h2 : Hp) (H1 : Heap), q ∉ h.1 → h2 = nO h q 12 → wX D dA ev A s h2 H1 locs → W p l e R s m args below meth c H1 locs (cells + 1) (slots + 6) Q (F0 m (pc + 7) ls (.ref q :: rest))) :
    W p l e R s m args below meth c H locs cells slots Q (F0 m pc ls rest) := by
  refine vx_make0 (names := nmX) (cl := vwCl) (ci := 12) (T0 := TJ3) C.1 C.2.1 hl C.2.2.2.2.2.1 hcls (by decide) (C.2.2.2.2.2.2.1 _ hk.1) (C.2.2.2.2.2.2.1 _ hk.2) (at_all ps hp hg C.2.2.2.2.2.2.1 hM.2.2.2.2.2.2.2.2.1) (fun w hw => List.all_eq_true.mp hot w hw) hZ.1 hZ.2.1 hM.2.2.2.1 (by rw [hsize, C.2.2.2.2.1]) d0 d3 d4 hM.1 hM.2.1 hM.2.2.1 C.2.2.2.2.2.2.2 (by rw [hc]; rfl) hR.1 hR.2.1 hR.2.2.1 hR.2.2.2 (fun q H1 h1 h2 h3 => ?_)
  have hq : q ∉ h.1 := by
    intro hq
    obtain ⟨k, hk⟩ := wsX_get (dA := dA) hq
    have hlt := (List.getElem?_eq_some_iff.mp hk).1
    have e1 : (wsX dA h ++ [(q, Sum.inr (12, []))])[k]? = some (q, cellOf dA h q) := by rw [List.getElem?_append_left hlt]; exact hk
    have e2 : (wsX dA h ++ [(q, Sum.inr (12, []))])[(wsX dA h).length]? = some (q, Sum.inr (12, [])) := by simp
    have := h2.1 _ _ _ _ e1 e2 rfl
    omega
  have e := wsX_push (dA := dA) (h := h) (h2 := nO h q 12) (e := .inr (12, [])) hq rfl (cell_obj (hok_nO (h := h) (q := q) (ci := 12)) (by omega)) (fun b hb => cellOf_ne_nO b hb)
  exact kk q _ H1 hq rfl ⟨hM.1, by rw [← e]; exact h1, by rw [← e]; exact h2, h3, hM.2.2.2.2⟩
end
