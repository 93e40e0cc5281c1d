/-! ROWS OF THE COMPONENT'S WORLD: references that may be null, modCount, lengths -/
set_option maxRecDepth 100000
/-- Met.ofW for a method of a class some of whose methods are native -/
theorem Met.ofWF {l : Launch} {y : MethodName} {ws ws' : List Cond} {rm : Room} {Pc : Array Value → State → Prop} {Qc : Array Value → State → Outcome → State → Prop} {mc ms : Nat} {free : Addr → Prop} {cc : ByteArray} {maxL : Nat} {ret : Option FieldType}
    (hy : plainFor y = true) (hw : ws = Cond.code y cc maxL ret :: ws')
    (body : ∀ p e s m args below meth c s₁, BodyLoose p l y (headSpec ws rm) cc maxL ret e s m args below meth c s₁ → c.maxLocals = maxL → Pc args s →
      W p l e (headSpec ws rm).room s m args below meth c s.heap [] 0 0 (MQ below Qc args s mc ms free) (entryFrame m args maxL)) : Met l y ws rm Pc Qc mc ms free := by
  refine MetFree.of_bodySF (code := cc) (maxLocals := maxL) (ret := ret) hy ?_ ?_
  · intro args s m h hn
    obtain ⟨meth, c, h1, h2, h3, h4, h5, h6, -, -⟩ := Cond.code_spec hn (atoms_spec (ws := ws) h _ (by rw [hw]; exact List.mem_cons_self))
    exact ⟨meth, c, h1, h2, h3, h4, h5, h6⟩
  · intro p e s m args below meth c s₁ B hml hP _
    have hh0 : s₁.heap = s.heap := by rw [B.state]; rfl
    obtain ⟨t, a1, o, b1, b2, b3⟩ := body p e s m args below meth c s₁ B hml hP s₁ hh0 (Stand.of_body B)
    exact ⟨t, o, a1, b1, b2, ⟨b3.1, b3.2⟩⟩
theorem va_rf_cat (r : Option Nat) : (va_rf r).category = 1 := by cases r <;> rfl
/-- the length of a list's backing array, which may be the shared empty one -/
def hL (ev : Nat → Nat) (h : Hp) (a : Nat) : Int32 := if a = ev 11 then 0 else nI (hN h a)
/-- what a call through an interface asks -/
theorem lw_F {own : String} {idx : Nat} {C : String} {x y : MethodName} {b : ByteArray} {L : Nat} {r : Option FieldType} (h1 : Cond.methodLink own idx x ∈ lw_all) (h2 : Cond.selects C x y ∈ lw_all) (h3 : Cond.instanceMethod y ∈ lw_all) (h4 : Cond.initialized y.cls ∈ lw_all) (h5 : Cond.code y b L r ∈ lw_all) : GoodIn lw_all (va_wsF own idx C x y (ws_ y b L r)) := by
  refine lw_app ?_ (lw_meth h5)
  intro w hw
  simp only [List.mem_cons, List.not_mem_nil, or_false] at hw
  rcases hw with e | e | e | e
  · rw [e]; exact h1
  · rw [e]; exact h2
  · rw [e]; exact h3
  · rw [e]; exact h4
section
variable {p : Program} {l : Launch} {e : Env} {R : Room} {s : State} {m : MethodId} {args : Array Value} {below : List Frame} {meth : Method} {c : Code} {H : Heap} {locs : List Loc} {cells slots : Nat} {Q : State → Prop} {pc : Nat} {ls : Array Slot} {rest st : List Value} {D : va_G} {dA : Nat → ClassId} {ev : Nat → Nat} {A : Nat → Prop} {h : Hp} {cc : ByteArray} {nL : Nat} {ret : Option FieldType} {own : String} {a : Nat}
theorem lv_aload_nQ (hexec : p.tables.exec = Jvm.exec) (hb : c.code = cc) {k : Fin 4} {i : Nat} {r : Option Nat} (hdg : decode cc pc = .ok (.aload_n k, 1)) (hi : (k : Nat) = i) (hl : ls[i]? = some (.val (va_rf r)))
    (kk : W p l e R s m args below meth c H locs cells slots Q (F0 m (pc + 1) ls (va_rf r :: rest))) : W p l e R s m args below meth c H locs cells slots Q (F0 m pc ls rest) := by
  cases r with
  | none => exact lv_aload_nN hexec hb hdg hi hl kk
  | some b => exact lv_aload_n hexec hb hdg hi hl kk
theorem lv_aloadQ (hexec : p.tables.exec = Jvm.exec) (hb : c.code = cc) {i : Nat} {r : Option Nat} (hdg : decode cc pc = .ok (.aload i, 2)) (hl : ls[i]? = some (.val (va_rf r)))
    (kk : W p l e R s m args below meth c H locs cells slots Q (F0 m (pc + 2) ls (va_rf r :: rest))) : W p l e R s m args below meth c H locs cells slots Q (F0 m pc ls rest) := by
  cases r with
  | none => exact lv_aloadN hexec hb hdg hl kk
  | some b => exact lv_aload hexec hb hdg hl kk
theorem lv_astore_nQ (hexec : p.tables.exec = Jvm.exec) (hb : c.code = cc) {k : Fin 4} {i nL : Nat} {r : Option Nat} {lv lv' : List (Nat × Value)} (hdg : decode cc pc = .ok (.astore_n k, 1)) (hi : (k : Nat) = i) (hh : lv_has ls nL lv) (hn : i < nL) (hl : (i, va_rf r) :: lv.filter (fun q => !(q.1 == i) && !(q.1 + 1 == i && q.2.category == 2)) = lv')
    (kk : ∀ ls' : Array Slot, lv_has ls' nL lv' → W p l e R s m args below meth c H locs cells slots Q (F0 m (pc + 1) ls' rest)) : W p l e R s m args below meth c H locs cells slots Q (F0 m pc ls (va_rf r :: rest)) := by
  cases r with
  | none => exact lv_astore_nN hexec hb hdg hi hh hn hl kk
  | some b => exact lv_astore_n hexec hb hdg hi hh hn hl kk
theorem rX_getRs (C : CxM p s m meth c args A own cc nL ret) (hM : wX D dA ev A s h H locs) (n k : Nat) {idx N b : Nat} {RC : String} {T : u_T} (hc : vwCl[n]? = some (RC, T, N)) (hin : ∀ w ∈ u_ws RC T N, w ∈ lw_all) (hk : k < N) (hn : n < 20) (ht : (tX n)[k]? = some true) (hl : Cond.fieldLink own idx (T k).1 (T k).2.1 (T k).2.2.1 ∈ lw_all) (ha : hok h a n) (he : hR h a k = some b) (hdg : decode cc pc = .ok (.getfield idx, 3))
    (kk : W p l e R s m args below meth c H locs cells slots Q (F0 m (pc + 3) ls (.ref b :: rest))) : W p l e R s m args below meth c H locs cells slots Q (F0 m pc ls (.ref a :: rest)) :=
  rX_getR C hM n k hc hin hk hn ht hl ha hdg (by rw [he]; exact kk)
theorem rX_getRsN (C : CxM p s m meth c args A own cc nL ret) (hM : wX D dA ev A s h H locs) (n k : Nat) {idx N b : Nat} {RC host : String} {T : u_T} (hc : vwCl[n]? = some (RC, T, N)) (hin : ∀ w ∈ u_ws RC T N, w ∈ lw_all) (hk : k < N) (hn : n < 20) (ht : (tX n)[k]? = some true) (hl : Cond.fieldLinkNest own idx (T k).1 (T k).2.1 (T k).2.2.1 host ∈ lw_tbl) (ha : hok h a n) (he : hR h a k = some b) (hdg : decode cc pc = .ok (.getfield idx, 3))
    (kk : W p l e R s m args below meth c H locs cells slots Q (F0 m (pc + 3) ls (.ref b :: rest))) : W p l e R s m args below meth c H locs cells slots Q (F0 m pc ls (.ref a :: rest)) :=
  rX_getRN C hM n k hc hin hk hn ht hl ha hdg (by rw [he]; exact kk)
theorem rX_aalds (C : CxM p s m meth c args A own cc nL ret) (hM : wX D dA ev A s h H locs) (n : Nat) {b : Nat} (h4 : 4 ≤ n) (h8 : n < 8) (ha : hok h a (20 + n)) {i : Int32} (hin : vp_in i (hN h a)) (he : hO h a i = some b) (hdg : decode cc pc = .ok (.aaload, 1))
    (kk : W p l e R s m args below meth c H locs cells slots Q (F0 m (pc + 1) ls (.ref b :: rest))) : W p l e R s m args below meth c H locs cells slots Q (F0 m pc ls (.int i :: .ref a :: rest)) :=
  rX_aald C hM n h4 h8 ha hin hdg (by rw [he]; exact kk)
theorem rX_alenE (C : CxM p s m meth c args A own cc nL ret) (hM : wX D dA ev A s h H locs) (ha : a = ev 11 ∨ hok h a 26) (hdg : decode cc pc = .ok (.arraylength, 1))
    (kk : W p l e R s m args below meth c H locs cells slots Q (F0 m (pc + 1) ls (.int (hL ev h a) :: rest))) : W p l e R s m args below meth c H locs cells slots Q (F0 m pc ls (.ref a :: rest)) := by
  by_cases q : a = ev 11
  · subst q
    refine rX_elen C hM hdg ?_
    have e : hL ev h (ev 11) = 0 := if_pos rfl
    rw [e] at kk; exact kk
  · refine rX_alen C hM 6 (by omega) (ha.resolve_left q) hdg ?_
    have e : hL ev h a = nI (hN h a) := if_neg q
    rw [e] at kk; exact kk
/-- modCount -/
theorem rX_getM (C : CxM p s m meth c args A "java/util/ArrayList" cc nL ret) (hM : wX D dA ev A s h H locs) {idx : Nat} (hl : Cond.fieldLink "java/util/ArrayList" idx "java/util/ArrayList" "modCount" "I" ∈ lw_all) (ha : hok h a 11) (hdg : decode cc pc = .ok (.getfield idx, 3))
    (kk : W p l e R s m args below meth c H locs cells slots Q (F0 m (pc + 3) ls (.int (hI h a 0) :: rest))) : W p l e R s m args below meth c H locs cells slots Q (F0 m pc ls (.ref a :: rest)) := by
  obtain ⟨q0, hq⟩ := wX_obj hM ha (by omega)
  exact va_get (D := D) (ci := 11) (v := .int (hI h a 0)) (C := RJ6) (T := TJ6) (N := 3) (ref := "java/util/ArrayList") C.1 C.2.1 C.2.2.2.2.2.2.1 in_J6 C.2.2.2.2.2.1 hM.1 hM.2.1 q0 hq rfl 0 (by decide) (C.2.2.2.2.2.2.1 _ hl) (u_same (C.2.2.2.2.2.2.1 _ q365)) (fV_I rfl) hdg kk
theorem rX_putM (C : CxM p s m meth c args A "java/util/ArrayList" cc nL ret) (hM : wX D dA ev A s h H locs) {idx : Nat} (hl : Cond.fieldLink "java/util/ArrayList" idx "java/util/ArrayList" "modCount" "I" ∈ lw_all) (ha : hok h a 11) {x : Int32} (hdg : decode cc pc = .ok (.putfield idx, 3))
    (kk : ∀ (h2 : Hp) (H1 : Heap) (locs1 : List Loc), h2 = uI h a 0 x → wX D dA ev A s h2 H1 locs1 → W p l e R s m args below meth c H1 locs1 cells slots Q (F0 m (pc + 3) ls rest)) : W p l e R s m args below meth c H locs cells slots Q (F0 m pc ls (.int x :: .ref a :: rest)) := by
  obtain ⟨q0, hq⟩ := wX_obj hM ha (by omega)
  have e := wX_uI (n := 11) (k := 0) (x := x) hM (by omega) rfl ha hq
  exact va_put (D := D) (ci := 11) (v := .int x) (C := RJ6) (T := TJ6) (N := 3) (ref := "java/util/ArrayList") C.1 C.2.1 C.2.2.2.2.2.2.1 in_J6 tyJ6 tyJ6_ok nmJ6 C.2.2.2.2.2.1 hM.1 hM.2.1 hM.2.2.1 hM.2.2.2.1 q0 hq rfl 0 (by decide) (C.2.2.2.2.2.2.1 _ hl) (u_same (C.2.2.2.2.2.2.1 _ q365)) rfl (tyJ6_ok 0 (by decide)) rfl rfl (by rw [fV_len]; decide) hdg (fun H1 locs1 h1 h2 h3 => kk _ H1 locs1 rfl ⟨hM.1, by rw [← e]; exact h1, by rw [← e]; exact h2, h3, hM.2.2.2.2⟩)
theorem rX_getC (C : CxM p s m meth c args A own cc nL ret) (hM : wX D dA ev A s h H locs) (hsize : ls.size = nL) {idx : Nat} (hl : Cond.methodLink own idx ⟨"java/lang/Object", "getClass", "()Ljava/lang/Class;"⟩ ∈ lw_all) (ha : hok h a 26) (hframes : 1 ≤ R.frames) (hlocals : (rest.map fun v => v.category).sum + 14 ≤ R.locals) (hdg : decode cc pc = .ok (.invokevirtual idx, 3))
    (kk : W p l e R s m args below meth c H locs cells slots Q (F0 m (pc + 3) ls (.ref (ev 12) :: rest))) : W p l e R s m args below meth c H locs cells slots Q (F0 m pc ls (.ref a :: rest)) := by
  obtain ⟨q0, hq⟩ := wX_O (n := 6) hM ha (by omega)
  obtain ⟨kA, comp, -, -, -, e1⟩ := (hM.1.2 6 (dA 6, .object "java/lang/Object") rfl).2
  exact va_getC (C := "[Ljava/lang/Object;") C.1 C.2.1 (by rw [C.2.2.2.2.1, hsize]) C.2.2.2.2.2.1 (C.2.2.2.2.2.2.1 _ hl) (va_Nw.use rfl (hM.2.2.2.2.2.2.2.2.1 _ (nx_in q1730 rfl))) (C.2.2.2.2.2.2.1 _ q1729) (C.2.2.2.2.2.2.1 _ q724) (C.2.2.2.2.2.2.1 _ q746) hM.2.2.2.2.2.2.2.1 ⟨_, hM.2.1 q0 _ hq, rfl, e1⟩ hframes hlocals hdg kk
/-- a long array into an array of them -/
theorem rX_aastJ (C : CxM p s m meth c args A own cc nL ret) (hM : wX D dA ev A s h H locs) (ha : hok h a 25) {v : Nat} (hv : hok h v 23) {i : Int32} (hin : vp_in i (hN h a)) (hdg : decode cc pc = .ok (.aastore, 1))
    (kk : ∀ (h2 : Hp) (H1 : Heap) (locs1 : List Loc), h2 = uO h a i (some v) → wX D dA ev A s h2 H1 locs1 → W p l e R s m args below meth c H1 locs1 cells slots Q (F0 m (pc + 1) ls rest)) : W p l e R s m args below meth c H locs cells slots Q (F0 m pc ls (.ref v :: .int i :: .ref a :: rest)) := by
  obtain ⟨q0, hq⟩ := wX_O (n := 5) hM ha (by omega)
  obtain ⟨q1, hq1⟩ := wX_J hM hv
  have hlt : i.toNatClampNeg < hN h a := Nat.not_le.mp fun q => hin (Or.inr q)
  have h0 : ¬ i < 0 := fun q => hin (Or.inl q)
  obtain ⟨comp, cA, k, f1, f2, f3, f4, f5⟩ := AAx.spec hM.2.2.2.2.2.2.2.2.2.2.2.2.1
  have e5 : cA = dA 5 := Option.some.inj (f5.symm.trans (hM.1.2 5 (dA 5, .array .long) rfl).2)
  have e3 : comp = dA 3 := Option.some.inj (f1.symm.trans (hM.1.2 3 (dA 3, .long) rfl).2)
  subst e5; subst e3
  obtain ⟨k3, hk3⟩ : ∃ k3, s.vm.classes[dA 3]? = some k3 := by
    obtain ⟨-, k3, hk3, -⟩ := (hM.1.2 3 (dA 3, .long) rfl).1 0 (fun _ => .null)
    exact ⟨k3, hk3⟩
  refine W.aast C.1 C.2.1 (hM.2.1 q0 _ hq) (fun q hh => by cases hh) (fun hh => by cases hh) f3 f4 rfl hk3 ⟨h0, by show _ < (arrV _ _ _).slots.size; rw [arrV_size]; exact hlt⟩ (hM.2.1 q1 _ hq1) (fun q hh => by cases hh) hk3 (va_asg _ _) rfl rfl hdg (fun H1 e z oq => ?_)
  have es := wX_uO (x := some v) (i := i) hM (by omega) ha hq
  refine kk _ H1 _ rfl ⟨hM.1, ?_, ?_, hM.2.2.2.1.put z oq (hM.2.2.1.2 q0 _ hq), hM.2.2.2.2⟩
  · rw [← es]
    refine hM.2.1.set hM.2.2.1 hq ?_ oq
    show H1[a]? = some (vp_cell _ _)
    rw [e]
    rw [vp_cell_q, vp_cell_q, arrV_store]
    congr 2
    funext q
    by_cases hqq : q = i.toNatClampNeg
    · subst hqq
      simp [updV, va_up, va_rf]
    · simp [updV, va_up, hqq]
  · rw [← es]; exact hM.2.2.1.set hq
/-- a call through the interface: a Vector's against -/
theorem runX_F (C : CxM p s m meth c args A own cc nL ret) (hM : wX D dA ev A s h H locs) (hsize : ls.size = nL) (na : Nat) {b maxL idx cnt mc ms : Nat} {bytes : ByteArray} {rt : Option FieldType} {rm : Room} {As : List Value} {Qc : Array Value → State → Outcome → State → Prop} {free : Addr → Prop} (hb : hok h b 10)
    (hm : Met l yX11_against (ws_ yX11_against bytes maxL rt) rm (PcX D dA ev h H.size (.ref b :: As)) Qc mc ms free) (hw : GoodIn lw_all (va_wsF own idx "LeastSolutions$Vector" xAg yX11_against (ws_ yX11_against bytes maxL rt))) (hrc : rm.cells = mc) (hrs : rm.slots = ms) (hd : (parseMethodDescriptor xAg.desc).map (fun d => d.parameters.length) = some na) (hR : rm.frames + 1 ≤ R.frames ∧ 8 + (maxL + 11) + rm.locals ≤ R.locals) (hna : As.length = na) (hrest : (rest.map fun v => v.category).sum ≤ 8) (hst : st = As.reverse ++ .ref b :: rest) (hdg : decode cc pc = .ok (.invokeinterface idx cnt, 5)) (hf : cells + mc ≤ R.cells ∧ slots + ms ≤ R.slots) :
    va_Run5 p l e R s m args below meth c H locs cells slots mc ms (F0 m pc ls st) rest (Qc (Value.ref b :: As).toArray) free := by
  subst hst
  exact va_runF (As := As) (rest := rest) (hM.1.1 10 (RX11, TX11, 2) rfl).2 (CxF C) hm (va_cwF na C.2.2.2.2.2.2.1 hw rfl hrc hrs hM.2.2.2.2.2.2.2.2.2.2.2.2.2.2.1 ⟨by decide, by decide, hd⟩ hR) ⟨PcX_blind D dA ev h H.size _, wX_recv hM hb (by omega) (n := 10) rfl, fun U hU hW => wX_pre C hM _ U hU hW⟩ rfl hna hsize rfl (lv_room hrest) hdg hf
/-- a call through the interface that lands in its own default: a Vector's isBefore (follows va_runF) -/
theorem runX_D (C : CxM p s m meth c args A own cc nL ret) (hM : wX D dA ev A s h H locs) (hsize : ls.size = nL) (na : Nat) {b maxL idx cnt mc ms : Nat} {bytes : ByteArray} {rt : Option FieldType} {rm : Room} {As : List Value} {Pc : Array Value → State → Prop} {Qc : Array Value → State → Outcome → State → Prop} {free : Addr → Prop} (hb0 : hok h b 10) (hPc : Pc = PcX D dA ev h H.size (.ref b :: As))
    (hm : Met l yX12_isBefore (ws_ yX12_isBefore bytes maxL rt) rm Pc Qc mc ms free) (hcode : Cond.code yX12_isBefore bytes maxL rt ∈ lw_all) (hlink : Cond.methodLink own idx yX12_isBefore ∈ lw_all) (hinst : Cond.instanceMethod yX12_isBefore ∈ lw_all) (hini : Cond.initialized "LeastSolutions$Ranked" ∈ lw_all) (hrc : rm.cells = mc) (hrs : rm.slots = ms) (hd : (parseMethodDescriptor yX12_isBefore.desc).map (fun d => d.parameters.length) = some na) (hR : rm.frames + 1 ≤ R.frames ∧ 8 + (maxL + 11) + rm.locals ≤ R.locals) (hna : As.length = na) (hrest : (rest.map fun v => v.category).sum ≤ 8) (hst : st = As.reverse ++ .ref b :: rest) (hdg : decode cc pc = .ok (.invokeinterface idx cnt, 5)) (hf : cells + mc ≤ R.cells ∧ slots + ms ≤ R.slots) :
    va_Run5 p l e R s m args below meth c H locs cells slots mc ms (F0 m pc ls st) rest (Qc (Value.ref b :: As).toArray) free := by
  subst hst
  have hGood : GoodIn lw_all (ws_ yX12_isBefore bytes maxL rt) := lw_meth hcode
  have hcw := C.2.2.2.2.2.2.1 _ hcode
  have hini2 := C.2.2.2.2.2.2.1 _ hini
  have hK : Back l R p e below s args yX12_isBefore 5 8 (PreOf R mc ms Pc) (PostOf Qc mc ms free) := back_of (bytes := bytes) (maxL := maxL) (ret := rt) hm (by rw [hPc]; exact PcX_blind D dA ev h H.size _) hrc hrs hR.1 hR.2 (pay_in C.2.2.2.2.2.2.1 hGood) List.mem_cons_self (fun a' U hW => word_at hW (Or.inl (by first | rfl | simp [Cond.onTables, Cond.keeps, Cond.steady])) hini2)
  obtain ⟨hx, hb, hml, ho, -⟩ := CxF C
  obtain ⟨cellB, hcB, hoB, hclB⟩ := wX_recv hM hb0 (by omega) (n := 10) (RC := RX11) (T := TX11) (N := 2) rfl
  obtain ⟨hfc, kB, hkB, -⟩ := (hM.1.1 10 (RX11, TX11, 2) rfl).2
  have hF := hM.2.2.2.2.2.2.2.2.2.2.2.2.2.1
  have hL := hM.2.2.2.2.2.2.2.2.2.2.2.2.2.2.2
  intro T hT X
  obtain ⟨v, vm₁, ⟨U', l2, c2, s2⟩, hW₁, X', ⟨g', mk, t, L, e1, e2, hq, h1, hLL, h2, h3⟩, st⟩ := X.interfaceBackD hx (C := "LeastSolutions$Vector") (y := yX12_isBefore) (xi := yX12_isBefore) ho (C.2.2.2.2.2.2.1 _ hlink) (va_any rfl hF.1) (va_any rfl hF.2.1) hL (C.2.2.2.2.2.2.1 _ hinst) (va_any rfl hF.2.2.1) (va_any rfl hF.2.2.2.2) ⟨by decide, by decide⟩ hK hfc hkB ⟨cellB, by rw [hT]; exact hcB, Option.some.inj (hclB.symm.trans hfc), hoB⟩ rfl (hsize.trans hml.symm) (Steps.refl _) (argsL := As) (rest := rest) (fun sig hh => by rw [hh] at hd; exact hna.trans (Option.some.inj hd).symm) rfl (lv_room hrest) (by rw [hb]; exact hdg)
    (fun vm₁ hW₁ => ⟨hf.1, hf.2, by rw [hPc]; exact wX_pre C hM _ (T.setVm vm₁) hT hW₁⟩)
  dsimp only [Pt.U, Pt.locs, Pt.cells, Pt.slots] at X' e1 e2 h1 h2 h3 st
  subst h1; subst h2; subst h3
  exact ⟨v, (T.setVm vm₁).calling g' mk (Value.ref b :: As).toArray, t, U', L, hT, X', hLL, e1, e2, hq, fun target hh => st.trans hh⟩
theorem rX_goFi (C : CxM p s m meth c args A own cc nL ret) (hM : wX D dA ev A s h H locs) {mc ms : Nat} {av : Array Value} {Qr : Int32 → Hp → Prop} (hr : va_Run5 p l e R s m args below meth c H locs cells slots mc ms (F0 m pc ls st) rest (va_Qi Qr (BX D dA (AX dA h H.size)) (AX dA h H.size) av) (AX dA h H.size))
    (kk : ∀ (r : Int32) (u : Hp) (H1 : Heap) (locs1 : List Loc), Qr r u → wX D dA ev A s u H1 locs1 → W p l e R s m args below meth c H1 locs1 (cells + mc) (slots + ms) Q (F0 m (pc + 5) ls (.int r :: rest))) : W p l e R s m args below meth c H locs cells slots Q (F0 m pc ls st) :=
  va_callFi hr hM.2.2.2.1 (fun q _ hh => AX_free hM C.2.2.2.2.2.2.2 q hh) (AX_free hM C.2.2.2.2.2.2.2) (fun r u _ H1 locs1 ht _ hq hB _ _ hS => kk r u H1 locs1 hq (wX_after C hM ht hB hS))
end
