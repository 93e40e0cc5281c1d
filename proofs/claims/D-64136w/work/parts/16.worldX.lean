/-! THE COMPONENT'S WORLD OVER THE MACHINE: what a method knows, its start and end, and the rows -/
set_option maxRecDepth 100000
/-- words of the tables that don't ride in the lists: nest mates' links, casts, declared methods -/
def nxOk : Cond → Bool
  | .fieldLinkNest .. => true
  | .methodLinkNest .. => true
  | .castable .. => true
  | .declares .. => true
  | _ => false
def nxw : List Cond := lw_tbl.filter nxOk
theorem nx_in {w : Cond} (h : w ∈ lw_tbl) (g : nxOk w = true) : w ∈ nxw := List.mem_filter.mpr ⟨h, g⟩
theorem nx_warm {w : Cond} (g : nxOk w = true) {s U : State} (hW : s.WarmedH U.vm) (h : va_Nw w s) : va_Nw w U := by
  unfold nxOk at g
  split at g
  · exact va_Nw.warmF hW h
  · exact va_Nw.warmM hW h
  · exact va_Nw.warmC hW h
  · exact va_Nw.warmD hW h
  · cases g
theorem nx_tab {w : Cond} (g : nxOk w = true) : w.onTables = true := by
  unfold nxOk at g
  split at g <;> first | rfl | cases g
def wN : Nat → String
  | 0 => "NUMBER" | 1 => "VARIABLE" | 2 => "PLUS" | 3 => "MINUS" | 4 => "TIMES" | 5 => "EQUAL" | 6 => "LESS" | 7 => "MORE" | 8 => "STOP" | 9 => "END" | _ => "WRONG"
/-- arrays over an array type -/
def AAx (t : FieldType) (U : State) : Prop := (Cond.arrayOver (.array t)).before #[] U = true
theorem AAx.spec {t : FieldType} {U : State} (h : AAx t U) : ∃ comp c k, U.vm.findClass (FieldType.array t).toString = some comp ∧ (U.vm.classes.findIdx? fun (x : Class) => match x.kind with | .array component _ => component == comp | _ => false) = some c ∧ U.vm.classes[c]? = some k ∧ k.kind = .array comp (.array t) ∧ U.vm.findClass ("[" ++ (FieldType.array t).toString) = some c := by
  unfold AAx Cond.before at h
  simp only [Cond.holds, Cond.value, beq_iff_eq] at h
  cases hc : U.vm.findClass (FieldType.array t).toString with
  | none => simp [hc] at h
  | some comp =>
    simp only [hc, Option.bind_some, Option.bind_eq_some_iff, Option.map_eq_some_iff] at h
    obtain ⟨c, hi, k, hk, hb⟩ := h
    obtain ⟨hlt, hp, -⟩ := Array.findIdx?_eq_some_iff_getElem.mp hi
    have hkk : U.vm.classes[c] = k := (Array.getElem?_eq_some_iff.mp hk).2
    rw [hkk] at hp
    cases hkind : k.kind with
    | array component ty =>
      rw [hkind] at hb hp
      simp at hb hp
      exact ⟨comp, c, k, rfl, hi, hk, by rw [hkind, hp, hb.1], hb.2⟩
    | _ => rw [hkind] at hb; simp at hb
theorem AAx.moved {t : FieldType} {u U : State} (hvm : u.vm.Alike U.vm) (h : AAx t u) : AAx t U := by
  obtain ⟨comp, c, k, h1, h2, h3, h4, h5⟩ := AAx.spec h
  obtain ⟨k', hk', he⟩ := hvm.2.2 _ _ h3
  have hi : (U.vm.classes.findIdx? fun (x : Class) => match x.kind with | .array component _ => component == comp | _ => false) = some c := by
    have e1 := va_idx_bare U.vm comp
    have e2 := va_idx_bare u.vm comp
    first | rw [hvm.bare_eq] at e2 | rw [← hvm.bare_eq] at e2
    exact e1.symm.trans (e2.trans h2)
  have hkind : k'.kind = .array comp (.array t) := by rw [he]; exact h4
  have f1 : U.vm.findClass (FieldType.array t).toString = some comp := by rw [hvm.findClass]; exact h1
  have f2 : U.vm.findClass ("[" ++ (FieldType.array t).toString) = some c := by rw [hvm.findClass]; exact h5
  unfold AAx Cond.before Cond.holds
  simp only [Cond.value]
  rw [f1, Option.bind_some]
  refine (congrArg (fun o : Option Nat => (o.bind (fun c => (U.vm.classes[c]?).map fun (k : Class) => match k.kind with | .array _ ty => decide (ty = FieldType.array t) && decide (U.vm.findClass ("[" ++ (FieldType.array t).toString) = some c) | _ => false) == some true)) hi).trans ?_
  simp [hk', hkind, f2]
def xAg : MethodName := ⟨"LeastSolutions$Ranked", "against", "(Ljava/lang/Object;)I"⟩
/-- a Vector takes Ranked's isBefore as it stands there -/
def LDx (U : State) : Prop := (Cond.landsInDefault "LeastSolutions$Vector" yX12_isBefore yX12_isBefore).before #[] U = true
theorem LDx.moved {u U : State} (hvm : u.vm.Alike U.vm) (h : LDx u) : LDx U := by
  have h1 : (Cond.landsInDefault "LeastSolutions$Vector" yX12_isBefore yX12_isBefore).before #[] (u.setVm U.vm) = true := (Cond.landsInDefault_setVm hvm (State.methodFound?_setVm hvm _ _ _)).trans h
  exact h1
def FwX (U : State) : Prop := va_Fw "LeastSolutions$Vector" yX12_isBefore yX12_isBefore U ∧ va_Fw "LeastSolutions$Vector" xAg yX11_against U ∧ LDx U
theorem FwX.moved {u U : State} (hvm : u.vm.Alike U.vm) (h : FwX u) : FwX U := ⟨va_Fw.moved (by decide) hvm h.1, va_Fw.moved (by decide) hvm h.2.1, LDx.moved hvm h.2.2⟩
/-- what stands around the world and is never written: the words' constants, ArrayList's empty array, a mirror, words of the tables -/
def EX (ev : Nat → Nat) (A : Nat → Prop) (U : State) (H : Heap) : Prop :=
  (∀ i, i < 11 → va_Z "LeastSolutions$Word" (wN i) "LLeastSolutions$Word;" (.ref (ev i)) A U H) ∧
  va_Z "java/util/ArrayList" "DEFAULTCAPACITY_EMPTY_ELEMENTDATA" "[Ljava/lang/Object;" (.ref (ev 11)) A U H ∧
  va_T (.object "java/lang/Object") (ev 11) 0 (fun _ => .null) A U H ∧
  va_Mi "[Ljava/lang/Object;" (ev 12) U ∧ (∀ w ∈ nxw, va_Nw w U) ∧ va_AO "java/lang/Object" U ∧ va_AO "LeastSolutions$Found" U ∧ AAx .int U ∧ AAx .long U ∧ FwX U
theorem EX_go {ev : Nat → Nat} {A B : Nat → Prop} {s U : State} {H : Heap} {locs : List Loc} (h : EX ev A s s.heap) (hS : va_S A s.heap H locs) (hB : ∀ q, B q → A q) (hU : U.heap = H) (hW : s.WarmedH U.vm) : EX ev B U U.heap := by
  subst hU
  have hq : ∀ a : Nat, a < s.heap.size → ¬ A a → U.heap[a]? = s.heap[a]? := fun a h1 h2 => hS.2.1 a h1 h2
  refine ⟨fun i hi => ((va_Z.moved hW.alike (h.1 i hi)).kept hq).narrow hB, ((va_Z.moved hW.alike h.2.1).kept hq).narrow hB, ((va_T.moved hW.alike h.2.2.1).kept hq).narrow hB, va_Mi.moved hW.alike h.2.2.2.1, fun w hw => nx_warm (List.mem_filter.mp hw).2 hW (h.2.2.2.2.1 w hw), va_AO.moved hW.alike h.2.2.2.2.2.1, va_AO.moved hW.alike h.2.2.2.2.2.2.1, AAx.moved hW.alike h.2.2.2.2.2.2.2.1, AAx.moved hW.alike h.2.2.2.2.2.2.2.2.1, FwX.moved hW.alike h.2.2.2.2.2.2.2.2.2⟩
theorem EX_same {ev : Nat → Nat} {A : Nat → Prop} {u U : State} {H : Heap} (h : EX ev A u H) (hvm : u.vm = U.vm) : EX ev A U H := by
  have hv : u.vm.Alike U.vm := by rw [hvm]; exact Vm.Alike.refl _
  refine ⟨fun i hi => va_Z.moved hv (h.1 i hi), va_Z.moved hv h.2.1, va_T.moved hv h.2.2.1, va_Mi.moved hv h.2.2.2.1, fun w hw => va_Nw.same (nx_tab (List.mem_filter.mp hw).2) hvm (h.2.2.2.2.1 w hw), va_AO.moved hv h.2.2.2.2.2.1, va_AO.moved hv h.2.2.2.2.2.2.1, AAx.moved hv h.2.2.2.2.2.2.2.1, AAx.moved hv h.2.2.2.2.2.2.2.2.1, FwX.moved hv h.2.2.2.2.2.2.2.2.2⟩
/-- the world of a method of the component that runs from s on -/
def wX (D : va_G) (dA : Nat → ClassId) (ev : Nat → Nat) (A : Nat → Prop) (s : State) (h : Hp) (H : Heap) (locs : List Loc) : Prop :=
  va_K D vwCl (tyX dA) s ∧ va_P D vwCl (wsX dA h) H ∧ va_D A (wsX dA h) ∧ va_S A s.heap H locs ∧ EX ev A s s.heap
def AX (dA : Nat → ClassId) (h : Hp) (sz : Nat) : Nat → Prop := va_A (wsX dA h) sz
def PcX (D : va_G) (dA : Nat → ClassId) (ev : Nat → Nat) (h : Hp) (sz : Nat) (av : List Value) : Array Value → State → Prop :=
  va_Pc av (fun U => U.heap.size = sz ∧ va_P D vwCl (wsX dA h) U.heap ∧ va_K D vwCl (tyX dA) U ∧ va_D (fun _ => True) (wsX dA h) ∧ EX ev (AX dA h sz) U U.heap)
def BX (D : va_G) (dA : Nat → ClassId) (A : Nat → Prop) (u : Hp) (t : State) : Prop := va_P D vwCl (wsX dA u) t.heap ∧ va_K D vwCl (tyX dA) t ∧ va_D A (wsX dA u)
theorem PcX_blind (D : va_G) (dA : Nat → ClassId) (ev : Nat → Nat) (h : Hp) (sz : Nat) (av : List Value) : FrameBlind (PcX D dA ev h sz av) := by
  intro a U g mk q
  obtain ⟨q0, q1, qP, qK, qD, qE⟩ := q
  exact ⟨q0, q1, qP, va_K.moved (u := U) (U := U.calling g mk a) (Vm.Alike.refl U.vm) qK, qD, EX_same qE rfl⟩
theorem va_A_self (ws : va_W) (H : Heap) : (List.range ws.length).map (fun i => ws[i]?) = ws.map some := by
  refine List.ext_getElem? fun j => ?_
  by_cases hj : j < ws.length
  · simp [List.getElem?_map, List.getElem?_range, hj]
  · simp [List.getElem?_map, List.getElem?_range, hj]
theorem AX_free {D : va_G} {dA : Nat → ClassId} {ev : Nat → Nat} {A : Nat → Prop} {s : State} {h : Hp} {H : Heap} {locs : List Loc} (hM : wX D dA ev A s h H locs) (hA : ∀ q : Nat, s.heap.size ≤ q → A q) : ∀ q, AX dA h H.size q → A q :=
  va_free (wc := wsX dA h) hM.2.2.1 hM.2.2.2.1 hA (List.range (wsX dA h).length) (va_A_self _ H)
/-- two array classes of one element type are one -/
theorem tyX_one {D : va_G} {dA : Nat → ClassId} {s : State} {cA : ClassId} {ty : FieldType} (t0 : Nat) (ht : (tyX dA)[t0]? = some (dA t0, ty)) (hK : va_K D vwCl (tyX dA ++ [(cA, ty)]) s) : cA = dA t0 := by
  have hl : t0 < 8 := by
    have := (List.getElem?_eq_some_iff.mp ht).1
    exact this
  have h1 := (hK.2 t0 (dA t0, ty) (by rw [List.getElem?_append_left (by exact hl)]; exact ht)).2
  have h2 := (hK.2 8 (cA, ty) rfl).2
  cases ty with
  | object C =>
    obtain ⟨k1, c1, -, -, -, e1⟩ := h1
    obtain ⟨k2, c2, -, -, -, e2⟩ := h2
    exact Option.some.inj (e2.symm.trans e1)
  | _ => exact Option.some.inj (Eq.trans (Eq.symm h2) h1)
section
variable {p : Program} {l : Launch} {e : Env} {R : Room} {s : State} {m : MethodId} {args : Array Value} {below : List Frame} {meth : Method} {c : Code} {H : Heap} {locs : List Loc} {cells slots : Nat} {Q : State → Prop} {pc : Nat} {ls : Array Slot} {rest : List Value} {D : va_G} {dA : Nat → ClassId} {ev : Nat → Nat} {A : Nat → Prop} {h : Hp} {cc : ByteArray} {nL : Nat} {ret : Option FieldType} {own : String} {a : Nat}
theorem wX_obj (hM : wX D dA ev A s h H locs) {n : Nat} (ha : hok h a n) (hn : n < 20) : ∃ q0 : Nat, (wsX dA h)[q0]? = some (a, .inr (n, fV h a (tX n))) := by
  obtain ⟨k, hk⟩ := wsX_get (dA := dA) ha.1
  exact ⟨k, by rw [hk, cell_obj ha hn]⟩
theorem rX_getI (C : CxM p s m meth c args A own cc nL ret) (hM : wX D dA ev A s h H locs) (n k : Nat) {idx N : Nat} {RC : String} {T : u_T} (hc : vwCl[n]? = some (RC, T, N)) (hin : ∀ w ∈ u_ws RC T N, w ∈ lw_all) (hk : k < N) (hn : n < 20) (ht : (tX n)[k]? = some false) (hl : Cond.fieldLink own idx (T k).1 (T k).2.1 (T k).2.2.1 ∈ lw_all) (ha : hok h a n) (hdg : decode cc pc = .ok (.getfield idx, 3))
    (kk : W p l e R s m args below meth c H locs cells slots Q (F0 m (pc + 3) ls (.int (hI h a k) :: rest))) : W p l e R s m args below meth c H locs cells slots Q (F0 m pc ls (.ref a :: rest)) := by
  obtain ⟨q0, hq⟩ := wX_obj hM ha hn
  exact va_get (D := D) (ci := n) (v := .int (hI h a k)) (C := RC) (T := T) (N := N) C.1 C.2.1 C.2.2.2.2.2.2.1 hin C.2.2.2.2.2.1 hM.1 hM.2.1 q0 hq hc k hk (C.2.2.2.2.2.2.1 _ hl) (fun _ h9 => h9) (fV_I ht) hdg kk
theorem rX_getR (C : CxM p s m meth c args A own cc nL ret) (hM : wX D dA ev A s h H locs) (n k : Nat) {idx N : Nat} {RC : String} {T : u_T} (hc : vwCl[n]? = some (RC, T, N)) (hin : ∀ w ∈ u_ws RC T N, w ∈ lw_all) (hk : k < N) (hn : n < 20) (ht : (tX n)[k]? = some true) (hl : Cond.fieldLink own idx (T k).1 (T k).2.1 (T k).2.2.1 ∈ lw_all) (ha : hok h a n) (hdg : decode cc pc = .ok (.getfield idx, 3))
    (kk : W p l e R s m args below meth c H locs cells slots Q (F0 m (pc + 3) ls (va_rf (hR h a k) :: rest))) : W p l e R s m args below meth c H locs cells slots Q (F0 m pc ls (.ref a :: rest)) := by
  obtain ⟨q0, hq⟩ := wX_obj hM ha hn
  exact va_get (D := D) (ci := n) (v := va_rf (hR h a k)) (C := RC) (T := T) (N := N) C.1 C.2.1 C.2.2.2.2.2.2.1 hin C.2.2.2.2.2.1 hM.1 hM.2.1 q0 hq hc k hk (C.2.2.2.2.2.2.1 _ hl) (fun _ h9 => h9) (fV_R ht) hdg kk
theorem rX_getIN (C : CxM p s m meth c args A own cc nL ret) (hM : wX D dA ev A s h H locs) (n k : Nat) {idx N : Nat} {RC host : String} {T : u_T} (hc : vwCl[n]? = some (RC, T, N)) (hin : ∀ w ∈ u_ws RC T N, w ∈ lw_all) (hk : k < N) (hn : n < 20) (ht : (tX n)[k]? = some false) (hl : Cond.fieldLinkNest own idx (T k).1 (T k).2.1 (T k).2.2.1 host ∈ lw_tbl) (ha : hok h a n) (hdg : decode cc pc = .ok (.getfield idx, 3))
    (kk : W p l e R s m args below meth c H locs cells slots Q (F0 m (pc + 3) ls (.int (hI h a k) :: rest))) : W p l e R s m args below meth c H locs cells slots Q (F0 m pc ls (.ref a :: rest)) := by
  obtain ⟨q0, hq⟩ := wX_obj hM ha hn
  exact va_getN (D := D) (ci := n) (v := .int (hI h a k)) (C := RC) (T := T) (N := N) C.1 C.2.1 C.2.2.2.2.2.2.1 hin C.2.2.2.2.2.1 hM.1 hM.2.1 q0 hq hc k hk (va_Nw.use rfl (hM.2.2.2.2.2.2.2.2.1 _ (nx_in hl rfl))) (fun _ h9 => h9) (fV_I ht) hdg kk
theorem rX_getRN (C : CxM p s m meth c args A own cc nL ret) (hM : wX D dA ev A s h H locs) (n k : Nat) {idx N : Nat} {RC host : String} {T : u_T} (hc : vwCl[n]? = some (RC, T, N)) (hin : ∀ w ∈ u_ws RC T N, w ∈ lw_all) (hk : k < N) (hn : n < 20) (ht : (tX n)[k]? = some true) (hl : Cond.fieldLinkNest own idx (T k).1 (T k).2.1 (T k).2.2.1 host ∈ lw_tbl) (ha : hok h a n) (hdg : decode cc pc = .ok (.getfield idx, 3))
    (kk : W p l e R s m args below meth c H locs cells slots Q (F0 m (pc + 3) ls (va_rf (hR h a k) :: rest))) : W p l e R s m args below meth c H locs cells slots Q (F0 m pc ls (.ref a :: rest)) := by
  obtain ⟨q0, hq⟩ := wX_obj hM ha hn
  exact va_getN (D := D) (ci := n) (v := va_rf (hR h a k)) (C := RC) (T := T) (N := N) C.1 C.2.1 C.2.2.2.2.2.2.1 hin C.2.2.2.2.2.1 hM.1 hM.2.1 q0 hq hc k hk (va_Nw.use rfl (hM.2.2.2.2.2.2.2.2.1 _ (nx_in hl rfl))) (fun _ h9 => h9) (fV_R ht) hdg kk
theorem wX_uI (hM : wX D dA ev A s h H locs) {n k : Nat} {x : Int32} (hn : n < 20) (ht : (tX n)[k]? = some false) (ha : hok h a n) {q0 : Nat} (hq : (wsX dA h)[q0]? = some (a, .inr (n, fV h a (tX n)))) : (wsX dA h).set q0 (a, .inr (n, (fV h a (tX n)).set k (.int x))) = wsX dA (uI h a k x) := by
  refine wsX_set hM.2.2.1 ha.1 (by rw [hq, cell_obj ha hn]) rfl ?_ (cellOf_ne_uI)
  rw [cell_obj (h := uI h a k x) ha hn, fV_uI ht]
theorem wX_uR (hM : wX D dA ev A s h H locs) {n k : Nat} {x : Option Nat} (hn : n < 20) (ht : (tX n)[k]? = some true) (ha : hok h a n) {q0 : Nat} (hq : (wsX dA h)[q0]? = some (a, .inr (n, fV h a (tX n)))) : (wsX dA h).set q0 (a, .inr (n, (fV h a (tX n)).set k (va_rf x))) = wsX dA (uR h a k x) := by
  refine wsX_set hM.2.2.1 ha.1 (by rw [hq, cell_obj ha hn]) rfl ?_ (cellOf_ne_uR)
  rw [cell_obj (h := uR h a k x) ha hn, fV_uR ht]
theorem rX_putI (C : CxM p s m meth c args A own cc nL ret) (hM : wX D dA ev A s h H locs) (n k : Nat) {idx N : Nat} {RC : String} {T : u_T} (hc : vwCl[n]? = some (RC, T, N)) (hin : ∀ w ∈ u_ws RC T N, w ∈ lw_all) (hk : k < N) (hn : n < 20) (hN : N = (tX n).length) (ht : (tX n)[k]? = some false) (hl : Cond.fieldLink own idx (T k).1 (T k).2.1 (T k).2.2.1 ∈ lw_all) (ha : hok h a n) {x : Int32} (ty0 : Nat → FieldType) (hty : ∀ k, k < N → parseFieldDescriptor (T k).2.2.1 = some (ty0 k)) (hnm : ∀ a, a < N → ∀ b, b < N → a ≠ b → (T a).2.1 ≠ (T b).2.1) (hfin : (T k).2.2.2 = false) (hna : narrow (ty0 k) (.int x) = .int x) (hfit : fits (ty0 k) (.int x) = true) (hdg : decode cc pc = .ok (.putfield idx, 3))
    (kk : ∀ (h2 : Hp) (H1 : Heap) (locs1 : List Loc), h2 = uI h a k x → wX D dA ev A s h2 H1 locs1 → W p l e R s m args below meth c H1 locs1 cells slots Q (F0 m (pc + 3) ls rest)) : W p l e R s m args below meth c H locs cells slots Q (F0 m pc ls (.int x :: .ref a :: rest)) := by
  obtain ⟨q0, hq⟩ := wX_obj hM ha hn
  have e := wX_uI (x := x) hM hn ht ha hq
  exact va_put (D := D) (ci := n) (v := .int x) (C := RC) (T := T) (N := N) C.1 C.2.1 C.2.2.2.2.2.2.1 hin ty0 hty hnm C.2.2.2.2.2.1 hM.1 hM.2.1 hM.2.2.1 hM.2.2.2.1 q0 hq hc k hk (C.2.2.2.2.2.2.1 _ hl) (fun _ h9 => h9) hfin (hty k hk) hna hfit (by rw [fV_len, ← hN]; exact hk) hdg (fun H1 locs1 h1 h2 h3 => kk _ H1 locs1 rfl ⟨hM.1, by rw [← e]; exact h1, by rw [← e]; exact h2, h3, hM.2.2.2.2⟩)
theorem rX_putIN (C : CxM p s m meth c args A own cc nL ret) (hM : wX D dA ev A s h H locs) (n k : Nat) {idx N : Nat} {RC host : String} {T : u_T} (hc : vwCl[n]? = some (RC, T, N)) (hin : ∀ w ∈ u_ws RC T N, w ∈ lw_all) (hk : k < N) (hn : n < 20) (hN : N = (tX n).length) (ht : (tX n)[k]? = some false) (hl : Cond.fieldLinkNest own idx (T k).1 (T k).2.1 (T k).2.2.1 host ∈ lw_tbl) (ha : hok h a n) {x : Int32} (ty0 : Nat → FieldType) (hty : ∀ k, k < N → parseFieldDescriptor (T k).2.2.1 = some (ty0 k)) (hnm : ∀ a, a < N → ∀ b, b < N → a ≠ b → (T a).2.1 ≠ (T b).2.1) (hfin : (T k).2.2.2 = false) (hna : narrow (ty0 k) (.int x) = .int x) (hfit : fits (ty0 k) (.int x) = true) (hdg : decode cc pc = .ok (.putfield idx, 3))
    (kk : ∀ (h2 : Hp) (H1 : Heap) (locs1 : List Loc), h2 = uI h a k x → wX D dA ev A s h2 H1 locs1 → W p l e R s m args below meth c H1 locs1 cells slots Q (F0 m (pc + 3) ls rest)) : W p l e R s m args below meth c H locs cells slots Q (F0 m pc ls (.int x :: .ref a :: rest)) := by
  obtain ⟨q0, hq⟩ := wX_obj hM ha hn
  have e := wX_uI (x := x) hM hn ht ha hq
  exact va_putN (D := D) (ci := n) (v := .int x) (C := RC) (T := T) (N := N) C.1 C.2.1 C.2.2.2.2.2.2.1 hin ty0 hty hnm C.2.2.2.2.2.1 hM.1 hM.2.1 hM.2.2.1 hM.2.2.2.1 q0 hq hc k hk (va_Nw.use rfl (hM.2.2.2.2.2.2.2.2.1 _ (nx_in hl rfl))) (fun _ h9 => h9) hfin (hty k hk) hna hfit (by rw [fV_len, ← hN]; exact hk) hdg (fun H1 locs1 h1 h2 h3 => kk _ H1 locs1 rfl ⟨hM.1, by rw [← e]; exact h1, by rw [← e]; exact h2, h3, hM.2.2.2.2⟩)
theorem rX_putR (C : CxM p s m meth c args A own cc nL ret) (hM : wX D dA ev A s h H locs) (n k : Nat) {idx N : Nat} {RC : String} {T : u_T} (hc : vwCl[n]? = some (RC, T, N)) (hin : ∀ w ∈ u_ws RC T N, w ∈ lw_all) (hk : k < N) (hn : n < 20) (hN : N = (tX n).length) (ht : (tX n)[k]? = some true) (hl : Cond.fieldLink own idx (T k).1 (T k).2.1 (T k).2.2.1 ∈ lw_all) (ha : hok h a n) {x : Option Nat} (ty0 : Nat → FieldType) (hty : ∀ k, k < N → parseFieldDescriptor (T k).2.2.1 = some (ty0 k)) (hnm : ∀ a, a < N → ∀ b, b < N → a ≠ b → (T a).2.1 ≠ (T b).2.1) (hfin : (T k).2.2.2 = false) (hna : narrow (ty0 k) (va_rf x) = va_rf x) (hfit : fits (ty0 k) (va_rf x) = true) (hdg : decode cc pc = .ok (.putfield idx, 3))
    (kk : ∀ (h2 : Hp) (H1 : Heap) (locs1 : List Loc), h2 = uR h a k x → wX D dA ev A s h2 H1 locs1 → W p l e R s m args below meth c H1 locs1 cells slots Q (F0 m (pc + 3) ls rest)) : W p l e R s m args below meth c H locs cells slots Q (F0 m pc ls (va_rf x :: .ref a :: rest)) := by
  obtain ⟨q0, hq⟩ := wX_obj hM ha hn
  have e := wX_uR (x := x) hM hn ht ha hq
  exact va_put (D := D) (ci := n) (v := va_rf x) (C := RC) (T := T) (N := N) C.1 C.2.1 C.2.2.2.2.2.2.1 hin ty0 hty hnm C.2.2.2.2.2.1 hM.1 hM.2.1 hM.2.2.1 hM.2.2.2.1 q0 hq hc k hk (C.2.2.2.2.2.2.1 _ hl) (fun _ h9 => h9) hfin (hty k hk) hna hfit (by rw [fV_len, ← hN]; exact hk) hdg (fun H1 locs1 h1 h2 h3 => kk _ H1 locs1 rfl ⟨hM.1, by rw [← e]; exact h1, by rw [← e]; exact h2, h3, hM.2.2.2.2⟩)
/-- a final field, in its constructor -/
theorem rX_putF (C : CxM p s m meth c args A own cc nL ret) (hin2 : meth.name = "<init>") (hM : wX D dA ev A s h H locs) (n k : Nat) {idx N : Nat} {RC : String} {T : u_T} (hc : vwCl[n]? = some (RC, T, N)) (hin : ∀ w ∈ u_ws RC T N, w ∈ lw_all) (hk : k < N) (hn : n < 20) (hN : N = (tX n).length) (ht : (tX n)[k]? = some true) (hl : Cond.fieldLink own idx (T k).1 (T k).2.1 (T k).2.2.1 ∈ lw_all) (hdecl : (T k).1 = own) (ha : hok h a n) {x : Option Nat} (ty0 : Nat → FieldType) (hty : ∀ k, k < N → parseFieldDescriptor (T k).2.2.1 = some (ty0 k)) (hnm : ∀ a, a < N → ∀ b, b < N → a ≠ b → (T a).2.1 ≠ (T b).2.1) (hfin : (T k).2.2.2 = true) (hna : narrow (ty0 k) (va_rf x) = va_rf x) (hfit : fits (ty0 k) (va_rf x) = true) (hdg : decode cc pc = .ok (.putfield idx, 3))
    (kk : ∀ (h2 : Hp) (H1 : Heap) (locs1 : List Loc), h2 = uR h a k x → wX D dA ev A s h2 H1 locs1 → W p l e R s m args below meth c H1 locs1 cells slots Q (F0 m (pc + 3) ls rest)) : W p l e R s m args below meth c H locs cells slots Q (F0 m pc ls (va_rf x :: .ref a :: rest)) := by
  obtain ⟨q0, hq⟩ := wX_obj hM ha hn
  have e := wX_uR (x := x) hM hn ht ha hq
  exact va_putF (D := D) (ci := n) (v := va_rf x) (C := RC) (T := T) (N := N) C.1 C.2.1 C.2.2.2.2.2.2.1 hin ty0 hty hnm C.2.2.2.2.2.1 hM.1 hM.2.1 hM.2.2.1 hM.2.2.2.1 q0 hq hc k hk (C.2.2.2.2.2.2.1 _ hl) (fun _ h9 => h9) hfin hin2 hdecl (hty k hk) hna hfit (by rw [fV_len, ← hN]; exact hk) hdg (fun H1 locs1 h1 h2 h3 => kk _ H1 locs1 rfl ⟨hM.1, by rw [← e]; exact h1, by rw [← e]; exact h2, h3, hM.2.2.2.2⟩)
end
