/-! ROWS OF THE COMPONENT'S WORLD: arrays, new cells, statics, returns, calls -/
set_option maxRecDepth 100000
section
variable {p : Program} {l : Launch} {e : Env} {R : Room} {s : State} {m : MethodId} {args : Array Value} {below : List Frame} {meth : Method} {c : Code} {H : Heap} {locs : List Loc} {cells slots : Nat} {Q : State → Prop} {pc : Nat} {ls : Array Slot} {rest : List Value} {D : va_G} {dA : Nat → ClassId} {ev : Nat → Nat} {A : Nat → Prop} {h : Hp} {cc : ByteArray} {nL : Nat} {ret : Option FieldType} {own : String} {a : Nat}
theorem wX_A (hM : wX D dA ev A s h H locs) {n : Nat} (ha : hok h a (20 + n)) (hn : n < 3) : ∃ q0 : Nat, (wsX dA h)[q0]? = some (a, .inl (dA n, hN h a, .inl (h.2.2.2.2.2.1 a))) := by
  obtain ⟨k, hk⟩ := wsX_get (dA := dA) ha.1
  exact ⟨k, by rw [hk, cell_A ha hn]⟩
theorem wX_J (hM : wX D dA ev A s h H locs) (ha : hok h a 23) : ∃ q0 : Nat, (wsX dA h)[q0]? = some (a, .inl (dA 3, hN h a, .inr (.inl (h.2.2.2.2.2.2.1 a)))) := by
  obtain ⟨k, hk⟩ := wsX_get (dA := dA) ha.1
  exact ⟨k, by rw [hk, cell_J ha]⟩
theorem wX_O (hM : wX D dA ev A s h H locs) {n : Nat} (ha : hok h a (20 + n)) (hn : 4 ≤ n) : ∃ q0 : Nat, (wsX dA h)[q0]? = some (a, .inl (dA n, hN h a, .inr (.inr (.inr (.inr (h.2.2.2.2.2.2.2 a)))))) := by
  obtain ⟨k, hk⟩ := wsX_get (dA := dA) ha.1
  exact ⟨k, by rw [hk, cell_O ha hn]⟩
theorem rX_iald (C : CxM p s m meth c args A own cc nL ret) (hM : wX D dA ev A s h H locs) (ha : hok h a 20) {i : Int32} (hin : vp_in i (hN h a)) (hdg : decode cc pc = .ok (.iaload, 1))
    (kk : W p l e R s m args below meth c H locs cells slots Q (F0 m (pc + 1) ls (.int (hA h a i) :: rest))) : W p l e R s m args below meth c H locs cells slots Q (F0 m pc ls (.int i :: .ref a :: rest)) := by
  obtain ⟨q0, hq⟩ := wX_A (n := 0) hM ha (by omega)
  exact va_iald C.1 C.2.1 hM.1 hM.2.1 q0 0 hq rfl hin hdg kk
theorem rX_bald (C : CxM p s m meth c args A own cc nL ret) (hM : wX D dA ev A s h H locs) (ha : hok h a 21) {i : Int32} (hin : vp_in i (hN h a)) (hdg : decode cc pc = .ok (.baload, 1))
    (kk : W p l e R s m args below meth c H locs cells slots Q (F0 m (pc + 1) ls (.int (hA h a i) :: rest))) : W p l e R s m args below meth c H locs cells slots Q (F0 m pc ls (.int i :: .ref a :: rest)) := by
  obtain ⟨q0, hq⟩ := wX_A (n := 1) hM ha (by omega)
  exact va_bald C.1 C.2.1 hM.1 hM.2.1 q0 1 hq rfl hin hdg kk
theorem rX_lald (C : CxM p s m meth c args A own cc nL ret) (hM : wX D dA ev A s h H locs) (ha : hok h a 23) {i : Int32} (hin : vp_in i (hN h a)) (hdg : decode cc pc = .ok (.laload, 1))
    (kk : W p l e R s m args below meth c H locs cells slots Q (F0 m (pc + 1) ls (.long (hJ h a i) :: rest))) : W p l e R s m args below meth c H locs cells slots Q (F0 m pc ls (.int i :: .ref a :: rest)) := by
  obtain ⟨q0, hq⟩ := wX_J hM ha
  exact va_lald C.1 C.2.1 hM.1 hM.2.1 q0 3 hq rfl hin hdg kk
/-- an element of an array of references: kinds 24 .. 27 -/
theorem rX_aald (C : CxM p s m meth c args A own cc nL ret) (hM : wX D dA ev A s h H locs) (n : Nat) (h4 : 4 ≤ n) (h8 : n < 8) (ha : hok h a (20 + n)) {i : Int32} (hin : vp_in i (hN h a)) (hdg : decode cc pc = .ok (.aaload, 1))
    (kk : W p l e R s m args below meth c H locs cells slots Q (F0 m (pc + 1) ls (va_rf (hO h a i) :: rest))) : W p l e R s m args below meth c H locs cells slots Q (F0 m pc ls (.int i :: .ref a :: rest)) := by
  obtain ⟨q0, hq⟩ := wX_O hM ha h4
  have hlt : i.toNatClampNeg < hN h a := Nat.not_le.mp fun q => hin (Or.inr q)
  obtain ⟨ty, ht, hr⟩ : ∃ ty, (tyX dA)[n]? = some (dA n, ty) ∧ ty.isReference = true := by
    match n, h4, h8 with
    | 4, _, _ => exact ⟨_, rfl, rfl⟩
    | 5, _, _ => exact ⟨_, rfl, rfl⟩
    | 6, _, _ => exact ⟨_, rfl, rfl⟩
    | 7, _, _ => exact ⟨_, rfl, rfl⟩
  exact W.aald (v := va_rf (hO h a i)) (ty := ty) C.1 C.2.1 (hM.2.1 q0 _ hq) ((hM.1.2 n _ ht).1 (hN h a) (fun j => va_rf (h.2.2.2.2.2.2.2 a j))) hr (fun q => by cases q) (by show ¬ (i < 0 ∨ (arrV _ _ _).slots.size ≤ _); rw [arrV_size]; exact hin) (by show (arrV _ _ _).slots[_]? = _; rw [arrV_read _ _ hlt]; rfl) rfl rfl hdg kk
theorem rX_alen (C : CxM p s m meth c args A own cc nL ret) (hM : wX D dA ev A s h H locs) (n : Nat) (h8 : n < 8) (ha : hok h a (20 + n)) (hdg : decode cc pc = .ok (.arraylength, 1))
    (kk : W p l e R s m args below meth c H locs cells slots Q (F0 m (pc + 1) ls (.int (nI (hN h a)) :: rest))) : W p l e R s m args below meth c H locs cells slots Q (F0 m pc ls (.ref a :: rest)) := by
  obtain ⟨x, hx, q0, hq⟩ : ∃ x : vp_A, x.1 = hN h a ∧ ∃ q0 : Nat, (wsX dA h)[q0]? = some (a, .inl (dA n, x)) := by
    by_cases q : n < 3
    · obtain ⟨q0, hq⟩ := wX_A hM ha q; exact ⟨_, rfl, q0, hq⟩
    · by_cases q2 : n = 3
      · subst q2; obtain ⟨q0, hq⟩ := wX_J hM ha; exact ⟨_, rfl, q0, hq⟩
      · obtain ⟨q0, hq⟩ := wX_O hM ha (by omega); exact ⟨_, rfl, q0, hq⟩
  obtain ⟨ty, ht⟩ : ∃ ty, (tyX dA)[n]? = some (dA n, ty) := by
    match n, h8 with
    | 0, _ => exact ⟨_, rfl⟩ | 1, _ => exact ⟨_, rfl⟩ | 2, _ => exact ⟨_, rfl⟩ | 3, _ => exact ⟨_, rfl⟩
    | 4, _ => exact ⟨_, rfl⟩ | 5, _ => exact ⟨_, rfl⟩ | 6, _ => exact ⟨_, rfl⟩ | 7, _ => exact ⟨_, rfl⟩
  exact va_alen (x := x) C.1 C.2.1 hM.1 hM.2.1 q0 n hq ht (by rw [hx]; rfl) hdg kk
theorem rX_iast (C : CxM p s m meth c args A own cc nL ret) (hM : wX D dA ev A s h H locs) (ha : hok h a 20) {i x : Int32} (hin : vp_in i (hN h a)) (hdg : decode cc pc = .ok (.iastore, 1))
    (kk : ∀ (h2 : Hp) (H1 : Heap) (locs1 : List Loc), h2 = uA h a i x → wX D dA ev A s h2 H1 locs1 → W p l e R s m args below meth c H1 locs1 cells slots Q (F0 m (pc + 1) ls rest)) : W p l e R s m args below meth c H locs cells slots Q (F0 m pc ls (.int x :: .int i :: .ref a :: rest)) := by
  obtain ⟨q0, hq⟩ := wX_A (n := 0) hM ha (by omega)
  have e : (wsX dA h).set q0 (a, .inl (dA 0, hN h a, .inl (upd (h.2.2.2.2.2.1 a) i.toNatClampNeg x))) = wsX dA (uA h a i x) := by
    refine wsX_set hM.2.2.1 ha.1 (by rw [hq, cell_A (n := 0) ha (by omega)]) rfl ?_ cellOf_ne_uAf
    rw [cell_A (h := uA h a i x) (n := 0) ha (by omega)]
    simp [uA, uAf, hN, va_up]
  exact va_iast C.1 C.2.1 hM.1 hM.2.1 hM.2.2.1 hM.2.2.2.1 q0 0 hq rfl hin hdg (fun H1 locs1 h1 h2 h3 => kk _ H1 locs1 rfl ⟨hM.1, by rw [← e]; exact h1, by rw [← e]; exact h2, h3, hM.2.2.2.2⟩)
theorem rX_bast (C : CxM p s m meth c args A own cc nL ret) (hM : wX D dA ev A s h H locs) (ha : hok h a 21) {i x : Int32} (hin : vp_in i (hN h a)) (hdg : decode cc pc = .ok (.bastore, 1))
    (kk : ∀ (h2 : Hp) (H1 : Heap) (locs1 : List Loc), h2 = uA h a i (vp_nar .byte x) → wX D dA ev A s h2 H1 locs1 → W p l e R s m args below meth c H1 locs1 cells slots Q (F0 m (pc + 1) ls rest)) : W p l e R s m args below meth c H locs cells slots Q (F0 m pc ls (.int x :: .int i :: .ref a :: rest)) := by
  obtain ⟨q0, hq⟩ := wX_A (n := 1) hM ha (by omega)
  have e : (wsX dA h).set q0 (a, .inl (dA 1, hN h a, .inl (upd (h.2.2.2.2.2.1 a) i.toNatClampNeg (vp_nar .byte x)))) = wsX dA (uA h a i (vp_nar .byte x)) := by
    refine wsX_set hM.2.2.1 ha.1 (by rw [hq, cell_A (n := 1) ha (by omega)]) rfl ?_ cellOf_ne_uAf
    rw [cell_A (h := uA h a i (vp_nar .byte x)) (n := 1) ha (by omega)]
    simp [uA, uAf, hN, va_up]
  exact va_bast C.1 C.2.1 hM.1 hM.2.1 hM.2.2.1 hM.2.2.2.1 q0 1 hq rfl hin hdg (fun H1 locs1 h1 h2 h3 => kk _ H1 locs1 rfl ⟨hM.1, by rw [← e]; exact h1, by rw [← e]; exact h2, h3, hM.2.2.2.2⟩)
theorem rX_last (C : CxM p s m meth c args A own cc nL ret) (hM : wX D dA ev A s h H locs) (ha : hok h a 23) {i : Int32} {x : Int64} (hin : vp_in i (hN h a)) (hdg : decode cc pc = .ok (.lastore, 1))
    (kk : ∀ (h2 : Hp) (H1 : Heap) (locs1 : List Loc), h2 = uJ h a i x → wX D dA ev A s h2 H1 locs1 → W p l e R s m args below meth c H1 locs1 cells slots Q (F0 m (pc + 1) ls rest)) : W p l e R s m args below meth c H locs cells slots Q (F0 m pc ls (.long x :: .int i :: .ref a :: rest)) := by
  obtain ⟨q0, hq⟩ := wX_J hM ha
  have e : (wsX dA h).set q0 (a, .inl (dA 3, hN h a, .inr (.inl (vp_updL (h.2.2.2.2.2.2.1 a) i.toNatClampNeg x)))) = wsX dA (uJ h a i x) := by
    refine wsX_set hM.2.2.1 ha.1 (by rw [hq, cell_J ha]) rfl ?_ cellOf_ne_uJf
    rw [cell_J (h := uJ h a i x) ha]
    simp [uJ, uJf, hN, va_up]
  exact va_last C.1 C.2.1 hM.1 hM.2.1 hM.2.2.1 hM.2.2.2.1 q0 3 hq rfl hin hdg (fun H1 locs1 h1 h2 h3 => kk _ H1 locs1 rfl ⟨hM.1, by rw [← e]; exact h1, by rw [← e]; exact h2, h3, hM.2.2.2.2⟩)
theorem wX_uO (hM : wX D dA ev A s h H locs) {n : Nat} (h4 : 4 ≤ n) (ha : hok h a (20 + n)) {i : Int32} {x : Option Nat} {q0 : Nat} (hq : (wsX dA h)[q0]? = some (a, .inl (dA n, hN h a, .inr (.inr (.inr (.inr (h.2.2.2.2.2.2.2 a))))))) : (wsX dA h).set q0 (a, .inl (dA n, hN h a, .inr (.inr (.inr (.inr (va_up (h.2.2.2.2.2.2.2 a) i.toNatClampNeg x)))))) = wsX dA (uO h a i x) := by
  refine wsX_set hM.2.2.1 ha.1 (by rw [hq, cell_O ha h4]) rfl ?_ cellOf_ne_uOf
  rw [cell_O (h := uO h a i x) ha h4]
  simp [uO, uOf, hN, va_up]
/-- a Vector into an array of Objects -/
theorem rX_aastV (C : CxM p s m meth c args A own cc nL ret) (hM : wX D dA ev A s h H locs) (ha : hok h a 26) {v : Nat} (hv : hok h v 10) (hasg : ∀ comp c0 : ClassId, s.vm.findClass "java/lang/Object" = some comp → s.vm.findClass RX11 = some c0 → s.vm.assignable c0 comp = true) {i : Int32} (hin : vp_in i (hN h a)) (hdg : decode cc pc = .ok (.aastore, 1))
    (kk : ∀ (h2 : Hp) (H1 : Heap) (locs1 : List Loc), h2 = uO h a i (some v) → wX D dA ev A s h2 H1 locs1 → W p l e R s m args below meth c H1 locs1 cells slots Q (F0 m (pc + 1) ls rest)) : W p l e R s m args below meth c H locs cells slots Q (F0 m pc ls (.ref v :: .int i :: .ref a :: rest)) := by
  obtain ⟨q0, hq⟩ := wX_O (n := 6) hM ha (by omega)
  obtain ⟨q1, hq1⟩ := wX_obj hM hv (by omega)
  exact va_astqM C.1 C.2.1 hM.1 hM.2.1 hM.2.2.1 hM.2.2.2.1 q0 6 hq rfl (va_rAny (r := (RX11, TX11, 2)) (ci := 10) hM.1 hM.2.1 hq1 rfl hasg) hin hdg (fun H1 locs1 h1 h2 h3 => kk _ H1 locs1 rfl ⟨hM.1, by rw [← wX_uO hM (by omega) ha hq]; exact h1, by rw [← wX_uO hM (by omega) ha hq]; exact h2, h3, hM.2.2.2.2⟩)
theorem rX_aastN (C : CxM p s m meth c args A own cc nL ret) (hM : wX D dA ev A s h H locs) (ha : hok h a 26) {i : Int32} (hin : vp_in i (hN h a)) (hdg : decode cc pc = .ok (.aastore, 1))
    (kk : ∀ (h2 : Hp) (H1 : Heap) (locs1 : List Loc), h2 = uO h a i none → wX D dA ev A s h2 H1 locs1 → W p l e R s m args below meth c H1 locs1 cells slots Q (F0 m (pc + 1) ls rest)) : W p l e R s m args below meth c H locs cells slots Q (F0 m pc ls (.null :: .int i :: .ref a :: rest)) := by
  obtain ⟨q0, hq⟩ := wX_O (n := 6) hM ha (by omega)
  exact va_astqN (C := "java/lang/Object") C.1 C.2.1 hM.1 hM.2.1 hM.2.2.1 hM.2.2.2.1 q0 6 hq rfl hin hdg (fun H1 locs1 h1 h2 h3 => kk _ H1 locs1 rfl ⟨hM.1, by rw [← wX_uO hM (by omega) ha hq]; exact h1, by rw [← wX_uO hM (by omega) ha hq]; exact h2, h3, hM.2.2.2.2⟩)
/-- a Found into an array of them -/
theorem rX_aastF (C : CxM p s m meth c args A own cc nL ret) (hM : wX D dA ev A s h H locs) (ha : hok h a 27) {v : Nat} (hv : hok h v 8) {i : Int32} (hin : vp_in i (hN h a)) (hdg : decode cc pc = .ok (.aastore, 1))
    (kk : ∀ (h2 : Hp) (H1 : Heap) (locs1 : List Loc), h2 = uO h a i (some v) → wX D dA ev A s h2 H1 locs1 → W p l e R s m args below meth c H1 locs1 cells slots Q (F0 m (pc + 1) ls rest)) : W p l e R s m args below meth c H locs cells slots Q (F0 m pc ls (.ref v :: .int i :: .ref a :: rest)) := by
  obtain ⟨q0, hq⟩ := wX_O (n := 7) hM ha (by omega)
  obtain ⟨q1, hq1⟩ := wX_obj hM hv (by omega)
  exact va_astq (r := (RX9, TX9, 2)) (ci := 8) C.1 C.2.1 hM.1 hM.2.1 hM.2.2.1 hM.2.2.2.1 q0 7 q1 hq rfl hq1 rfl hin hdg (fun H1 locs1 h1 h2 h3 => kk _ H1 locs1 rfl ⟨hM.1, by rw [← wX_uO hM (by omega) ha hq]; exact h1, by rw [← wX_uO hM (by omega) ha hq]; exact h2, h3, hM.2.2.2.2⟩)
/-- a new object -/
theorem rX_new (C : CxM p s m meth c args A own cc nL ret) (hM : wX D dA ev A s h H locs) (n : Nat) {idx N : Nat} {RC : String} {T : u_T} (hc : vwCl[n]? = some (RC, T, N)) (hin : ∀ w ∈ u_ws RC T N, w ∈ lw_all) (hn : n < 20) (ty0 : Nat → FieldType) (hty : ∀ k, k < N → parseFieldDescriptor (T k).2.2.1 = some (ty0 k)) (hl : Cond.classLink own idx RC ∈ lw_all) (hi : Cond.instantiable RC N ∈ lw_all) (hini : Cond.initialized RC ∈ lw_all)
    (hfs : ∀ j, j < N → defaultValue (ty0 j) = vp_V (fW (fun _ => 0) (fun _ => none) (tX n)) j) (hcells : cells + 1 ≤ R.cells) (hslots : slots + N ≤ R.slots) (hdg : decode cc pc = .ok (.new idx, 3))
    (kk : ∀ (q : Nat) (h2 : Hp) (H1 : Heap), q ∉ h.1 → h2 = nO h q n → wX D dA ev A s h2 H1 locs → W p l e R s m args below meth c H1 locs (cells + 1) (slots + N) Q (F0 m (pc + 3) ls (.ref q :: rest))) : W p l e R s m args below meth c H locs cells slots Q (F0 m pc ls rest) := by
  refine va_new (D := D) (ci := n) (fs := fW (fun _ => 0) (fun _ => none) (tX n)) (C := RC) (T := T) (N := N) C.1 C.2.1 C.2.2.2.2.2.2.1 hin ty0 hty C.2.2.2.2.2.1 (C.2.2.2.2.2.2.1 _ hl) (C.2.2.2.2.2.2.1 _ hi) (C.2.2.2.2.2.2.1 _ hini) hM.1 hM.2.1 hM.2.2.1 hM.2.2.2.1 C.2.2.2.2.2.2.2 hc hfs hcells hslots hdg (fun q H1 h1 h2 h3 => ?_)
  have hq : q ∉ h.1 := by
    intro z
    obtain ⟨k, hk⟩ := wsX_get (dA := dA) z
    have hlt := (List.getElem?_eq_some_iff.mp hk).1
    have := h2.1 k (wsX dA h).length (q, cellOf dA h q) _ (by rw [List.getElem?_append_left hlt]; exact hk) (List.getElem?_concat_length) rfl
    omega
  have e : wsX dA h ++ [(q, .inr (n, fW (fun _ => 0) (fun _ => none) (tX n)))] = wsX dA (nO h q n) := by
    refine wsX_push hq rfl ?_ cellOf_ne_nO
    rw [cell_obj hok_nO hn]
    simp [fV, nO, va_up]
  exact kk q _ H1 hq rfl ⟨hM.1, by rw [← e]; exact h1, by rw [← e]; exact h2, h3, hM.2.2.2.2⟩
theorem wX_fresh {q : Nat} {x : va_E} (h2 : va_D A (wsX dA h ++ [(q, x)])) : q ∉ h.1 := by
  intro z
  obtain ⟨k, hk⟩ := wsX_get (dA := dA) z
  have hlt := (List.getElem?_eq_some_iff.mp hk).1
  have := h2.1 k (wsX dA h).length (q, cellOf dA h q) _ (by rw [List.getElem?_append_left hlt]; exact hk) (List.getElem?_concat_length) rfl
  omega
/-- a new int array -/
theorem rX_newi (C : CxM p s m meth c args A own cc nL ret) (hM : wX D dA ev A s h H locs) {n : Int32} {N : Nat} (harr : Cond.arrayClass .int ∈ lw_all) (hn : ¬ n < 0) (hNN : n.toNatClampNeg = N) (hby : N * 4 ≤ 536870912) (hcells : cells + 1 ≤ R.cells) (hslots : slots + N ≤ R.slots) (hdg : decode cc pc = .ok (.newarray .int, 2))
    (kk : ∀ (q : Nat) (h2 : Hp) (H1 : Heap), q ∉ h.1 → h2 = nA h q 20 N → wX D dA ev A s h2 H1 locs → W p l e R s m args below meth c H1 locs (cells + 1) (slots + N) Q (F0 m (pc + 2) ls (.ref q :: rest))) : W p l e R s m args below meth c H locs cells slots Q (F0 m pc ls (.int n :: rest)) := by
  refine va_newa (a0 := (N, .inl (fun _ => 0))) (atype := .int) C.1 C.2.1 (C.2.2.2.2.2.2.1 _ harr) (ty := .int) rfl hM.1 hM.2.1 hM.2.2.1 hM.2.2.2.1 C.2.2.2.2.2.2.2 (fun _ => rfl) hn hNN hby hcells hslots hdg (fun q cA H1 hK h1 h2 h3 => ?_)
  have ec := tyX_one 0 rfl hK
  subst ec
  have hq := wX_fresh h2
  have e : wsX dA h ++ [(q, .inl (dA 0, N, .inl (fun _ => 0)))] = wsX dA (nA h q 20 N) := by
    refine wsX_push hq rfl ?_ cellOf_ne_nA
    rw [cell_A (n := 0) hok_nA (by omega)]
    simp [nA, va_up, hN]
  exact kk q _ H1 hq rfl ⟨hM.1, by rw [← e]; exact h1, by rw [← e]; exact h2, h3, hM.2.2.2.2⟩
theorem rX_newb (C : CxM p s m meth c args A own cc nL ret) (hM : wX D dA ev A s h H locs) {n : Int32} {N : Nat} (harr : Cond.arrayClass .byte ∈ lw_all) (hn : ¬ n < 0) (hNN : n.toNatClampNeg = N) (hby : N * 1 ≤ 536870912) (hcells : cells + 1 ≤ R.cells) (hslots : slots + N ≤ R.slots) (hdg : decode cc pc = .ok (.newarray .byte, 2))
    (kk : ∀ (q : Nat) (h2 : Hp) (H1 : Heap), q ∉ h.1 → h2 = nA h q 21 N → wX D dA ev A s h2 H1 locs → W p l e R s m args below meth c H1 locs (cells + 1) (slots + N) Q (F0 m (pc + 2) ls (.ref q :: rest))) : W p l e R s m args below meth c H locs cells slots Q (F0 m pc ls (.int n :: rest)) := by
  refine va_newa (a0 := (N, .inl (fun _ => 0))) (atype := .byte) C.1 C.2.1 (C.2.2.2.2.2.2.1 _ harr) (ty := .byte) rfl hM.1 hM.2.1 hM.2.2.1 hM.2.2.2.1 C.2.2.2.2.2.2.2 (fun _ => rfl) hn hNN hby hcells hslots hdg (fun q cA H1 hK h1 h2 h3 => ?_)
  have ec := tyX_one 1 rfl hK
  subst ec
  have hq := wX_fresh h2
  have e : wsX dA h ++ [(q, .inl (dA 1, N, .inl (fun _ => 0)))] = wsX dA (nA h q 21 N) := by
    refine wsX_push hq rfl ?_ cellOf_ne_nA
    rw [cell_A (n := 1) hok_nA (by omega)]
    simp [nA, va_up, hN]
  exact kk q _ H1 hq rfl ⟨hM.1, by rw [← e]; exact h1, by rw [← e]; exact h2, h3, hM.2.2.2.2⟩
theorem rX_newl (C : CxM p s m meth c args A own cc nL ret) (hM : wX D dA ev A s h H locs) {n : Int32} {N : Nat} (harr : Cond.arrayClass .long ∈ lw_all) (hn : ¬ n < 0) (hNN : n.toNatClampNeg = N) (hby : N * 8 ≤ 536870912) (hcells : cells + 1 ≤ R.cells) (hslots : slots + N ≤ R.slots) (hdg : decode cc pc = .ok (.newarray .long, 2))
    (kk : ∀ (q : Nat) (h2 : Hp) (H1 : Heap), q ∉ h.1 → h2 = nA h q 23 N → wX D dA ev A s h2 H1 locs → W p l e R s m args below meth c H1 locs (cells + 1) (slots + N) Q (F0 m (pc + 2) ls (.ref q :: rest))) : W p l e R s m args below meth c H locs cells slots Q (F0 m pc ls (.int n :: rest)) := by
  refine va_newa (a0 := (N, .inr (.inl (fun _ => 0)))) (atype := .long) C.1 C.2.1 (C.2.2.2.2.2.2.1 _ harr) (ty := .long) rfl hM.1 hM.2.1 hM.2.2.1 hM.2.2.2.1 C.2.2.2.2.2.2.2 (fun _ => rfl) hn hNN hby hcells hslots hdg (fun q cA H1 hK h1 h2 h3 => ?_)
  have ec := tyX_one 3 rfl hK
  subst ec
  have hq := wX_fresh h2
  have e : wsX dA h ++ [(q, .inl (dA 3, N, .inr (.inl (fun _ => 0))))] = wsX dA (nA h q 23 N) := by
    refine wsX_push hq rfl ?_ cellOf_ne_nA
    rw [cell_J hok_nA]
    simp [nA, va_up, hN]
  exact kk q _ H1 hq rfl ⟨hM.1, by rw [← e]; exact h1, by rw [← e]; exact h2, h3, hM.2.2.2.2⟩
/-- a new array of Objects (kind 26) or of Founds (27) -/
theorem rX_newo (C : CxM p s m meth c args A own cc nL ret) (hM : wX D dA ev A s h H locs) {n : Int32} {N idx : Nat} {E : String} (k : Nat) (h4 : 4 ≤ k) (hk : (tyX dA)[k]? = some (dA k, .object E)) (hl : Cond.classLink own idx E ∈ lw_all) (hover : va_AO E s) (hn : ¬ n < 0) (hNN : n.toNatClampNeg = N) (hby : N * 4 ≤ 536870912) (hcells : cells + 1 ≤ R.cells) (hslots : slots + N ≤ R.slots) (hdg : decode cc pc = .ok (.anewarray idx, 3))
    (kk : ∀ (q : Nat) (h2 : Hp) (H1 : Heap), (q ∉ h.1 ∧ q ≠ ev 11) → h2 = nA h q (20 + k) N → wX D dA ev A s h2 H1 locs → W p l e R s m args below meth c H1 locs (cells + 1) (slots + N) Q (F0 m (pc + 3) ls (.ref q :: rest))) : W p l e R s m args below meth c H locs cells slots Q (F0 m pc ls (.int n :: rest)) := by
  refine va_newq C.1 C.2.1 C.2.2.2.2.2.1 (C.2.2.2.2.2.2.1 _ hl) hover hM.1 hM.2.1 hM.2.2.1 hM.2.2.2.1 C.2.2.2.2.2.2.2 hn hNN hby hcells hslots hdg (fun q cA H1 hK h1 h2 h3 => ?_)
  have ec := tyX_one k hk hK
  subst ec
  have hq := wX_fresh h2
  have e : wsX dA h ++ [(q, .inl (dA k, N, .inr (.inr (.inr (.inr (fun _ => none))))))] = wsX dA (nA h q (20 + k) N) := by
    refine wsX_push hq rfl ?_ cellOf_ne_nA
    rw [cell_O hok_nA h4]
    simp [nA, va_up, hN]
  have hne : q ≠ ev 11 := by
    obtain ⟨cell, _, _, _, _, _, _, hna⟩ := hM.2.2.2.2.2.2.1
    exact fun w => hna (w ▸ h2.2 (wsX dA h).length _ List.getElem?_concat_length)
  exact kk q _ H1 ⟨hq, hne⟩ rfl ⟨hM.1, by rw [← e]; exact h1, by rw [← e]; exact h2, h3, hM.2.2.2.2⟩
/-- a word's constant; ArrayList's empty array -/
theorem rX_word (C : CxM p s m meth c args A own cc nL ret) (hM : wX D dA ev A s h H locs) (i : Nat) (hi : i < 11) {idx : Nat} (hl : Cond.fieldLink own idx "LeastSolutions$Word" (wN i) "LLeastSolutions$Word;" ∈ lw_all) (hdg : decode cc pc = .ok (.getstatic idx, 3))
    (kk : W p l e R s m args below meth c H locs cells slots Q (F0 m (pc + 3) ls (.ref (ev i) :: rest))) : W p l e R s m args below meth c H locs cells slots Q (F0 m pc ls rest) :=
  va_gets C.1 C.2.1 (hM.2.2.2.2.1 i hi) hM.2.2.2.1 C.2.2.2.2.2.1 (C.2.2.2.2.2.2.1 _ hl) (fun _ h9 => h9) hdg kk
theorem rX_empty (C : CxM p s m meth c args A own cc nL ret) (hM : wX D dA ev A s h H locs) {idx : Nat} (hl : Cond.fieldLink own idx "java/util/ArrayList" "DEFAULTCAPACITY_EMPTY_ELEMENTDATA" "[Ljava/lang/Object;" ∈ lw_all) (hdg : decode cc pc = .ok (.getstatic idx, 3))
    (kk : W p l e R s m args below meth c H locs cells slots Q (F0 m (pc + 3) ls (.ref (ev 11) :: rest))) : W p l e R s m args below meth c H locs cells slots Q (F0 m pc ls rest) :=
  va_gets C.1 C.2.1 hM.2.2.2.2.2.1 hM.2.2.2.1 C.2.2.2.2.2.1 (C.2.2.2.2.2.2.1 _ hl) (fun _ h9 => h9) hdg kk
theorem rX_elen (C : CxM p s m meth c args A own cc nL ret) (hM : wX D dA ev A s h H locs) (hdg : decode cc pc = .ok (.arraylength, 1))
    (kk : W p l e R s m args below meth c H locs cells slots Q (F0 m (pc + 1) ls (.int 0 :: rest))) : W p l e R s m args below meth c H locs cells slots Q (F0 m pc ls (.ref (ev 11) :: rest)) :=
  va_tlen C.1 C.2.1 hM.2.2.2.2.2.2.1 hM.2.2.2.1 rfl hdg kk
end
