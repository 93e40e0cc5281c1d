/-! THE START: what the premises give at the law's entry -/
set_option maxRecDepth 100000
theorem s_arr {args : Array Value} {s : State} {ty : FieldType} (h : (Cond.arrayClass ty).before args s = true) (hno : ∀ C, ty ≠ .object C) : ∃ cA : ClassId, ArrOfT s cA ty ∧ va_RA s cA ty := by
  obtain ⟨c, k, comp, h1, h2, h3⟩ := Cond.arrayClass_spec h
  refine ⟨c, fun n z => ⟨(fun k h => by cases h), k, h2, comp, h3⟩, ?_⟩
  cases ty with
  | object C => exact absurd rfl (hno C)
  | _ => exact h1
theorem s_arrA {s : State} {t : FieldType} (h : AAx t s) : ∃ cA : ClassId, ArrOfT s cA (.array t) ∧ va_RA s cA (.array t) := by
  obtain ⟨comp, c, k, h1, h2, h3, h4, h5⟩ := AAx.spec h
  exact ⟨c, fun n z => ⟨(fun k h => by cases h), k, h3, comp, h4⟩, h5⟩
theorem s_arrO {args : Array Value} {s : State} {C : String} (h : (Cond.arrayOver (.object C)).before args s = true) : ∃ cA : ClassId, ArrOfT s cA (.object C) ∧ va_RA s cA (.object C) := by
  obtain ⟨comp, c, k, h1, h2, h3, h4, h5⟩ := Cond.arrayOver_spec h
  exact ⟨c, fun n z => ⟨(fun k h => by cases h), k, h3, comp, h4⟩, k, comp, h3, h4, h1, h5⟩
theorem s_cls {s : State} {args : Array Value} (hts : ∀ w ∈ lw_all, w.before args s = true) : ∃ D : va_G, ∀ (c : Nat) (q : vw_C), vwCl[c]? = some q → u_Kn s q.1 q.2.1 q.2.2 (D.1 c) (D.2 c) := by
  obtain ⟨c0, i0, k0⟩ := u_known (C := RX1) (T := TX1) (N := 16) hts in_X1 (hts _ q113)
  obtain ⟨c1, i1, k1⟩ := u_known (C := RX2) (T := TX2) (N := 6) hts in_X2 (hts _ q121)
  obtain ⟨c2, i2, k2⟩ := u_known (C := RX3) (T := TX3) (N := 10) hts in_X3 (hts _ q154)
  obtain ⟨c3, i3, k3⟩ := u_known (C := RX4) (T := TX4) (N := 6) hts in_X4 (hts _ q259)
  obtain ⟨c4, i4, k4⟩ := u_known (C := RX5) (T := TX5) (N := 5) hts in_X5 (hts _ q310)
  obtain ⟨c5, i5, k5⟩ := u_known (C := RX6) (T := TX6) (N := 11) hts in_X6 (hts _ q336)
  obtain ⟨c6, i6, k6⟩ := u_known (C := RX7) (T := TX7) (N := 2) hts in_X7 (hts _ q342)
  obtain ⟨c7, i7, k7⟩ := u_known (C := RX8) (T := TX8) (N := 6) hts in_X8 (hts _ q416)
  obtain ⟨c8, i8, k8⟩ := u_known (C := RX9) (T := TX9) (N := 2) hts in_X9 (hts _ q445)
  obtain ⟨c9, i9, k9⟩ := u_known (C := RX10) (T := TX10) (N := 36) hts in_X10 (hts _ q1384)
  obtain ⟨c10, i10, k10⟩ := u_known (C := RX11) (T := TX11) (N := 2) hts in_X11 (hts _ q993)
  obtain ⟨c11, i11, k11⟩ := u_known (C := RJ6) (T := TJ6) (N := 3) hts in_J6 (hts _ q348)
  obtain ⟨c12, i12, k12⟩ := u_known (C := RJ3) (T := TJ3) (N := 0) hts (fun w hw => absurd hw (by simp [u_ws])) (hts _ q160)
  refine ⟨(fun i => [c0, c1, c2, c3, c4, c5, c6, c7, c8, c9, c10, c11, c12].getD i 0, fun i => [i0, i1, i2, i3, i4, i5, i6, i7, i8, i9, i10, i11, i12].getD i (fun _ => 0)), fun c q hq => ?_⟩
  match c, hq with
  | 0, hq => cases hq; exact k0
  | 1, hq => cases hq; exact k1
  | 2, hq => cases hq; exact k2
  | 3, hq => cases hq; exact k3
  | 4, hq => cases hq; exact k4
  | 5, hq => cases hq; exact k5
  | 6, hq => cases hq; exact k6
  | 7, hq => cases hq; exact k7
  | 8, hq => cases hq; exact k8
  | 9, hq => cases hq; exact k9
  | 10, hq => cases hq; exact k10
  | 11, hq => cases hq; exact k11
  | 12, hq => cases hq; exact k12
  | n + 13, hq => exact absurd hq (by simp [vwCl])
theorem s_tys {s : State} {args : Array Value} (hts : ∀ w ∈ lw_all, w.before args s = true) (ht : ∀ w ∈ lw_tbl, w.before args s = true) : ∃ dA : Nat → ClassId, ∀ (k : Nat) (q : ClassId × FieldType), (tyX dA)[k]? = some q → ArrOfT s q.1 q.2 ∧ va_RA s q.1 q.2 := by
  obtain ⟨d0, a0⟩ := s_arr (hts _ q257) (fun C h => by cases h)
  obtain ⟨d1, a1⟩ := s_arr (hts _ q152) (fun C h => by cases h)
  obtain ⟨d2, a2⟩ := s_arr (hts _ q1499) (fun C h => by cases h)
  obtain ⟨d3, a3⟩ := s_arr (hts _ q334) (fun C h => by cases h)
  obtain ⟨d4, a4⟩ := s_arrA (t := .int) (show AAx .int s from ht _ q265)
  obtain ⟨d5, a5⟩ := s_arrA (t := .long) (show AAx .long s from ht _ q316)
  obtain ⟨d6, a6⟩ := s_arrO (ht _ q751)
  obtain ⟨d7, a7⟩ := s_arrO (ht _ q444)
  refine ⟨fun i => [d0, d1, d2, d3, d4, d5, d6, d7].getD i 0, fun k q hq => ?_⟩
  match k, hq with
  | 0, hq => cases hq; exact a0
  | 1, hq => cases hq; exact a1
  | 2, hq => cases hq; exact a2
  | 3, hq => cases hq; exact a3
  | 4, hq => cases hq; exact a4
  | 5, hq => cases hq; exact a5
  | 6, hq => cases hq; exact a6
  | 7, hq => cases hq; exact a7
  | n + 8, hq => exact absurd hq (by simp [tyX])
