/-! ROUNDS of a gather: positions f..m-1, pivot at f; what becomes of pairs, triples, covectors -/
def qG (y x : Int) : Prop := ((0 ≤ x ∧ 0 ≤ y) ∨ (x ≤ 0 ∧ y ≤ 0)) ∧ 2 * y.natAbs ≤ x.natAbs
theorem qG_mul {y x : Int} (h : qG y x) (m : Int) : qG (y * m) (x * m) := by
  obtain ⟨s, l⟩ := h
  constructor
  · rcases Int.le_total 0 m with k | k
    · rcases s with ⟨a, b⟩ | ⟨a, b⟩
      · exact .inl ⟨Int.mul_nonneg a k, Int.mul_nonneg b k⟩
      · exact .inr ⟨Int.mul_nonpos_of_nonpos_of_nonneg a k, Int.mul_nonpos_of_nonpos_of_nonneg b k⟩
    · rcases s with ⟨a, b⟩ | ⟨a, b⟩
      · exact .inr ⟨Int.mul_nonpos_of_nonneg_of_nonpos a k, Int.mul_nonpos_of_nonneg_of_nonpos b k⟩
      · exact .inl ⟨Int.mul_nonneg_of_nonpos_of_nonpos a k, Int.mul_nonneg_of_nonpos_of_nonpos b k⟩
  · rw [Int.natAbs_mul, Int.natAbs_mul, ← Nat.mul_assoc]
    exact Nat.mul_le_mul_right _ l
theorem qG_neg {y x : Int} (h : qG y x) : qG (-y) (-x) := by unfold qG at *; omega
/-- a round of reductions by the vector at f -/
def qRd (f m : Nat) (q : Nat → Int) (x : Nat → Int) : Nat → Int := fun j => if f < j ∧ j < m then x j - q j * x f else x j
theorem qRd_f {f m : Nat} {q x : Nat → Int} : qRd f m q x f = x f := by unfold qRd; rw [if_neg (by omega)]
theorem qRd_j {f m j : Nat} {q x : Nat → Int} (h1 : f < j) (h2 : j < m) : qRd f m q x j = x j - q j * x f := by unfold qRd; rw [if_pos ⟨h1, h2⟩]
def qM (x a : Nat → Int) (i j : Nat) : Int := x i * a j - x j * a i
def qT (x a b : Nat → Int) (i j l : Nat) : Int := x i * (a j * b l - a l * b j) - x j * (a i * b l - a l * b i) + x l * (a i * b j - a j * b i)
theorem q_abs_mul_le {a b : Int} {A B : Nat} (ha : a.natAbs ≤ A) (hb : b.natAbs ≤ B) : (a * b).natAbs ≤ A * B := by
  rw [Int.natAbs_mul]; exact Nat.mul_le_mul ha hb
theorem q_div {P T K : Nat} (hP : 0 < P) (h : P * T ≤ P * K) : T ≤ K := Nat.le_of_mul_le_mul_left h hP
/-- pairs, first round: at most twice -/
theorem qM_F {f m : Nat} {q x a : Nat → Int} {D : Nat} (hx : x f ≠ 0) (hF : ∀ j, f < j → j < m → (qRd f m q x j).natAbs < (x f).natAbs) (hM : ∀ i j, f ≤ i → i < m → f ≤ j → j < m → (qM x a i j).natAbs ≤ D) : ∀ i j, f ≤ i → i < m → f ≤ j → j < m → (qM (qRd f m q x) (qRd f m q a) i j).natAbs ≤ 2 * D := by
  intro i j i1 i2 j1 j2
  have hP : 0 < (x f).natAbs := by omega
  by_cases ei : i = f
  · subst ei
    by_cases ej : j = i
    · subst ej; have : qM (qRd j m q x) (qRd j m q a) j j = 0 := by unfold qM; omega
      omega
    · have := hM i j i1 i2 j1 j2
      have e : qM (qRd i m q x) (qRd i m q a) i j = qM x a i j := by
        unfold qM; rw [qRd_f, qRd_f, qRd_j (by omega) j2, qRd_j (by omega) j2]; grind
      omega
  by_cases ej : j = f
  · subst ej
    have := hM i j i1 i2 j1 j2
    have e : qM (qRd j m q x) (qRd j m q a) i j = qM x a i j := by
      unfold qM; rw [qRd_f, qRd_f, qRd_j (by omega) i2, qRd_j (by omega) i2]; grind
    omega
  have fi := hF i (by omega) i2
  have fj := hF j (by omega) j2
  have m1 := hM f j (Nat.le_refl _) (by omega) j1 j2
  have m2 := hM f i (Nat.le_refl _) (by omega) i1 i2
  have e : x f * qM (qRd f m q x) (qRd f m q a) i j = qRd f m q x i * qM x a f j - qRd f m q x j * qM x a f i := by
    unfold qM; rw [qRd_j (by omega) i2, qRd_j (by omega) j2, qRd_j (by omega) i2, qRd_j (by omega) j2]; grind
  have b1 := q_abs_mul_le (Nat.le_of_lt fi) m1
  have b2 := q_abs_mul_le (Nat.le_of_lt fj) m2
  refine q_div hP ?_
  have e2 : (x f).natAbs * (2 * D) = 2 * ((x f).natAbs * D) := by rw [Nat.mul_left_comm]
  rw [← Int.natAbs_mul, e, e2]
  omega
/-- pairs, later rounds: never more -/
theorem qM_G {f m : Nat} {q x a : Nat → Int} {D : Nat} (hx : x f ≠ 0) (hF : ∀ j, f < j → j < m → (qRd f m q x j).natAbs < (x f).natAbs) (hG : ∀ j, f < j → j < m → qG (qRd f m q x j) (x j)) (hM : ∀ i j, f ≤ i → i < m → f ≤ j → j < m → (qM x a i j).natAbs ≤ D) : ∀ i j, f ≤ i → i < m → f ≤ j → j < m → (qM (qRd f m q x) (qRd f m q a) i j).natAbs ≤ D := by
  intro i j i1 i2 j1 j2
  have hP : 0 < (x f).natAbs := by omega
  by_cases ei : i = f
  · subst ei
    by_cases ej : j = i
    · subst ej; have : qM (qRd j m q x) (qRd j m q a) j j = 0 := by unfold qM; omega
      omega
    · have := hM i j i1 i2 j1 j2
      have e : qM (qRd i m q x) (qRd i m q a) i j = qM x a i j := by
        unfold qM; rw [qRd_f, qRd_f, qRd_j (by omega) j2, qRd_j (by omega) j2]; grind
      omega
  by_cases ej : j = f
  · subst ej
    have := hM i j i1 i2 j1 j2
    have e : qM (qRd j m q x) (qRd j m q a) i j = qM x a i j := by
      unfold qM; rw [qRd_f, qRd_f, qRd_j (by omega) i2, qRd_j (by omega) i2]; grind
    omega
  have fi := hF i (by omega) i2
  have fj := hF j (by omega) j2
  have m1 := hM f j (Nat.le_refl _) (by omega) j1 j2
  have m2 := hM f i (Nat.le_refl _) (by omega) i1 i2
  have m3 := hM i j i1 i2 j1 j2
  have e : x f * qM (qRd f m q x) (qRd f m q a) i j = qRd f m q x i * qM x a f j - qRd f m q x j * qM x a f i := by
    unfold qM; rw [qRd_j (by omega) i2, qRd_j (by omega) j2, qRd_j (by omega) i2, qRd_j (by omega) j2]; grind
  have e0 : x f * qM x a i j = x i * qM x a f j - x j * qM x a f i := by unfold qM; grind
  have b1 := q_abs_mul_le (Nat.le_of_lt fi) m1
  have b2 := q_abs_mul_le (Nat.le_of_lt fj) m2
  have b3 := q_abs_mul_le (Nat.le_refl (x f).natAbs) m3
  have g1 := qG_mul (hG i (by omega) i2) (qM x a f j)
  have g2 := qG_mul (hG j (by omega) j2) (qM x a f i)
  refine q_div hP ?_
  rw [← Int.natAbs_mul, e]
  rw [e0] at b3
  unfold qG at g1 g2
  omega
/-- triples, first round: at most three times -/
theorem qT_0 {f m : Nat} {q x a b : Nat → Int} {i j l : Nat} (i1 : f ≤ i) (i2 : i < m) (j1 : f ≤ j) (j2 : j < m) (l1 : f ≤ l) (l2 : l < m) (h : i = f ∨ j = f ∨ l = f) : qT (qRd f m q x) (qRd f m q a) (qRd f m q b) i j l = qT x a b i j l := by
  have key : ∀ (g : Nat → Int) (s : Nat), f ≤ s → s < m → ∃ k : Int, qRd f m q g s = g s - k * g f ∧ k = (if s = f then 0 else q s) := by
    intro g s s1 s2
    by_cases e : s = f
    · subst e; exact ⟨0, by rw [qRd_f]; omega, by simp⟩
    · exact ⟨q s, by rw [qRd_j (by omega) s2], by simp [e]⟩
  obtain ⟨ki, xi, hi⟩ := key x i i1 i2
  obtain ⟨ki2, ai, hi2⟩ := key a i i1 i2
  obtain ⟨ki3, bi, hi3⟩ := key b i i1 i2
  obtain ⟨kj, xj, hj⟩ := key x j j1 j2
  obtain ⟨kj2, aj, hj2⟩ := key a j j1 j2
  obtain ⟨kj3, bj, hj3⟩ := key b j j1 j2
  obtain ⟨kl, xl, hl⟩ := key x l l1 l2
  obtain ⟨kl2, al, hl2⟩ := key a l l1 l2
  obtain ⟨kl3, bl, hl3⟩ := key b l l1 l2
  rw [← hi] at hi2 hi3; rw [← hj] at hj2 hj3; rw [← hl] at hl2 hl3
  subst hi2 hi3 hj2 hj3 hl2 hl3
  unfold qT
  rw [xi, xj, xl, ai, aj, al, bi, bj, bl]
  rcases h with rfl | rfl | rfl
  · have : ki3 = 0 := by rw [hi]; simp
    subst this; clear xi xj xl ai aj al bi bj bl key hi hj hl; grind
  · have : kj3 = 0 := by rw [hj]; simp
    subst this; clear xi xj xl ai aj al bi bj bl key hi hj hl; grind
  · have : kl3 = 0 := by rw [hl]; simp
    subst this; clear xi xj xl ai aj al bi bj bl key hi hj hl; grind
theorem qT_x {f m : Nat} {q x a b : Nat → Int} {i j l : Nat} (i1 : f < i) (i2 : i < m) (j1 : f < j) (j2 : j < m) (l1 : f < l) (l2 : l < m) : x f * qT (qRd f m q x) (qRd f m q a) (qRd f m q b) i j l = qRd f m q x i * qT x a b f j l - qRd f m q x j * qT x a b f i l + qRd f m q x l * qT x a b f i j := by
  unfold qT
  rw [qRd_j i1 i2, qRd_j j1 j2, qRd_j l1 l2, qRd_j i1 i2, qRd_j j1 j2, qRd_j l1 l2, qRd_j i1 i2, qRd_j j1 j2, qRd_j l1 l2]
  grind
theorem qT_F {f m : Nat} {q x a b : Nat → Int} {D : Nat} (hx : x f ≠ 0) (hF : ∀ j, f < j → j < m → (qRd f m q x j).natAbs < (x f).natAbs) (hT : ∀ i j l, f ≤ i → i < m → f ≤ j → j < m → f ≤ l → l < m → (qT x a b i j l).natAbs ≤ D) : ∀ i j l, f ≤ i → i < m → f ≤ j → j < m → f ≤ l → l < m → (qT (qRd f m q x) (qRd f m q a) (qRd f m q b) i j l).natAbs ≤ 3 * D := by
  intro i j l i1 i2 j1 j2 l1 l2
  by_cases h : i = f ∨ j = f ∨ l = f
  · rw [qT_0 i1 i2 j1 j2 l1 l2 h]; have := hT i j l i1 i2 j1 j2 l1 l2; omega
  have hP : 0 < (x f).natAbs := by omega
  have b1 := q_abs_mul_le (Nat.le_of_lt (hF i (by omega) i2)) (hT f j l (Nat.le_refl _) (by omega) j1 j2 l1 l2)
  have b2 := q_abs_mul_le (Nat.le_of_lt (hF j (by omega) j2)) (hT f i l (Nat.le_refl _) (by omega) i1 i2 l1 l2)
  have b3 := q_abs_mul_le (Nat.le_of_lt (hF l (by omega) l2)) (hT f i j (Nat.le_refl _) (by omega) i1 i2 j1 j2)
  refine q_div hP ?_
  have e2 : (x f).natAbs * (3 * D) = 3 * ((x f).natAbs * D) := by rw [Nat.mul_left_comm]
  rw [← Int.natAbs_mul, qT_x (by omega) i2 (by omega) j2 (by omega) l2, e2]
  omega
theorem q_max4 {p : Nat → Prop} {y1 y2 y3 y4 : Nat} (t1 : p y1) (t2 : p y2) (t3 : p y3) (t4 : p y4) : ∃ B : Nat, p B ∧ y1 ≤ B ∧ y2 ≤ B ∧ y3 ≤ B ∧ y4 ≤ B := by
  have : (y2 ≤ y1 ∧ y3 ≤ y1 ∧ y4 ≤ y1) ∨ (y1 ≤ y2 ∧ y3 ≤ y2 ∧ y4 ≤ y2) ∨ (y1 ≤ y3 ∧ y2 ≤ y3 ∧ y4 ≤ y3) ∨ (y1 ≤ y4 ∧ y2 ≤ y4 ∧ y3 ≤ y4) := by omega
  rcases this with ⟨_, _, _⟩ | ⟨_, _, _⟩ | ⟨_, _, _⟩ | ⟨_, _, _⟩
  · exact ⟨y1, t1, by omega, by omega, by omega, by omega⟩
  · exact ⟨y2, t2, by omega, by omega, by omega, by omega⟩
  · exact ⟨y3, t3, by omega, by omega, by omega, by omega⟩
  · exact ⟨y4, t4, by omega, by omega, by omega, by omega⟩
theorem qT_id (x a b : Nat → Int) (f i j l : Nat) : x f * qT x a b i j l = x i * qT x a b f j l - x j * qT x a b f i l + x l * qT x a b f i j := by unfold qT; grind
theorem qT_ar {A A2 B B2 C C2 : Int} {PB RB : Nat} (gA : qG A2 A) (gB : qG B2 B) (gC : qG C2 C) (bA : A2.natAbs ≤ PB) (bB : B2.natAbs ≤ PB) (bC : C2.natAbs ≤ PB) (cA : A.natAbs ≤ RB) (cB : B.natAbs ≤ RB) (cC : C.natAbs ≤ RB) (z : (A - B + C).natAbs ≤ PB) : (A2 - B2 + C2).natAbs ≤ 2 * PB ∧ 2 * (A2 - B2 + C2).natAbs ≤ PB + RB := by
  obtain ⟨sA, lA⟩ := gA
  obtain ⟨sB, lB⟩ := gB
  obtain ⟨sC, lC⟩ := gC
  rcases sA with ⟨a1, a2⟩ | ⟨a1, a2⟩ <;> rcases sB with ⟨d1, d2⟩ | ⟨d1, d2⟩ <;> rcases sC with ⟨c1, c2⟩ | ⟨c1, c2⟩ <;> omega
/-- triples, later rounds: |T|^3 P^2 never grows -/
theorem qT_G {f m : Nat} {q x a b : Nat → Int} {C P0 : Nat} (hx : x f ≠ 0) (hP0 : ∀ j, f ≤ j → j < m → (x j).natAbs ≤ P0) (hF : ∀ j, f < j → j < m → (qRd f m q x j).natAbs < (x f).natAbs) (hG : ∀ j, f < j → j < m → qG (qRd f m q x j) (x j)) (hT : ∀ i j l, f ≤ i → i < m → f ≤ j → j < m → f ≤ l → l < m → (qT x a b i j l).natAbs ^ 3 * P0 ^ 2 ≤ C) : ∀ i j l, f ≤ i → i < m → f ≤ j → j < m → f ≤ l → l < m → (qT (qRd f m q x) (qRd f m q a) (qRd f m q b) i j l).natAbs ^ 3 * (x f).natAbs ^ 2 ≤ C := by
  intro i j l i1 i2 j1 j2 l1 l2
  have hf := hP0 f (Nat.le_refl _) (by omega)
  by_cases h : i = f ∨ j = f ∨ l = f
  · rw [qT_0 i1 i2 j1 j2 l1 l2 h]
    exact Nat.le_trans (Nat.mul_le_mul_left _ (Nat.pow_le_pow_left hf 2)) (hT i j l i1 i2 j1 j2 l1 l2)
  have hP : 0 < (x f).natAbs := by omega
  have i3 : f < i := by omega
  have j3 : f < j := by omega
  have l3 : f < l := by omega
  have f3 : f < m := by omega
  -- the greatest of the four
  have hB := q_max4 (p := fun B => B ^ 3 * P0 ^ 2 ≤ C) (hT f j l (Nat.le_refl _) f3 j1 j2 l1 l2) (hT f i l (Nat.le_refl _) f3 i1 i2 l1 l2) (hT f i j (Nat.le_refl _) f3 i1 i2 j1 j2) (hT i j l i1 i2 j1 j2 l1 l2)
  obtain ⟨B, hB, y1, y2, y3, y4⟩ := hB
  have b1 := q_abs_mul_le (Nat.le_of_lt (hF i i3 i2)) y1
  have b2 := q_abs_mul_le (Nat.le_of_lt (hF j j3 j2)) y2
  have b3 := q_abs_mul_le (Nat.le_of_lt (hF l l3 l2)) y3
  have c1 := q_abs_mul_le (hP0 i i1 i2) y1
  have c2 := q_abs_mul_le (hP0 j j1 j2) y2
  have c3 := q_abs_mul_le (hP0 l l1 l2) y3
  have z := q_abs_mul_le (Nat.le_refl (x f).natAbs) y4
  have g1 := qG_mul (hG i i3 i2) (qT x a b f j l)
  have g2 := qG_mul (hG j j3 j2) (qT x a b f i l)
  have g3 := qG_mul (hG l l3 l2) (qT x a b f i j)
  have e0 := qT_id x a b f i j l
  have e := qT_x (q := q) (x := x) (a := a) (b := b) i3 i2 j3 j2 l3 l2
  rw [e0] at z
  have k := qT_ar g1 g2 g3 b1 b2 b3 c1 c2 c3 z
  rw [← e] at k
  obtain ⟨k1, k2⟩ := k
  rw [Int.natAbs_mul] at k1 k2
  refine q_tri hf (B := B) (q_div hP ?_) ?_ hB
  · rw [Nat.mul_left_comm]; exact k1
  · rw [Nat.mul_comm B, Nat.add_mul, Nat.mul_comm _ ((x f).natAbs)]; exact k2
