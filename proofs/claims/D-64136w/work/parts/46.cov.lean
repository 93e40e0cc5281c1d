/-! covectors of a round -/
def qRt (f m : Nat) (q : Nat → Int) (t : Nat → Int) : Nat → Int := fun j => if j = f then t f + qS (fun i => q (f + 1 + i) * t (f + 1 + i)) (m - f - 1) else t j
def qR (g : Nat → Int) (f m : Nat) : Int := qS (fun i => g (f + i)) (m - f)
theorem qR_head {g : Nat → Int} {f m : Nat} (h : f < m) : qR g f m = g f + qS (fun i => g (f + 1 + i)) (m - f - 1) := by
  unfold qR
  rw [show m - f = (m - f - 1) + 1 by omega, qS_head]
  rw [show f + 0 = f from rfl]
  congr 1
  exact qS_congr fun j _ => by rw [show f + (j + 1) = f + 1 + j by omega]
theorem qR_congr {g g2 : Nat → Int} {f m : Nat} (h : ∀ j, f ≤ j → j < m → g j = g2 j) : qR g f m = qR g2 f m := qS_congr fun j hj => h _ (by omega) (by omega)
theorem qR_swp (g : Nat → Int) {f p m : Nat} (h1 : f ≤ p) (h2 : p < m) : qR (fun j => g (qw f p j)) f m = qR g f m := by
  unfold qR
  have := qS_swp (fun i => g (f + i)) (a := 0) (b := p - f) (n := m - f) (by omega) (by omega)
  rw [← this]
  refine qS_congr fun j _ => ?_
  have : qw f p (f + j) = f + qw 0 (p - f) j := by
    unfold qw
    by_cases a : j = 0
    · subst a; simp; omega
    · rw [if_neg (by omega), if_neg a]
      by_cases b : j = p - f
      · rw [if_pos (by omega), if_pos b]; omega
      · rw [if_neg (by omega), if_neg b]
  simp only [this]
theorem qRt_j {f m j : Nat} {q t : Nat → Int} (h : j ≠ f) : qRt f m q t j = t j := by unfold qRt; rw [if_neg h]
theorem qRt_f {f m : Nat} {q t : Nat → Int} : qRt f m q t f = t f + qS (fun i => q (f + 1 + i) * t (f + 1 + i)) (m - f - 1) := by unfold qRt; rw [if_pos rfl]
/-- the sum over a coordinate stays -/
theorem qRt_sum {f m : Nat} {q t a : Nat → Int} (h : f < m) : qR (fun j => qRt f m q t j * qRd f m q a j) f m = qR (fun j => t j * a j) f m := by
  rw [qR_head h, qR_head h, qRt_f, qRd_f]
  have e : qS (fun i => qRt f m q t (f + 1 + i) * qRd f m q a (f + 1 + i)) (m - f - 1) = qS (fun i => t (f + 1 + i) * a (f + 1 + i) - a f * (q (f + 1 + i) * t (f + 1 + i))) (m - f - 1) := by
    refine qS_congr fun i hi => ?_
    rw [qRt_j (by omega), qRd_j (by omega) (by omega)]; grind
  rw [e, qS_sub, qS_mul]; grind
/-- the mass of a covector -/
def qMs (x t : Nat → Int) (f m : Nat) : Int := qR (fun j => qab (x j * t j)) f m
theorem qMs_nn (x t : Nat → Int) (f m : Nat) : 0 ≤ qMs x t f m := qS_nonneg fun _ _ => qab_nn _
/-- L3, one round: the mass halves, and is capped; the new number is below half of it -/
theorem qMs_G {f m : Nat} {q x t : Nat → Int} (h : f < m) (h0 : qR (fun j => x j * t j) f m = 0) (hG : ∀ j, f < j → j < m → qG (qRd f m q x j) (x j)) : 2 * qMs (qRd f m q x) (qRt f m q t) f m ≤ qMs x t f m := by
  have z := qRt_sum (q := q) (t := t) (a := x) h
  have z0 : qR (fun j => t j * x j) f m = 0 := by rw [← h0]; exact qR_congr fun j _ _ => Int.mul_comm _ _
  rw [z0] at z
  unfold qMs
  rw [qR_head h] at h0 z ⊢
  rw [qR_head h]
  rw [qRd_f] at z ⊢
  rw [Int.mul_comm] at z
  have e1 : qS (fun i => qRt f m q t (f + 1 + i) * qRd f m q x (f + 1 + i)) (m - f - 1) = qS (fun i => qRd f m q x (f + 1 + i) * t (f + 1 + i)) (m - f - 1) := qS_congr fun i hi => by rw [qRt_j (by omega), Int.mul_comm]
  have e2 : qS (fun i => qab (qRd f m q x (f + 1 + i) * qRt f m q t (f + 1 + i))) (m - f - 1) = qS (fun i => qab (qRd f m q x (f + 1 + i) * t (f + 1 + i))) (m - f - 1) := qS_congr fun i hi => by rw [qRt_j (by omega)]
  rw [e1] at z; rw [e2]
  have p1 : qS (fun i => 2 * (qab (qRd f m q x (f + 1 + i) * t (f + 1 + i)) + qRd f m q x (f + 1 + i) * t (f + 1 + i))) (m - f - 1) ≤ qS (fun i => qab (x (f + 1 + i) * t (f + 1 + i)) + x (f + 1 + i) * t (f + 1 + i)) (m - f - 1) := by
    refine qS_le fun i hi => ?_
    have := qG_mul (hG (f + 1 + i) (by omega) (by omega)) (t (f + 1 + i))
    unfold qG at this; unfold qab; omega
  have p2 : qS (fun i => 2 * (qab (qRd f m q x (f + 1 + i) * t (f + 1 + i)) - qRd f m q x (f + 1 + i) * t (f + 1 + i))) (m - f - 1) ≤ qS (fun i => qab (x (f + 1 + i) * t (f + 1 + i)) - x (f + 1 + i) * t (f + 1 + i)) (m - f - 1) := by
    refine qS_le fun i hi => ?_
    have := qG_mul (hG (f + 1 + i) (by omega) (by omega)) (t (f + 1 + i))
    unfold qG at this; unfold qab; omega
  rw [qS_mul, qS_add, qS_add] at p1
  rw [qS_mul, qS_sub, qS_sub] at p2
  have a1 := qab_nn (x f * t f)
  generalize qS (fun i => qab (qRd f m q x (f + 1 + i) * t (f + 1 + i))) (m - f - 1) = N2 at *
  generalize qS (fun i => qRd f m q x (f + 1 + i) * t (f + 1 + i)) (m - f - 1) = Q2 at *
  generalize qS (fun i => qab (x (f + 1 + i) * t (f + 1 + i))) (m - f - 1) = N at *
  generalize qS (fun i => x (f + 1 + i) * t (f + 1 + i)) (m - f - 1) = Q at *
  generalize x f * qRt f m q t f = y2 at *
  generalize x f * t f = y at *
  unfold qab at *
  omega
/-- the new number at the pivot -/
theorem qMs_new {f m : Nat} {q x t : Nat → Int} (h : f < m) (h0 : qR (fun j => x j * t j) f m = 0) : 2 * qab (x f * qRt f m q t f) ≤ qMs (qRd f m q x) (qRt f m q t) f m := by
  have z := qRt_sum (q := q) (t := t) (a := x) h
  have z0 : qR (fun j => t j * x j) f m = 0 := by rw [← h0]; exact qR_congr fun j _ _ => Int.mul_comm _ _
  rw [z0] at z
  unfold qMs
  rw [qR_head h] at z ⊢
  rw [qRd_f] at z ⊢
  rw [Int.mul_comm] at z
  have e1 : qS (fun i => qRt f m q t (f + 1 + i) * qRd f m q x (f + 1 + i)) (m - f - 1) = qS (fun i => qRd f m q x (f + 1 + i) * qRt f m q t (f + 1 + i)) (m - f - 1) := qS_congr fun i hi => by rw [Int.mul_comm]
  rw [e1] at z
  have := qS_ab (fun i => qRd f m q x (f + 1 + i) * qRt f m q t (f + 1 + i)) (m - f - 1)
  unfold qab at *
  omega
/-- the cap -/
theorem qMs_cap {f m : Nat} {q x t : Nat → Int} {B : Nat} (h : f < m) (h0 : qR (fun j => x j * t j) f m = 0) (hF : ∀ j, f < j → j < m → (qRd f m q x j).natAbs < (x f).natAbs) (hB : ∀ j, f < j → j < m → (t j).natAbs ≤ B) : qMs (qRd f m q x) (qRt f m q t) f m ≤ 2 * ((m - f - 1 : Nat) * (((x f).natAbs * B : Nat) : Int)) := by
  have z := qRt_sum (q := q) (t := t) (a := x) h
  have z0 : qR (fun j => t j * x j) f m = 0 := by rw [← h0]; exact qR_congr fun j _ _ => Int.mul_comm _ _
  rw [z0] at z
  unfold qMs
  rw [qR_head h] at z ⊢
  rw [qRd_f] at z ⊢
  rw [Int.mul_comm] at z
  have e1 : qS (fun i => qRt f m q t (f + 1 + i) * qRd f m q x (f + 1 + i)) (m - f - 1) = qS (fun i => qRd f m q x (f + 1 + i) * qRt f m q t (f + 1 + i)) (m - f - 1) := qS_congr fun i hi => by rw [Int.mul_comm]
  rw [e1] at z
  have a := qS_ab (fun i => qRd f m q x (f + 1 + i) * qRt f m q t (f + 1 + i)) (m - f - 1)
  have c : qS (fun i => qab (qRd f m q x (f + 1 + i) * qRt f m q t (f + 1 + i))) (m - f - 1) ≤ (m - f - 1 : Nat) * (((x f).natAbs * B : Nat) : Int) := by
    refine qS_cap fun i hi => ?_
    rw [qRt_j (by omega)]
    have := q_abs_mul_le (Nat.le_of_lt (hF (f + 1 + i) (by omega) (by omega))) (hB (f + 1 + i) (by omega) (by omega))
    unfold qab; omega
  unfold qab at *
  omega
/-- L4: a majorant, later rounds: its weighed sum stays -/
theorem qMj_G {f m : Nat} {q x t τ : Nat → Int} (h : f < m) (hG : ∀ j, f < j → j < m → qG (qRd f m q x j) (x j)) (hτ : ∀ j, f ≤ j → j < m → qab (t j) ≤ τ j) : (∀ j, f ≤ j → j < m → qab (qRt f m q t j) ≤ qRt f m (fun j => qab (q j)) τ j) ∧ qR (fun j => qab (qRd f m q x j) * qRt f m (fun j => qab (q j)) τ j) f m = qR (fun j => qab (x j) * τ j) f m := by
  constructor
  · intro j j1 j2
    by_cases e : j = f
    · subst e
      rw [qRt_f, qRt_f]
      have a := qS_ab (fun i => q (j + 1 + i) * t (j + 1 + i)) (m - j - 1)
      have b : qS (fun i => qab (q (j + 1 + i) * t (j + 1 + i))) (m - j - 1) ≤ qS (fun i => qab (q (j + 1 + i)) * τ (j + 1 + i)) (m - j - 1) := qS_le fun i hi => by
        rw [qab_mul]; exact Int.mul_le_mul_of_nonneg_left (hτ _ (by omega) (by omega)) (qab_nn _)
      have c := hτ j (Nat.le_refl _) h
      unfold qab at *; omega
    · rw [qRt_j e, qRt_j e]; exact hτ j j1 j2
  · rw [qR_head h, qR_head h, qRt_f, qRd_f]
    have e : qS (fun i => qab (qRd f m q x (f + 1 + i)) * qRt f m (fun j => qab (q j)) τ (f + 1 + i)) (m - f - 1) = qS (fun i => qab (x (f + 1 + i)) * τ (f + 1 + i) - qab (x f) * (qab (q (f + 1 + i)) * τ (f + 1 + i))) (m - f - 1) := by
      refine qS_congr fun i hi => ?_
      rw [qRt_j (by omega)]
      have g := hG (f + 1 + i) (by omega) (by omega)
      have e : qab (qRd f m q x (f + 1 + i)) = qab (x (f + 1 + i)) - qab (x f) * qab (q (f + 1 + i)) := by
        rw [Int.mul_comm, ← qab_mul]
        rw [qRd_j (by omega) (by omega)] at g ⊢
        unfold qG at g; unfold qab; omega
      rw [e]; grind
    rw [e, qS_sub, qS_mul]; grind
theorem qMj_F {f m : Nat} {q x t τ : Nat → Int} (h : f < m) (hx : ∀ j, f ≤ j → j < m → x j ≠ 0 → (x f).natAbs ≤ (x j).natAbs) (hF : ∀ j, f < j → j < m → (qRd f m q x j).natAbs < (x f).natAbs) (hτ : ∀ j, f ≤ j → j < m → qab (t j) ≤ τ j) : (∀ j, f ≤ j → j < m → qab (qRt f m q t j) ≤ qRt f m (fun j => qab (q j)) τ j) ∧ qR (fun j => qab (qRd f m q x j) * qRt f m (fun j => qab (q j)) τ j) f m ≤ 3 * qR (fun j => qab (x j) * τ j) f m := by
  constructor
  · intro j j1 j2
    by_cases e : j = f
    · subst e
      rw [qRt_f, qRt_f]
      have a := qS_ab (fun i => q (j + 1 + i) * t (j + 1 + i)) (m - j - 1)
      have b : qS (fun i => qab (q (j + 1 + i) * t (j + 1 + i))) (m - j - 1) ≤ qS (fun i => qab (q (j + 1 + i)) * τ (j + 1 + i)) (m - j - 1) := qS_le fun i hi => by
        rw [qab_mul]; exact Int.mul_le_mul_of_nonneg_left (hτ _ (by omega) (by omega)) (qab_nn _)
      have c := hτ j (Nat.le_refl _) h
      unfold qab at *; omega
    · rw [qRt_j e, qRt_j e]; exact hτ j j1 j2
  · rw [qR_head h, qR_head h, qRt_f, qRd_f, Int.mul_add, ← qS_mul]
    have e : qS (fun i => qab (qRd f m q x (f + 1 + i)) * qRt f m (fun j => qab (q j)) τ (f + 1 + i) + qab (x f) * (qab (q (f + 1 + i)) * τ (f + 1 + i))) (m - f - 1) ≤ qS (fun i => 3 * (qab (x (f + 1 + i)) * τ (f + 1 + i))) (m - f - 1) := by
      refine qS_le fun i hi => ?_
      rw [qRt_j (by omega)]
      have t0 : 0 ≤ τ (f + 1 + i) := Int.le_trans (qab_nn _) (hτ (f + 1 + i) (by omega) (by omega))
      have g := hF (f + 1 + i) (by omega) (by omega)
      have e : qab (qRd f m q x (f + 1 + i)) + qab (x f) * qab (q (f + 1 + i)) ≤ 3 * qab (x (f + 1 + i)) := by
        rw [Int.mul_comm, ← qab_mul]
        rw [qRd_j (by omega) (by omega)] at g ⊢
        by_cases z : x (f + 1 + i) = 0
        · have : (q (f + 1 + i) * x f).natAbs < (x f).natAbs := by rw [z] at g; omega
          have : q (f + 1 + i) = 0 := by
            rw [Int.natAbs_mul] at this
            rcases Nat.eq_zero_or_pos (q (f + 1 + i)).natAbs with c | c
            · omega
            · have := Nat.mul_le_mul_right (x f).natAbs c; omega
          rw [z, this]; simp [qab]
        · have := hx (f + 1 + i) (by omega) (by omega) z
          unfold qab; omega
      have := Int.mul_le_mul_of_nonneg_right e t0
      have e2 : (qab (qRd f m q x (f + 1 + i)) + qab (x f) * qab (q (f + 1 + i))) * τ (f + 1 + i) = qab (qRd f m q x (f + 1 + i)) * τ (f + 1 + i) + qab (x f) * (qab (q (f + 1 + i)) * τ (f + 1 + i)) := by grind
      have e3 : 3 * qab (x (f + 1 + i)) * τ (f + 1 + i) = 3 * (qab (x (f + 1 + i)) * τ (f + 1 + i)) := by grind
      omega
    rw [qS_add, qS_mul] at e
    rw [qS_mul] at *
    have c : 0 ≤ qab (x f) * τ f := Int.mul_nonneg (qab_nn _) (Int.le_trans (qab_nn _) (hτ f (Nat.le_refl _) h))
    omega
