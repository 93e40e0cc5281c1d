/-! the pivot's columns -/
def qUr (c : Nat) : Nat → Int := fun j => if j = c then 1 else 0
theorem qUr_row (n c : Nat) : qRow n (qUr c) := by
  constructor
  · intro j _; unfold qUr; split <;> decide
  · unfold qUr; split <;> decide
theorem qUr_F {c : Nat} (hc : c < 7) (v : Nat → Int) : qF (qUr c) v = v c := by
  unfold qF qUr; rw [qS_unit v hc]; omega
theorem q_pivcol {n ρ k st r c : Nat} {a : Nat → Nat → Int} {b cN : Nat → Nat} {w V V2 : Nat → Nat → Int} {row : Nat → Int} (h : qKB n ρ k a b cN w) (hρ : ρ ≤ 2) (ha : ∀ i, i < ρ → qRow n (a i)) (hrow : qRow n row) (hc : c < 7) (hV : ∀ i, i < k → ∀ col, col < 7 → V (st + i) (4 + col) = w i col) (hr : ∀ i, i < k → V (st + i) r = qF row (w i)) (g : qGath st (st + k) r V V2) : (V2 st (4 + c)).natAbs ≤ qMt ρ * 20 ∨ (V2 st (4 + c)).natAbs ≤ 2 * (k * (qMt (ρ + 1) * 20)) := by
  refine (qGath_a (W := qMt ρ * 20) (D := k * (qMt (ρ + 1) * 20)) g (fun i j i1 i2 j1 j2 => ?_) (fun j j1 j2 => ?_)).2
  · obtain ⟨x, rfl⟩ := Nat.exists_eq_add_of_le i1
    obtain ⟨y, rfl⟩ := Nat.exists_eq_add_of_le j1
    have p := qKB_pair h hρ ha hrow (qUr_row n c) (i := x) (j := y) (by omega) (by omega)
    rw [qUr_F hc, qUr_F hc] at p
    simp only [qM]
    rw [hr x (by omega), hr y (by omega), hV x (by omega) c hc, hV y (by omega) c hc]
    exact p
  · obtain ⟨y, rfl⟩ := Nat.exists_eq_add_of_le j1
    have p := qKB_x h (by omega) ha (qUr_row n c) (j := y) (by omega)
    rw [qUr_F hc] at p
    rw [hV y (by omega) c hc]; exact p
/-- the row's numbers fit -/
theorem q_rowfit {n ρ k : Nat} {a : Nat → Nat → Int} {b cN : Nat → Nat} {w : Nat → Nat → Int} {row : Nat → Int} (h : qKB n ρ k a b cN w) (hρ : ρ ≤ 3) (ha : ∀ i, i < ρ → qRow n (a i)) (hrow : qRow n row) {j : Nat} (hj : j < k) : (qF row (w j)).natAbs < 2 ^ 63 := by
  have p := qKB_x h hρ ha hrow hj
  have m : qMt ρ ≤ 192000 := by
    have : ρ = 0 ∨ ρ = 1 ∨ ρ = 2 ∨ ρ = 3 := by omega
    rcases this with rfl | rfl | rfl | rfl <;> decide
  omega
