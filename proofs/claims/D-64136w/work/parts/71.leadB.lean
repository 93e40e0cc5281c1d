/-! .. second part: the leads behind the dropped one, which are there already -/
def qM20 (ρ : Nat) : Nat := qMt ρ * 20
def qEb (ρ R s : Nat) : Nat := 2 ^ (s - R) * (2 ^ R * qM20 ρ + 2 ^ R * (qM20 ρ * qM20 ρ) + 1)
def qPB (n ρ k R z : Nat) (cN : Nat → Nat) (w : Nat → Nat → Int) (row : Nat → Int) (s c : Nat) (V : Nat → Nat → Int) : Prop :=
  (∀ i, i < R → ∀ col, col < cN i → V (z + i) (4 + col) = 0) ∧
  (∃ p : Nat → Int, (∀ i, i < R → 0 < p i ∧ V (z + i) (4 + cN i) = p i * w i (cN i)) ∧ qPi (fun i => (p i).natAbs) R ≤ (qF row (w R)).natAbs) ∧
  (∀ g i, g < i → i < R → 0 ≤ V (z + g) (4 + cN i) ∧ V (z + g) (4 + cN i) < V (z + i) (4 + cN i)) ∧
  (∀ g i, g < R → R ≤ i → i < s → 0 ≤ V (z + g) (4 + cN (i + 1)) ∧ V (z + g) (4 + cN (i + 1)) < w (i + 1) (cN (i + 1))) ∧
  (∀ i, i < R → ∃ t : Nat → Int, ∀ col, col < 7 → V (z + i) (4 + col) = qS (fun l => t l * w l col) k) ∧
  (∀ i, i < R → qF row (fun col => V (z + i) (4 + col)) = 0) ∧
  (∀ i, R ≤ i → i + 1 < k → ∀ col, col < 7 → V (z + i) (4 + col) = w (i + 1) col) ∧
  (∀ g i, g < R → s ≤ i → i + 1 < k → (V (z + g) (4 + cN (i + 1))).natAbs + (w (i + 1) (cN (i + 1))).natAbs ≤ qEb ρ R s * (w (i + 1) (cN (i + 1))).natAbs) ∧
  ((∀ i, i < s → qNc R cN i < c) ∧ (s < k - 1 → c ≤ qNc R cN s)) ∧
  (∀ v : Nat → Int, qSpan k w v → qF row v = 0 → ∃ u : Nat → Int, ∀ col, col < 7 → v col = qS (fun i => u i * V (z + i) (4 + col)) (k - 1))
theorem qF_lin {row : Nat → Int} {k : Nat} {t : Nat → Int} {w : Nat → Nat → Int} {v : Nat → Int} (hv : ∀ col, col < 7 → v col = qS (fun l => t l * w l col) k) : qF row v = qS (fun l => t l * qF row (w l)) k := by
  unfold qF
  have e1 : qS (fun c => row c * v c) 7 = qS (fun c => qS (fun l => t l * (row c * w l c)) k) 7 := qS_congr fun c hc => by
    rw [hv c hc, ← qS_mul]; exact qS_congr fun l _ => by grind
  rw [e1, qS_swap]
  exact qS_congr fun l _ => by rw [qS_mul]
theorem qS_app (f : Nat → Int) (m n : Nat) : qS f (m + n) = qS f m + qS (fun i => f (m + i)) n := by
  induction n with
  | zero => simp [qS]
  | succ n ih => rw [← Nat.add_assoc, qS, qS, ih, Int.add_assoc]
/-- a head's size at a column behind: from its coordinates -/
theorem qPB_size {n ρ k R z : Nat} {a : Nat → Nat → Int} {b cN : Nat → Nat} {w V : Nat → Nat → Int} {row x : Nat → Int} (h : qKB n ρ k a b cN w) (hρ : ρ ≤ 3) (ha : ∀ i, i < ρ → qRow n (a i)) (hrow : qRow n row) (hR : R < k) (hxr : x = fun i => qF row (w i)) (hx : x R ≠ 0) (hS : qLS R R z x (fun g i => w g (cN i)) V) {g l : Nat} (hg : g < R) (hl1 : R < l) (hl2 : l < k) : (qS (fun i => V (z + g) (16 + i) * w i (cN l)) (R + 1)).natAbs ≤ (2 ^ R * qM20 ρ + 2 ^ R * (qM20 ρ * qM20 ρ)) * (w l (cN l)).natAbs := by
  have hX : ∀ i, i ≤ R → (x i).natAbs ≤ qM20 ρ := fun i hi => by rw [hxr]; exact qKB_x h hρ ha hrow (by omega)
  have sm := qLS_sum hS (Nat.le_refl R) hx (hX R (Nat.le_refl _)) (qKB_W h hR) hg
  -- the last coordinate
  have row0 := hS.2.2.1 (z + g) (by omega) (by omega)
  rw [qS] at row0
  have s2 : (qS (fun i => V (z + g) (16 + i) * x i) R).natAbs ≤ qM20 ρ * (qS (fun i => qab (V (z + g) (16 + i))) R).natAbs := by
    have e : qS (fun i => V (z + g) (16 + i) * x i) R = qS (fun i => x i * V (z + g) (16 + i)) R := qS_congr fun i _ => Int.mul_comm _ _
    have m := qS_capmul (f := x) (u := fun i => V (z + g) (16 + i)) (n := R) (fun i hi => hX i (by omega))
    have nn := qS_nonneg (f := fun i => qab (V (z + g) (16 + i))) (n := R) (fun _ _ => qab_nn _)
    rw [e]
    have c : ((qM20 ρ * (qS (fun i => qab (V (z + g) (16 + i))) R).natAbs : Nat) : Int) = (qM20 ρ : Int) * qS (fun i => qab (V (z + g) (16 + i))) R := by
      rw [Int.natCast_mul]; congr 1; omega
    unfold qab at m c ⊢
    omega
  have uR : (V (z + g) (16 + R)).natAbs ≤ qM20 ρ * (2 ^ R * qM20 ρ) := by
    have e : (V (z + g) (16 + R) * x R).natAbs = (qS (fun i => V (z + g) (16 + i) * x i) R).natAbs := by omega
    rw [Int.natAbs_mul] at e
    have p : 0 < (x R).natAbs := by omega
    have a1 := Nat.le_mul_of_pos_right (V (z + g) (16 + R)).natAbs p
    have a2 : qM20 ρ * (qS (fun i => qab (V (z + g) (16 + i))) R).natAbs ≤ qM20 ρ * (2 ^ R * qM20 ρ) := Nat.mul_le_mul_left _ (by omega)
    omega
  have wl : ∀ i, i < R + 1 → (w i (cN l)).natAbs ≤ (w l (cN l)).natAbs := fun i hi => by
    have := h.2.2.2.1 i l (by omega) hl2; omega
  have m := qS_capmul (f := fun i => w i (cN l)) (u := fun i => V (z + g) (16 + i)) (n := R + 1) wl
  have e : qS (fun i => V (z + g) (16 + i) * w i (cN l)) (R + 1) = qS (fun i => w i (cN l) * V (z + g) (16 + i)) (R + 1) := qS_congr fun i _ => Int.mul_comm _ _
  rw [← e] at m
  have tot : qS (fun i => qab (V (z + g) (16 + i))) (R + 1) ≤ ((2 ^ R * qM20 ρ + 2 ^ R * (qM20 ρ * qM20 ρ) : Nat) : Int) := by
    rw [qS]
    have nn := qS_nonneg (f := fun i => qab (V (z + g) (16 + i))) (n := R) (fun _ _ => qab_nn _)
    have c : qM20 ρ * (2 ^ R * qM20 ρ) = 2 ^ R * (qM20 ρ * qM20 ρ) := by grind
    rw [c] at uR
    unfold qab at nn sm ⊢
    omega
  have f := Int.mul_le_mul_of_nonneg_left tot (show (0 : Int) ≤ ((w l (cN l)).natAbs : Int) by omega)
  have c : ((w l (cN l)).natAbs : Int) * ((2 ^ R * qM20 ρ + 2 ^ R * (qM20 ρ * qM20 ρ) : Nat) : Int) = (((2 ^ R * qM20 ρ + 2 ^ R * (qM20 ρ * qM20 ρ)) * (w l (cN l)).natAbs : Nat) : Int) := by rw [← Int.natCast_mul, Nat.mul_comm]
  have m2 := Int.le_trans m f
  rw [c] at m2
  unfold qab at m2
  exact Int.ofNat_le.mp m2
