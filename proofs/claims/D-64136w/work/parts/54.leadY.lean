/-! THE LEADS: rows done, where they are not reduced yet -/
def qLY (R s z : Nat) (V : Nat → Nat → Int) (y : Nat → Nat) : Prop := ∀ l i, l < s → s ≤ i → i < R → (V (z + l) (16 + i)).natAbs ≤ y l
theorem qLS_sum {R s z X : Nat} {x : Nat → Int} {W V : Nat → Nat → Int} (h : qLS R s z x W V) (hs : s ≤ R) (hx : x R ≠ 0) (hX : (x R).natAbs ≤ X) (hW : qW R W) {l : Nat} (hl : l < s) : (qS (fun k => qab (V (z + l) (16 + k))) s).natAbs + X ≤ 2 ^ s * X := by
  obtain ⟨a, b⟩ := qLS_small h hs hx hX hW hl (s - 1) (by omega)
  have c := qS_nonneg (f := fun k => qab (V (z + l) (16 + k))) (n := s - 1) (fun _ _ => qab_nn _)
  have e : s = (s - 1) + 1 := by omega
  have e2 : 2 ^ s * X = 2 ^ (s - 1) * X + 2 ^ (s - 1) * X := by rw [e, Nat.pow_succ, Nat.add_sub_cancel]; grind
  rw [e2]
  rw [show qS (fun k => qab (V (z + l) (16 + k))) s = qS (fun k => qab (V (z + l) (16 + k))) (s - 1) + qab (V (z + l) (16 + (s - 1))) by rw [e]; rfl]
  unfold qab at *; omega
/-- the value at the lead's column, of a row done -/
theorem qLY_val {R s z X y : Nat} {x : Nat → Int} {W V : Nat → Nat → Int} (h : qLS R s z x W V) (hs : s < R) (hx : x R ≠ 0) (hX : (x R).natAbs ≤ X) (hW : qW R W) {l : Nat} (hl : l < s) (hy : (V (z + l) (16 + s)).natAbs ≤ y) : (qS (fun k => V (z + l) (16 + k) * W k s) (s + 1)).natAbs + X * (W s s).natAbs ≤ (2 ^ s * X + y) * (W s s).natAbs := by
  have a := qLS_sum h (by omega) hx hX hW hl
  have b := q_sum_le (fun k => V (z + l) (16 + k)) hW (show s ≤ R by omega) s (by omega)
  have c := Nat.mul_le_mul_right (W s s).natAbs a
  have d : (V (z + l) (16 + s) * W s s).natAbs ≤ y * (W s s).natAbs := q_abs_mul_le hy (Nat.le_refl _)
  rw [Nat.add_mul] at c ⊢
  simp only [qS]
  omega
theorem qLY_q {R s z X y : Nat} {x : Nat → Int} {W V V2 : Nat → Nat → Int} {q : Nat → Int} (h : qLS R s z x W V) (hs : s < R) (hx : x R ≠ 0) (hX : (x R).natAbs ≤ X) (hW : qW R W) (g : qGath (z + s) (z + R) (16 + s) V V2) (pos : 0 < V2 (z + s) (16 + s)) (hpi : (V2 (z + s) (16 + s)).natAbs ≤ X) {l : Nat} (hl : l < s) (rd : 0 ≤ qS (fun h => qRed z s q V2 (z + l) (16 + h) * W h s) (s + 1) ∧ qS (fun h => qRed z s q V2 (z + l) (16 + h) * W h s) (s + 1) < W s s * V2 (z + s) (16 + s)) (hy : (V (z + l) (16 + s)).natAbs ≤ y) : (q l).natAbs ≤ 2 ^ s * X + y := by
  have v := qLY_val h hs hx hX hW hl hy
  have w0 := (hW s (by omega)).1
  have low : V2 (z + l) = V (z + l) := qGath_lt g (.inl (by omega))
  have e : qS (fun h => qRed z s q V2 (z + l) (16 + h) * W h s) (s + 1) = qS (fun h => V (z + l) (16 + h) * W h s) (s + 1) - q l * V2 (z + s) (16 + s) * W s s := by
    simp only [qS]
    have : qS (fun h => qRed z s q V2 (z + l) (16 + h) * W h s) s = qS (fun h => V (z + l) (16 + h) * W h s) s := qS_congr fun i hi => by
      rw [qRed_l hl, low, qGath_0 g (16 + i) (fun j j1 j2 => h.2.1 j j1 j2 i hi) (z + s) (Nat.le_refl _) (by omega)]; simp
    rw [this, qRed_l hl, low]; grind
  rw [e] at rd
  have a : (q l * V2 (z + s) (16 + s) * W s s).natAbs ≤ (qS (fun h => V (z + l) (16 + h) * W h s) (s + 1)).natAbs + X * (W s s).natAbs := by
    have p : (W s s * V2 (z + s) (16 + s)).natAbs ≤ X * (W s s).natAbs := by rw [Int.natAbs_mul, Nat.mul_comm]; exact Nat.mul_le_mul_right _ hpi
    omega
  have b := Nat.le_trans a v
  rw [Int.natAbs_mul, Int.natAbs_mul] at b
  have c := Nat.le_of_mul_le_mul_right b (by omega)
  exact Nat.le_trans (Nat.le_mul_of_pos_right _ (by omega)) c
theorem qLY_step {R s z X r : Nat} {x : Nat → Int} {W V V2 : Nat → Nat → Int} {q : Nat → Int} {y y2 : Nat → Nat} (h : qLS R s z x W V) (hs : s < R) (hx : x R ≠ 0) (hX : (x R).natAbs ≤ X) (hW : qW R W) (g : qGath (z + s) (z + R) (16 + s) V V2) (pos : 0 < V2 (z + s) (16 + s)) (hpi : (V2 (z + s) (16 + s)).natAbs ≤ X) (rd : ∀ l, l < s → 0 ≤ qS (fun h => qRed z s q V2 (z + l) (16 + h) * W h s) (s + 1) ∧ qS (fun h => qRed z s q V2 (z + l) (16 + h) * W h s) (s + 1) < W s s * V2 (z + s) (16 + s)) (hY : qLY R s z V y) (hr : ∀ i, s < i → i < R → (V2 (z + s) (16 + i)).natAbs ≤ r) (n1 : ∀ l, l < s → y l + (2 ^ s * X + y l) * r ≤ y2 l) (n2 : r ≤ y2 s) : qLY R (s + 1) z (qRed z s q V2) y2 := by
  intro l i hl i1 i2
  by_cases c : l < s
  · have a := qLY_q h hs hx hX hW g pos hpi c (rd l c) (hY l s c (Nat.le_refl _) (by omega))
    have low : V2 (z + l) = V (z + l) := qGath_lt g (.inl (by omega))
    rw [qRed_l c, low]
    have b := q_abs_mul_le a (hr i (by omega) i2)
    have d := hY l i c (by omega) i2
    have e := n1 l c
    omega
  · have : l = s := by omega
    subst this
    rw [qRed_ge (.inr (Nat.le_refl _))]
    have := hr i (by omega) i2
    omega
theorem qS_swap (f : Nat → Nat → Int) (m n : Nat) : qS (fun i => qS (fun j => f i j) n) m = qS (fun j => qS (fun i => f i j) m) n := by
  induction m with
  | zero => simp only [qS]; exact (qS_zero fun _ _ => rfl).symm
  | succ m ih => simp only [qS]; rw [ih, ← qS_add]
/-- triangular: a left inverse is a right one -/
theorem q_inv {R : Nat} {T V : Nat → Nat → Int} {xR : Int} (hx : xR ≠ 0) (h : ∀ m l, m < R → l < R → qS (fun j => T m j * V j l) R = if m = l then xR else 0) (tT : ∀ m j, m < R → j < m → T m j = 0) (tV : ∀ j l, j < R → l < j → V j l = 0) : ∀ j k, j < R → k < R → qS (fun m => V j m * T m k) R = if j = k then xR else 0 := by
  have dg : ∀ m, m < R → T m m ≠ 0 := by
    intro m hm e
    have := h m m hm hm
    rw [if_pos rfl, qS_zero (fun j hj => by
      by_cases c : j < m
      · rw [tT m j hm c]; simp
      · by_cases c2 : j = m
        · subst c2; rw [e]; simp
        · rw [tV j m hj (by omega)]; simp)] at this
    exact hx this.symm
  intro j k hj hk
  have key : ∀ d, d < R → qS (fun m => V (R - 1 - d) m * T m k) R - (if R - 1 - d = k then xR else 0) = 0 := by
    intro d
    induction d using Nat.strongRecOn with
    | ind d ih =>
      intro hd
      generalize hm : R - 1 - d = m
      have mR : m < R := by omega
      have e0 : qS (fun l => T m l * (qS (fun i => V l i * T i k) R - (if l = k then xR else 0))) R = 0 := by
        have a1 : qS (fun l => T m l * (qS (fun i => V l i * T i k) R - (if l = k then xR else 0))) R = qS (fun l => qS (fun i => T m l * (V l i * T i k)) R) R - qS (fun l => T m l * (if l = k then xR else 0)) R := by
          rw [← qS_sub]; exact qS_congr fun l _ => by rw [Int.mul_sub, qS_mul]
        have a2 : qS (fun l => T m l * (if l = k then xR else 0)) R = xR * T m k := by
          have : (fun l => T m l * (if l = k then xR else 0)) = qU (fun _ => 0) k (xR * T m k) := by
            funext l; unfold qU; by_cases c : l = k
            · subst c; simp [Int.mul_comm]
            · simp [c]
          rw [this, qS_upd hk, qS_zero (fun _ _ => rfl)]; omega
        have a3 : qS (fun l => qS (fun i => T m l * (V l i * T i k)) R) R = xR * T m k := by
          rw [qS_swap]
          have : qS (fun i => qS (fun l => T m l * (V l i * T i k)) R) R = qS (qU (fun _ => 0) m (xR * T m k)) R := qS_congr fun i hi => by
            have : qS (fun l => T m l * (V l i * T i k)) R = T i k * qS (fun l => T m l * V l i) R := by rw [← qS_mul]; exact qS_congr fun l _ => by grind
            rw [this, h m i mR hi]; unfold qU
            by_cases c : i = m
            · subst c; simp [Int.mul_comm]
            · rw [if_neg c, if_neg (by omega)]; simp
          rw [this, qS_upd mR, qS_zero (fun _ _ => rfl)]; omega
        rw [a1, a2, a3]; omega
      have e1 : qS (fun l => T m l * (qS (fun i => V l i * T i k) R - (if l = k then xR else 0))) R = qS (qU (fun _ => 0) m (T m m * (qS (fun i => V m i * T i k) R - (if m = k then xR else 0)))) R := qS_congr fun l hl => by
        unfold qU
        by_cases c : l = m
        · subst c; rw [if_pos rfl]
        · rw [if_neg c]
          by_cases c2 : l < m
          · rw [tT m l mR c2]; simp
          · have := ih (R - 1 - l) (by omega) (by omega)
            rw [show R - 1 - (R - 1 - l) = l by omega] at this
            rw [this]; simp
      rw [e1, qS_upd mR, qS_zero (fun _ _ => rfl)] at e0
      have : T m m * (qS (fun i => V m i * T i k) R - (if m = k then xR else 0)) = 0 := by omega
      rcases Int.mul_eq_zero.mp this with c | c
      · exact absurd c (dg m mR)
      · exact c
  have := key (R - 1 - j) (by omega)
  rw [show R - 1 - (R - 1 - j) = j by omega] at this
  omega
