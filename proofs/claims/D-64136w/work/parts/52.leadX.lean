theorem q_det3 {k0 k1 k2 l0 l1 l2 m0 m1 m2 a0 a1 a2 b0 b1 b2 d0 d1 d2 c0 c1 c2 u v w : Int} (h00 : c0 = k0 * a0 + k1 * a1 + k2 * a2) (h01 : u = k0 * b0 + k1 * b1 + k2 * b2) (h02 : v = k0 * d0 + k1 * d1 + k2 * d2) (h10 : 0 = l0 * a0 + l1 * a1 + l2 * a2) (h11 : c1 = l0 * b0 + l1 * b1 + l2 * b2) (h12 : w = l0 * d0 + l1 * d1 + l2 * d2) (h20 : 0 = m0 * a0 + m1 * a1 + m2 * a2) (h21 : 0 = m0 * b0 + m1 * b1 + m2 * b2) (h22 : c2 = m0 * d0 + m1 * d1 + m2 * d2) : c0 * c1 * c2 = (k0 * (l1 * m2 - l2 * m1) - k1 * (l0 * m2 - l2 * m0) + k2 * (l0 * m1 - l1 * m0)) * (a0 * (b1 * d2 - b2 * d1) - a1 * (b0 * d2 - b2 * d0) + a2 * (b0 * d1 - b1 * d0)) := by
  have e : c0 * c1 * c2 = c0 * (c1 * c2 - w * 0) - u * (0 * c2 - w * 0) + v * (0 * 0 - c1 * 0) := by grind
  rw [e]
  have g : ∀ z1 z2 z3 : Int, z1 = l0 * a0 + l1 * a1 + l2 * a2 → z2 = m0 * a0 + m1 * a1 + m2 * a2 → z3 = m0 * b0 + m1 * b1 + m2 * b2 → c0 * (c1 * c2 - w * z3) - u * (z1 * c2 - w * z2) + v * (z1 * z3 - c1 * z2) = (k0 * (l1 * m2 - l2 * m1) - k1 * (l0 * m2 - l2 * m0) + k2 * (l0 * m1 - l1 * m0)) * (a0 * (b1 * d2 - b2 * d1) - a1 * (b0 * d2 - b2 * d0) + a2 * (b0 * d1 - b1 * d0)) := by
    intro z1 z2 z3 e1 e2 e3
    subst h00 h01 h02 h11 h12 h22 e1 e2 e3
    clear h10 h20 h21 e
    grind
  exact g 0 0 0 h10 h20 h21
def qLS0 (R s z : Nat) (V : Nat → Nat → Int) : Prop := (∀ l, l < s → (∀ i, i < l → V (z + l) (16 + i) = 0) ∧ 0 < V (z + l) (16 + l)) ∧ (∀ j, z + s ≤ j → j < z + R → ∀ i, i < s → V j (16 + i) = 0)
theorem qLS_0 {R s z : Nat} {x : Nat → Int} {W V : Nat → Nat → Int} (h : qLS R s z x W V) : qLS0 R s z V := ⟨h.1, h.2.1⟩
def qCv (R z m : Nat) (xR : Int) (V : Nat → Nat → Int) (t : Nat → Int) : Prop := ∀ l, l < R → qR (fun j => t j * V j (16 + l)) z (z + R) = if m = l then xR else 0
/-- the sum over a column done: only rows up to it count -/
theorem qCv_col {R s z m l : Nat} {xR : Int} {V : Nat → Nat → Int} {t : Nat → Int} (h : qLS0 R s z V) (hR : s ≤ R) (c : qCv R z m xR V t) (hl : l < s) : qR (fun j => t j * V j (16 + l)) z (z + l) + t (z + l) * V (z + l) (16 + l) = if m = l then xR else 0 := by
  have a := c l (by omega)
  rw [qR_split _ (show z ≤ z + l by omega) (show z + l ≤ z + R by omega), qR_head (f := z + l) (by omega)] at a
  rw [qS_zero (f := fun i => t (z + l + 1 + i) * V (z + l + 1 + i) (16 + l)) (n := z + R - (z + l) - 1)] at a
  · omega
  · intro i hi
    have : V (z + l + 1 + i) (16 + l) = 0 := by
      by_cases k : l + 1 + i < s
      · have := (h.1 (l + 1 + i) k).1 l (by omega)
        rw [show z + l + 1 + i = z + (l + 1 + i) by omega]; exact this
      · exact h.2 _ (by omega) (by omega) l hl
    show t (z + l + 1 + i) * V (z + l + 1 + i) (16 + l) = 0
    rw [this]; simp
theorem qCv_low {R s z m : Nat} {xR : Int} {V : Nat → Nat → Int} {t : Nat → Int} (h : qLS0 R s z V) (hR : s ≤ R) (c : qCv R z m xR V t) : ∀ l, l < s → l < m → t (z + l) = 0 := by
  intro l
  induction l using Nat.strongRecOn with
  | ind l ih =>
    intro hl hm
    have a := qCv_col h hR c hl
    rw [if_neg (by omega), qR_0 (fun j j1 j2 => by
      have := ih (j - z) (by omega) (by omega) (by omega)
      rw [show z + (j - z) = j by omega] at this
      show t j * V j (16 + l) = 0
      rw [this]; simp)] at a
    have p := (h.1 l hl).2
    rw [Int.zero_add] at a
    rcases Int.mul_eq_zero.mp a with k | k
    · exact k
    · omega
theorem qCv_act {R s z m l : Nat} {xR : Int} {V : Nat → Nat → Int} {t : Nat → Int} (h : qLS0 R s z V) (hR : s ≤ R) (c : qCv R z m xR V t) (hm : s ≤ m) (hl : l < R) : qR (fun j => t j * V j (16 + l)) (z + s) (z + R) = if m = l then xR else 0 := by
  have a := c l hl
  rw [qR_split _ (show z ≤ z + s by omega) (show z + s ≤ z + R by omega), qR_0 (a := z) (fun j j1 j2 => by
    have := qCv_low h hR c (j - z) (by omega) (by omega)
    rw [show z + (j - z) = j by omega] at this
    show t j * V j (16 + l) = 0
    rw [this]; simp)] at a
  omega
theorem qPr_3 {R s z τ : Nat} {x : Nat → Int} {W V : Nat → Nat → Int} (h : qLS R s z x W V) (hs : s + 3 = R) (hx : x R ≠ 0) {t1 t2 : Nat → Int} (c1 : qCv R z (s + 1) (x R) V t1) (c2 : qCv R z (s + 2) (x R) V t2) (b1 : ∀ j, z + s ≤ j → j < z + R → (t1 j).natAbs ≤ τ) (b2 : ∀ j, z + s ≤ j → j < z + R → (t2 j).natAbs ≤ τ) : ∀ i, s < i → i < R → qPr (z + s) (z + R) (16 + s) (16 + i) V τ := by
  have ex : ∀ g : Nat → Int, qR g (z + s) (z + R) = g (z + s) + g (z + s + 1) + g (z + s + 2) := fun g => by
    unfold qR; rw [show z + R - (z + s) = 3 by omega]; simp [qS]
  -- the determinant
  have hdet : (qT (fun j => V j (16 + s)) (fun j => V j (16 + (s + 1))) (fun j => V j (16 + (s + 2))) (z + s) (z + s + 1) (z + s + 2)).natAbs ≤ (x R).natAbs := by
    obtain ⟨c, y, h1, _, _, h4⟩ := q_steps x R hx
    obtain ⟨p0, e0, z0, _, d0⟩ := h1 s (by omega)
    obtain ⟨p1, e1, z1, _, d1⟩ := h1 (s + 1) (by omega)
    obtain ⟨p2, e2, z2, _, d2⟩ := h1 (s + 2) (by omega)
    obtain ⟨k, hk⟩ := h.2.2.2.1 (y s) d0 z0
    obtain ⟨l, hl⟩ := h.2.2.2.1 (y (s + 1)) d1 (fun i hi => z1 i (by omega))
    obtain ⟨m, hm⟩ := h.2.2.2.1 (y (s + 2)) d2 (fun i hi => z2 i (by omega))
    have k0 := hk s (by omega)
    have k1 := hk (s + 1) (by omega)
    have k2 := hk (s + 2) (by omega)
    have l0 := hl s (by omega)
    have l1 := hl (s + 1) (by omega)
    have l2 := hl (s + 2) (by omega)
    have m0 := hm s (by omega)
    have m1 := hm (s + 1) (by omega)
    have m2 := hm (s + 2) (by omega)
    rw [ex] at k0 k1 k2 l0 l1 l2 m0 m1 m2
    rw [z1 s (by omega)] at l0; rw [z2 s (by omega)] at m0; rw [z2 (s + 1) (by omega)] at m1
    have D := q_det3 k0 k1 k2 l0 l1 l2 m0 m1 m2
    rw [e0, e1, e2] at D
    have p := h4 s hs
    have n := congrArg Int.natAbs D
    rw [Int.natAbs_mul, Int.natAbs_mul, Int.natAbs_mul] at n
    simp only [Int.natAbs_natCast] at n
    have pos : 0 < c s * c (s + 1) * c (s + 2) := Nat.mul_pos (Nat.mul_pos p0 p1) p2
    rw [n] at pos
    have q := Nat.le_mul_of_pos_left (V (z + s) (16 + s) * (V (z + s + 1) (16 + (s + 1)) * V (z + s + 2) (16 + (s + 2)) - V (z + s + 2) (16 + (s + 1)) * V (z + s + 1) (16 + (s + 2))) - V (z + s + 1) (16 + s) * (V (z + s) (16 + (s + 1)) * V (z + s + 2) (16 + (s + 2)) - V (z + s + 2) (16 + (s + 1)) * V (z + s) (16 + (s + 2))) + V (z + s + 2) (16 + s) * (V (z + s) (16 + (s + 1)) * V (z + s + 1) (16 + (s + 2)) - V (z + s + 1) (16 + (s + 1)) * V (z + s) (16 + (s + 2)))).natAbs (Nat.pos_of_mul_pos_right pos)
    simp only [qT]
    omega
  have xp : 0 < (x R).natAbs := by omega
  have fin : ∀ (M t D : Int), M * x R = t * D ∨ M * x R = -(t * D) → D.natAbs ≤ (x R).natAbs → t.natAbs ≤ τ → M.natAbs ≤ τ := by
    intro M t D e hD ht
    have : (M * x R).natAbs ≤ τ * (x R).natAbs := by
      have := q_abs_mul_le ht hD
      rcases e with e | e <;> rw [e] <;> omega
    rw [Int.natAbs_mul] at this
    exact Nat.le_of_mul_le_mul_right this xp
  intro i i1 i2
  have tri : ∀ (a b : Nat → Int), (∀ u v, (u = z + s ∨ u = z + s + 1 ∨ u = z + s + 2) → (v = z + s ∨ v = z + s + 1 ∨ v = z + s + 2) → u < v → (a u * b v - a v * b u).natAbs ≤ τ) → ∀ u v, z + s ≤ u → u < z + R → z + s ≤ v → v < z + R → (qM a b u v).natAbs ≤ τ := by
    intro a b hh u v u1 u2 v1 v2
    unfold qM
    rcases Nat.lt_trichotomy u v with w | w | w
    · have := hh u v (by omega) (by omega) w; omega
    · subst w; omega
    · have := hh v u (by omega) (by omega) w
      have e : a u * b v - a v * b u = -(a v * b u - a u * b v) := by omega
      rw [e]; omega
  have hi : i = s + 1 ∨ i = s + 2 := by omega
  rcases hi with rfl | rfl
  · have A0 := qCv_act (qLS_0 h) (by omega) c2 (by omega) (l := s) (by omega)
    have A1 := qCv_act (qLS_0 h) (by omega) c2 (by omega) (l := s + 1) (by omega)
    have A2 := qCv_act (qLS_0 h) (by omega) c2 (by omega) (l := s + 2) (by omega)
    rw [ex, if_neg (by omega)] at A0 A1
    rw [ex, if_pos rfl] at A2
    obtain ⟨q0, q1, q2⟩ := q_cross (a := fun j => V j (16 + s)) (b := fun j => V j (16 + (s + 1))) (d := fun j => V j (16 + (s + 2))) (t := t2) (f := z + s) A0 A1 A2
    refine tri _ _ ?_
    intro u v hu hv uv
    rcases hu with rfl | rfl | rfl <;> rcases hv with rfl | rfl | rfl <;> first | omega | exact fin _ _ _ (.inl q0) hdet (b2 _ (by omega) (by omega)) | exact fin _ _ _ (.inr q1) hdet (b2 _ (by omega) (by omega)) | exact fin _ _ _ (.inl q2) hdet (b2 _ (by omega) (by omega))
  · have A0 := qCv_act (qLS_0 h) (by omega) c1 (by omega) (l := s) (by omega)
    have A1 := qCv_act (qLS_0 h) (by omega) c1 (by omega) (l := s + 1) (by omega)
    have A2 := qCv_act (qLS_0 h) (by omega) c1 (by omega) (l := s + 2) (by omega)
    rw [ex, if_neg (by omega)] at A0 A2
    rw [ex, if_pos rfl] at A1
    obtain ⟨q0, q1, q2⟩ := q_cross (a := fun j => V j (16 + s)) (b := fun j => V j (16 + (s + 2))) (d := fun j => V j (16 + (s + 1))) (t := t1) (f := z + s) A0 A2 A1
    have hdet2 : (qT (fun j => V j (16 + s)) (fun j => V j (16 + (s + 2))) (fun j => V j (16 + (s + 1))) (z + s) (z + s + 1) (z + s + 2)).natAbs ≤ (x R).natAbs := by
      have : qT (fun j => V j (16 + s)) (fun j => V j (16 + (s + 2))) (fun j => V j (16 + (s + 1))) (z + s) (z + s + 1) (z + s + 2) = -qT (fun j => V j (16 + s)) (fun j => V j (16 + (s + 1))) (fun j => V j (16 + (s + 2))) (z + s) (z + s + 1) (z + s + 2) := by unfold qT; grind
      rw [this]; omega
    refine tri _ _ ?_
    intro u v hu hv uv
    rcases hu with rfl | rfl | rfl <;> rcases hv with rfl | rfl | rfl <;> first | omega | exact fin _ _ _ (.inl q0) hdet2 (b1 _ (by omega) (by omega)) | exact fin _ _ _ (.inr q1) hdet2 (b1 _ (by omega) (by omega)) | exact fin _ _ _ (.inl q2) hdet2 (b1 _ (by omega) (by omega))
