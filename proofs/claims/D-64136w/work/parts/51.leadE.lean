/-! THE LEADS: sizes -/
theorem qR_split (g : Nat → Int) {a b c : Nat} (h1 : a ≤ b) (h2 : b ≤ c) : qR g a c = qR g a b + qR g b c := by
  unfold qR
  obtain ⟨d, rfl⟩ := Nat.exists_eq_add_of_le h1
  obtain ⟨e, rfl⟩ := Nat.exists_eq_add_of_le h2
  rw [show a + d + e - a = d + e by omega, show a + d - a = d by omega, show a + d + e - (a + d) = e by omega]
  induction e with
  | zero => simp [qS]
  | succ e ih => rw [show d + (e + 1) = (d + e) + 1 by omega, qS, qS, ih (by omega), Int.add_assoc, Nat.add_assoc]
theorem qR_0 {g : Nat → Int} {a b : Nat} (h : ∀ j, a ≤ j → j < b → g j = 0) : qR g a b = 0 := qS_zero fun i hi => h _ (by omega) (by omega)
def qLE (R s z : Nat) (V : Nat → Nat → Int) (e : Nat) : Prop := ∀ j, z + s ≤ j → j < z + R → ∀ i, i < R → (V j (16 + i)).natAbs ≤ e
theorem qLE_step {R s z d e e2 r : Nat} {x : Nat → Int} {W V V2 : Nat → Nat → Int} (h : qLS R s z x W V) (g : qGath (z + s) (z + R) (16 + s) V V2) (hE : qLE R s z V e) (hd : ∀ i, s < i → i < R → qPr (z + s) (z + R) (16 + s) (16 + i) V d) (n1 : 2 * d ≤ e2) (n2 : e ≤ r) (n3 : 2 * d ≤ r) : (∀ j, z + s < j → j < z + R → ∀ i, i < R → (V2 j (16 + i)).natAbs ≤ e2) ∧ ∀ i, s < i → i < R → (V2 (z + s) (16 + i)).natAbs ≤ r := by
  have gz : ∀ j, z + s < j → j < z + R → V2 j (16 + s) = 0 := by obtain ⟨n, W, _, _, _, hz⟩ := g; exact hz
  constructor
  · intro j j1 j2 i hi
    by_cases c : i < s
    · rw [qGath_0 g (16 + i) (fun j j1 j2 => h.2.1 j j1 j2 i c) j (by omega) j2]; simp
    · by_cases c2 : i = s
      · subst c2; rw [gz j j1 j2]; simp
      · have := (qGath_a g (hd i (by omega) hi) (fun j j1 j2 => hE j j1 j2 i hi)).1 j j1 j2
        omega
  · intro i i1 i2
    have := (qGath_a g (hd i i1 i2) (fun j j1 j2 => hE j j1 j2 i i2)).2
    omega
theorem qPr_crude {R s z e i : Nat} {V : Nat → Nat → Int} (hE : qLE R s z V e) (hs : s < R) (hi : i < R) : qPr (z + s) (z + R) (16 + s) (16 + i) V (2 * (e * e)) := by
  intro a b a1 a2 b1 b2
  have c1 := q_abs_mul_le (hE a a1 a2 s hs) (hE b b1 b2 i hi)
  have c2 := q_abs_mul_le (hE b b1 b2 s hs) (hE a a1 a2 i hi)
  simp only [qM]; omega
theorem qPr_2 {R s z : Nat} {x : Nat → Int} {W V : Nat → Nat → Int} (h : qLS R s z x W V) (hs : s + 2 = R) (hx : x R ≠ 0) : qPr (z + s) (z + R) (16 + s) (16 + (s + 1)) V (x R).natAbs := by
  obtain ⟨c, y, h1, _, h3, _⟩ := q_steps x R hx
  obtain ⟨c0, e0, z0, _, d0⟩ := h1 s (by omega)
  obtain ⟨c1, e1, z1, _, d1⟩ := h1 (s + 1) (by omega)
  obtain ⟨k, hk⟩ := h.2.2.2.1 (y s) d0 z0
  obtain ⟨k2, hk2⟩ := h.2.2.2.1 (y (s + 1)) d1 (fun i hi => z1 i (by omega))
  have ex : ∀ g : Nat → Int, qR g (z + s) (z + R) = g (z + s) + g (z + s + 1) := fun g => by
    unfold qR; rw [show z + R - (z + s) = 2 by omega]; simp [qS]
  have p := h3 s (s + 1) (by omega) (by omega)
  have k00 := hk s (by omega)
  have k01 := hk (s + 1) (by omega)
  have k10 := hk2 s (by omega)
  have k11 := hk2 (s + 1) (by omega)
  rw [ex] at k00 k01 k10 k11
  rw [e0] at k00; rw [e1] at k11; rw [z1 s (by omega)] at k10
  have det : (c s : Int) * (c (s + 1)) = (k (z + s) * k2 (z + s + 1) - k (z + s + 1) * k2 (z + s)) * (V (z + s) (16 + s) * V (z + s + 1) (16 + (s + 1)) - V (z + s + 1) (16 + s) * V (z + s) (16 + (s + 1))) := by
    have : (c s : Int) * (c (s + 1)) = (c s : Int) * (c (s + 1)) - y s (s + 1) * 0 := by omega
    rw [this, k00, k11, k01]
    generalize hz : (0 : Int) = zero at k10 ⊢
    rw [k10]; grind
  have key : (V (z + s) (16 + s) * V (z + s + 1) (16 + (s + 1)) - V (z + s + 1) (16 + s) * V (z + s) (16 + (s + 1))).natAbs ≤ (x R).natAbs := by
    have n : c s * c (s + 1) = (k (z + s) * k2 (z + s + 1) - k (z + s + 1) * k2 (z + s)).natAbs * (V (z + s) (16 + s) * V (z + s + 1) (16 + (s + 1)) - V (z + s + 1) (16 + s) * V (z + s) (16 + (s + 1))).natAbs := by
      rw [← Int.natAbs_mul, ← det, Int.natAbs_mul]; simp
    have pos : 0 < c s * c (s + 1) := Nat.mul_pos c0 c1
    rw [n] at pos
    have := Nat.le_mul_of_pos_left (V (z + s) (16 + s) * V (z + s + 1) (16 + (s + 1)) - V (z + s + 1) (16 + s) * V (z + s) (16 + (s + 1))).natAbs (Nat.pos_of_mul_pos_right pos)
    omega
  intro i j i1 i2 j1 j2
  have hi : i = z + s ∨ i = z + s + 1 := by omega
  have hj : j = z + s ∨ j = z + s + 1 := by omega
  simp only [qM]
  rcases hi with rfl | rfl <;> rcases hj with rfl | rfl <;> omega
theorem q_cross {a b d t : Nat → Int} {f : Nat} {xR : Int} (ha : t f * a f + t (f + 1) * a (f + 1) + t (f + 2) * a (f + 2) = 0) (hb : t f * b f + t (f + 1) * b (f + 1) + t (f + 2) * b (f + 2) = 0) (hd : t f * d f + t (f + 1) * d (f + 1) + t (f + 2) * d (f + 2) = xR) : (a (f + 1) * b (f + 2) - a (f + 2) * b (f + 1)) * xR = t f * qT a b d f (f + 1) (f + 2) ∧ (a f * b (f + 2) - a (f + 2) * b f) * xR = -(t (f + 1) * qT a b d f (f + 1) (f + 2)) ∧ (a f * b (f + 1) - a (f + 1) * b f) * xR = t (f + 2) * qT a b d f (f + 1) (f + 2) := by
  unfold qT
  generalize a f = a0 at *
  generalize a (f + 1) = a1 at *
  generalize a (f + 2) = a2 at *
  generalize b f = b0 at *
  generalize b (f + 1) = b1 at *
  generalize b (f + 2) = b2 at *
  generalize d f = d0 at *
  generalize d (f + 1) = d1 at *
  generalize d (f + 2) = d2 at *
  generalize t f = t0 at *
  generalize t (f + 1) = t1 at *
  generalize t (f + 2) = t2 at *
  subst hd
  -- t is parallel to the cross product
  have p1 : t0 * (a2 * b0 - a0 * b2) = t1 * (a1 * b2 - a2 * b1) := by
    have : t0 * (a2 * b0 - a0 * b2) - t1 * (a1 * b2 - a2 * b1) = a2 * (t0 * b0 + t1 * b1 + t2 * b2) - b2 * (t0 * a0 + t1 * a1 + t2 * a2) := by grind
    rw [ha, hb] at this; omega
  have p2 : t0 * (a0 * b1 - a1 * b0) = t2 * (a1 * b2 - a2 * b1) := by
    have : t0 * (a0 * b1 - a1 * b0) - t2 * (a1 * b2 - a2 * b1) = b1 * (t0 * a0 + t1 * a1 + t2 * a2) - a1 * (t0 * b0 + t1 * b1 + t2 * b2) := by grind
    rw [ha, hb] at this; omega
  have p3 : t1 * (a0 * b1 - a1 * b0) = t2 * (a2 * b0 - a0 * b2) := by
    have : t1 * (a0 * b1 - a1 * b0) - t2 * (a2 * b0 - a0 * b2) = a0 * (t0 * b0 + t1 * b1 + t2 * b2) - b0 * (t0 * a0 + t1 * a1 + t2 * a2) := by grind
    rw [ha, hb] at this; omega
  clear ha hb
  generalize h0 : a1 * b2 - a2 * b1 = n0 at *
  generalize h1 : a2 * b0 - a0 * b2 = n1 at *
  generalize h2 : a0 * b1 - a1 * b0 = n2 at *
  have det : a0 * (b1 * d2 - b2 * d1) - a1 * (b0 * d2 - b2 * d0) + a2 * (b0 * d1 - b1 * d0) = n0 * d0 + n1 * d1 + n2 * d2 := by rw [← h0, ← h1, ← h2]; grind
  rw [det]
  refine ⟨?_, ?_, ?_⟩
  · have e1 : n0 * (t0 * d0 + t1 * d1 + t2 * d2) = t0 * (n0 * d0) + (t1 * n0) * d1 + (t2 * n0) * d2 := by grind
    rw [e1, ← p1, ← p2]; grind
  · have e : a0 * b2 - a2 * b0 = -n1 := by rw [← h1]; grind
    rw [e]
    have e1 : -n1 * (t0 * d0 + t1 * d1 + t2 * d2) = -((t0 * n1) * d0 + t1 * (n1 * d1) + (t2 * n1) * d2) := by grind
    rw [e1, p1, ← p3]; grind
  · have e1 : n2 * (t0 * d0 + t1 * d1 + t2 * d2) = (t0 * n2) * d0 + (t1 * n2) * d1 + t2 * (n2 * d2) := by grind
    rw [e1, p2, p3]; grind
