/-! THE LEADS of one row's stage, in coordinates 16 + i of the vectors before it: structure -/
theorem qGath_cv {f m c : Nat} {V V2 : Nat → Nat → Int} (h : qGath f m c V V2) (t : Nat → Int) : ∃ u, qCo f m t V u V2 := by
  refine (qGath_ind (Pr := fun U => ∃ u, qCo f m t V u U) h (fun U z => ?_) (fun U U2 _ _ ih z => ?_)).1
  · obtain ⟨p, s, q, p1, p2, hs, hp, hm, e1, hr⟩ := z
    exact ⟨_, e1 ▸ qCo_step p1 p2 hs⟩
  · obtain ⟨u, co⟩ := ih
    obtain ⟨p, s, q, p1, p2, hs, hp, hm, e1, hr⟩ := z
    exact ⟨_, qCo_trans co (e1 ▸ qCo_step p1 p2 hs)⟩
/-- a sum over coordinates that is 0 at all active ones stays so -/
theorem qRnd_lin {fst : Prop} {f m c : Nat} {V V2 : Nat → Nat → Int} (h : qRnd fst f m c V V2) (lam : Nat → Int) (d : Nat → Nat) (N : Nat) (h0 : ∀ j, f ≤ j → j < m → qS (fun i => V j (d i) * lam i) N = 0) : ∀ j, f ≤ j → j < m → qS (fun i => V2 j (d i) * lam i) N = 0 := by
  obtain ⟨p, s, q, p1, p2, hs, hp, hm, e1, hr⟩ := h
  have sw : ∀ j, f ≤ j → j < m → qS (fun i => qSw f p s V j (d i) * lam i) N = 0 := by
    intro j j1 j2
    obtain ⟨u, hu, eu⟩ := qSw_u (f := f) (p := p) hs V j
    have r := qw_rg p1 p2 j1 j2
    have : qS (fun i => qSw f p s V j (d i) * lam i) N = qS (fun i => u * (V (qw f p j) (d i) * lam i)) N := qS_congr fun i _ => by rw [eu, Int.mul_assoc]
    rw [this, qS_mul, h0 _ r.1 r.2]; simp
  intro j j1 j2
  by_cases x : j = f
  · subst x
    have : qS (fun i => V2 j (d i) * lam i) N = qS (fun i => qSw j p s V j (d i) * lam i) N := qS_congr fun i _ => by rw [e1]; unfold qRV; rw [qRd_f]
    rw [this]; exact sw j j1 j2
  · have : qS (fun i => V2 j (d i) * lam i) N = qS (fun i => qSw f p s V j (d i) * lam i - q j * (qSw f p s V f (d i) * lam i)) N := qS_congr fun i _ => by
      rw [e1]; unfold qRV; rw [qRd_j (by omega) j2]; grind
    rw [this, qS_sub, qS_mul, sw j j1 j2, sw f (Nat.le_refl _) (by omega)]; simp
theorem qGath_lin {f m c : Nat} {V V2 : Nat → Nat → Int} (h : qGath f m c V V2) (lam : Nat → Int) (d : Nat → Nat) (N : Nat) (h0 : ∀ j, f ≤ j → j < m → qS (fun i => V j (d i) * lam i) N = 0) : ∀ j, f ≤ j → j < m → qS (fun i => V2 j (d i) * lam i) N = 0 :=
  (qGath_ind (Pr := fun U => ∀ j, f ≤ j → j < m → qS (fun i => U j (d i) * lam i) N = 0) h (fun _ z => qRnd_lin z lam d N h0) (fun _ _ _ _ ih z => qRnd_lin z lam d N ih)).1
theorem qGath_0 {f m c : Nat} {V V2 : Nat → Nat → Int} (h : qGath f m c V V2) (d : Nat) (h0 : ∀ j, f ≤ j → j < m → V j d = 0) : ∀ j, f ≤ j → j < m → V2 j d = 0 := by
  intro j j1 j2
  have := qGath_lin h (fun _ => 1) (fun _ => d) 1 (fun j j1 j2 => by simp [qS, h0 j j1 j2]) j j1 j2
  simpa [qS] using this
/-- reductions of the rows z .. z+s-1 by the row z+s -/
def qRed (z s : Nat) (q : Nat → Int) (V : Nat → Nat → Int) : Nat → Nat → Int := fun j c => if z ≤ j ∧ j < z + s then V j c - q (j - z) * V (z + s) c else V j c
theorem qRed_l {z s l : Nat} {q : Nat → Int} {V : Nat → Nat → Int} (h : l < s) (c : Nat) : qRed z s q V (z + l) c = V (z + l) c - q l * V (z + s) c := by
  unfold qRed; rw [if_pos (by omega), show z + l - z = l by omega]
theorem qRed_ge {z s j : Nat} {q : Nat → Int} {V : Nat → Nat → Int} (h : j < z ∨ z + s ≤ j) : qRed z s q V j = V j := by
  funext c; unfold qRed; rw [if_neg (by omega)]
/-- structure: rows done are in steps and reduced; active ones are 0 there; all are 0 with x; the active ones make up all such vectors -/
def qLS (R s z : Nat) (x : Nat → Int) (W : Nat → Nat → Int) (V : Nat → Nat → Int) : Prop :=
  (∀ l, l < s → (∀ i, i < l → V (z + l) (16 + i) = 0) ∧ 0 < V (z + l) (16 + l)) ∧
  (∀ j, z + s ≤ j → j < z + R → ∀ i, i < s → V j (16 + i) = 0) ∧
  (∀ j, z ≤ j → j < z + R → qS (fun i => V j (16 + i) * x i) (R + 1) = 0) ∧
  (∀ w : Nat → Int, qDot x w R = 0 → (∀ i, i < s → w i = 0) → ∃ k : Nat → Int, ∀ i, i ≤ R → w i = qR (fun j => k j * V j (16 + i)) (z + s) (z + R)) ∧
  (∀ l, l < s → ∀ w : Nat → Int, qDot x w R = 0 → (∀ i, i < l → w i = 0) → ∃ k : Int, w l = k * V (z + l) (16 + l)) ∧
  (∀ l i, l < i → i < s → 0 ≤ qS (fun h => V (z + l) (16 + h) * W h i) (i + 1) ∧ qS (fun h => V (z + l) (16 + h) * W h i) (i + 1) < W i i * V (z + i) (16 + i))
theorem qLS_ne {R s z : Nat} {x : Nat → Int} {W V : Nat → Nat → Int} (h : qLS R s z x W V) (hs : s < R) (hx : x R ≠ 0) : ∃ j, z + s ≤ j ∧ j < z + R ∧ V j (16 + s) ≠ 0 := by
  obtain ⟨c, y, h1, _⟩ := q_steps x R hx
  obtain ⟨c0, c1, c2, _, c3⟩ := h1 s hs
  obtain ⟨k, hk⟩ := h.2.2.2.1 (y s) c3 c2
  refine Classical.byContradiction fun hn => ?_
  have : qR (fun j => k j * V j (16 + s)) (z + s) (z + R) = 0 := qS_zero fun i hi => by
    have : V (z + s + i) (16 + s) = 0 := Classical.byContradiction fun w => hn ⟨_, by omega, by omega, w⟩
    show k (z + s + i) * V (z + s + i) (16 + s) = 0
    rw [this]; simp
  rw [← hk s (by omega), c1] at this
  omega
theorem qLS_step {R s z : Nat} {x : Nat → Int} {W V V2 : Nat → Nat → Int} {q : Nat → Int} (h : qLS R s z x W V) (hs : s < R) (g : qGath (z + s) (z + R) (16 + s) V V2) (pos : 0 < V2 (z + s) (16 + s)) (rd : ∀ l, l < s → 0 ≤ qS (fun h => qRed z s q V2 (z + l) (16 + h) * W h s) (s + 1) ∧ qS (fun h => qRed z s q V2 (z + l) (16 + h) * W h s) (s + 1) < W s s * V2 (z + s) (16 + s)) : qLS R (s + 1) z x W (qRed z s q V2) := by
  obtain ⟨a1, a2, a3, a4, a5, a6⟩ := h
  have gz : ∀ j, z + s < j → j < z + R → V2 j (16 + s) = 0 := by obtain ⟨n, W, _, _, _, hz⟩ := g; exact hz
  have low : ∀ j, j < z + s → V2 j = V j := fun j hj => qGath_lt g (.inl hj)
  have b2 : ∀ j, z + s ≤ j → j < z + R → ∀ i, i < s → V2 j (16 + i) = 0 := fun j j1 j2 i hi => qGath_0 g (16 + i) (fun j j1 j2 => a2 j j1 j2 i hi) j j1 j2
  have b3 : ∀ j, z ≤ j → j < z + R → qS (fun i => V2 j (16 + i) * x i) (R + 1) = 0 := by
    intro j j1 j2
    by_cases c : j < z + s
    · rw [low j c]; exact a3 j j1 j2
    · exact qGath_lin g x (fun i => 16 + i) (R + 1) (fun j k1 k2 => a3 j (by omega) k2) j (by omega) j2
  have b4 : ∀ w : Nat → Int, qDot x w R = 0 → (∀ i, i < s → w i = 0) → ∃ k : Nat → Int, ∀ i, i ≤ R → w i = qR (fun j => k j * V2 j (16 + i)) (z + s) (z + R) := by
    intro w w1 w2
    obtain ⟨k, hk⟩ := a4 w w1 w2
    obtain ⟨u, co⟩ := qGath_cv g k
    exact ⟨u, fun i hi => (hk i hi).trans (co.2 (16 + i)).symm⟩
  have hd : ∀ (k : Nat → Int), qR (fun j => k j * V2 j (16 + s)) (z + s) (z + R) = k (z + s) * V2 (z + s) (16 + s) := by
    intro k
    rw [qR_head (by omega), qS_zero]
    · omega
    · intro i hi
      show k (z + s + 1 + i) * V2 (z + s + 1 + i) (16 + s) = 0
      rw [gz _ (by omega) (by omega)]; simp
  refine ⟨?_, ?_, ?_, ?_, ?_, ?_⟩
  · intro l hl
    by_cases c : l < s
    · refine ⟨fun i hi => ?_, ?_⟩
      · rw [qRed_l c, low _ (by omega), (a1 l c).1 i hi, b2 (z + s) (Nat.le_refl _) (by omega) i (by omega)]; simp
      · rw [qRed_l c, low _ (by omega), b2 (z + s) (Nat.le_refl _) (by omega) l c]
        have := (a1 l c).2; omega
    · have : l = s := by omega
      subst this
      rw [qRed_ge (.inr (Nat.le_refl _))]
      exact ⟨fun i hi => b2 _ (Nat.le_refl _) (by omega) i hi, pos⟩
  · intro j j1 j2 i hi
    rw [qRed_ge (.inr (by omega))]
    by_cases c : i < s
    · exact b2 j (by omega) j2 i c
    · have : i = s := by omega
      subst this; exact gz j (by omega) j2
  · intro j j1 j2
    by_cases c : j < z + s
    · have : qS (fun i => qRed z s q V2 j (16 + i) * x i) (R + 1) = qS (fun i => V2 j (16 + i) * x i - q (j - z) * (V2 (z + s) (16 + i) * x i)) (R + 1) := qS_congr fun i _ => by
        unfold qRed; rw [if_pos ⟨j1, c⟩]; grind
      rw [this, qS_sub, qS_mul, b3 j j1 j2, b3 (z + s) (by omega) (by omega)]; simp
    · rw [qRed_ge (.inr (by omega))]; exact b3 j j1 j2
  · intro w w1 w2
    obtain ⟨k, hk⟩ := b4 w w1 (fun i hi => w2 i (by omega))
    refine ⟨k, fun i hi => ?_⟩
    have e := hk s (by omega)
    rw [w2 s (by omega), hd] at e
    have k0 : k (z + s) = 0 := by
      rcases Int.mul_eq_zero.mp e.symm with c | c
      · exact c
      · omega
    rw [hk i hi, qR_head (by omega), k0]
    have : z + R - (z + s) - 1 = z + R - (z + (s + 1)) := by omega
    rw [this]
    unfold qR
    rw [Int.zero_mul, Int.zero_add]
    refine qS_congr fun j hj => ?_
    show k (z + s + 1 + j) * V2 (z + s + 1 + j) (16 + i) = k (z + (s + 1) + j) * qRed z s q V2 (z + (s + 1) + j) (16 + i)
    rw [qRed_ge (.inr (by omega)), show z + s + 1 + j = z + (s + 1) + j by omega]
  · intro l hl w w1 w2
    by_cases c : l < s
    · obtain ⟨k, hk⟩ := a5 l c w w1 w2
      refine ⟨k, ?_⟩
      rw [qRed_l c, low _ (by omega), b2 (z + s) (Nat.le_refl _) (by omega) l c, hk]; simp
    · have : l = s := by omega
      subst this
      obtain ⟨k, hk⟩ := b4 w w1 w2
      refine ⟨k (z + l), ?_⟩
      rw [qRed_ge (.inr (Nat.le_refl _)), hk l (by omega), hd]
  · intro l i li hi
    by_cases c : i < s
    · have e1 : qS (fun h => qRed z s q V2 (z + l) (16 + h) * W h i) (i + 1) = qS (fun h => V (z + l) (16 + h) * W h i) (i + 1) := qS_congr fun h hh => by
        rw [qRed_l (by omega), low _ (by omega), b2 (z + s) (Nat.le_refl _) (by omega) h (by omega)]; simp
      have e2 : qRed z s q V2 (z + i) (16 + i) = V (z + i) (16 + i) := by
        rw [qRed_l c, low _ (by omega), b2 (z + s) (Nat.le_refl _) (by omega) i c]; simp
      rw [e1, e2]; exact a6 l i li c
    · have : i = s := by omega
      subst this
      have e2 : qRed z i q V2 (z + i) (16 + i) = V2 (z + i) (16 + i) := by rw [qRed_ge (.inr (Nat.le_refl _))]
      rw [e2]; exact rd l li
