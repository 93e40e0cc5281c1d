/-! THE BASIS between two rows: its form, and the sizes that follow -/
theorem qS_pick {g : Nat → Int} {cN : Nat → Nat} : ∀ N k, (∀ i j, i < j → j < k → cN i < cN j) → (∀ i, i < k → cN i < N) → (∀ c, c < N → g c ≠ 0 → ∃ i, i < k ∧ c = cN i) → qS g N = qS (fun i => g (cN i)) k := by
  intro N
  induction N with
  | zero =>
    intro k h1 h2 h3
    have : k = 0 := by
      rcases Nat.eq_zero_or_pos k with c | c
      · exact c
      · have := h2 0 c; omega
    subst this; rfl
  | succ N ih =>
    intro k h1 h2 h3
    by_cases c : g N = 0
    · simp only [qS]
      rw [c, Int.add_zero]
      by_cases e : ∃ i, i < k ∧ cN i = N
      · obtain ⟨i, i1, i2⟩ := e
        have ik : i + 1 = k := by
          rcases Nat.lt_or_ge (i + 1) k with l | l
          · have := h1 i (i + 1) (by omega) l; have := h2 (i + 1) l; omega
          · omega
        subst ik
        simp only [qS]; rw [i2, c, Int.add_zero]
        exact ih i (fun a b x y => h1 a b x (by omega)) (fun a x => by have := h1 a i x (by omega); omega) (fun d hd hg => by
          obtain ⟨a, a1, a2⟩ := h3 d (by omega) hg
          refine ⟨a, ?_, a2⟩
          by_cases w : a = i
          · subst w; omega
          · omega)
      · exact ih k h1 (fun i hi => by
          have := h2 i hi
          have : cN i ≠ N := fun x => e ⟨i, hi, x⟩
          omega) (fun d hd hg => h3 d (by omega) hg)
    · obtain ⟨i, i1, i2⟩ := h3 N (by omega) c
      have ik : i + 1 = k := by
        rcases Nat.lt_or_ge (i + 1) k with l | l
        · have := h1 i (i + 1) (by omega) l; have := h2 (i + 1) l; omega
        · omega
      subst ik
      simp only [qS]; rw [← i2]; congr 1
      exact ih i (fun a b x y => h1 a b x (by omega)) (fun a x => by have := h1 a i x (by omega); omega) (fun d hd hg => by
        obtain ⟨a, a1, a2⟩ := h3 d (by omega) hg
        refine ⟨a, ?_, a2⟩
        by_cases w : a = i
        · subst w; omega
        · omega)
/-- n columns, rho rows that count, k vectors w with leads at cN; b: the columns that are dropped -/
def qKB (n ρ k : Nat) (a : Nat → Nat → Int) (b cN : Nat → Nat) (w : Nat → Nat → Int) : Prop :=
  (ρ + k = n ∧ n ≤ 6 ∧ ρ ≤ 4) ∧
  (∀ i, i < k → cN i < n ∧ 0 < w i (cN i) ∧ ∀ c, c < cN i → w i c = 0) ∧
  (∀ i j, i < j → j < k → cN i < cN j) ∧
  (∀ h i, h < i → i < k → 0 ≤ w h (cN i) ∧ w h (cN i) < w i (cN i)) ∧
  (∀ i c, i < k → n ≤ c → w i c = 0) ∧
  (∀ i, i < ρ → b i < n) ∧ (∀ c, c < n → (∃ i, i < k ∧ c = cN i) ∨ ∃ i, i < ρ ∧ c = b i) ∧
  (∀ i j, i < ρ → j < k → qF (a i) (w j) = 0) ∧
  (∀ i, i < ρ + 1 → qDe i a b ≠ 0) ∧
  qPi (fun i => (w i (cN i)).natAbs) k ≤ (qDe ρ a b).natAbs
/-- the circuits' sum over the leads alone -/
theorem qKB_circ {n ρ k : Nat} {a : Nat → Nat → Int} {b cN : Nat → Nat} {w : Nat → Nat → Int} (h : qKB n ρ k a b cN w) (hρ : ρ ≤ 3) {v : Nat → Int} (hv : ∀ c, n ≤ c → c < 7 → v c = 0) (h0 : ∀ i, i < ρ → qF (a i) v = 0) (f : Nat → Int) : qDe ρ a b * qF f v = qS (fun i => qE ρ a b f (cN i) * v (cN i)) k := by
  rw [qE_circ ρ hρ h0 (fun i hi => h.2.2.2.2.2.2.2.2.1 i (by omega)) f]
  refine qS_pick 7 k h.2.2.1 (fun i hi => by have := (h.2.1 i hi).1; have := h.1.2.1; omega) ?_
  intro c hc hg
  by_cases e : c < n
  · rcases h.2.2.2.2.2.2.1 c e with ⟨i, hi⟩ | ⟨i, i1, i2⟩
    · exact ⟨i, hi⟩
    · subst i2; rw [qE_self hρ a b f i1] at hg; simp at hg
  · rw [hv c (by omega) hc] at hg; simp at hg
theorem qKB_sum {n ρ k : Nat} {a : Nat → Nat → Int} {b cN : Nat → Nat} {w : Nat → Nat → Int} (h : qKB n ρ k a b cN w) {j : Nat} (hj : j < k) : qS (fun i => qab (w j (cN i))) k ≤ (qDe ρ a b).natAbs := by
  have s := (qPi_sum (p := fun i => (w i (cN i)).natAbs) (u := fun i => (w j (cN i)).natAbs) (c0 := j) k (fun i hi => by have := (h.2.1 i hi).2.1; omega) (fun i hi ne => by
    rcases Nat.lt_trichotomy i j with l | l | l
    · have := (h.2.1 j hj).2.2 (cN i) (h.2.2.1 i j l hj)
      have := (h.2.1 i hi).2.1
      omega
    · exact absurd l ne
    · have := h.2.2.2.1 j i l hi; omega) (fun _ => Nat.le_refl _)).1 hj
  have := h.2.2.2.2.2.2.2.2.2
  have e : qS (fun i => qab (w j (cN i))) k = qS (fun i => ((w j (cN i)).natAbs : Int)) k := rfl
  omega
/-- a sum of products, one factor capped -/
theorem qS_capmul {f u : Nat → Int} {M : Nat} {n : Nat} (h : ∀ i, i < n → (f i).natAbs ≤ M) : qab (qS (fun i => f i * u i) n) ≤ M * qS (fun i => qab (u i)) n := by
  refine Int.le_trans (qS_ab _ n) ?_
  rw [← qS_mul]
  refine qS_le fun i hi => ?_
  rw [qab_mul]
  exact Int.mul_le_mul_of_nonneg_right (by unfold qab; have := h i hi; omega) (qab_nn _)
/-- rows' entries -/
def qRow (n : Nat) (f : Nat → Int) : Prop := (∀ c, c < n → (f c).natAbs ≤ 20) ∧ (f 6).natAbs ≤ 200
theorem qKB_E {n ρ k : Nat} {a : Nat → Nat → Int} {b cN : Nat → Nat} {w : Nat → Nat → Int} (h : qKB n ρ k a b cN w) (hρ : ρ ≤ 3) (ha : ∀ i, i < ρ → qRow n (a i)) {f : Nat → Int} (hf : qRow n f) {i : Nat} (hi : i < k) : (qE ρ a b f (cN i)).natAbs ≤ qMt ρ * 20 :=
  qE_le hρ (fun i j h1 h2 => (ha i h1).1 _ (h.2.2.2.2.2.1 j h2)) (fun j hj => hf.1 _ (h.2.2.2.2.2.1 j hj)) (fun j hj => (ha j hj).1 _ (h.2.1 i hi).1) (hf.1 _ (h.2.1 i hi).1)
theorem qKB_x {n ρ k : Nat} {a : Nat → Nat → Int} {b cN : Nat → Nat} {w : Nat → Nat → Int} (h : qKB n ρ k a b cN w) (hρ : ρ ≤ 3) (ha : ∀ i, i < ρ → qRow n (a i)) {f : Nat → Int} (hf : qRow n f) {j : Nat} (hj : j < k) : (qF f (w j)).natAbs ≤ qMt ρ * 20 := by
  have c := qKB_circ h hρ (v := w j) (fun c h1 _ => h.2.2.2.2.1 j c hj h1) (fun i hi => h.2.2.2.2.2.2.2.1 i j hi hj) f
  have m := qS_capmul (f := fun i => qE ρ a b f (cN i)) (u := fun i => w j (cN i)) (n := k) (fun i hi => qKB_E h hρ ha hf hi)
  rw [← c, qab_mul] at m
  have s := qKB_sum h hj
  have d : qDe ρ a b ≠ 0 := h.2.2.2.2.2.2.2.2.1 ρ (by omega)
  have s2 : ((qMt ρ * 20 : Nat) : Int) * qS (fun i => qab (w j (cN i))) k ≤ ((qMt ρ * 20 : Nat) : Int) * (qDe ρ a b).natAbs := Int.mul_le_mul_of_nonneg_left s (by omega)
  have t : qab (qDe ρ a b) * qab (qF f (w j)) ≤ qab (qDe ρ a b) * ((qMt ρ * 20 : Nat) : Int) := by
    refine Int.le_trans m (Int.le_trans s2 ?_)
    rw [Int.mul_comm]; exact Int.le_refl _
  have := Int.le_of_mul_le_mul_left t (by unfold qab; omega)
  unfold qab at this; omega
theorem qKB_p {n ρ k : Nat} {a : Nat → Nat → Int} {b cN : Nat → Nat} {w : Nat → Nat → Int} (h : qKB n ρ k a b cN w) {i : Nat} (hi : i < k) : (w i (cN i)).natAbs ≤ (qDe ρ a b).natAbs := by
  have s := qKB_sum h hi
  have t := qS_term (f := fun l => qab (w i (cN l))) (n := k) (fun _ _ => qab_nn _) hi
  unfold qab at *; omega
theorem qDe_le {n ρ k : Nat} {a : Nat → Nat → Int} {b cN : Nat → Nat} {w : Nat → Nat → Int} (h : qKB n (ρ + 1) k a b cN w) (hρ : ρ ≤ 3) (ha : ∀ i, i < ρ + 1 → qRow n (a i)) : (qDe (ρ + 1) a b).natAbs ≤ qMt ρ * 20 :=
  qE_le hρ (fun i j h1 h2 => (ha i (by omega)).1 _ (h.2.2.2.2.2.1 j (by omega))) (fun j hj => (ha ρ (by omega)).1 _ (h.2.2.2.2.2.1 j (by omega))) (fun j hj => (ha j (by omega)).1 _ (h.2.2.2.2.2.1 ρ (by omega))) ((ha ρ (by omega)).1 _ (h.2.2.2.2.2.1 ρ (by omega)))
/-- a point of the rows' planes, reduced at the leads: what another row makes of it -/
theorem qKB_one {n ρ k : Nat} {a : Nat → Nat → Int} {b cN : Nat → Nat} {w : Nat → Nat → Int} (h : qKB n ρ k a b cN w) (hρ : ρ ≤ 3) (ha : ∀ i, i < ρ → qRow n (a i)) {f v : Nat → Int} (hf : qRow n f) (h6 : v 6 = 1) (hv : ∀ c, n ≤ c → c < 6 → v c = 0) (h0 : ∀ i, i < ρ → qF (a i) v = 0) (hr : ∀ i, i < k → (v (cN i)).natAbs < (w i (cN i)).natAbs) : (qF f v).natAbs ≤ qMt ρ * 220 := by
  have d : qDe ρ a b ≠ 0 := h.2.2.2.2.2.2.2.2.1 ρ (by omega)
  have c := qE_circ ρ hρ h0 (fun i hi => h.2.2.2.2.2.2.2.2.1 i (by omega)) f
  rw [qS] at c
  have p : qS (fun c => qE ρ a b f c * v c) 6 = qS (fun i => qE ρ a b f (cN i) * v (cN i)) k := by
    refine qS_pick 6 k h.2.2.1 (fun i hi => by have := (h.2.1 i hi).1; have := h.1.2.1; omega) ?_
    intro c hc hg
    by_cases e : c < n
    · rcases h.2.2.2.2.2.2.1 c e with ⟨i, hi⟩ | ⟨i, i1, i2⟩
      · exact ⟨i, hi⟩
      · subst i2; rw [qE_self hρ a b f i1] at hg; simp at hg
    · rw [hv c (by omega) hc] at hg; simp at hg
  rw [p, h6, Int.mul_one] at c
  have m := qS_capmul (f := fun i => qE ρ a b f (cN i)) (u := fun i => v (cN i)) (n := k) (fun i hi => qKB_E h hρ ha hf hi)
  have e6 := qE_le (l := 6) hρ (fun i j h1 h2 => (ha i h1).1 _ (h.2.2.2.2.2.1 j h2)) (fun j hj => hf.1 _ (h.2.2.2.2.2.1 j hj)) (fun j hj => (ha j hj).2) hf.2
  have s : qS (fun i => ((v (cN i)).natAbs : Int)) k + 1 ≤ qPi (fun i => (w i (cN i)).natAbs) k :=
    (qPi_sum (p := fun i => (w i (cN i)).natAbs) (u := fun i => (v (cN i)).natAbs) (c0 := k) k (fun i hi => by have := (h.2.1 i hi).2.1; omega) (fun i hi _ => hr i hi) (fun x => by omega)).2 (Nat.le_refl _)
  have s1 : qS (fun i => qab (v (cN i))) k ≤ (qDe ρ a b).natAbs := by
    have := h.2.2.2.2.2.2.2.2.2
    have e : qS (fun i => qab (v (cN i))) k = qS (fun i => ((v (cN i)).natAbs : Int)) k := rfl
    omega
  have s2 : ((qMt ρ * 20 : Nat) : Int) * qS (fun i => qab (v (cN i))) k ≤ ((qMt ρ * 20 : Nat) : Int) * (qDe ρ a b).natAbs := Int.mul_le_mul_of_nonneg_left s1 (by omega)
  have one : 1 ≤ (qDe ρ a b).natAbs := by omega
  have s3 : qMt ρ * 200 * 1 ≤ qMt ρ * 200 * (qDe ρ a b).natAbs := Nat.mul_le_mul_left _ one
  have t : (qDe ρ a b).natAbs * (qF f v).natAbs ≤ (qDe ρ a b).natAbs * (qMt ρ * 220) := by
    rw [← Int.natAbs_mul, c]
    have e1 : (qDe ρ a b).natAbs * (qMt ρ * 220) = qMt ρ * 20 * (qDe ρ a b).natAbs + qMt ρ * 200 * (qDe ρ a b).natAbs := by grind
    rw [e1]
    have e2 : ((qMt ρ * 20 * (qDe ρ a b).natAbs : Nat) : Int) = ((qMt ρ * 20 : Nat) : Int) * (qDe ρ a b).natAbs := by simp
    unfold qab at *
    omega
  exact q_div (by omega) t
