/-! THE LEADS of a row that counts, first part: leads before the one that is dropped -/
/-- column 4 + col of the rows z .. is made of the coordinates 16 + i -/
def qLin (R z m : Nat) (w : Nat → Nat → Int) (V : Nat → Nat → Int) : Prop := ∀ j, z ≤ j → j < m → ∀ col, col < 7 → V j (4 + col) = qS (fun i => V j (16 + i) * w i col) (R + 1)
theorem qLin_fn {R z m : Nat} {w V : Nat → Nat → Int} {j col : Nat} : V j (4 + col) = qS (fun i => V j (16 + i) * w i col) (R + 1) ↔ qS (fun i => V j (if i = 0 then 4 + col else 16 + (i - 1)) * (if i = 0 then -1 else w (i - 1) col)) (R + 2) = 0 := by
  have e := qS_head (fun i => V j (if i = 0 then 4 + col else 16 + (i - 1)) * (if i = 0 then -1 else w (i - 1) col)) (R + 1)
  have this : qS (fun i => V j (if i + 1 = 0 then 4 + col else 16 + (i + 1 - 1)) * (if i + 1 = 0 then -1 else w (i + 1 - 1) col)) (R + 1) = qS (fun i => V j (16 + i) * w i col) (R + 1) := qS_congr fun i hi => by
    rw [if_neg (by omega), if_neg (by omega), Nat.add_sub_cancel]
  rw [this] at e
  rw [show R + 2 = R + 1 + 1 from rfl, e]
  simp only [if_true]
  omega
theorem qLin_gath {R z f m c : Nat} {w V V2 : Nat → Nat → Int} (h : qGath f m c V V2) (hz : z ≤ f) (hl : qLin R z m w V) : qLin R z m w V2 := by
  intro j j1 j2 col hc
  by_cases x : j < f
  · rw [qGath_lt h (.inl x)]; exact hl j j1 j2 col hc
  · rw [qLin_fn (z := z) (m := m)]
    exact qGath_lin h (fun i => if i = 0 then -1 else w (i - 1) col) (fun i => if i = 0 then 4 + col else 16 + (i - 1)) (R + 2) (fun k k1 k2 => (qLin_fn (z := z) (m := m)).mp (hl k (by omega) k2 col hc)) j (by omega) j2
theorem qLin_red {R z s m : Nat} {w V : Nat → Nat → Int} {q : Nat → Int} (hs : z + s < m) (hl : qLin R z m w V) : qLin R z m w (qRed z s q V) := by
  intro j j1 j2 col hc
  by_cases x : j < z + s
  · have e : ∀ d, qRed z s q V j d = V j d - q (j - z) * V (z + s) d := fun d => by unfold qRed; rw [if_pos ⟨j1, x⟩]
    have : qS (fun i => qRed z s q V j (16 + i) * w i col) (R + 1) = qS (fun i => V j (16 + i) * w i col - q (j - z) * (V (z + s) (16 + i) * w i col)) (R + 1) := qS_congr fun i _ => by rw [e]; grind
    rw [this, qS_sub, qS_mul, e, hl j j1 j2 col hc, hl (z + s) (by omega) hs col hc]
  · rw [qRed_ge (.inr (by omega))]; exact hl j j1 j2 col hc
/-- the state before column c, s leads done, the leads before the dropped one (R) -/
def qPA (n ρ k R z : Nat) (cN : Nat → Nat) (w : Nat → Nat → Int) (x : Nat → Int) (s c : Nat) (V : Nat → Nat → Int) : Prop :=
  qSS R s z x (fun g i => w g (cN i)) V ∧ qLin R z (z + R) w V ∧ (∀ i, R ≤ i → i + 1 < k → ∀ col, col < 7 → V (z + i) (4 + col) = w (i + 1) col) ∧ (∀ i, i < s → cN i < c) ∧ (s < R → c ≤ cN s)
theorem qKB_W {n ρ k R : Nat} {a : Nat → Nat → Int} {b cN : Nat → Nat} {w : Nat → Nat → Int} (h : qKB n ρ k a b cN w) (hR : R < k) : qW R (fun g i => w g (cN i)) := fun i hi => ⟨(h.2.1 i (by omega)).2.1, fun g hg => h.2.2.2.1 g i hg (by omega)⟩
/-- values at a column up to the next lead -/
theorem qPA_val {n ρ k R z s c : Nat} {a : Nat → Nat → Int} {b cN : Nat → Nat} {w V : Nat → Nat → Int} {x : Nat → Int} (h : qKB n ρ k a b cN w) (hR : R < k) (hs : s < R) (hp : qPA n ρ k R z cN w x s c V) (hcs : c ≤ cN s) : (∀ j, z + s ≤ j → j < z + R → V j (4 + c) = if c = cN s then w s (cN s) * V j (16 + s) else 0) ∧ ∀ j, z + R ≤ j → j < z + (k - 1) → V j (4 + c) = 0 := by
  obtain ⟨hS, hl, ht, h1, h2⟩ := hp
  have cn := (h.2.1 s (by omega)).1
  have n6 := h.1.2.1
  constructor
  · intro j j1 j2
    rw [hl j (by omega) j2 c (by omega)]
    have z0 : ∀ i, i < R + 1 → i ≠ s → V j (16 + i) * w i c = 0 := by
      intro i hi ne
      by_cases l : i < s
      · rw [hS.1.2.1 j j1 j2 i l]; simp
      · have := h.2.2.1 s i (by omega) (by omega)
        rw [(h.2.1 i (by omega)).2.2 c (by omega)]; simp
    by_cases e : c = cN s
    · subst e
      rw [if_pos rfl]
      have : qS (fun i => V j (16 + i) * w i (cN s)) (R + 1) = qS (qU (fun _ => 0) s (V j (16 + s) * w s (cN s))) (R + 1) := qS_congr fun i hi => by
        unfold qU
        by_cases y : i = s
        · subst y; rw [if_pos rfl]
        · rw [if_neg y]; exact z0 i hi y
      rw [this, qS_upd (by omega), qS_zero (fun _ _ => rfl), Int.mul_comm]; omega
    · rw [if_neg e]
      refine qS_zero fun i hi => ?_
      by_cases y : i = s
      · subst y; rw [(h.2.1 i (by omega)).2.2 c (by omega)]; simp
      · exact z0 i hi y
  · intro j j1 j2
    have := ht (j - z) (by omega) (by omega) c (by omega)
    rw [show z + (j - z) = j by omega] at this
    rw [this]
    have l := h.2.2.1 s (j - z + 1) (by omega) (by omega)
    exact (h.2.1 (j - z + 1) (by omega)).2.2 c (by omega)
/-- no lead here -/
theorem qPA_no {n ρ k R z s c : Nat} {a : Nat → Nat → Int} {b cN : Nat → Nat} {w V : Nat → Nat → Int} {x : Nat → Int} (h : qKB n ρ k a b cN w) (hR : R < k) (hs : s < R) (hx : x R ≠ 0) (hp : qPA n ρ k R z cN w x s c V) (hz : ∀ j, z + s ≤ j → j < z + (k - 1) → V j (4 + c) = 0) : qPA n ρ k R z cN w x s (c + 1) V := by
  have hcs := hp.2.2.2.2 hs
  refine ⟨hp.1, hp.2.1, hp.2.2.1, fun i hi => by have := hp.2.2.2.1 i hi; omega, fun _ => ?_⟩
  have v := (qPA_val h hR hs hp hcs).1
  rcases Nat.lt_or_ge c (cN s) with l | l
  · omega
  · exfalso
    have e : c = cN s := by omega
    obtain ⟨j, j1, j2, j3⟩ := qLS_ne hp.1.1 hs hx
    have a := v j j1 j2
    rw [if_pos e, hz j j1 (by omega)] at a
    have pw := (h.2.1 s (by omega)).2.1
    rcases Int.mul_eq_zero.mp a.symm with y | y
    · omega
    · exact j3 y
/-- a lead: behind its gather and the reductions -/
theorem qPA_yes {n ρ k R z s c : Nat} {a : Nat → Nat → Int} {b cN : Nat → Nat} {w V V2 : Nat → Nat → Int} {x : Nat → Int} (h : qKB n ρ k a b cN w) (hR : R < k) (hR5 : R ≤ 5) (hs : s < R) (hx : x R ≠ 0) (hX : (x R).natAbs ≤ qXt R) (hp : qPA n ρ k R z cN w x s c V) (g : qGath (z + s) (z + (k - 1)) (4 + c) V V2) (pos : 0 < V2 (z + s) (4 + c)) : c = cN s ∧ (∀ l, l < s → V2 (z + l) = V (z + l)) ∧ qPA n ρ k R z cN w x (s + 1) (c + 1) (qRed z s (mFl z s (4 + c) V2) V2) := by
  have hcs := hp.2.2.2.2 hs
  obtain ⟨v1, v2⟩ := qPA_val h hR hs hp hcs
  have pw := (h.2.1 s (by omega)).2.1
  have ec : c = cN s := by
    refine Classical.byContradiction fun ne => ?_
    obtain ⟨N, W, w0, wn, st, _⟩ := g
    obtain ⟨p, _, _, p1, p2, _, p3, _⟩ := st 0 (by omega)
    rw [w0] at p3
    by_cases y : p < z + R
    · exact p3 (by rw [v1 p p1 y, if_neg ne])
    · exact p3 (v2 p (by omega) p2)
  refine ⟨ec, fun l hl => qGath_lt g (.inl (by omega)), ?_⟩
  have g1 := qGath_shrink g (show z + R ≤ z + (k - 1) by omega) (by omega) v2
  have g2 := qGath_scale (d := 16 + s) pw g1.1 (fun j j1 j2 => by rw [v1 j j1 j2, if_pos ec])
  have pos2 : 0 < V2 (z + s) (16 + s) := by
    have e := g2.2 (z + s) (Nat.le_refl _) (by omega)
    rw [e] at pos
    rcases Int.lt_or_le 0 (V2 (z + s) (16 + s)) with y | y
    · exact y
    · have := Int.mul_nonpos_of_nonneg_of_nonpos (Int.le_of_lt pw) y; omega
  have lin2 := qLin_gath g1.1 (show z ≤ z + s by omega) hp.2.1
  have lin3 := qLin_red (q := mFl z s (4 + c) V2) (show z + s < z + R by omega) lin2
  have c6 : c < 7 := by have := (h.2.1 s (by omega)).1; have := h.1.2.1; omega
  -- a triangular sum is the column's value
  have tri : ∀ (U : Nat → Nat → Int), qLin R z (z + R) w U → ∀ l, l < R → U (z + l) (4 + c) = qS (fun g => U (z + l) (16 + g) * w g (cN s)) (s + 1) := by
    intro U hU l hl
    rw [hU (z + l) (by omega) (by omega) c c6, ec]
    obtain ⟨d, hd⟩ := Nat.exists_eq_add_of_le (show s + 1 ≤ R + 1 by omega)
    rw [hd]
    have key : ∀ e, e ≤ d → qS (fun i => U (z + l) (16 + i) * w i (cN s)) (s + 1 + e) = qS (fun i => U (z + l) (16 + i) * w i (cN s)) (s + 1) := by
      intro e
      induction e with
      | zero => intro _; rfl
      | succ e ih =>
        intro he
        rw [← Nat.add_assoc, qS, ih (by omega), (h.2.1 (s + 1 + e) (by omega)).2.2 (cN s) (h.2.2.1 s (s + 1 + e) (by omega) (by omega))]; simp
    exact key d (Nat.le_refl _)
  have rd : ∀ l, l < s → 0 ≤ qS (fun g => qRed z s (mFl z s (4 + c) V2) V2 (z + l) (16 + g) * w g (cN s)) (s + 1) ∧ qS (fun g => qRed z s (mFl z s (4 + c) V2) V2 (z + l) (16 + g) * w g (cN s)) (s + 1) < w s (cN s) * V2 (z + s) (16 + s) := by
    intro l hl
    rw [← tri _ lin3 l (by omega), ← g2.2 (z + s) (Nat.le_refl _) (by omega), qRed_l hl]
    exact q_floor pos
  have S2 := qSS_step (q := mFl z s (4 + c) V2) hp.1 hs hR5 hx hX (qKB_W h hR) g2.1 pos2 rd
  refine ⟨S2, lin3, ?_, ?_, ?_⟩
  · intro i i1 i2 col hc
    rw [qRed_ge (.inr (by omega)), g1.2 (z + i) (by omega) (by omega)]
    exact hp.2.2.1 i i1 i2 col hc
  · intro i hi
    by_cases y : i = s
    · subst y; omega
    · have := hp.2.2.2.1 i (by omega); omega
  · intro hs2
    have := h.2.2.1 s (s + 1) (by omega) (by omega)
    omega
/-- what steers there fits -/
theorem qPA_fit {n ρ k R z s c : Nat} {a : Nat → Nat → Int} {b cN : Nat → Nat} {w V : Nat → Nat → Int} {x : Nat → Int} (h : qKB n ρ k a b cN w) (hR : R < k) (hR5 : R ≤ 5) (hs : s < R) (hx : x R ≠ 0) (hX : (x R).natAbs ≤ qXt R) (hP : (w s (cN s)).natAbs ≤ qPt R) (hp : qPA n ρ k R z cN w x s c V) : (∀ j, z + s ≤ j → j < z + (k - 1) → (V j (4 + c)).natAbs < 2 ^ 63) ∧ (c = cN s → ∀ l, l < s → (V (z + l) (4 + c)).natAbs < 2 ^ 63) := by
  have hcs := hp.2.2.2.2 hs
  obtain ⟨v1, v2⟩ := qPA_val h hR hs hp hcs
  obtain ⟨f1, f2⟩ := qSS_fit hp.1 hs hR5 hx hX (qKB_W h hR) hP
  constructor
  · intro j j1 j2
    by_cases y : j < z + R
    · rw [v1 j j1 y]
      by_cases e : c = cN s
      · rw [if_pos e, Int.natAbs_mul, Nat.mul_comm]; exact f1 j j1 y
      · rw [if_neg e]; decide
    · rw [v2 j (by omega) j2]; decide
  · intro e l hl
    have c6 : c < 7 := by have := (h.2.1 s (by omega)).1; have := h.1.2.1; omega
    have : V (z + l) (4 + c) = qS (fun g => V (z + l) (16 + g) * w g (cN s)) (s + 1) := by
      rw [hp.2.1 (z + l) (by omega) (by omega) c c6, e]
      obtain ⟨d, hd⟩ := Nat.exists_eq_add_of_le (show s + 1 ≤ R + 1 by omega)
      rw [hd]
      have key : ∀ e, e ≤ d → qS (fun i => V (z + l) (16 + i) * w i (cN s)) (s + 1 + e) = qS (fun i => V (z + l) (16 + i) * w i (cN s)) (s + 1) := by
        intro e
        induction e with
        | zero => intro _; rfl
        | succ e ih =>
          intro he
          rw [← Nat.add_assoc, qS, ih (by omega), (h.2.1 (s + 1 + e) (by omega)).2.2 (cN s) (h.2.2.1 s (s + 1 + e) (by omega) (by omega))]; simp
      exact key d (Nat.le_refl _)
    rw [this]; exact f2 l hl
