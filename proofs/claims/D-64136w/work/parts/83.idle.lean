/-! A row that does not count: the basis is in form already -/
def qLi (k z : Nat) (cN : Nat → Nat) (w : Nat → Nat → Int) (s c : Nat) (V : Nat → Nat → Int) : Prop :=
  (∀ i, i < k → ∀ col, col < 7 → V (z + i) (4 + col) = w i col) ∧ (∀ i, i < s → cN i < c) ∧ (s < k → c ≤ cN s)
theorem qLi_act {n k z s c : Nat} {cN : Nat → Nat} {w V : Nat → Nat → Int} (h : qHN n k cN w) (hn : n ≤ 6) (hs : s < k) (hp : qLi k z cN w s c V) : (∀ j, z + s < j → j < z + k → V j (4 + c) = 0) ∧ V (z + s) (4 + c) = w s c ∧ (c < cN s → V (z + s) (4 + c) = 0) := by
  have l := hp.2.2 hs
  have cl := (h.1 s hs).1
  refine ⟨fun j j1 j2 => ?_, hp.1 s hs c (by omega), fun hl => ?_⟩
  · have := hp.1 (j - z) (by omega) c (by omega)
    rw [show z + (j - z) = j by omega] at this
    rw [this]
    have := h.2.1 s (j - z) (by omega) (by omega)
    exact (h.1 (j - z) (by omega)).2.2 c (by omega)
  · rw [hp.1 s hs c (by omega)]; exact (h.1 s hs).2.2 c hl
theorem qLi_fit {n k z s c : Nat} {cN : Nat → Nat} {w V : Nat → Nat → Int} (h : qHN n k cN w) (hn : n ≤ 6) (hb : ∀ i, i < k → (w i (cN i)).natAbs + (w i (cN i)).natAbs < 2 ^ 63) (hs : s < k) (hp : qLi k z cN w s c V) : ∀ j, z + s ≤ j → j < z + k → (V j (4 + c)).natAbs < 2 ^ 63 := by
  obtain ⟨a1, a2, a3⟩ := qLi_act h hn hs hp
  have l := hp.2.2 hs
  intro j j1 j2
  by_cases y : j = z + s
  · subst y
    by_cases e : c = cN s
    · rw [a2, e]; have := hb s hs; omega
    · rw [a3 (by omega)]; decide
  · rw [a1 j (by omega) j2]; decide
theorem qLi_no {n k z s c : Nat} {cN : Nat → Nat} {w V : Nat → Nat → Int} (h : qHN n k cN w) (hn : n ≤ 6) (hs : s < k) (hp : qLi k z cN w s c V) (h0 : ∀ j, z + s ≤ j → j < z + k → V j (4 + c) = 0) : qLi k z cN w s (c + 1) V := by
  obtain ⟨a1, a2, a3⟩ := qLi_act h hn hs hp
  refine ⟨hp.1, fun i hi => by have := hp.2.1 i hi; omega, fun _ => ?_⟩
  have l := hp.2.2 hs
  rcases Nat.lt_or_ge c (cN s) with y | y
  · omega
  · exfalso
    have e : c = cN s := by omega
    have z0 := h0 (z + s) (Nat.le_refl _) (by omega)
    rw [a2, e] at z0
    have := (h.1 s hs).2.1; omega
theorem qLi_yes {n k z s c : Nat} {cN : Nat → Nat} {w V V2 : Nat → Nat → Int} (h : qHN n k cN w) (hn : n ≤ 6) (hb : ∀ i, i < k → (w i (cN i)).natAbs + (w i (cN i)).natAbs < 2 ^ 63) (hs : s < k) (hp : qLi k z cN w s c V) (g : qGath (z + s) (z + k) (4 + c) V V2) (pos : 0 < V2 (z + s) (4 + c)) : (∀ l, l ≤ s → (V2 (z + l) (4 + c)).natAbs + (V2 (z + s) (4 + c)).natAbs < 2 ^ 63) ∧ qLi k z cN w (s + 1) (c + 1) (qRed z s (mFl z s (4 + c) V2) V2) := by
  obtain ⟨a1, a2, a3⟩ := qLi_act h hn hs hp
  have l9 := hp.2.2 hs
  have cl := (h.1 s hs).1
  have pw := (h.1 s hs).2.1
  have ec : c = cN s := by
    refine Classical.byContradiction fun ne => ?_
    have z0 := a3 (by omega)
    obtain ⟨N, W, w0, wn, st, _⟩ := g
    obtain ⟨p, _, _, p1, p2, _, p3, _⟩ := st 0 (by omega)
    rw [w0] at p3
    by_cases y : p = z + s
    · subst y; exact p3 z0
    · exact p3 (a1 p (by omega) p2)
  have idle := qGath_idle g (by rw [a2, ec]; exact pw) a1 pos
  rw [idle]
  subst ec
  have val : ∀ l, l ≤ s → V (z + l) (4 + cN s) = w l (cN s) := fun l hl => hp.1 l (by omega) _ (by omega)
  have q0 : ∀ l, l < s → mFl z s (4 + cN s) V l = 0 := by
    intro l hl
    unfold mFl
    rw [val l (by omega), val s (Nat.le_refl _)]
    have := h.2.2 l s hl hs
    exact Int.ediv_eq_zero_of_lt this.1 this.2
  refine ⟨fun l hl => ?_, fun i hi col hcol => ?_, fun i hi => ?_, fun hs2 => ?_⟩
  · rw [val l hl, val s (Nat.le_refl _)]
    have b := hb s hs
    by_cases y : l = s
    · rw [y]; exact b
    · have := h.2.2 l s (by omega) hs; omega
  · by_cases y : i < s
    · rw [qRed_l y, q0 i y, Int.zero_mul, Int.sub_zero]; exact hp.1 i hi col hcol
    · rw [qRed_ge (.inr (by omega))]; exact hp.1 i hi col hcol
  · by_cases y : i = s
    · rw [y]; omega
    · have := hp.2.1 i (by omega); omega
  · have := h.2.1 s (s + 1) (by omega) hs2; omega
