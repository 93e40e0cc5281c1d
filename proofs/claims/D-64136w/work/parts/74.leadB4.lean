/-! .. what fits, and the end: the basis a row later -/
def qDl (ρ : Nat) : Nat := match ρ with | 0 => 1 | 1 => 20 | 2 => 800 | _ => 48000
theorem qKB_pl {n ρ k : Nat} {a : Nat → Nat → Int} {b cN : Nat → Nat} {w : Nat → Nat → Int} (h : qKB n ρ k a b cN w) (hρ : ρ ≤ 3) (ha : ∀ i, i < ρ → qRow n (a i)) {i : Nat} (hi : i < k) : (w i (cN i)).natAbs ≤ qDl ρ := by
  have p := qKB_p h hi
  have c : ρ = 0 ∨ ρ = 1 ∨ ρ = 2 ∨ ρ = 3 := by omega
  rcases c with rfl | rfl | rfl | rfl
  · exact p
  · exact Nat.le_trans p (qDe_le h (by omega) ha)
  · exact Nat.le_trans p (qDe_le h (by omega) ha)
  · exact Nat.le_trans p (qDe_le h (by omega) ha)
theorem qEb_fit {ρ R s : Nat} (hρ : ρ ≤ 3) (hR : R ≤ s) (hs : s + ρ ≤ 4) : qEb ρ R s * qDl ρ < 2 ^ 63 := by
  have c : ρ = 0 ∨ ρ = 1 ∨ ρ = 2 ∨ ρ = 3 := by omega
  have key : ∀ ρ, ρ < 4 → ∀ s, s < 5 → ∀ R, R < s + 1 → s + ρ ≤ 4 → qEb ρ R s * qDl ρ < 2 ^ 63 := by decide +kernel
  exact key ρ (by omega) s (by omega) R (by omega) hs
theorem qPB_fit {n ρ k R z s c : Nat} {a : Nat → Nat → Int} {b cN : Nat → Nat} {w V : Nat → Nat → Int} {row : Nat → Int} (h : qKB n ρ k a b cN w) (hρ : ρ ≤ 3) (ha : ∀ i, i < ρ → qRow n (a i)) (hRs : R ≤ s) (hs : s < k - 1) (hc : c < 7) (hp : qPB n ρ k R z cN w row s c V) : (∀ j, z + s ≤ j → j < z + (k - 1) → (V j (4 + c)).natAbs < 2 ^ 63) ∧ (c = cN (s + 1) → ∀ l, l ≤ s → (V (z + l) (4 + c)).natAbs + (V (z + s) (4 + c)).natAbs < 2 ^ 63) := by
  obtain ⟨act1, act2, act3⟩ := qPB_act h hRs hs hp hc
  have pl := qKB_pl h hρ ha (show s + 1 < k by omega)
  have d6 : qDl ρ ≤ 48000 := by
    have : ρ = 0 ∨ ρ = 1 ∨ ρ = 2 ∨ ρ = 3 := by omega
    rcases this with rfl | rfl | rfl | rfl <;> decide
  have l9 := hp.2.2.2.2.2.2.2.2.1.2 hs
  unfold qNc at l9
  rw [if_neg (by omega)] at l9
  constructor
  · intro j j1 j2
    by_cases y : j = z + s
    · subst y
      by_cases e : c = cN (s + 1)
      · rw [act2, e]; omega
      · rw [act3 (by omega)]; decide
    · rw [act1 j (by omega) j2]; decide
  · intro e l hl
    rw [act2, e]
    by_cases y : l < R
    · have b8 := hp.2.2.2.2.2.2.2.1 l s y (Nat.le_refl _) (by omega)
      have kn := h.1.1
      have n6 := h.1.2.1
      have f := qEb_fit (ρ := ρ) (R := R) (s := s) hρ hRs (by omega)
      have m := Nat.mul_le_mul_left (qEb ρ R s) pl
      omega
    · have t := hp.2.2.2.2.2.2.1 l (by omega) (by omega) c hc
      rw [e] at t
      rw [t]
      by_cases y2 : l = s
      · rw [y2]; omega
      · have := h.2.2.2.1 (l + 1) (s + 1) (by omega) (by omega); omega
def qVw (z : Nat) (V : Nat → Nat → Int) : Nat → Nat → Int := fun i col => if col < 7 then V (z + i) (4 + col) else 0
theorem qPB_end {n ρ k R z s c : Nat} {a : Nat → Nat → Int} {b cN : Nat → Nat} {w V : Nat → Nat → Int} {row : Nat → Int} (h : qKB n ρ k a b cN w) (hρ : ρ ≤ 3) (hR : R < k) (hx : qF row (w R) ≠ 0) (hz : ∀ i, R < i → i < k → qF row (w i) = 0) (hRs : R ≤ s) (hsk : s ≤ k - 1) (hp : qPB n ρ k R z cN w row s c V) (he : n ≤ c ∨ s = k - 1) : s = k - 1 ∧ qKB n (ρ + 1) (k - 1) (qNx ρ a row) (qNb2 ρ b (cN R)) (qNc R cN) (qVw z V) ∧ ∀ v, qSpan k w v → qF row v = 0 → qSpan (k - 1) (qVw z V) v := by
  obtain ⟨p1, p2, p3, p4, p5, p6, p7, p8, ⟨p9, p9b⟩, p10⟩ := hp
  have n6 := h.1.2.1
  have sk : s = k - 1 := by
    rcases he with e | e
    · refine Classical.byContradiction fun ne => ?_
      have l := p9b (by omega)
      unfold qNc at l; rw [if_neg (by omega)] at l
      have := (h.2.1 (s + 1) (by omega)).1
      omega
    · exact e
  have cl : ∀ i, i < k → cN i < 7 := fun i hi => by have := (h.2.1 i hi).1; omega
  have vw : ∀ i col, col < 7 → qVw z V i col = V (z + i) (4 + col) := fun i col hc => by unfold qVw; rw [if_pos hc]
  refine ⟨sk, ?_, ?_⟩
  · obtain ⟨p, q1, q2⟩ := p2
    refine qKB_next (p := p) h hρ hR hx hz ?_ q2 ?_ ?_ ?_ ?_
    · intro i hi
      refine ⟨(q1 i hi).1, ?_, fun col hcol => ?_⟩
      · rw [vw _ _ (cl i (by omega))]; exact (q1 i hi).2
      · rw [vw _ _ (by have := cl i (by omega); omega)]; exact p1 i hi col hcol
    · intro i col i1 i2
      by_cases y : col < 7
      · rw [vw _ _ y]; exact p7 i i1 i2 col y
      · unfold qVw; rw [if_neg y]; exact (h.2.2.2.2.1 (i + 1) col i2 (by omega)).symm
    · intro r i ri hi
      unfold qNc
      by_cases y : i < R
      · rw [if_pos y, vw _ _ (cl i (by omega)), vw _ _ (cl i (by omega))]; exact p3 r i ri y
      · rw [if_neg y, vw _ _ (cl (i + 1) hi), vw _ _ (cl (i + 1) hi), p7 i (by omega) hi _ (cl (i + 1) hi)]
        by_cases y2 : r < R
        · exact p4 r i y2 (by omega) (by omega)
        · rw [p7 r (by omega) (by omega) _ (cl (i + 1) hi)]
          exact h.2.2.2.1 (r + 1) (i + 1) (by omega) hi
    · intro i hi
      obtain ⟨t, ht⟩ := p5 i hi
      refine ⟨t, fun col => ?_⟩
      by_cases y : col < 7
      · rw [vw _ _ y]; exact ht col y
      · unfold qVw; rw [if_neg y]
        exact (qS_zero fun l hl => by rw [h.2.2.2.2.1 l col hl (by omega)]; simp).symm
    · intro i hi
      have : qF row (qVw z V i) = qF row (fun col => V (z + i) (4 + col)) := by
        unfold qF; exact qS_congr fun col hcol => by rw [vw _ _ hcol]
      rw [this]; exact p6 i hi
  · intro v hv h0
    obtain ⟨u, hu⟩ := p10 v hv h0
    refine ⟨u, fun col hcol => ?_⟩
    rw [hu col hcol]; exact qS_congr fun i _ => by rw [vw _ _ hcol]
