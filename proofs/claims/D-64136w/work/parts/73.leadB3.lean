theorem qPB_yes {n ρ k R z s c : Nat} {a : Nat → Nat → Int} {b cN : Nat → Nat} {w V V2 : Nat → Nat → Int} {row : Nat → Int} (h : qKB n ρ k a b cN w) (hRs : R ≤ s) (hs : s < k - 1) (hz : qF row (w (s + 1)) = 0) (hc : c < 7) (hp : qPB n ρ k R z cN w row s c V) (g : qGath (z + s) (z + (k - 1)) (4 + c) V V2) (pos : 0 < V2 (z + s) (4 + c)) : c = cN (s + 1) ∧ V2 = V ∧ qPB n ρ k R z cN w row (s + 1) (c + 1) (qRed z s (mFl z s (4 + c) V2) V2) := by
  obtain ⟨act1, act2, act3⟩ := qPB_act h hRs hs hp hc
  have l9 := hp.2.2.2.2.2.2.2.2.1.2 hs
  unfold qNc at l9
  rw [if_neg (by omega)] at l9
  have pw := (h.2.1 (s + 1) (by omega)).2.1
  have ec : c = cN (s + 1) := by
    refine Classical.byContradiction fun ne => ?_
    have z0 := act3 (by omega)
    obtain ⟨N, W, w0, wn, st, _⟩ := g
    obtain ⟨p, _, _, p1, p2, _, p3, _⟩ := st 0 (by omega)
    rw [w0] at p3
    by_cases y : p = z + s
    · subst y; exact p3 z0
    · exact p3 (act1 p (by omega) p2)
  have idle := qGath_idle g (by rw [act2, ec]; exact pw) act1 pos
  refine ⟨ec, idle, ?_⟩
  rw [idle]
  subst ec
  obtain ⟨p1, p2, p3, p4, p5, p6, p7, p8, ⟨p9, p9b⟩, p10⟩ := hp
  have piv : ∀ col, col < 7 → V (z + s) (4 + col) = w (s + 1) col := p7 s hRs (by omega)
  have pv : V (z + s) (4 + cN (s + 1)) = w (s + 1) (cN (s + 1)) := piv _ hc
  -- tails before it are not touched
  have q0 : ∀ i, R ≤ i → i < s → mFl z s (4 + cN (s + 1)) V i = 0 := by
    intro i i1 i2
    unfold mFl
    rw [p7 i i1 (by omega) _ hc, pv]
    have := h.2.2.2.1 (i + 1) (s + 1) (by omega) (by omega)
    exact Int.ediv_eq_zero_of_lt this.1 this.2
  have tl : ∀ i, R ≤ i → i + 1 < k → ∀ d, qRed z s (mFl z s (4 + cN (s + 1)) V) V (z + i) d = V (z + i) d := by
    intro i i1 i2 d
    by_cases y : i < s
    · rw [qRed_l y, q0 i i1 y]; simp
    · rw [qRed_ge (.inr (by omega))]
  -- heads at columns where the pivot is 0
  have hd0 : ∀ i col, i < R → col < cN (s + 1) → qRed z s (mFl z s (4 + cN (s + 1)) V) V (z + i) (4 + col) = V (z + i) (4 + col) := by
    intro i col hi hcol
    rw [qRed_l (by omega), piv col (by omega), (h.2.1 (s + 1) (by omega)).2.2 col hcol]; simp
  have hh : ∀ i col, i < R → col < 7 → qRed z s (mFl z s (4 + cN (s + 1)) V) V (z + i) (4 + col) = V (z + i) (4 + col) - mFl z s (4 + cN (s + 1)) V i * w (s + 1) col := by
    intro i col hi hcol; rw [qRed_l (by omega), piv col hcol]
  have fl : ∀ i, i < R → 0 ≤ V (z + i) (4 + cN (s + 1)) - mFl z s (4 + cN (s + 1)) V i * w (s + 1) (cN (s + 1)) ∧ V (z + i) (4 + cN (s + 1)) - mFl z s (4 + cN (s + 1)) V i * w (s + 1) (cN (s + 1)) < w (s + 1) (cN (s + 1)) := by
    intro i hi
    unfold mFl; rw [pv]; exact q_floor pw
  have lt : ∀ i, i < R → cN i < cN (s + 1) := fun i hi => h.2.2.1 i (s + 1) (by omega) (by omega)
  refine ⟨?_, ?_, ?_, ?_, ?_, ?_, ?_, ?_, ⟨?_, ?_⟩, ?_⟩
  · intro i hi col hcol; rw [hd0 i col hi (by have := lt i hi; omega)]; exact p1 i hi col hcol
  · obtain ⟨p, q1, q2⟩ := p2
    exact ⟨p, fun i hi => ⟨(q1 i hi).1, by rw [hd0 i _ hi (lt i hi)]; exact (q1 i hi).2⟩, q2⟩
  · intro g i gi hi
    rw [hd0 g _ (by omega) (lt i hi), hd0 i _ hi (lt i hi)]; exact p3 g i gi hi
  · intro r i hr i1 i2
    by_cases y : i = s
    · rw [y, hh r _ hr hc]; exact fl r hr
    · have : cN (i + 1) < cN (s + 1) := h.2.2.1 (i + 1) (s + 1) (by omega) (by omega)
      rw [hd0 r _ hr this]; exact p4 r i hr i1 (by omega)
  · intro i hi
    obtain ⟨t, ht⟩ := p5 i hi
    refine ⟨fun l => t l + (if l = s + 1 then -mFl z s (4 + cN (s + 1)) V i else 0), fun col hcol => ?_⟩
    rw [hh i col hi hcol, ht col hcol]
    have : qS (fun l => (t l + (if l = s + 1 then -mFl z s (4 + cN (s + 1)) V i else 0)) * w l col) k = qS (fun l => t l * w l col + (if l = s + 1 then -mFl z s (4 + cN (s + 1)) V i else 0) * w l col) k := qS_congr fun l _ => Int.add_mul _ _ _
    rw [this, qS_add, qS_unit (fun l => w l col) (show s + 1 < k by omega)]; grind
  · intro i hi
    have e : qF row (fun col => qRed z s (mFl z s (4 + cN (s + 1)) V) V (z + i) (4 + col)) = qF row (fun col => V (z + i) (4 + col)) - mFl z s (4 + cN (s + 1)) V i * qF row (w (s + 1)) := by
      unfold qF
      rw [← qS_mul, ← qS_sub]
      exact qS_congr fun col hcol => by
        show row col * qRed z s (mFl z s (4 + cN (s + 1)) V) V (z + i) (4 + col) = row col * V (z + i) (4 + col) - mFl z s (4 + cN (s + 1)) V i * (row col * w (s + 1) col)
        rw [hh i col hi hcol]; grind
    rw [e, p6 i hi, hz]; simp
  · intro i i1 i2 col hcol
    rw [tl i i1 i2]; exact p7 i i1 i2 col hcol
  · intro g i hg i1 i2
    have ce : cN (i + 1) < 7 := by have := (h.2.1 (i + 1) i2).1; have := h.1.2.1; omega
    rw [hh g _ hg ce]
    have b1 := p8 g i hg (by omega) i2
    have b2 := p8 g s hg (Nat.le_refl _) (by omega)
    have f := fl g hg
    -- the multiple
    have qb : (mFl z s (4 + cN (s + 1)) V g).natAbs ≤ qEb ρ R s := by
      have e : (mFl z s (4 + cN (s + 1)) V g * w (s + 1) (cN (s + 1))).natAbs ≤ qEb ρ R s * (w (s + 1) (cN (s + 1))).natAbs := by omega
      rw [Int.natAbs_mul] at e
      exact Nat.le_of_mul_le_mul_right e (by omega)
    have wl : (w (s + 1) (cN (i + 1))).natAbs ≤ (w (i + 1) (cN (i + 1))).natAbs := by
      by_cases y : i = s
      · rw [y]; exact Nat.le_refl _
      · have := h.2.2.2.1 (s + 1) (i + 1) (by omega) i2; omega
    have m := q_abs_mul_le qb wl
    have e2 : qEb ρ R (s + 1) = 2 * qEb ρ R s := by
      unfold qEb; rw [show s + 1 - R = (s - R) + 1 by omega, Nat.pow_succ]; grind
    rw [e2]
    have e4 : 2 * qEb ρ R s * (w (i + 1) (cN (i + 1))).natAbs = qEb ρ R s * (w (i + 1) (cN (i + 1))).natAbs + qEb ρ R s * (w (i + 1) (cN (i + 1))).natAbs := by grind
    rw [e4]
    omega
  · intro i hi
    by_cases y : i = s
    · rw [y]; unfold qNc; rw [if_neg (by omega)]; omega
    · have := p9 i (by omega); omega
  · intro hs2
    unfold qNc; rw [if_neg (by omega)]
    have := h.2.2.1 (s + 1) (s + 1 + 1) (by omega) (by omega); omega
  · intro v hv1 hv2
    obtain ⟨u, hu⟩ := p10 v hv1 hv2
    refine ⟨fun i => u i + (if i = s then qS (fun l => mFl z s (4 + cN (s + 1)) V l * u l) s else 0), fun col hcol => ?_⟩
    rw [hu col hcol]
    have e0 : qS (fun i => (u i + (if i = s then qS (fun l => mFl z s (4 + cN (s + 1)) V l * u l) s else 0)) * qRed z s (mFl z s (4 + cN (s + 1)) V) V (z + i) (4 + col)) (k - 1) = qS (fun i => u i * qRed z s (mFl z s (4 + cN (s + 1)) V) V (z + i) (4 + col) + (if i = s then qS (fun l => mFl z s (4 + cN (s + 1)) V l * u l) s else 0) * qRed z s (mFl z s (4 + cN (s + 1)) V) V (z + i) (4 + col)) (k - 1) := qS_congr fun i _ => Int.add_mul _ _ _
    rw [e0, qS_add, qS_unit (fun i => qRed z s (mFl z s (4 + cN (s + 1)) V) V (z + i) (4 + col)) hs]
    rw [qRed_ge (j := z + s) (.inr (Nat.le_refl _))]
    obtain ⟨d, hd⟩ := Nat.exists_eq_add_of_le (Nat.le_of_lt hs)
    rw [hd, qS_app _ s d, qS_app _ s d]
    have e1 : qS (fun i => u i * qRed z s (mFl z s (4 + cN (s + 1)) V) V (z + i) (4 + col)) s = qS (fun i => u i * V (z + i) (4 + col)) s - V (z + s) (4 + col) * qS (fun l => mFl z s (4 + cN (s + 1)) V l * u l) s := by
      rw [← qS_mul, ← qS_sub]
      exact qS_congr fun i hi => by rw [qRed_l hi]; grind
    have e2 : qS (fun i => u (s + i) * qRed z s (mFl z s (4 + cN (s + 1)) V) V (z + (s + i)) (4 + col)) d = qS (fun i => u (s + i) * V (z + (s + i)) (4 + col)) d := qS_congr fun i _ => by
      rw [qRed_ge (.inr (by omega))]
    rw [e1, e2]; grind
