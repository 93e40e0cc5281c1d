/-! A ROW THAT COUNTS: from its gather to its leads -/
theorem qLd_0 {n ρ k R st r : Nat} {a : Nat → Nat → Int} {b cN : Nat → Nat} {w V V2 : Nat → Nat → Int} {row : Nat → Int} (h : qOk n ρ k R a b cN w row) (hV : ∀ i, i < k → ∀ col, col < 7 → V (st + i) (4 + col) = w i col) (hr : ∀ i, i < k → V (st + i) r = qF row (w i)) (hU : ∀ i l, i < k → l < k → V (st + i) (16 + l) = if i = l then 1 else 0) (g : qGath st (st + k) r V V2) : qLd n ρ k R (st + 1) cN w row 0 0 V2 := by
  obtain ⟨r5, num⟩ := qOk_num h
  obtain ⟨hK, hρ, ha, hrow, hR, hx, hz⟩ := h
  have zr : ∀ j, st + (R + 1) ≤ j → j < st + k → V j r = 0 := by
    intro j j1 j2
    have := hr (j - st) (by omega)
    rw [show st + (j - st) = j by omega] at this
    rw [this]; exact hz _ (by omega) (by omega)
  obtain ⟨g1, g2⟩ := qGath_shrink g (show st + (R + 1) ≤ st + k by omega) (by omega) zr
  have tail : ∀ i, R ≤ i → i + 1 < k → ∀ col, col < 7 → V2 (st + 1 + i) (4 + col) = w (i + 1) col := by
    intro i i1 i2 col hc
    rw [g2 (st + 1 + i) (by omega) (by omega), show st + 1 + i = st + (i + 1) by omega]; exact hV (i + 1) i2 col hc
  rcases Nat.eq_zero_or_pos R with e | e
  · subst e
    refine .inr ⟨Nat.le_refl _, Nat.zero_le _, fun i hi => by omega, ⟨fun _ => 1, fun i hi => by omega, ?_⟩, fun g i _ hi => by omega, fun g i hg => by omega, fun i hi => by omega, fun i hi => by omega, tail, fun g i hg => by omega, ⟨fun i hi => by omega, fun _ => Nat.zero_le _⟩, ?_⟩
    · simp only [qPi]; omega
    · intro v ⟨t, ht⟩ hv
      have lin := qF_lin (row := row) ht
      obtain ⟨d, rfl⟩ : ∃ d, k = 1 + d := ⟨k - 1, by omega⟩
      have t0 : t 0 = 0 := by
        rw [hv, qS_app _ 1 d, qS_zero (n := d)] at lin
        · simp only [qS] at lin
          have lin : t 0 * qF row (w 0) = 0 := by omega
          rcases Int.mul_eq_zero.mp lin with y | y
          · exact y
          · exact absurd y hx
        · intro i hi
          rw [hz (1 + i) (by omega) (by omega)]; simp
      refine ⟨fun i => t (i + 1), fun col hc => ?_⟩
      rw [ht col hc, qS_app _ 1 d, show 1 + d - 1 = d by omega]
      simp only [qS]
      rw [t0]
      have : qS (fun i => t (1 + i) * w (1 + i) col) d = qS (fun i => t (i + 1) * V2 (st + 1 + i) (4 + col)) d := qS_congr fun i hi => by
        rw [tail i (Nat.zero_le _) (by omega) col hc, Nat.add_comm 1 i]
      rw [this]; omega
  · have hU2 : qUnit st R V := fun i l hi hl => hU i l (by omega) (by omega)
    have ss := q0_SS (x := fun i => qF row (w i)) (W := fun g i => w g (cN i)) hU2 (fun i hi => hr i (by omega)) (fun i hi => (num e i (by omega)).1) hx e r5 g1
    have lin0 : qLin R st (st + (R + 1)) w V := by
      intro j j1 j2 col hc
      obtain ⟨i, rfl⟩ := Nat.exists_eq_add_of_le j1
      rw [hV i (by omega) col hc]
      have : qS (fun l => V (st + i) (16 + l) * w l col) (R + 1) = qS (fun l => (if l = i then 1 else 0) * w l col) (R + 1) := qS_congr fun l hl => by
        rw [hU i l (by omega) (by omega)]
        congr 1
        by_cases y : i = l
        · rw [if_pos y, if_pos y.symm]
        · rw [if_neg y, if_neg (fun q => y q.symm)]
      rw [this, qS_unit (fun l => w l col) (by omega)]; omega
    have lin2 := qLin_gath g1 (Nat.le_refl st) lin0
    exact .inl ⟨e, ss, fun j j1 j2 col hc => lin2 j (by omega) (by omega) col hc, tail, fun i hi => by omega, fun _ => Nat.zero_le _⟩
/-- the basis a row later, out of the end of its leads -/
theorem qLd_end {n ρ k R z s c : Nat} {a : Nat → Nat → Int} {b cN : Nat → Nat} {w V : Nat → Nat → Int} {row : Nat → Int} (h : qOk n ρ k R a b cN w row) (hp : qLd n ρ k R z cN w row s c V) (hs : s ≤ k - 1) (he : n ≤ c ∨ s = k - 1) : s = k - 1 ∧ qKB n (ρ + 1) (k - 1) (qNx ρ a row) (qNb2 ρ b (cN R)) (qNc R cN) (qVw z V) ∧ ∀ v, qSpan k w v → qF row v = 0 → qSpan (k - 1) (qVw z V) v := by
  obtain ⟨hK, hρ, ha, hrow, hR, hx, hz⟩ := h
  rcases hp with ⟨s1, p⟩ | ⟨s1, s2, p⟩
  · exfalso
    have l := p.2.2.2.2 s1
    have := (hK.2.1 s (by omega)).1
    omega
  · exact qPB_end hK hρ hR hx hz s1 s2 p he
