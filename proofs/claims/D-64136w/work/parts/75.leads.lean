/-! THE LEADS of a row that counts, both parts in one -/
theorem qSS_fit2 {R s z : Nat} {x : Nat → Int} {W V : Nat → Nat → Int} (h : qSS R s z x W V) (hs : s < R) (hR : R ≤ 5) (hx : x R ≠ 0) (hX : (x R).natAbs ≤ qXt R) (hW : qW R W) (hP : (W s s).natAbs ≤ qPt R) : ∀ l, l < s → (qS (fun k => V (z + l) (16 + k) * W k s) (s + 1)).natAbs + qXt R * (W s s).natAbs < 2 ^ 63 := by
  have num : ∀ l, l < s → (2 ^ s * qXt R + qYt R s l) * qPt R < 2 ^ 63 := by
    have key : ∀ R, R < 6 → ∀ s, s < R → ∀ l, l < s → (2 ^ s * qXt R + qYt R s l) * qPt R < 2 ^ 63 := by decide +kernel
    exact key R (by omega) s hs
  intro l hl
  have a := qLY_val h.1 hs hx hX hW hl (h.2.2.1 l s hl (Nat.le_refl _) hs)
  have b := Nat.mul_le_mul_left (2 ^ s * qXt R + qYt R s l) hP
  have c := num l hl
  omega
def qLd (n ρ k R z : Nat) (cN : Nat → Nat) (w : Nat → Nat → Int) (row : Nat → Int) (s c : Nat) (V : Nat → Nat → Int) : Prop :=
  (s < R ∧ qPA n ρ k R z cN w (fun i => qF row (w i)) s c V) ∨ (R ≤ s ∧ s ≤ k - 1 ∧ qPB n ρ k R z cN w row s c V)
/-- the sizes that a row's stage asks for -/
def qOk (n ρ k R : Nat) (a : Nat → Nat → Int) (b cN : Nat → Nat) (w : Nat → Nat → Int) (row : Nat → Int) : Prop :=
  qKB n ρ k a b cN w ∧ ρ ≤ 3 ∧ (∀ i, i < ρ → qRow n (a i)) ∧ qRow n row ∧ R < k ∧ qF row (w R) ≠ 0 ∧ ∀ i, R < i → i < k → qF row (w i) = 0
theorem qOk_num {n ρ k R : Nat} {a : Nat → Nat → Int} {b cN : Nat → Nat} {w : Nat → Nat → Int} {row : Nat → Int} (h : qOk n ρ k R a b cN w row) : R ≤ 5 ∧ (1 ≤ R → ∀ i, i < k → (qF row (w i)).natAbs ≤ qXt R ∧ (w i (cN i)).natAbs ≤ qPt R) := by
  obtain ⟨hK, hρ, ha, hr, hR, _, _⟩ := h
  have kn := hK.1.1
  have n6 := hK.1.2.1
  refine ⟨by omega, fun r1 i hi => ?_⟩
  have a1 := qKB_x hK hρ ha hr hi
  have a2 := qKB_pl hK hρ ha hi
  have num : ∀ ρ, ρ < 4 → ∀ R, R < 6 → 1 ≤ R → R + 1 + ρ ≤ 6 → qMt ρ * 20 ≤ qXt R ∧ qDl ρ ≤ qPt R := by decide +kernel
  have := num ρ (by omega) R (by omega) r1 (by omega)
  exact ⟨Nat.le_trans a1 this.1, Nat.le_trans a2 this.2⟩
theorem qLd_fit {n ρ k R z s c : Nat} {a : Nat → Nat → Int} {b cN : Nat → Nat} {w V : Nat → Nat → Int} {row : Nat → Int} (h : qOk n ρ k R a b cN w row) (hs : s < k - 1) (hc : c < n) (hp : qLd n ρ k R z cN w row s c V) : ∀ j, z + s ≤ j → j < z + (k - 1) → (V j (4 + c)).natAbs < 2 ^ 63 := by
  obtain ⟨r5, num⟩ := qOk_num h
  obtain ⟨hK, hρ, ha, hr, hR, hx, hz⟩ := h
  have n6 := hK.1.2.1
  rcases hp with ⟨s1, p⟩ | ⟨s1, s2, p⟩
  · exact (qPA_fit hK hR r5 s1 hx (num (by omega) R hR).1 (num (by omega) s (by omega)).2 p).1
  · exact (qPB_fit hK hρ ha s1 hs (by omega) p).1
theorem qLd_no {n ρ k R z s c : Nat} {a : Nat → Nat → Int} {b cN : Nat → Nat} {w V : Nat → Nat → Int} {row : Nat → Int} (h : qOk n ρ k R a b cN w row) (hp : qLd n ρ k R z cN w row s c V) (h0 : ∀ j, z + s ≤ j → j < z + (k - 1) → V j (4 + c) = 0) : qLd n ρ k R z cN w row s (c + 1) V := by
  obtain ⟨hK, hρ, ha, hr, hR, hx, hz⟩ := h
  rcases hp with ⟨s1, p⟩ | ⟨s1, s2, p⟩
  · exact .inl ⟨s1, qPA_no hK hR s1 hx p h0⟩
  · exact .inr ⟨s1, s2, qPB_no hK s1 p (fun hs => h0 _ (Nat.le_refl _) (by omega))⟩
theorem qLd_yes {n ρ k R z s c : Nat} {a : Nat → Nat → Int} {b cN : Nat → Nat} {w V V2 : Nat → Nat → Int} {row : Nat → Int} (h : qOk n ρ k R a b cN w row) (hs : s < k - 1) (hc : c < n) (hp : qLd n ρ k R z cN w row s c V) (g : qGath (z + s) (z + (k - 1)) (4 + c) V V2) (pos : 0 < V2 (z + s) (4 + c)) : (∀ l, l ≤ s → (V2 (z + l) (4 + c)).natAbs + (V2 (z + s) (4 + c)).natAbs < 2 ^ 63) ∧ qLd n ρ k R z cN w row (s + 1) (c + 1) (qRed z s (mFl z s (4 + c) V2) V2) := by
  obtain ⟨r5, num⟩ := qOk_num h
  have hOk := h
  obtain ⟨hK, hρ, ha, hr, hR, hx, hz⟩ := h
  have n6 := hK.1.2.1
  rcases hp with ⟨s1, p⟩ | ⟨s1, s2, p⟩
  · obtain ⟨xR, pS⟩ := num (by omega) R hR
    have pS := (num (by omega) s (by omega)).2
    obtain ⟨ec, low, p2⟩ := qPA_yes hK hR r5 s1 hx xR p g pos
    -- the pivot's value
    have lin := p2.2.1 (z + s) (by omega) (by omega) c (by omega)
    rw [qRed_ge (.inr (Nat.le_refl _))] at lin
    have z0 := fun i hi => (p2.1.1.1 s (by omega)).1 i hi
    have pv : V2 (z + s) (4 + c) = V2 (z + s) (16 + s) * w s (cN s) := by
      rw [lin, ec]
      have : qS (fun i => V2 (z + s) (16 + i) * w i (cN s)) (R + 1) = qS (qU (fun _ => 0) s (V2 (z + s) (16 + s) * w s (cN s))) (R + 1) := qS_congr fun i hi => by
        unfold qU
        rcases Nat.lt_trichotomy i s with y | y | y
        · have := z0 i y
          rw [qRed_ge (.inr (Nat.le_refl _))] at this
          rw [if_neg (by omega), this]; simp
        · subst y; rw [if_pos rfl]
        · rw [if_neg (by omega), (hK.2.1 i (by omega)).2.2 _ (hK.2.2.1 s i y (by omega))]; simp
      rw [this, qS_upd (by omega), qS_zero (fun _ _ => rfl)]; omega
    have pi := (qLS_pi p2.1.1 (by omega) hx).1 s (by omega)
    rw [qRed_ge (.inr (Nat.le_refl _))] at pi
    have pb : (V2 (z + s) (4 + c)).natAbs ≤ qXt R * (w s (cN s)).natAbs := by
      rw [pv, Int.natAbs_mul]; exact Nat.mul_le_mul_right _ (Nat.le_trans pi xR)
    have small : qXt R * (w s (cN s)).natAbs + qXt R * (w s (cN s)).natAbs < 2 ^ 63 := by
      have m := Nat.mul_le_mul_left (qXt R) pS
      have key : ∀ R, R < 6 → qXt R * qPt R + qXt R * qPt R < 2 ^ 63 := by decide +kernel
      have := key R (by omega)
      omega
    refine ⟨fun l hl => ?_, ?_⟩
    · by_cases y : l = s
      · rw [y]; omega
      · rw [low l (by omega)]
        have f := qSS_fit2 p.1 s1 r5 hx xR (qKB_W hK hR) pS l (by omega)
        have v : V (z + l) (4 + c) = qS (fun g => V (z + l) (16 + g) * w g (cN s)) (s + 1) := by
          rw [p.2.1 (z + l) (by omega) (by omega) c (by omega), ec]
          obtain ⟨d, hd⟩ := Nat.exists_eq_add_of_le (show s + 1 ≤ R + 1 by omega)
          rw [hd, qS_app _ (s + 1) d, qS_zero (n := d), Int.add_zero]
          intro e he
          rw [(hK.2.1 (s + 1 + e) (by omega)).2.2 (cN s) (hK.2.2.1 s (s + 1 + e) (by omega) (by omega))]; simp
        rw [v]; omega
    · by_cases y : s + 1 < R
      · exact .inl ⟨y, p2⟩
      · have e : s + 1 = R := by omega
        rw [e] at p2
        refine .inr ⟨by omega, by omega, ?_⟩
        rw [e]
        refine qPB_of hK hρ ha hr hR rfl hx hz p2 ?_
        rw [ec]
        have := hK.2.2.1 s R (by omega) hR; omega
  · obtain ⟨ec, idle, p2⟩ := qPB_yes hK s1 hs (hz (s + 1) (by omega) (by omega)) (by omega) p g pos
    refine ⟨fun l hl => ?_, .inr ⟨by omega, by omega, p2⟩⟩
    rw [idle]
    exact (qPB_fit hK hρ ha s1 hs (by omega) p).2 ec l hl
