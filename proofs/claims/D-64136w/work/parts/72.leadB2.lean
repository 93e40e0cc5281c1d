theorem qPB_of {n ρ k R z c : Nat} {a : Nat → Nat → Int} {b cN : Nat → Nat} {w V : Nat → Nat → Int} {row x : Nat → Int} (h : qKB n ρ k a b cN w) (hρ : ρ ≤ 3) (ha : ∀ i, i < ρ → qRow n (a i)) (hrow : qRow n row) (hR : R < k) (hxr : x = fun i => qF row (w i)) (hx : x R ≠ 0) (hz : ∀ i, R < i → i < k → x i = 0) (hp : qPA n ρ k R z cN w x R c V) (hc : c ≤ cN R) : qPB n ρ k R z cN w row R c V := by
  obtain ⟨⟨hS, _, _, _, _⟩, hl, ht, h1, _⟩ := hp
  have n6 := h.1.2.1
  have cl : ∀ i, i < k → cN i < 7 := fun i hi => by have := (h.2.1 i hi).1; omega
  -- a head's column before or at its lead
  have tri : ∀ g i, g < R → i < k → V (z + g) (4 + cN i) = qS (fun l => V (z + g) (16 + l) * w l (cN i)) (R + 1) := fun g i hg hi => hl (z + g) (by omega) (by omega) _ (cl i hi)
  have tri2 : ∀ g i, g < R → i < R → V (z + g) (4 + cN i) = qS (fun l => V (z + g) (16 + l) * w l (cN i)) (i + 1) := by
    intro g i hg hi
    rw [tri g i hg (by omega)]
    obtain ⟨d, hd⟩ := Nat.exists_eq_add_of_le (show i + 1 ≤ R + 1 by omega)
    rw [hd, qS_app, qS_zero (n := d), Int.add_zero]
    intro e he
    rw [(h.2.1 (i + 1 + e) (by omega)).2.2 (cN i) (h.2.2.1 i (i + 1 + e) (by omega) (by omega))]; simp
  have ld : ∀ i, i < R → V (z + i) (4 + cN i) = V (z + i) (16 + i) * w i (cN i) := by
    intro i hi
    rw [tri2 i i hi hi, qS, qS_zero (fun l hl => by rw [(hS.1 i hi).1 l hl]; simp)]; omega
  refine ⟨?_, ⟨fun i => V (z + i) (16 + i), fun i hi => ⟨(hS.1 i hi).2, ld i hi⟩, ?_⟩, ?_, fun g i _ i1 i2 => by omega, ?_, ?_, ht, ?_, ⟨?_, ?_⟩, ?_⟩
  · intro i hi col hcol
    have := cl i (by omega)
    rw [hl (z + i) (by omega) (by omega) col (by omega)]
    refine qS_zero fun l hl2 => ?_
    by_cases y : l < i
    · rw [(hS.1 i hi).1 l y]; simp
    · have : col < cN l := by
        by_cases e : l = i
        · subst e; exact hcol
        · have := h.2.2.1 i l (by omega) (by omega); omega
      rw [(h.2.1 l (by omega)).2.2 col this]; simp
  · have := qLS_prod hS hx
    rw [hxr] at this; exact this
  · intro g i gi hi
    rw [tri2 g i (by omega) hi, ld i hi]
    have := hS.2.2.2.2.2 g i gi hi
    rw [Int.mul_comm (V (z + i) (16 + i))]; exact this
  · intro i hi
    refine ⟨fun l => if l < R + 1 then V (z + i) (16 + l) else 0, fun col hcol => ?_⟩
    rw [hl (z + i) (by omega) (by omega) col hcol]
    obtain ⟨d, hd⟩ := Nat.exists_eq_add_of_le (show R + 1 ≤ k from hR)
    rw [hd, qS_app _ (R + 1) d, qS_zero (n := d), Int.add_zero]
    · exact qS_congr fun l hl2 => by
        show V (z + i) (16 + l) * w l col = (if l < R + 1 then V (z + i) (16 + l) else 0) * w l col
        rw [if_pos hl2]
    · intro e he
      show (if R + 1 + e < R + 1 then V (z + i) (16 + (R + 1 + e)) else 0) * w (R + 1 + e) col = 0
      rw [if_neg (by omega)]; simp
  · intro i hi
    rw [qF_lin (k := R + 1) (t := fun l => V (z + i) (16 + l)) (w := w) (fun col hcol => hl (z + i) (by omega) (by omega) col hcol)]
    have := hS.2.2.1 (z + i) (by omega) (by omega)
    rw [hxr] at this; exact this
  · intro g i hg i1 i2
    rw [tri g (i + 1) hg i2]
    have sz := qPB_size h hρ ha hrow hR hxr hx hS hg (show R < i + 1 by omega) i2
    unfold qEb; rw [Nat.sub_self, Nat.pow_zero, Nat.one_mul, Nat.add_mul _ 1]; omega
  · intro i hi; have := h1 i hi; unfold qNc; rw [if_pos hi]; exact this
  · intro hs
    unfold qNc; rw [if_neg (by omega)]
    have := h.2.2.1 R (R + 1) (by omega) (by omega); omega
  · intro v ⟨t, htv⟩ hv0
    have lin := qF_lin (row := row) htv
    rw [hv0] at lin
    obtain ⟨d, hd⟩ := Nat.exists_eq_add_of_le (show R + 1 ≤ k from hR)
    have t0 : qDot x t R = 0 := by
      rw [hd, qS_app _ (R + 1) d, qS_zero (n := d)] at lin
      · unfold qDot; rw [hxr]; rw [Int.add_zero] at lin; exact lin.symm
      · intro e he
        have := hz (R + 1 + e) (by omega) (by omega)
        rw [hxr] at this
        show t (R + 1 + e) * qF row (w (R + 1 + e)) = 0
        have this : qF row (w (R + 1 + e)) = 0 := this
        rw [this]; simp
    obtain ⟨u, hu⟩ := qLS_span hS hx R (Nat.le_refl _) t t0 (fun i hi => by omega)
    refine ⟨fun i => if i < R then u i else t (i + 1), fun col hcol => ?_⟩
    rw [htv col hcol, hd, qS_app _ (R + 1) d]
    rw [show R + 1 + d - 1 = R + d by omega, qS_app _ R d]
    congr 1
    · have e1 : qS (fun l => t l * w l col) (R + 1) = qS (fun i => qS (fun l => u l * (V (z + l) (16 + i) * w i col)) R) (R + 1) := qS_congr fun i hi => by
        rw [hu i (by omega), Int.mul_comm, ← qS_mul]; exact qS_congr fun l _ => by grind
      rw [e1, qS_swap]
      refine qS_congr fun l hl2 => ?_
      rw [qS_mul, ← hl (z + l) (by omega) (by omega) col hcol]
      show u l * V (z + l) (4 + col) = (if l < R then u l else t (l + 1)) * V (z + l) (4 + col)
      rw [if_pos hl2]
    · refine qS_congr fun i hi => ?_
      show t (R + 1 + i) * w (R + 1 + i) col = (if R + i < R then u (R + i) else t (R + i + 1)) * V (z + (R + i)) (4 + col)
      rw [if_neg (by omega), ht (R + i) (by omega) (by omega) col hcol, show R + i + 1 = R + 1 + i by omega]
/-- active rows are tails: 0 before their leads -/
theorem qPB_act {n ρ k R z s c : Nat} {a : Nat → Nat → Int} {b cN : Nat → Nat} {w V : Nat → Nat → Int} {row : Nat → Int} (h : qKB n ρ k a b cN w) (hRs : R ≤ s) (hs : s < k - 1) (hp : qPB n ρ k R z cN w row s c V) (hc : c < 7) : (∀ j, z + s < j → j < z + (k - 1) → V j (4 + c) = 0) ∧ V (z + s) (4 + c) = w (s + 1) c ∧ (c < cN (s + 1) → V (z + s) (4 + c) = 0) := by
  have l := hp.2.2.2.2.2.2.2.2.1.2 hs
  unfold qNc at l
  rw [if_neg (by omega)] at l
  refine ⟨fun j j1 j2 => ?_, hp.2.2.2.2.2.2.1 s hRs (by omega) c hc, fun hlt => ?_⟩
  · have := hp.2.2.2.2.2.2.1 (j - z) (by omega) (by omega) c hc
    rw [show z + (j - z) = j by omega] at this
    rw [this]
    have := h.2.2.1 (s + 1) (j - z + 1) (by omega) (by omega)
    exact (h.2.1 (j - z + 1) (by omega)).2.2 c (by omega)
  · rw [hp.2.2.2.2.2.2.1 s hRs (by omega) c hc]
    exact (h.2.1 (s + 1) (by omega)).2.2 c hlt
theorem qPB_no {n ρ k R z s c : Nat} {a : Nat → Nat → Int} {b cN : Nat → Nat} {w V : Nat → Nat → Int} {row : Nat → Int} (h : qKB n ρ k a b cN w) (hRs : R ≤ s) (hp : qPB n ρ k R z cN w row s c V) (hz : s < k - 1 → V (z + s) (4 + c) = 0) : qPB n ρ k R z cN w row s (c + 1) V := by
  obtain ⟨p1, p2, p3, p4, p5, p6, p7, p8, ⟨p9, p9b⟩, p10⟩ := hp
  refine ⟨p1, p2, p3, p4, p5, p6, p7, p8, ⟨fun i hi => by have := p9 i hi; omega, fun hs => ?_⟩, p10⟩
  have l := p9b hs
  rcases Nat.lt_or_ge c (qNc R cN s) with y | y
  · omega
  · exfalso
    have e : c = cN (s + 1) := by unfold qNc at l y; rw [if_neg (by omega)] at l y; omega
    have a1 := hz hs
    have c7 : c < 7 := by have := (h.2.1 (s + 1) (by omega)).1; have := h.1.2.1; omega
    rw [p7 s hRs (by omega) c c7, e] at a1
    have := (h.2.1 (s + 1) (by omega)).2.1
    omega
