/-! WHOLE SOLUTIONS: the pivot measures what a row can reach -/
theorem q_pivot {st k r : Nat} {V V2 : Nat → Nat → Int} (g : qGath st (st + k) r V V2) (t : Nat → Int) : ∃ u : Int, qS (fun i => t i * V (st + i) r) k = u * V2 st r := by
  have gz : ∀ j, st < j → j < st + k → V2 j r = 0 := by obtain ⟨n, W, _, _, _, hz⟩ := g; exact hz
  have hk : 0 < k := by
    obtain ⟨n, W, _, _, s, _⟩ := g
    obtain ⟨p, _, _, p1, p2, _⟩ := s 0 (by omega)
    omega
  obtain ⟨u, co⟩ := qGath_cv g (fun j => t (j - st))
  have a := co.2 r
  rw [qR_head (by omega), qS_zero (fun i hi => by rw [gz _ (by omega) (by omega)]; simp), Int.add_zero] at a
  refine ⟨u st, ?_⟩
  rw [a]
  unfold qR
  rw [show st + k - st = k by omega]
  exact qS_congr fun i hi => by show t i * V (st + i) r = t (st + i - st) * V (st + i) r; rw [Nat.add_sub_cancel_left]
/-- the pivot's vector is made of the basis -/
theorem q_made {st k c : Nat} {w V V2 : Nat → Nat → Int} (g : qGath st (st + k) c V V2) (hV : ∀ i, i < k → ∀ col, col < 7 → V (st + i) (4 + col) = w i col) (hU : ∀ i l, i < k → l < k → V (st + i) (16 + l) = if i = l then 1 else 0) : ∀ j, st ≤ j → j < st + k → ∀ col, col < 7 → V2 j (4 + col) = qS (fun i => V2 j (16 + i) * w i col) k := by
  have hk : 0 < k := by
    obtain ⟨n, W, _, _, s, _⟩ := g
    obtain ⟨p, _, _, p1, p2, _⟩ := s 0 (by omega)
    omega
  obtain ⟨R, rfl⟩ : ∃ R, k = R + 1 := ⟨k - 1, by omega⟩
  have lin0 : qLin R st (st + (R + 1)) w V := by
    intro j j1 j2 col hc
    obtain ⟨i, rfl⟩ := Nat.exists_eq_add_of_le j1
    rw [hV i (by omega) col hc]
    have : qS (fun l => V (st + i) (16 + l) * w l col) (R + 1) = qS (fun l => (if l = i then 1 else 0) * w l col) (R + 1) := qS_congr fun l hl => by
      rw [hU i l (by omega) (by omega)]
      congr 1
      by_cases y : i = l
      · rw [if_pos y, if_pos y.symm]
      · rw [if_neg y, if_neg (fun q => y q.symm)]
    rw [this, qS_unit (fun l => w l col) (by omega)]; omega
  exact qLin_gath g (Nat.le_refl st) lin0
/-- one more row can be solved exactly when the pivot divides what is missing; v solves the rows so far, all others differ by the basis -/
theorem q_solve {st k r : Nat} {w V V2 : Nat → Nat → Int} {row v : Nat → Int} (g : qGath st (st + k) r V V2) (hr : ∀ i, i < k → V (st + i) r = qF row (w i)) : (∃ v2 : Nat → Int, qSpan k w (fun c => v2 c - v c) ∧ qF row v2 = 0) → V2 st r ∣ qF row v := by
  intro ⟨v2, ⟨t, ht⟩, h0⟩
  have lin := qF_lin (row := row) ht
  have e : qF row (fun c => v2 c - v c) = qF row v2 - qF row v := by
    unfold qF; rw [← qS_sub]; exact qS_congr fun c _ => by grind
  obtain ⟨u, hu⟩ := q_pivot g t
  have e2 : qS (fun l => t l * qF row (w l)) k = qS (fun i => t i * V (st + i) r) k := qS_congr fun i hi => by rw [hr i hi]
  rw [e, h0, e2, hu] at lin
  exact ⟨-u, by rw [Int.mul_neg, Int.mul_comm]; omega⟩
/-- .. and no vector makes anything of the row: what is missing must be 0 -/
theorem q_solve0 {k : Nat} {w : Nat → Nat → Int} {row v : Nat → Int} (hz : ∀ i, i < k → qF row (w i) = 0) : (∃ v2 : Nat → Int, qSpan k w (fun c => v2 c - v c) ∧ qF row v2 = 0) → qF row v = 0 := by
  intro ⟨v2, ⟨t, ht⟩, h0⟩
  have lin := qF_lin (row := row) ht
  have e : qF row (fun c => v2 c - v c) = qF row v2 - qF row v := by
    unfold qF; rw [← qS_sub]; exact qS_congr fun c _ => by grind
  rw [e, h0, qS_zero (fun i hi => by rw [hz i hi]; simp)] at lin
  omega
