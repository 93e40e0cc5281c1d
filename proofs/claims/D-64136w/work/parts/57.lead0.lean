/-! BEFORE THE LEADS: the row's own gather, from unit vectors -/
def qUnit (st R : Nat) (V : Nat → Nat → Int) : Prop := ∀ i l, i ≤ R → l ≤ R → V (st + i) (16 + l) = if i = l then 1 else 0
theorem qS_unit (f : Nat → Int) {i n : Nat} (h : i < n) (a : Int) : qS (fun j => (if j = i then a else 0) * f j) n = a * f i := by
  have : (fun j => (if j = i then a else 0) * f j) = qU (fun _ => 0) i (a * f i) := by
    funext j; unfold qU; by_cases e : j = i
    · subst e; simp
    · simp [e]
  rw [this, qS_upd h, qS_zero (fun _ _ => rfl)]; omega
theorem qS_unit2 (f : Nat → Int) {i n : Nat} (h : i < n) (a : Int) : qS (fun j => f j * (if j = i then a else 0)) n = a * f i := by
  rw [← qS_unit f h a]; exact qS_congr fun j _ => Int.mul_comm _ _
theorem q0_pr {st R cx X l : Nat} {x : Nat → Int} {V : Nat → Nat → Int} (hU : qUnit st R V) (hc : ∀ i, i ≤ R → V (st + i) cx = x i) (hX : ∀ i, i ≤ R → (x i).natAbs ≤ X) (hl : l ≤ R) : qPr st (st + (R + 1)) cx (16 + l) V X := by
  intro i j i1 i2 j1 j2
  obtain ⟨a, rfl⟩ := Nat.exists_eq_add_of_le i1
  obtain ⟨b, rfl⟩ := Nat.exists_eq_add_of_le j1
  simp only [qM]
  rw [hc a (by omega), hc b (by omega), hU a l (by omega) hl, hU b l (by omega) hl]
  have := hX a (by omega)
  have := hX b (by omega)
  by_cases e1 : a = l <;> by_cases e2 : b = l
  · subst e1; subst e2; simp
  · rw [if_pos e1, if_neg e2]; omega
  · rw [if_neg e1, if_pos e2]; omega
  · rw [if_neg e1, if_neg e2]; omega
theorem q0_tr {st R cx X d e : Nat} {x : Nat → Int} {V : Nat → Nat → Int} (hU : qUnit st R V) (hc : ∀ i, i ≤ R → V (st + i) cx = x i) (hX : ∀ i, i ≤ R → (x i).natAbs ≤ X) (hd : d ≤ R) (he : e ≤ R) (hde : d ≠ e) : qTr st (st + (R + 1)) cx (16 + d) (16 + e) V (· ≤ X) := by
  intro i j l i1 i2 j1 j2 l1 l2
  obtain ⟨a, rfl⟩ := Nat.exists_eq_add_of_le i1
  obtain ⟨b, rfl⟩ := Nat.exists_eq_add_of_le j1
  obtain ⟨c, rfl⟩ := Nat.exists_eq_add_of_le l1
  simp only [qT]
  rw [hc a (by omega), hc b (by omega), hc c (by omega), hU a d (by omega) hd, hU b d (by omega) hd, hU c d (by omega) hd, hU a e (by omega) he, hU b e (by omega) he, hU c e (by omega) he]
  have ha := hX a (by omega)
  have hb := hX b (by omega)
  have hc := hX c (by omega)
  by_cases a1 : a = d <;> by_cases b1 : b = d <;> by_cases c1 : c = d <;> by_cases a2 : a = e <;> by_cases b2 : b = e <;> by_cases c2 : c = e <;> (try (exfalso; omega)) <;> simp only [a1, b1, c1, a2, b2, c2, hde, hde.symm, if_true, if_false] <;> (try (subst a1)) <;> omega
theorem q0_link {st R cx : Nat} {x : Nat → Int} {V V2 : Nat → Nat → Int} (hU : qUnit st R V) (hc : ∀ i, i ≤ R → V (st + i) cx = x i) (g : qGath st (st + (R + 1)) cx V V2) : ∀ j, st ≤ j → j < st + (R + 1) → V2 j cx = qS (fun i => V2 j (16 + i) * x i) (R + 1) := by
  intro j j1 j2
  have a := qGath_lin g (fun i => if i = 0 then -1 else x (i - 1)) (fun i => if i = 0 then cx else 16 + (i - 1)) (R + 2) (fun j j1 j2 => by
    obtain ⟨b, rfl⟩ := Nat.exists_eq_add_of_le j1
    rw [qS_head]
    have : qS (fun i => V (st + b) (if i + 1 = 0 then cx else 16 + (i + 1 - 1)) * (if i + 1 = 0 then -1 else x (i + 1 - 1))) (R + 1) = qS (fun i => (if i = b then 1 else 0) * x i) (R + 1) := qS_congr fun i hi => by
      rw [if_neg (by omega), if_neg (by omega), Nat.add_sub_cancel, hU b i (by omega) (by omega)]
      congr 1
      by_cases e : b = i
      · rw [if_pos e, if_pos e.symm]
      · rw [if_neg e, if_neg (fun k => e k.symm)]
    rw [this, qS_unit _ (by omega)]
    simp only [if_true]
    rw [hc b (by omega)]; omega) j j1 j2
  rw [qS_head] at a
  simp only [if_true] at a
  have : qS (fun i => V2 j (if i + 1 = 0 then cx else 16 + (i + 1 - 1)) * (if i + 1 = 0 then -1 else x (i + 1 - 1))) (R + 1) = qS (fun i => V2 j (16 + i) * x i) (R + 1) := qS_congr fun i hi => by
    rw [if_neg (by omega), if_neg (by omega), Nat.add_sub_cancel]
  rw [this] at a; omega
theorem q0_SS {st R cx : Nat} {x : Nat → Int} {W V V2 : Nat → Nat → Int} (hU : qUnit st R V) (hc : ∀ i, i ≤ R → V (st + i) cx = x i) (hX : ∀ i, i ≤ R → (x i).natAbs ≤ qXt R) (hx : x R ≠ 0) (hR1 : 1 ≤ R) (hR : R ≤ 5) (g : qGath st (st + (R + 1)) cx V V2) : qSS R 0 (st + 1) x W V2 := by
  have gz : ∀ j, st < j → j < st + (R + 1) → V2 j cx = 0 := by obtain ⟨n, W, _, _, _, hz⟩ := g; exact hz
  have p0 : V2 st cx ≠ 0 := (qGath_ind (Pr := fun _ => True) g (fun _ _ => trivial) (fun _ _ _ _ _ _ => trivial)).2.1
  have lk := q0_link hU hc g
  have hd : ∀ f : Nat → Int, qR f st (st + (R + 1)) = f st + qR f (st + 1) (st + 1 + R) := fun f => by
    rw [qR_head (by omega)]; congr 1; unfold qR; rw [show st + (R + 1) - st - 1 = st + 1 + R - (st + 1) by omega]
  have us : ∀ (f : Nat → Int) (l : Nat), l ≤ R → qR (fun j => f j * V j (16 + l)) st (st + (R + 1)) = f (st + l) := by
    intro f l hl
    unfold qR
    rw [show st + (R + 1) - st = R + 1 by omega]
    have : qS (fun i => f (st + i) * V (st + i) (16 + l)) (R + 1) = qS (fun i => f (st + i) * (if i = l then 1 else 0)) (R + 1) := qS_congr fun i hi => by rw [hU i l (by omega) hl]
    rw [this, qS_unit2 (fun i => f (st + i)) (by omega)]; omega
  have ux : ∀ (f : Nat → Int), qR (fun j => f j * V j cx) st (st + (R + 1)) = qS (fun i => f (st + i) * x i) (R + 1) := by
    intro f
    unfold qR
    rw [show st + (R + 1) - st = R + 1 by omega]
    exact qS_congr fun i hi => by show f (st + i) * V (st + i) cx = _; rw [hc i (by omega)]
  -- a covector or coefficients that are 0 with x lose the pivot
  have lose : ∀ (f u : Nat → Int), qCo st (st + (R + 1)) f V u V2 → qS (fun i => f (st + i) * x i) (R + 1) = 0 → u st = 0 := by
    intro f u co h0
    have a := co.2 cx
    rw [ux, h0, hd, qR_0 (fun j j1 j2 => by rw [gz j (by omega) (by omega)]; simp), Int.add_zero] at a
    rcases Int.mul_eq_zero.mp a with k | k
    · exact k
    · exact absurd k p0
  refine ⟨⟨fun l hl => by omega, fun j _ _ i hi => by omega, ?_, ?_, fun l hl => by omega, fun l i _ hi => by omega⟩, ?_, fun l i hl => by omega, ?_, ?_⟩
  · intro j j1 j2
    rw [← lk j (by omega) (by omega)]; exact gz j (by omega) (by omega)
  · intro w w1 _
    obtain ⟨u, co⟩ := qGath_cv g (fun j => w (j - st))
    have l0 := lose _ u co (by rw [← w1]; unfold qDot; exact qS_congr fun i _ => by show w (st + i - st) * x i = _; rw [Nat.add_sub_cancel_left])
    refine ⟨u, fun i hi => ?_⟩
    have a := co.2 (16 + i)
    rw [us _ i hi, hd, l0, Nat.add_sub_cancel_left] at a
    rw [← a]; simp
  · intro j j1 j2 i hi
    have hp := q0_pr hU hc hX (show i ≤ R by omega)
    have a := (qGath_a (W := 1) g hp (fun k k1 k2 => by
      obtain ⟨b, rfl⟩ := Nat.exists_eq_add_of_le k1
      rw [hU b i (by omega) (by omega)]; split <;> simp)).1 j (by omega) (by omega)
    have e : 2 * qXt R = qEt R 0 := by
      have : R = 1 ∨ R = 2 ∨ R = 3 ∨ R = 4 ∨ R = 5 := by omega
      rcases this with rfl | rfl | rfl | rfl | rfl <;> rfl
    omega
  · intro r1 _
    have tt : ∀ m, m < R → ∃ u, qCo st (st + (R + 1)) (fun j => (if j - st = m then x R else 0) + (if j - st = R then -x m else 0)) V u V2 ∧ ∀ j, st < j → j < st + (R + 1) → (u j).natAbs ≤ qBt R 0 m := by
      intro m hm
      have hb : ∀ j, st ≤ j → j < st + (R + 1) → ((if j - st = m then x R else 0) + (if j - st = R then -x m else 0) : Int).natAbs ≤ qXt R := by
        intro j j1 j2
        have := hX R (Nat.le_refl _)
        have := hX m (by omega)
        by_cases e1 : j - st = m <;> by_cases e2 : j - st = R
        · omega
        · rw [if_pos e1, if_neg e2]; omega
        · rw [if_neg e1, if_pos e2]; omega
        · rw [if_neg e1, if_neg e2]; simp
      have hxv : ∀ j, st ≤ j → j < st + (R + 1) → (V j cx).natAbs ≤ qXt R := by
        intro j j1 j2
        obtain ⟨b, rfl⟩ := Nat.exists_eq_add_of_le j1
        rw [hc b (by omega)]; exact hX b (by omega)
      have z0 : qR (fun j => ((if j - st = m then x R else 0) + (if j - st = R then -x m else 0)) * V j cx) st (st + (R + 1)) = 0 := by
        rw [ux (fun j => (if j - st = m then x R else 0) + (if j - st = R then -x m else 0))]
        have : qS (fun i => ((if st + i - st = m then x R else 0) + (if st + i - st = R then -x m else 0)) * x i) (R + 1) = qS (fun i => (if i = m then x R else 0) * x i + (if i = R then -x m else 0) * x i) (R + 1) := qS_congr fun i _ => by rw [Nat.add_sub_cancel_left, Int.add_mul]
        rw [this, qS_add, qS_unit _ (by omega), qS_unit _ (by omega)]; grind
      have cs : R = 3 ∨ R = 4 ∨ R = 5 := by omega
      by_cases e5 : R = 5
      · have S := qMass_le (f := st) (m := st + (R + 1)) (c := cx) hxv hb
        -- only two of them count
        have S2 : qR (fun j => qab (V j cx) * qab ((if j - st = m then x R else 0) + (if j - st = R then -x m else 0))) st (st + (R + 1)) ≤ ((2 * (qXt R * qXt R) : Nat) : Int) := by
          unfold qR
          rw [show st + (R + 1) - st = R + 1 by omega]
          have le : qS (fun i => qab (V (st + i) cx) * qab ((if st + i - st = m then x R else 0) + (if st + i - st = R then -x m else 0))) (R + 1) ≤ qS (fun i => (if i = m then qab (x R) else 0) * qab (x i) + (if i = R then qab (x m) else 0) * qab (x i)) (R + 1) := by
            refine qS_le fun i hi => ?_
            rw [Nat.add_sub_cancel_left, hc i (by omega), ← Int.add_mul, Int.mul_comm]
            refine Int.mul_le_mul_of_nonneg_right ?_ (qab_nn _)
            by_cases e1 : i = m <;> by_cases e2 : i = R
            · omega
            · rw [if_pos e1, if_neg e2, if_pos e1, if_neg e2]; simp
            · rw [if_neg e1, if_pos e2, if_neg e1, if_pos e2]; unfold qab; omega
            · rw [if_neg e1, if_neg e2, if_neg e1, if_neg e2]; simp [qab]
          rw [qS_add, qS_unit _ (by omega), qS_unit _ (by omega)] at le
          refine Int.le_trans le ?_
          rw [← qab_mul, ← qab_mul]
          have a := q_abs_mul_le (hX R (Nat.le_refl _)) (hX m (by omega))
          have b := q_abs_mul_le (hX m (by omega)) (hX R (Nat.le_refl _))
          unfold qab; omega
        obtain ⟨u, co, b⟩ := qGath_mj (B := qXt R) g hb S2
        refine ⟨u, co, fun j j1 j2 => ?_⟩
        have := b j j1 j2
        subst e5
        have n1 : qXt 5 ≤ qBt 5 0 m ∧ 3 * (2 * (qXt 5 * qXt 5)) ≤ qBt 5 0 m := by
          have : ∀ m, m < 5 → qXt 5 ≤ qBt 5 0 m ∧ 3 * (2 * (qXt 5 * qXt 5)) ≤ qBt 5 0 m := by decide +kernel
          exact this m hm
        omega
      · obtain ⟨u, co, b⟩ := qGath_co (B := qXt R) (X := qXt R) g z0 hxv hb (by omega)
        refine ⟨u, co, fun j j1 j2 => q_cube_le (b j (by omega) j2) ?_⟩
        have n1 : ∀ m, m < R → (2 * (R * qXt R)) ^ 3 * qXt R ^ 2 < (2 * (qBt R 0 m + 1)) ^ 3 := by
          have : R = 3 ∨ R = 4 := by omega
          rcases this with rfl | rfl <;> decide +kernel
        rw [show st + (R + 1) - st - 1 = R by omega]
        exact n1 m hm
    have hch : ∀ m, ∃ u : Nat → Int, m < R → qCo st (st + (R + 1)) (fun j => (if j - st = m then x R else 0) + (if j - st = R then -x m else 0)) V u V2 ∧ ∀ j, st < j → j < st + (R + 1) → (u j).natAbs ≤ qBt R 0 m := by
      intro m
      by_cases hm : m < R
      · obtain ⟨u, hu⟩ := tt m hm; exact ⟨u, fun _ => hu⟩
      · exact ⟨fun _ => 0, fun k => absurd k hm⟩
    refine ⟨fun m => (hch m).choose, fun m hm l hl => ?_, fun m j hm j1 j2 => ((hch m).choose_spec hm).2 j (by omega) (by omega)⟩
    have co := ((hch m).choose_spec hm).1
    have l0 := lose _ _ co (by
      have : qS (fun i => ((if st + i - st = m then x R else 0) + (if st + i - st = R then -x m else 0)) * x i) (R + 1) = qS (fun i => (if i = m then x R else 0) * x i + (if i = R then -x m else 0) * x i) (R + 1) := qS_congr fun i _ => by rw [Nat.add_sub_cancel_left, Int.add_mul]
      rw [this, qS_add, qS_unit _ (by omega), qS_unit _ (by omega)]; grind)
    have a := co.2 (16 + l)
    rw [us (fun j => (if j - st = m then x R else 0) + (if j - st = R then -x m else 0)) l (by omega), hd, l0, Nat.add_sub_cancel_left, if_neg (by omega : ¬ l = R)] at a
    show qR (fun j => (hch m).choose j * V2 j (16 + l)) (st + 1) (st + 1 + R) = _
    rw [Int.zero_mul, Int.zero_add] at a
    rw [a]
    by_cases e : m = l
    · rw [if_pos e, if_pos e.symm]; omega
    · rw [if_neg e, if_neg (fun k => e k.symm)]; rfl
  · intro r4 _ i i1 i2
    have tr := qGath_tr (d := 16 + 0) (e := 16 + i) (X := qXt R) (D := qXt R) g (fun j j1 j2 => by
      obtain ⟨b, rfl⟩ := Nat.exists_eq_add_of_le j1
      rw [hc b (by omega)]; exact hX b (by omega)) (q0_tr hU hc hX (by omega) (by omega) (by omega))
    have num : (3 * qXt R) ^ 3 * qXt R ^ 2 < (qCt R + 1) ^ 3 := by
      have : R = 4 ∨ R = 5 := by omega
      rcases this with rfl | rfl <;> decide +kernel
    intro j k j1 j2 k1 k2
    have a := tr j k (by omega) (by omega) (by omega) (by omega)
    have b : (V2 j (16 + 0) * V2 k (16 + i) - V2 k (16 + 0) * V2 j (16 + i)).natAbs ≤ qCt R := by
      rcases Nat.lt_or_ge (qCt R) (V2 j (16 + 0) * V2 k (16 + i) - V2 k (16 + 0) * V2 j (16 + i)).natAbs with c | c
      · have := q_pow3_mono c
        exact absurd (Nat.lt_of_le_of_lt (Nat.le_trans this a) num) (Nat.lt_irrefl _)
      · exact c
    exact b
