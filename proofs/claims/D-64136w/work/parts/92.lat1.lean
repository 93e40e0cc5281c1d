/-! THE COMPONENT'S LATTICE: its cells, and what writes them -/
theorem vin {i N m : Nat} (hN : N = m) (h : i < m) (hm : m < 2147483648) : vp_in (Int32.ofNat i) N := by
  rw [hN, i_in (by omega)]; exact h
/-- columns d j (arrays of D), all apart; n of them hold V -/
def xLd (D : Nat → Prop) (h : Hp) (a0 o e n : Nat) (d : Nat → Nat) (V : Nat → Nat → Int) : Prop :=
  (hok h a0 4 ∧ hR h a0 0 = some o ∧ hok h o 25 ∧ hN h o = 6 ∧ hR h a0 1 = some e ∧ hok h e 23 ∧ hN h e = 4 ∧ hI h a0 2 = Int32.ofNat n ∧ n ≤ 6) ∧
  (∀ j, j < 6 → hO h o (Int32.ofNat j) = some (d j) ∧ hok h (d j) 23 ∧ hN h (d j) = 10 ∧ D (d j)) ∧ ¬ D e ∧ (∀ i j, i < 6 → j < 6 → d i = d j → i = j) ∧
  ∀ j c, j < n → c < 10 → hJ h (d j) (Int32.ofNat c) = Int64.ofInt (V j c)
def xL (D : Nat → Prop) (h : Hp) (a0 o e n : Nat) (V : Nat → Nat → Int) : Prop := ∃ d, xLd D h a0 o e n d V
/-- nothing but columns, and their order, has changed -/
def xG (D : Nat → Prop) (o : Nat) (h h2 : Hp) : Prop :=
  h2.1 = h.1 ∧ h2.2.1 = h.2.1 ∧ h2.2.2.1 = h.2.2.1 ∧ h2.2.2.2.1 = h.2.2.2.1 ∧ h2.2.2.2.2.1 = h.2.2.2.2.1 ∧ h2.2.2.2.2.2.1 = h.2.2.2.2.2.1 ∧ (∀ a, ¬ D a → h2.2.2.2.2.2.2.1 a = h.2.2.2.2.2.2.1 a) ∧ ∀ a, a ≠ o → h2.2.2.2.2.2.2.2 a = h.2.2.2.2.2.2.2 a
theorem xG_refl {D : Nat → Prop} {o : Nat} (h : Hp) : xG D o h h := ⟨rfl, rfl, rfl, rfl, rfl, rfl, fun _ _ => rfl, fun _ _ => rfl⟩
theorem xG_trans {D : Nat → Prop} {o : Nat} {h h2 h3 : Hp} (f : xG D o h h2) (g : xG D o h2 h3) : xG D o h h3 := by
  obtain ⟨a1, a2, a3, a4, a5, a6, a7, a8⟩ := f
  obtain ⟨b1, b2, b3, b4, b5, b6, b7, b8⟩ := g
  exact ⟨b1.trans a1, b2.trans a2, b3.trans a3, b4.trans a4, b5.trans a5, b6.trans a6, fun a ha => (b7 a ha).trans (a7 a ha), fun a ha => (b8 a ha).trans (a8 a ha)⟩
theorem hok_G {D : Nat → Prop} {o : Nat} {h h2 : Hp} (f : xG D o h h2) (a k : Nat) : hok h2 a k ↔ hok h a k := by unfold hok; rw [f.1, f.2.1]
theorem hN_G {D : Nat → Prop} {o : Nat} {h h2 : Hp} (f : xG D o h h2) (a : Nat) : hN h2 a = hN h a := by unfold hN; rw [f.2.2.1]
theorem hI_G {D : Nat → Prop} {o : Nat} {h h2 : Hp} (f : xG D o h h2) (a k : Nat) : hI h2 a k = hI h a k := by unfold hI; rw [f.2.2.2.1]
theorem hR_G {D : Nat → Prop} {o : Nat} {h h2 : Hp} (f : xG D o h h2) (a k : Nat) : hR h2 a k = hR h a k := by unfold hR; rw [f.2.2.2.2.1]
theorem hA_G {D : Nat → Prop} {o : Nat} {h h2 : Hp} (f : xG D o h h2) (a : Nat) (i : Int32) : hA h2 a i = hA h a i := by unfold hA; rw [f.2.2.2.2.2.1]
theorem hJ_G {D : Nat → Prop} {o : Nat} {h h2 : Hp} (f : xG D o h h2) {a : Nat} (ha : ¬ D a) (i : Int32) : hJ h2 a i = hJ h a i := by unfold hJ; rw [f.2.2.2.2.2.2.1 a ha]
theorem xG_uJ {D : Nat → Prop} {o : Nat} (h : Hp) {a : Nat} (ha : D a) (i : Int32) (x : Int64) : xG D o h (uJ h a i x) := by
  refine ⟨rfl, rfl, rfl, rfl, rfl, rfl, fun b hb => ?_, fun _ _ => rfl⟩
  have : b ≠ a := fun e => hb (e ▸ ha)
  simp [uJ, uJf, va_up, this]
theorem xG_uO {D : Nat → Prop} {o : Nat} (h : Hp) (i : Int32) (x : Option Nat) : xG D o h (uO h o i x) := by
  refine ⟨rfl, rfl, rfl, rfl, rfl, rfl, fun _ _ => rfl, fun b hb => ?_⟩
  simp [uO, uOf, va_up, hb]
theorem xLd_congr {D : Nat → Prop} {h : Hp} {a0 o e n : Nat} {d : Nat → Nat} {V U : Nat → Nat → Int} (L : xLd D h a0 o e n d V) (hU : ∀ j c, j < n → c < 10 → U j c = V j c) : xLd D h a0 o e n d U :=
  ⟨L.1, L.2.1, L.2.2.1, L.2.2.2.1, fun j c hj hc => by rw [hU j c hj hc]; exact L.2.2.2.2 j c hj hc⟩
theorem xLd_J {D : Nat → Prop} {h : Hp} {a0 o e n : Nat} {d : Nat → Nat} {V : Nat → Nat → Int} (L : xLd D h a0 o e n d V) {i c : Nat} {x : Int} (hi : i < n) (hc : c < 10) : xLd D (uJ h (d i) (Int32.ofNat c) (Int64.ofInt x)) a0 o e n d (fun j c' => if j = i ∧ c' = c then x else V j c') := by
  obtain ⟨⟨l1, l2, l3, l4, l5, l6, l7, l8, l9⟩, m, de, inj, cells⟩ := L
  refine ⟨⟨l1, l2, l3, l4, l5, l6, l7, l8, l9⟩, m, de, inj, fun j c' hj hc' => ?_⟩
  rw [hJ_uJ, i_cl (by omega), i_cl (by omega)]
  show _ = Int64.ofInt (if j = i ∧ c' = c then x else V j c')
  by_cases w : j = i ∧ c' = c
  · rw [if_pos w, if_pos ⟨by rw [w.1], w.2⟩]
  · rw [if_neg w, if_neg (fun z => w ⟨inj j i (by omega) (by omega) z.1, z.2⟩)]; exact cells j c' hj hc'
theorem sp_X5_add_3 {ev : Nat → Nat} {D : Nat → Prop} {a0 o e n i j : Nat} {d : Nat → Nat} {V : Nat → Nat → Int} {m : Int} {Q : Hp → Prop} {h0 : Hp} (hi : i < n) (hj : j < n) (hij : i ≠ j) (q : ∀ h2, xG D o h0 h2 → xLd D h2 a0 o e n d (qSub j (-m) i V) → Q h2) : ∀ (t c : Nat) (h : Hp), c + t = 10 → xG D o h0 h → xLd D h a0 o e n d (fun j' c' => if j' = i ∧ c' < c then V j' c' + m * V j c' else V j' c') → wp_X5_add_3 ev Q (t + 1) a0 (Int32.ofNat i) (Int32.ofNat j) (Int64.ofInt m) (Int32.ofNat c) h := by
  intro t
  have ten : (10 : Int32) = Int32.ofNat 10 := rfl
  induction t with
  | zero =>
    intro c h hc f L
    unfold wp_X5_add_3
    rw [ten, i_le (by omega) (by omega)]
    refine ⟨fun _ => q h f (xLd_congr L fun j' c' hj' hc' => ?_), fun z => absurd (by omega) z⟩
    unfold qSub
    by_cases w : j' = i
    · rw [if_pos w, if_pos ⟨w, by omega⟩, w]; grind
    · rw [if_neg w, if_neg (fun z => w z.1)]
  | succ t ih =>
    intro c h hc f L
    have L0 := L
    obtain ⟨⟨l1, l2, l3, l4, l5, l6, l7, l8, l9⟩, mm, de, inj, cells⟩ := L
    obtain ⟨o1, o2, o3, o4⟩ := mm i (by omega)
    obtain ⟨p1, p2, p3, p4⟩ := mm j (by omega)
    unfold wp_X5_add_3
    rw [ten, i_le (by omega) (by omega)]
    refine ⟨fun z => by omega, fun _ => ⟨l1, o, l2, l3, vin l4 (by omega) (by omega), d i, o1, o2, vin o3 (by omega) (by omega), l1, o, l2, l3, vin l4 (by omega) (by omega), d j, p1, p2, vin p3 (by omega) (by omega), o2, vin o3 (by omega) (by omega), fun h15 e15 x18 e18 => ?_⟩⟩
    subst e18
    rw [i_one]
    rw [cells i c hi (by omega), cells j c hj (by omega), l_mul, l_add] at e15
    subst e15
    refine ih (c + 1) _ (by omega) (xG_trans f (xG_uJ h o4 _ _)) (xLd_congr (xLd_J L0 hi (show c < 10 by omega)) fun j' c' hj' hc' => ?_)
    show (if j' = i ∧ c' < c + 1 then V j' c' + m * V j c' else V j' c') = if j' = i ∧ c' = c then _ else if j' = i ∧ c' < c then V j' c' + m * V j c' else V j' c'
    by_cases w : j' = i
    · by_cases z : c' = c
      · rw [if_pos ⟨w, by omega⟩, if_pos ⟨w, z⟩]
        show _ = (if i = i ∧ c < c then V i c + m * V j c else V i c) + m * (if j = i ∧ c < c then V j c + m * V j c else V j c)
        rw [if_neg (by omega), if_neg (by omega), w, z]
      · rw [if_neg (show ¬ (j' = i ∧ c' = c) from fun y => z y.2)]
        by_cases y : c' < c
        · rw [if_pos ⟨w, by omega⟩, if_pos ⟨w, y⟩]
        · rw [if_neg (by omega), if_neg (by omega)]
    · rw [if_neg (fun y => w y.1), if_neg (fun y => w y.1), if_neg (fun y => w y.1)]
theorem sp_X5_add {ev : Nat → Nat} {D : Nat → Prop} {a0 o e n i j : Nat} {V : Nat → Nat → Int} {m : Int} {Q : Hp → Prop} {h : Hp} (hi : i < n) (hj : j < n) (hij : i ≠ j) (L : xL D h a0 o e n V) (q : ∀ h2, xG D o h h2 → xL D h2 a0 o e n (qSub j (-m) i V) → Q h2) : wp_X5_add ev h a0 (Int32.ofNat i) (Int32.ofNat j) (Int64.ofInt m) Q := by
  obtain ⟨d, L⟩ := L
  exact ⟨11, sp_X5_add_3 hi hj hij (fun h2 f L2 => q h2 f ⟨d, L2⟩) 10 0 h rfl (xG_refl h) (xLd_congr L fun j' c' _ _ => if_neg (by omega))⟩
theorem sp_X5_turn_2 {ev : Nat → Nat} {D : Nat → Prop} {a0 o e n i : Nat} {d : Nat → Nat} {V : Nat → Nat → Int} {Q : Hp → Prop} {h0 : Hp} (hi : i < n) (q : ∀ h2, xG D o h0 h2 → xLd D h2 a0 o e n d (qNeg i V) → Q h2) : ∀ (t c : Nat) (h : Hp), c + t = 10 → xG D o h0 h → xLd D h a0 o e n d (fun j' c' => if j' = i ∧ c' < c then -V j' c' else V j' c') → wp_X5_turn_2 ev Q (t + 1) a0 (Int32.ofNat i) (Int32.ofNat c) h := by
  intro t
  have ten : (10 : Int32) = Int32.ofNat 10 := rfl
  induction t with
  | zero =>
    intro c h hc f L
    unfold wp_X5_turn_2
    rw [ten, i_le (by omega) (by omega)]
    refine ⟨fun _ => q h f (xLd_congr L fun j' c' hj' hc' => ?_), fun z => absurd (by omega) z⟩
    unfold qNeg
    by_cases w : j' = i
    · rw [if_pos w, if_pos ⟨w, by omega⟩]
    · rw [if_neg w, if_neg (fun z => w z.1)]
  | succ t ih =>
    intro c h hc f L
    have L0 := L
    obtain ⟨⟨l1, l2, l3, l4, l5, l6, l7, l8, l9⟩, mm, de, inj, cells⟩ := L
    obtain ⟨o1, o2, o3, o4⟩ := mm i (by omega)
    unfold wp_X5_turn_2
    rw [ten, i_le (by omega) (by omega)]
    refine ⟨fun z => by omega, fun _ => ⟨l1, o, l2, l3, vin l4 (by omega) (by omega), d i, o1, l1, o, l2, l3, vin l4 (by omega) (by omega), d i, o1, o2, vin o3 (by omega) (by omega), o2, vin o3 (by omega) (by omega), fun h13 e13 x16 e16 => ?_⟩⟩
    subst e16
    rw [i_one]
    rw [cells i c hi (by omega), l_neg] at e13
    subst e13
    refine ih (c + 1) _ (by omega) (xG_trans f (xG_uJ h o4 _ _)) (xLd_congr (xLd_J L0 hi (show c < 10 by omega)) fun j' c' hj' hc' => ?_)
    show (if j' = i ∧ c' < c + 1 then -V j' c' else V j' c') = if j' = i ∧ c' = c then _ else if j' = i ∧ c' < c then -V j' c' else V j' c'
    by_cases w : j' = i
    · by_cases z : c' = c
      · rw [if_pos ⟨w, by omega⟩, if_pos ⟨w, z⟩]
        show _ = -(if i = i ∧ c < c then -V i c else V i c)
        rw [if_neg (by omega), w, z]
      · rw [if_neg (show ¬ (j' = i ∧ c' = c) from fun y => z y.2)]
        by_cases y : c' < c
        · rw [if_pos ⟨w, by omega⟩, if_pos ⟨w, y⟩]
        · rw [if_neg (by omega), if_neg (by omega)]
    · rw [if_neg (fun y => w y.1), if_neg (fun y => w y.1), if_neg (fun y => w y.1)]
theorem sp_X5_turn {ev : Nat → Nat} {D : Nat → Prop} {a0 o e n i : Nat} {V : Nat → Nat → Int} {Q : Hp → Prop} {h : Hp} (hi : i < n) (L : xL D h a0 o e n V) (q : ∀ h2, xG D o h h2 → xL D h2 a0 o e n (qNeg i V) → Q h2) : wp_X5_turn ev h a0 (Int32.ofNat i) Q := by
  obtain ⟨d, L⟩ := L
  exact ⟨11, sp_X5_turn_2 hi (fun h2 f L2 => q h2 f ⟨d, L2⟩) 10 0 h rfl (xG_refl h) (xLd_congr L fun j' c' _ _ => if_neg (by omega))⟩
theorem sp_X5_exchange {ev : Nat → Nat} {D : Nat → Prop} {a0 o e n i j : Nat} {V : Nat → Nat → Int} {Q : Hp → Prop} {h : Hp} (hi : i < n) (hj : j < n) (L : xL D h a0 o e n V) (q : ∀ h2, xG D o h h2 → xL D h2 a0 o e n (qEx i j V) → Q h2) : wp_X5_exchange ev h a0 (Int32.ofNat i) (Int32.ofNat j) Q := by
  obtain ⟨d, L⟩ := L
  obtain ⟨⟨l1, l2, l3, l4, l5, l6, l7, l8, l9⟩, mm, de, inj, cells⟩ := L
  obtain ⟨o1, o2, o3, o4⟩ := mm i (by omega)
  obtain ⟨p1, p2, p3, p4⟩ := mm j (by omega)
  unfold wp_X5_exchange
  refine ⟨l1, o, l2, l3, vin l4 (by omega) (by omega), d i, o1, l1, o, l2, l1, o, l2, l3, vin l4 (by omega) (by omega), d j, p1, l3, p2, vin l4 (by omega) (by omega), fun h13 e13 => ?_⟩
  subst e13
  refine ⟨l1, o, l2, l3, o2, vin l4 (by omega) (by omega), fun h19 e19 => ?_⟩
  subst e19
  refine q _ (xG_trans (xG_uO h _ _) (xG_uO _ _ _)) ⟨fun x => d (qw i j x), ⟨l1, l2, l3, l4, l5, l6, l7, l8, l9⟩, fun x hx => ?_, de, fun x y hx hy hxy => ?_, fun x c hx hc => ?_⟩
  · have rg : qw i j x < 6 := by unfold qw; (repeat' split) <;> omega
    refine ⟨?_, (mm _ rg).2.1, (mm _ rg).2.2.1, (mm _ rg).2.2.2⟩
    rw [hO_uO, hO_uO, i_cl (by omega), i_cl (by omega), i_cl (by omega)]
    show _ = some (d (qw i j x))
    unfold qw
    by_cases w : x = j
    · rw [if_pos ⟨rfl, w⟩]
      by_cases z : x = i
      · rw [if_pos z, ← w, z]
      · rw [if_neg z, if_pos w]
    · rw [if_neg (fun y => w y.2)]
      by_cases z : x = i
      · rw [if_pos ⟨rfl, z⟩, if_pos z]
      · rw [if_neg (fun y => z y.2), if_neg z, if_neg w]; exact (mm x hx).1
  · have rx : qw i j x < 6 := by unfold qw; (repeat' split) <;> omega
    have ry : qw i j y < 6 := by unfold qw; (repeat' split) <;> omega
    have := inj _ _ rx ry hxy
    have := congrArg (qw i j) this
    rwa [qw_qw, qw_qw] at this
  · have rg : qw i j x < n := by unfold qw; (repeat' split) <;> omega
    exact cells _ c rg hc
/-- what is no step of its own -/
theorem sp_J7_abs_2 {ev : Nat → Nat} {h : Hp} {z : Int} {Q : Int64 → Hp → Prop} (hz : z.natAbs < 2 ^ 63) (q : Q (Int64.ofInt z.natAbs) h) : wp_J7_abs_2 ev h (Int64.ofInt z) Q := by
  have z0 : (0 : Int64) = Int64.ofInt 0 := rfl
  unfold wp_J7_abs_2 wp_J7_abs_2_12
  rw [lg_cmp_ge, z0, l_le (by decide) hz, l_neg]
  refine ⟨fun h => ?_, fun h => ?_⟩
  · rwa [show ((z.natAbs : Nat) : Int) = z by omega] at q
  · rwa [show ((z.natAbs : Nat) : Int) = -z by omega] at q
theorem sp_J7_floorDiv {ev : Nat → Nat} {h : Hp} {x y : Int} {Q : Int64 → Hp → Prop} (hx : x.natAbs < 2 ^ 63) (hy : y.natAbs < 2 ^ 63) (y0 : 0 < y) (q : Q (Int64.ofInt (x / y)) h) : wp_J7_floorDiv ev h (Int64.ofInt x) (Int64.ofInt y) Q := by
  have z0 : (0 : Int64) = Int64.ofInt 0 := rfl
  unfold wp_J7_floorDiv wp_J7_floorDiv_27
  refine ⟨fun h => ?_, fun y2 e2 => ?_⟩
  · rw [z0, l_eq hy (by decide)] at h; omega
  rw [l_div hx hy] at e2
  subst e2
  have sgn : 0 ≤ lg_cmp (Int64.ofInt x ^^^ Int64.ofInt y) 0 ↔ 0 ≤ x := by
    rw [lg_cmp_ge, z0, Int64.le_iff_toInt_le]
    have hn : ∀ a : Int64, (Int64.ofInt 0).toInt ≤ a.toInt ↔ a.toBitVec.msb = false := by
      intro a
      have e0 : (Int64.ofInt 0).toInt = 0 := by decide
      rw [e0]
      show 0 ≤ a.toBitVec.toInt ↔ _
      rw [BitVec.msb_eq_toInt]
      rw [decide_eq_false_iff_not]
      omega
    rw [hn]
    have hxx := hn (Int64.ofInt x)
    have hyy := hn (Int64.ofInt y)
    have e0 : (Int64.ofInt 0).toInt = 0 := by decide
    rw [l_int hx, e0] at hxx
    rw [l_int hy, e0] at hyy
    rw [Int64.toBitVec_xor, BitVec.msb_xor]
    have : (Int64.ofInt y).toBitVec.msb = false := hyy.mp (by omega)
    rw [this, Bool.xor_false, hxx]
  rw [sgn]
  have dm := Int.emod_add_mul_ediv x y
  have m0 := Int.emod_nonneg x (show y ≠ 0 by omega)
  have m1 := Int.emod_lt_of_pos x y0
  refine ⟨fun h => ?_, fun hneg => ?_⟩
  · rw [Int.tdiv_eq_ediv_of_nonneg h]; exact q
  · rw [lg_cmp_eq, l_mul]
    have td := Int.tmod_add_mul_tdiv x y
    have tb : (x.tdiv y * y).natAbs < 2 ^ 63 := by
      have : (x.tdiv y * y).natAbs ≤ x.natAbs := by
        rw [Int.natAbs_mul, Int.natAbs_tdiv]; exact Nat.div_mul_le_self _ _
      omega
    rw [l_eq tb hx]
    have tm : (x.tmod y).natAbs < y.natAbs := by rw [Int.natAbs_tmod]; exact Nat.mod_lt _ (by omega)
    have tn : x.tmod y ≤ 0 := by
      have := Int.tmod_nonneg y (a := -x) (by omega)
      rw [Int.neg_tmod] at this; omega
    refine ⟨fun h => ?_, fun h => ?_⟩
    · have : x / y = x.tdiv y := Int.ediv_eq_of_eq_mul_left (by omega) (by omega)
      rw [← this]; exact q
    · have l1 : (1 : Int64) = Int64.ofInt 1 := rfl
      rw [l1, l_sub]
      have : x / y = x.tdiv y - 1 := by
        generalize x.tdiv y = t at *
        generalize x / y = u at *
        have c1 : x.tmod y < 0 := by
          rcases Int.lt_or_eq_of_le tn with w | w
          · exact w
          · exfalso; rw [w] at td; exact h (by rw [Int.mul_comm]; omega)
        have k1 : y * u < y * t := by omega
        have k2 : y * (t - 2) < y * u := by rw [Int.mul_sub]; omega
        have := Int.lt_of_mul_lt_mul_left k1 (by omega)
        have := Int.lt_of_mul_lt_mul_left k2 (by omega)
        omega
      rw [← this]; exact q
