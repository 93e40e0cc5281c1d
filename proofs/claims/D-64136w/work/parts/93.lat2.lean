/-! THE COMPONENT'S LATTICE: least, gather -/
def xBest (x : Nat → Int) (f i : Nat) (v : Int32) : Prop :=
  (v = -1 ∧ ∀ j, f ≤ j → j < i → x j = 0) ∨ ∃ p : Nat, f ≤ p ∧ p < i ∧ x p ≠ 0 ∧ v = Int32.ofNat p ∧ ∀ j, f ≤ j → j < i → x j ≠ 0 → (x p).natAbs ≤ (x j).natAbs
theorem sp_X5_least_5 {ev : Nat → Nat} {D : Nat → Prop} {a0 o e n f c : Nat} {V : Nat → Nat → Int} {Q : Int32 → Hp → Prop} {h : Hp} (L : xL D h a0 o e n V) (hc : c < 10) (hX : ∀ j, f ≤ j → j < n → (V j c).natAbs < 2 ^ 63) (q : ∀ v, xBest (fun j => V j c) f n v → Q v h) : ∀ (t i : Nat) (v : Int32), i + t = n → f ≤ i → xBest (fun j => V j c) f i v → wp_X5_least_5 ev Q (t + 1) a0 (Int32.ofNat c) v (Int32.ofNat i) h := by
  intro t
  obtain ⟨d, ⟨l1, l2, l3, l4, l5, l6, l7, l8, l9⟩, mm, de, inj, cells⟩ := L
  induction t with
  | zero =>
    intro i v hi fi hb
    have : i = n := by omega
    subst this
    unfold wp_X5_least_5
    rw [l8, i_le (by omega) (by omega)]
    exact ⟨l1, fun _ => q v hb, fun z => absurd (Nat.le_refl _) z⟩
  | succ t ih =>
    intro i v hi fi hb
    obtain ⟨o1, o2, o3, o4⟩ := mm i (by omega)
    have z0 : (0 : Int64) = Int64.ofInt 0 := rfl
    have ci := cells i c (by omega) hc
    have xi := hX i fi (by omega)
    have keep : xBest (fun j => V j c) f (i + 1) v → wp_X5_least_76 ev Q (wp_X5_least_5 ev Q (t + 1)) a0 (Int32.ofNat c) v (Int32.ofNat i) h := by
      intro hb2
      unfold wp_X5_least_76 wp_X5_least_77
      intro x1 e1
      subst e1
      rw [i_one]
      exact ih (i + 1) v (by omega) (by omega) hb2
    have fresh : xBest (fun j => V j c) f (i + 1) (Int32.ofNat i) → wp_X5_least_77 ev Q (wp_X5_least_5 ev Q (t + 1)) a0 (Int32.ofNat c) (Int32.ofNat i) (Int32.ofNat i) h := by
      intro hb2
      unfold wp_X5_least_77
      intro x1 e1
      subst e1
      rw [i_one]
      exact ih (i + 1) _ (by omega) (by omega) hb2
    have zero : V i c = 0 → xBest (fun j => V j c) f (i + 1) v := by
      intro h0
      rcases hb with ⟨e, hz⟩ | ⟨p, p1, p2, p3, e, hm⟩
      · exact .inl ⟨e, fun j j1 j2 => by
          by_cases w : j = i
          · rw [w]; exact h0
          · exact hz j j1 (by omega)⟩
      · exact .inr ⟨p, p1, by omega, p3, e, fun j j1 j2 j3 => by
          by_cases w : j = i
          · rw [w] at j3; exact absurd h0 j3
          · exact hm j j1 (by omega) j3⟩
    have f50 : ∀ u : Int32, (u = 0 → V i c ≠ 0 → xBest (fun j => V j c) f (i + 1) v) → (u ≠ 0 → V i c ≠ 0 → xBest (fun j => V j c) f (i + 1) (Int32.ofNat i)) → wp_X5_least_50 ev Q (wp_X5_least_5 ev Q (t + 1)) a0 (Int32.ofNat c) v (Int32.ofNat i) u h := by
      intro u k1 k2
      unfold wp_X5_least_50
      refine ⟨l1, o, l2, l3, vin l4 (by omega) (by omega), d i, o1, o2, vin o3 (by omega) (by omega), ?_, ?_⟩
      · rw [lg_cmp_eq, ci, z0, l_eq xi (by decide)]
        exact fun h0 => keep (zero h0)
      · rw [lg_cmp_eq, ci, z0, l_eq xi (by decide)]
        exact fun h0 => ⟨fun u0 => keep (k1 u0 h0), fun u0 => fresh (k2 u0 h0)⟩
    unfold wp_X5_least_5
    rw [l8, i_le (by omega) (by omega)]
    refine ⟨l1, fun z => by omega, fun _ => ⟨fun hv => ?_, fun hv => ?_⟩⟩
    · unfold wp_X5_least_45
      refine f50 1 (fun h => absurd h (by decide)) fun _ h0 => ?_
      rcases hb with ⟨e, hz⟩ | ⟨p, p1, p2, p3, e, hm⟩
      · exact .inr ⟨i, fi, by omega, h0, rfl, fun j j1 j2 j3 => by
          by_cases w : j = i
          · rw [w]; exact Nat.le_refl _
          · exact absurd (hz j j1 (by omega)) j3⟩
      · subst e
        rw [i_0, i_lt (by omega) (by omega)] at hv; omega
    · rcases hb with ⟨e, hz⟩ | ⟨p, p1, p2, p3, e, hm⟩
      · subst e; exact absurd (show (-1 : Int32) < 0 by decide) hv
      · subst e
        obtain ⟨r1, r2, r3, r4⟩ := mm p (by omega)
        have cp := cells p c (by omega) hc
        have xp := hX p p1 (by omega)
        refine ⟨l1, o, l2, l3, vin l4 (by omega) (by omega), d i, o1, o2, vin o3 (by omega) (by omega), ?_⟩
        rw [ci]
        refine sp_J7_abs_2 xi ⟨l1, o, l2, l3, vin l4 (by omega) (by omega), d p, r1, r2, vin r3 (by omega) (by omega), ?_⟩
        rw [cp]
        refine sp_J7_abs_2 xp ?_
        rw [lg_cmp_ge, l_le (by omega) (by omega)]
        refine ⟨fun hle => f50 0 (fun _ h0 => ?_) fun h => absurd rfl h, fun hlt => ?_⟩
        · exact .inr ⟨p, p1, by omega, p3, rfl, fun j j1 j2 j3 => by
            by_cases w : j = i
            · rw [w]; show (V p c).natAbs ≤ (V i c).natAbs; omega
            · exact hm j j1 (by omega) j3⟩
        · unfold wp_X5_least_45
          refine f50 1 (fun h => absurd h (by decide)) fun _ h0 => ?_
          exact .inr ⟨i, fi, by omega, h0, rfl, fun j j1 j2 j3 => by
            by_cases w : j = i
            · rw [w]; exact Nat.le_refl _
            · have := hm j j1 (by omega) j3
              show (V i c).natAbs ≤ (V j c).natAbs
              have : (V p c).natAbs ≤ (V j c).natAbs := this
              omega⟩
theorem sp_X5_least {ev : Nat → Nat} {D : Nat → Prop} {a0 o e n f c : Nat} {V : Nat → Nat → Int} {Q : Int32 → Hp → Prop} {h : Hp} (L : xL D h a0 o e n V) (hf : f ≤ n) (hc : c < 10) (hX : ∀ j, f ≤ j → j < n → (V j c).natAbs < 2 ^ 63) (q0 : (∀ j, f ≤ j → j < n → V j c = 0) → Q (-1) h) (q1 : ∀ p : Nat, f ≤ p → p < n → V p c ≠ 0 → (∀ j, f ≤ j → j < n → V j c ≠ 0 → (V p c).natAbs ≤ (V j c).natAbs) → Q (Int32.ofNat p) h) : wp_X5_least ev h a0 (Int32.ofNat f) (Int32.ofNat c) Q := by
  refine ⟨(n - f) + 1, sp_X5_least_5 L hc hX (fun v hb => ?_) (n - f) f (-1) (by omega) (Nat.le_refl _) (.inl ⟨rfl, fun j j1 j2 => by omega⟩)⟩
  rcases hb with ⟨e, hz⟩ | ⟨p, p1, p2, p3, e, hm⟩
  · subst e; exact q0 hz
  · subst e; exact q1 p p1 p2 p3 hm
theorem xL_n {D : Nat → Prop} {h : Hp} {a0 o e n : Nat} {V : Nat → Nat → Int} (L : xL D h a0 o e n V) : n ≤ 6 ∧ hok h a0 4 ∧ hI h a0 2 = Int32.ofNat n := by
  obtain ⟨d, ⟨l1, l2, l3, l4, l5, l6, l7, l8, l9⟩, _⟩ := L; exact ⟨l9, l1, l8⟩
/-- the cell of a column -/
theorem xL_cell {D : Nat → Prop} {h : Hp} {a0 o e n j c : Nat} {V : Nat → Nat → Int} (L : xL D h a0 o e n V) (hj : j < n) (hc : c < 10) : hok h a0 4 ∧ hR h a0 0 = some o ∧ hok h o 25 ∧ vp_in (Int32.ofNat j) (hN h o) ∧ ∃ b, hO h o (Int32.ofNat j) = some b ∧ hok h b 23 ∧ vp_in (Int32.ofNat c) (hN h b) ∧ hJ h b (Int32.ofNat c) = Int64.ofInt (V j c) := by
  obtain ⟨d, ⟨l1, l2, l3, l4, l5, l6, l7, l8, l9⟩, mm, de, inj, cells⟩ := L
  obtain ⟨o1, o2, o3, o4⟩ := mm j (by omega)
  exact ⟨l1, l2, l3, vin l4 (by omega) (by omega), d j, o1, o2, vin o3 hc (by omega), cells j c hj hc⟩
def xQ (f c : Nat) (V : Nat → Nat → Int) : Nat → Int := fun j => V j c / V f c
theorem sp_X5_gather_40 {ev : Nat → Nat} {D : Nat → Prop} {a0 o e n f c : Nat} {V : Nat → Nat → Int} {Q : Int32 → Hp → Prop} {K7 : Nat → Int32 → Int32 → Int32 → Hp → Prop} {h0 : Hp} (hf : f < n) (hc : c < 10) (hp : 0 < V f c) (hX : ∀ j, f ≤ j → j < n → (V j c).natAbs < 2 ^ 63) (q0 : ∀ h2, xG D o h0 h2 → xL D h2 a0 o e n (qRV f n (xQ f c V) V) → (∀ j, f < j → j < n → qRV f n (xQ f c V) V j c = 0) → K7 a0 (Int32.ofNat f) (Int32.ofNat c) (-2) h2) (q1 : ∀ h2 p, xG D o h0 h2 → xL D h2 a0 o e n (qRV f n (xQ f c V) V) → f < p → p < n → qRV f n (xQ f c V) V p c ≠ 0 → (∀ j, f < j → j < n → qRV f n (xQ f c V) V j c ≠ 0 → (qRV f n (xQ f c V) V p c).natAbs ≤ (qRV f n (xQ f c V) V j c).natAbs) → K7 a0 (Int32.ofNat f) (Int32.ofNat c) (Int32.ofNat p) h2) : ∀ (t i : Nat) (h : Hp), i + t = n → f < i → xG D o h0 h → xL D h a0 o e n (qRV f i (xQ f c V) V) → wp_X5_gather_40 ev Q K7 (t + 1) a0 (Int32.ofNat f) (Int32.ofNat c) (Int32.ofNat i) h := by
  intro t
  induction t with
  | zero =>
    intro i h hi fi fr L
    have : i = n := by omega
    subst this
    obtain ⟨l9, l1, l8⟩ := xL_n L
    unfold wp_X5_gather_40
    rw [l8, i_le (by omega) (by omega)]
    refine ⟨l1, fun _ => ⟨l1, ?_⟩, fun z => absurd (Nat.le_refl _) z⟩
    rw [i_one]
    have hX2 : ∀ j, f + 1 ≤ j → j < i → (qRV f i (xQ f c V) V j c).natAbs < 2 ^ 63 := by
      intro j j1 j2
      have e : qRV f i (xQ f c V) V j c = V j c - V j c / V f c * V f c := by unfold qRV; rw [qRd_j (by omega) j2]; rfl
      rw [e]
      have a := q_floor (v := V j c) hp
      have b := hX f (Nat.le_refl _) hf
      omega
    refine sp_X5_least L hf hc hX2 (fun hz => ?_) fun p p1 p2 p3 hm => ?_
    · refine ⟨fun h => absurd h (by decide), fun _ => ?_⟩
      unfold wp_X5_gather_107
      exact q0 h fr L fun j j1 j2 => hz j (by omega) j2
    · refine ⟨fun _ => ⟨l1, ?_⟩, fun h => ?_⟩
      · refine sp_X5_least L hf hc hX2 (fun hz => absurd (hz p p1 p2) p3) fun p p1 p2 p3 hm => ?_
        unfold wp_X5_gather_107
        exact q1 h p fr L (by omega) p2 p3 fun j j1 j2 => hm j (by omega) j2
      · exact absurd (by rw [i_0, i_le (by omega) (by omega)]; omega) h
  | succ t ih =>
    intro i h hi fi fr L
    obtain ⟨l9, l1, l8⟩ := xL_n L
    obtain ⟨m1, m2, m3, m4, b1, m5, m6, m7, m8⟩ := xL_cell L (show i < n by omega) hc
    obtain ⟨r1, r2, r3, r4, b2, r5, r6, r7, r8⟩ := xL_cell L hf hc
    unfold wp_X5_gather_40
    rw [l8, i_le (by omega) (by omega)]
    refine ⟨l1, fun z => by omega, fun _ => ⟨l1, o, m2, m3, m4, b1, m5, m6, m7, l1, o, r2, r3, r4, b2, r5, r6, r7, ?_⟩⟩
    have e : qRV f i (xQ f c V) V f c = V f c := by unfold qRV; rw [qRd_f]
    have e2 : qRV f i (xQ f c V) V i c = V i c := by unfold qRV qRd; rw [if_neg (by omega)]
    rw [m8, r8, e, e2]
    refine sp_J7_floorDiv (hX i (by omega) (by omega)) (hX f (Nat.le_refl _) hf) hp ⟨l1, ?_⟩
    rw [l_neg]
    refine sp_X5_add (show i < n by omega) hf (by omega) L fun h2 f2 L2 x26 e26 => ?_
    subst e26
    rw [i_one]
    refine ih (i + 1) h2 (by omega) (by omega) (xG_trans fr f2) ?_
    have : V i c / V f c = xQ f c V i := rfl
    rw [Int.neg_neg, this, qRV_s (by omega)] at L2
    exact L2
theorem xQ_lt {n f c p : Nat} {s : Int} {V : Nat → Nat → Int} (hp1 : f ≤ p) (hp2 : p < n) (hs : s = 1 ∨ s = -1) (h0 : 0 < s * V p c) (hm : ∀ j, f ≤ j → j < n → V j c ≠ 0 → (V p c).natAbs ≤ (V j c).natAbs) {j : Nat} (j1 : f < j) (j2 : j < n) : 0 ≤ qRV f n (xQ f c (qSw f p s V)) (qSw f p s V) j c ∧ (qRV f n (xQ f c (qSw f p s V)) (qSw f p s V) j c).natAbs < (V p c).natAbs ∧ (0 ≤ qSw f p s V j c → qG (qRV f n (xQ f c (qSw f p s V)) (qSw f p s V) j c) (qSw f p s V j c)) := by
  have ef : qSw f p s V f c = s * V p c := by unfold qSw; rw [if_pos rfl]
  have en : (s * V p c).natAbs = (V p c).natAbs := by rcases hs with rfl | rfl <;> omega
  have e : qRV f n (xQ f c (qSw f p s V)) (qSw f p s V) j c = qSw f p s V j c - qSw f p s V j c / (s * V p c) * (s * V p c) := by
    unfold qRV; rw [qRd_j j1 j2]; unfold xQ; rw [ef]
  have fl := q_floor (v := qSw f p s V j c) h0
  have big : qSw f p s V j c ≠ 0 → (V p c).natAbs ≤ (qSw f p s V j c).natAbs := by
    intro hj
    have a := qSw_at (f := f) (p := p) (V := V) hs j c
    rw [a]
    have r := qw_rg (f := f) (p := p) (m := n) (by omega) (by omega) (Nat.le_of_lt j1) j2
    exact hm _ r.1 r.2 (by omega)
  rw [e]
  refine ⟨fl.1, by omega, fun hx => ⟨.inl ⟨hx, fl.1⟩, ?_⟩⟩
  by_cases z : qSw f p s V j c = 0
  · rw [z]; simp
  · have b := big z
    have d1 : 1 ≤ qSw f p s V j c / (s * V p c) := (Int.le_ediv_iff_mul_le h0).mpr (by omega)
    have := Int.mul_le_mul_of_nonneg_right d1 (Int.le_of_lt h0)
    omega
theorem qSw_1 {f p : Nat} {V : Nat → Nat → Int} : qSw f p 1 V = qEx f p V := by
  funext j d; unfold qSw qEx qw
  by_cases e : j = f
  · rw [if_pos e, if_pos e]; omega
  · rw [if_neg e]
theorem qSw_m1 {f p : Nat} {V : Nat → Nat → Int} : qSw f p (-1) V = qNeg f (qEx f p V) := by
  funext j d; unfold qSw qNeg qEx qw
  by_cases e : j = f
  · simp [e]
  · simp [e]
theorem sp_X5_gather_7 {ev : Nat → Nat} {D : Nat → Prop} {a0 o e n f c : Nat} {V0 : Nat → Nat → Int} {Q : Int32 → Hp → Prop} {h0 : Hp} (hf : f < n) (hc : c < 10) (q : ∀ h2 V2, xG D o h0 h2 → xL D h2 a0 o e n V2 → qGath f n c V0 V2 → 0 < V2 f c → Q 1 h2) : ∀ (N r p : Nat) (V : Nat → Nat → Int) (h : Hp), qRs r f n c V0 V → xG D o h0 h → xL D h a0 o e n V → (∀ j, f ≤ j → j < n → (V j c).natAbs < 2 ^ 63) → f ≤ p → p < n → V p c ≠ 0 → (∀ j, f ≤ j → j < n → V j c ≠ 0 → (V p c).natAbs ≤ (V j c).natAbs) → (r ≠ 0 → ∀ j, f ≤ j → j < n → 0 ≤ V j c) → (V p c).natAbs + 1 ≤ N → wp_X5_gather_7 ev Q N a0 (Int32.ofNat f) (Int32.ofNat c) (Int32.ofNat p) h := by
  intro N
  induction N with
  | zero => intro r p V h _ _ _ _ _ _ _ _ _ hN; omega
  | succ N ih =>
    intro r p V h hr fr L hX p1 p2 p3 hm hnn hN
    obtain ⟨l9, l1, l8⟩ := xL_n L
    unfold wp_X5_gather_7
    refine ⟨fun hv => by rw [i_0, i_lt (by omega) (by omega)] at hv; omega, fun _ => ⟨l1, ?_⟩⟩
    have N1 : 1 ≤ N := by omega
    -- behind exchange and turn
    have fin : ∀ (s : Int) (h3 : Hp), (s = 1 ∨ s = -1) → 0 < s * V p c → xG D o h h3 → xL D h3 a0 o e n (qSw f p s V) → wp_X5_gather_35 ev Q (wp_X5_gather_7 ev Q N) a0 (Int32.ofNat f) (Int32.ofNat c) h3 := by
      intro s h3 hs hpos f3 L3
      unfold wp_X5_gather_35
      intro x1 e1
      subst e1
      rw [i_one]
      have ef : qSw f p s V f c = s * V p c := by unfold qSw; rw [if_pos rfl]
      have hXs : ∀ j, f ≤ j → j < n → (qSw f p s V j c).natAbs < 2 ^ 63 := fun j j1 j2 => by
        rw [qSw_at hs]
        have r := qw_rg (f := f) (p := p) (m := n) (j := j) (by omega) (by omega) j1 j2
        exact hX _ r.1 r.2
      have pf : 0 < qRV f n (xQ f c (qSw f p s V)) (qSw f p s V) f c := by unfold qRV; rw [qRd_f, ef]; exact hpos
      have lt := fun j (j1 : f < j) (j2 : j < n) => xQ_lt p1 p2 hs hpos hm j1 j2
      have rd : qRnd (r = 0) f n c V (qRV f n (xQ f c (qSw f p s V)) (qSw f p s V)) := by
        refine ⟨p, s, _, p1, p2, hs, p3, hm, rfl, fun j j1 j2 => ⟨(lt j j1 j2).2.1, fun r0 => (lt j j1 j2).2.2 ?_⟩⟩
        have nn := hnn r0
        have s1 : s = 1 := by
          rcases hs with w | w
          · exact w
          · have := nn p p1 p2; rw [w] at hpos; omega
        rw [s1, qSw_1]
        have r := qw_rg (f := f) (p := p) (m := n) (j := j) (by omega) (by omega) (Nat.le_of_lt j1) j2
        exact nn _ r.1 r.2
      have rr := qRs_snoc hr rd
      refine ⟨(n - (f + 1)) + 1, sp_X5_gather_40 hf hc (by rw [ef]; exact hpos) hXs (fun h2 f2 L2 hz => ?_) (fun h2 p' f2 L2 k1 k2 k3 k4 => ?_) (n - (f + 1)) (f + 1) h3 (by omega) (by omega) (xG_refl _) (by rw [qRV_0]; exact L3)⟩
      · obtain ⟨N2, rfl⟩ : ∃ N2, N = N2 + 1 := ⟨N - 1, by omega⟩
        unfold wp_X5_gather_7
        refine ⟨fun _ => ⟨fun h => absurd rfl h, fun _ => ⟨isB_1, q h2 _ (xG_trans fr (xG_trans f3 f2)) L2 (qRs_gath rr hz) pf⟩⟩, fun h => absurd (by decide) h⟩
      · have lp := lt p' k1 k2
        have efp : (qRV f n (xQ f c (qSw f p s V)) (qSw f p s V) f c).natAbs = (V p c).natAbs := by
          unfold qRV; rw [qRd_f, ef]; rcases hs with rfl | rfl <;> omega
        refine ih (r + 1) p' _ h2 rr (xG_trans fr (xG_trans f3 f2)) L2 (fun j j1 j2 => ?_) (by omega) k2 k3 (fun j j1 j2 j3 => ?_) (fun _ j j1 j2 => ?_) (by omega)
        · by_cases w : j = f
          · rw [w, efp]; exact hX p p1 p2
          · have := (lt j (by omega) j2).2.1; have := hX p p1 p2; omega
        · by_cases w : j = f
          · rw [w, efp]; omega
          · exact k4 j (by omega) j2 j3
        · by_cases w : j = f
          · rw [w]; omega
          · exact (lt j (by omega) j2).1
    refine sp_X5_exchange hf p2 L fun h1 f1 L1 => ?_
    obtain ⟨m1, m2, m3, m4, b1, m5, m6, m7, m8⟩ := xL_cell L1 hf hc
    refine ⟨m1, o, m2, m3, m4, b1, m5, m6, m7, ?_⟩
    have ev : qEx f p V f c = V p c := by unfold qEx qw; rw [if_pos rfl]
    have z0 : (0 : Int64) = Int64.ofInt 0 := rfl
    rw [m8, ev, lg_cmp_ge, z0, l_le (by decide) (hX p p1 p2)]
    refine ⟨fun hle => fin 1 h1 (.inl rfl) (by omega) f1 (by rw [qSw_1]; exact L1), fun hlt => ⟨m1, ?_⟩⟩
    exact sp_X5_turn hf L1 fun h2 f2 L2 => fin (-1) h2 (.inr rfl) (by omega) (xG_trans f1 f2) (by rw [qSw_m1]; exact L2)
theorem sp_X5_gather {ev : Nat → Nat} {D : Nat → Prop} {a0 o e n f c : Nat} {V : Nat → Nat → Int} {Q : Int32 → Hp → Prop} {h : Hp} (L : xL D h a0 o e n V) (hf : f ≤ n) (hc : c < 10) (hX : ∀ j, f ≤ j → j < n → (V j c).natAbs < 2 ^ 63) (q0 : (∀ j, f ≤ j → j < n → V j c = 0) → Q 0 h) (q1 : ∀ h2 V2, xG D o h h2 → xL D h2 a0 o e n V2 → qGath f n c V V2 → 0 < V2 f c → Q 1 h2) : wp_X5_gather ev h a0 (Int32.ofNat f) (Int32.ofNat c) Q := by
  refine ⟨(xL_n L).2.1, sp_X5_least L hf hc hX (fun hz => ⟨1, ?_⟩) fun p p1 p2 p3 hm => ?_⟩
  · unfold wp_X5_gather_7
    exact ⟨fun _ => ⟨fun _ => ⟨isB_0, q0 hz⟩, fun h => absurd h (by decide)⟩, fun h => absurd (by decide) h⟩
  · exact ⟨_, sp_X5_gather_7 (by omega) hc q1 _ 0 p V h qRs_0 (xG_refl h) L hX p1 p2 p3 hm (fun h => absurd rfl h) (Nat.le_refl _)⟩
