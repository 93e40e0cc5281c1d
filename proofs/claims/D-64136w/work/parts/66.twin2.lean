/-! THE TWIN's gather -/
theorem qRnd_wk {fst : Prop} {f m c : Nat} {V V2 : Nat → Nat → Int} (h : qRnd False f m c V V2) : qRnd fst f m c V V2 := by
  obtain ⟨p, s, q, p1, p2, hs, hp, hm, e1, hr⟩ := h
  exact ⟨p, s, q, p1, p2, hs, hp, hm, e1, fun j j1 j2 => ⟨(hr j j1 j2).1, fun _ => (hr j j1 j2).2 (by simp)⟩⟩
/-- n rounds -/
def qRs (n f m c : Nat) (V U : Nat → Nat → Int) : Prop := ∃ W : Nat → Nat → Nat → Int, W 0 = V ∧ W n = U ∧ ∀ i, i < n → qRnd (i = 0) f m c (W i) (W (i + 1))
theorem qRs_0 {f m c : Nat} {V : Nat → Nat → Int} : qRs 0 f m c V V := ⟨fun _ => V, rfl, rfl, fun i hi => by omega⟩
theorem qRs_snoc {n f m c : Nat} {V U U2 : Nat → Nat → Int} (h : qRs n f m c V U) (g : qRnd (n = 0) f m c U U2) : qRs (n + 1) f m c V U2 := by
  obtain ⟨W, w0, wn, st⟩ := h
  refine ⟨fun i => if i = n + 1 then U2 else W i, ?_, ?_, ?_⟩
  · show (if 0 = n + 1 then U2 else W 0) = V; rw [if_neg (by omega)]; exact w0
  · show (if n + 1 = n + 1 then U2 else W (n + 1)) = U2; rw [if_pos rfl]
  · intro i hi
    show qRnd (i = 0) f m c (if i = n + 1 then U2 else W i) (if i + 1 = n + 1 then U2 else W (i + 1))
    rw [if_neg (by omega)]
    by_cases e : i = n
    · subst e; rw [if_pos rfl, wn]; exact g
    · rw [if_neg (by omega)]; exact st i (by omega)
theorem qRs_gath {n f m c : Nat} {V U : Nat → Nat → Int} (h : qRs (n + 1) f m c V U) (hz : ∀ j, f < j → j < m → U j c = 0) : qGath f m c V U := by
  obtain ⟨W, w0, wn, st⟩ := h
  exact ⟨n, W, w0, wn, fun i hi => st i (by omega), hz⟩
/-- truncated division leaves less, of the same sign -/
theorem q_tdiv {a b : Int} (hb : b ≠ 0) (h : a ≠ 0 → b.natAbs ≤ a.natAbs) : (a - a.tdiv b * b).natAbs < b.natAbs ∧ qG (a - a.tdiv b * b) a := by
  have e : a - a.tdiv b * b = a.tmod b := by have := Int.tmod_add_mul_tdiv a b; rw [Int.mul_comm] at this; omega
  rw [e]
  have l : (a.tmod b).natAbs < b.natAbs := by rw [Int.natAbs_tmod]; exact Nat.mod_lt _ (by omega)
  refine ⟨l, ?_, ?_⟩
  · rcases Int.le_total 0 a with c | c
    · exact .inl ⟨c, Int.tmod_nonneg b c⟩
    · refine .inr ⟨c, ?_⟩
      have := Int.tmod_nonneg b (a := -a) (by omega)
      rw [Int.neg_tmod] at this; omega
  · by_cases z : a = 0
    · subst z; simp
    · have := h z
      rw [Int.natAbs_tmod] at l ⊢
      have k := Nat.mod_add_div a.natAbs b.natAbs
      have d : 1 ≤ a.natAbs / b.natAbs := (Nat.le_div_iff_mul_le (by omega)).mpr (by omega)
      have := Nat.mul_le_mul_left b.natAbs d
      omega
def mOth (x : Nat → Int) (f i p : Nat) : Prop := ∃ j, f ≤ j ∧ j < i ∧ j ≠ p ∧ x j ≠ 0
/-- what is known of the scan up to place i -/
def mScan (x : Nat → Int) (f i : Nat) (v4 v5 : Int32) : Prop :=
  (v4 = -1 ∧ v5 = 0 ∧ ∀ j, f ≤ j → j < i → x j = 0) ∨
  ∃ p cnt : Nat, f ≤ p ∧ p < i ∧ x p ≠ 0 ∧ v4 = Int32.ofNat p ∧ v5 = Int32.ofNat cnt ∧ 1 ≤ cnt ∧ cnt ≤ i ∧ (∀ j, f ≤ j → j < i → x j ≠ 0 → (x p).natAbs ≤ (x j).natAbs) ∧ (cnt ≤ 1 → ∀ j, f ≤ j → j < i → j ≠ p → x j = 0) ∧ (2 ≤ cnt → mOth x f i p)
theorem sp_gather_15 {n k st f c : Nat} {V : Nat → Nat → Int} {Qr : Int32 → St → Prop} {K2 : Int32 → Int32 → Int32 → St → Prop} {σ : St} (hn : n ≤ 6) (hk : k ≤ 6) (hf : f < k) (hc : c < n) (h17 : gI σ 17 = Int32.ofNat n) (h31 : gI σ 31 = Int32.ofNat k) (hB : mB σ n k st V) (hX : ∀ j, f ≤ j → j < k → (V (st + j) (4 + c)).natAbs < 2 ^ 63) (q0 : (∀ j, f ≤ j → j < k → V (st + j) (4 + c) = 0) → Qr 0 σ) (q1 : ∀ p cnt : Nat, f ≤ p → p < k → V (st + p) (4 + c) ≠ 0 → 1 ≤ cnt → cnt ≤ k → (∀ j, f ≤ j → j < k → V (st + j) (4 + c) ≠ 0 → (V (st + p) (4 + c)).natAbs ≤ (V (st + j) (4 + c)).natAbs) → (cnt ≤ 1 → ∀ j, f ≤ j → j < k → j ≠ p → V (st + j) (4 + c) = 0) → (2 ≤ cnt → mOth (fun j => V (st + j) (4 + c)) f k p) → wp_exchange (Int32.ofNat f) (Int32.ofNat p) σ (fun (σ1 : St) => vp_in ((6 * Int32.ofNat f) + Int32.ofNat c) 36 ∧ (0 ≤ (lg_cmp (gL σ1 30 ((6 * Int32.ofNat f) + Int32.ofNat c)) 0) → wp_gather_140 Qr K2 (Int32.ofNat f) (Int32.ofNat c) (Int32.ofNat cnt) σ1) ∧ (¬ 0 ≤ (lg_cmp (gL σ1 30 ((6 * Int32.ofNat f) + Int32.ofNat c)) 0) → wp_turn (Int32.ofNat f) σ1 (fun (σ2 : St) => wp_gather_140 Qr K2 (Int32.ofNat f) (Int32.ofNat c) (Int32.ofNat cnt) σ2)))) : ∀ (d i : Nat) (v4 v5 : Int32), i + d = k → f ≤ i → mScan (fun j => V (st + j) (4 + c)) f i v4 v5 → wp_gather_15 Qr K2 (d + 1) (Int32.ofNat f) (Int32.ofNat c) v4 v5 (Int32.ofNat i) σ := by
  intro d
  induction d with
  | zero =>
    intro i v4 v5 hi fi hs
    have : i = k := by omega
    subst this
    unfold wp_gather_15
    rw [h31, i_le (by omega) (by omega)]
    refine ⟨fun _ => ?_, fun h => absurd (Nat.le_refl _) h⟩
    rcases hs with ⟨e4, e5, hz⟩ | ⟨p, cnt, p1, p2, p3, e4, e5, c1, c2, hm, ho, h2⟩
    · subst e4; subst e5
      exact ⟨fun h => absurd rfl h, fun _ => ⟨isB_0, q0 hz⟩⟩
    · subst e4; subst e5
      refine ⟨fun _ => q1 p cnt p1 p2 p3 c1 c2 hm ho h2, fun h => ?_⟩
      have h : Int32.ofNat cnt = Int32.ofNat 0 := h
      rw [i_eq (by omega) (by omega)] at h; omega
  | succ d ih =>
    intro i v4 v5 hi fi hs
    unfold wp_gather_15
    rw [h31, i_le (by omega) (by omega)]
    refine ⟨fun h => by omega, fun _ => ⟨by rw [i_six, i_in (by omega)]; omega, fun y3 e3 => ?_⟩⟩
    rw [i_six, gL_nat _ _ (by omega), hB i c (by omega) hc] at e3
    subst e3
    have xi := hX i fi (by omega)
    have l0 : (0 : Int64) = Int64.ofInt 0 := rfl
    -- the step
    have step : ∀ u0 : Int64, (∀ p, v4 = Int32.ofNat p → f ≤ p → p < i → u0 = Int64.ofInt (V (st + p) (4 + c))) → wp_gather_59 Qr K2 (wp_gather_15 Qr K2 (d + 1)) (Int32.ofNat f) (Int32.ofNat c) v4 v5 (Int32.ofNat i) (Int64.ofInt (V (st + i) (4 + c))) u0 σ := by
      intro u0 hu
      unfold wp_gather_59
      rw [lg_cmp_eq, l0, l_eq xi (by decide)]
      constructor
      · intro z
        unfold wp_gather_99
        intro x1 e1
        subst e1
        rw [i_one]
        refine ih (i + 1) v4 v5 (by omega) (by omega) ?_
        rcases hs with ⟨e4, e5, hz⟩ | ⟨p, cnt, p1, p2, p3, e4, e5, c1, c2, hm, ho, h2⟩
        · left
          refine ⟨e4, e5, fun j j1 j2 => ?_⟩
          by_cases e : j = i
          · subst e; exact z
          · exact hz j j1 (by omega)
        · right
          refine ⟨p, cnt, p1, by omega, p3, e4, e5, c1, by omega, fun j j1 j2 hj => ?_, fun h j j1 j2 hj => ?_, fun h => by obtain ⟨j, j1, j2, j3, j4⟩ := h2 h; exact ⟨j, j1, by omega, j3, j4⟩⟩
          · by_cases e : j = i
            · subst e; exact absurd z hj
            · exact hm j j1 (by omega) hj
          · by_cases e : j = i
            · subst e; exact z
            · exact ho h j j1 (by omega) hj
      · intro z x1 e1
        subst e1
        rcases hs with ⟨e4, e5, hz⟩ | ⟨p, cnt, p1, p2, p3, e4, e5, c1, c2, hm, ho, h2⟩
        · subst e4; subst e5
          refine ⟨fun _ => ?_, fun h => absurd (by decide) h⟩
          unfold wp_gather_90 wp_gather_97 wp_gather_99
          intro x2 e2
          subst e2
          rw [i_one]
          refine ih (i + 1) _ _ (by omega) (by omega) (.inr ⟨i, 1, fi, by omega, z, rfl, rfl, by omega, by omega, fun j j1 j2 hj => ?_, fun _ j j1 j2 hj => hz j j1 (by omega), fun h => by omega⟩)
          by_cases e : j = i
          · subst e; exact Nat.le_refl _
          · exact absurd (hz j j1 (by omega)) hj
        · have eu := hu p e4 p1 p2
          subst e4; subst e5; subst eu
          have xp := hX p p1 (by omega)
          have c6 : cnt < 2147483648 := by clear h2 hm ho ih; omega
          refine ⟨fun h => ?_, fun _ => sp_size xi (sp_size xp ?_)⟩
          · clear h2 hm ho ih
            rw [i_0, i_lt (by omega) (by omega)] at h; omega
          have ai : ((V (st + i) (4 + c)).natAbs : Int).natAbs < 2 ^ 63 := by clear h2 hm ho ih; omega
          have ap : ((V (st + p) (4 + c)).natAbs : Int).natAbs < 2 ^ 63 := by clear h2 hm ho ih; omega
          rw [lg_cmp_ge, l_le ap ai, i_one]
          constructor
          · intro h
            unfold wp_gather_97 wp_gather_99
            intro x2 e2
            subst e2
            rw [i_one]
            refine ih (i + 1) _ _ (by omega) (by omega) (.inr ⟨p, cnt + 1, p1, by omega, p3, rfl, rfl, by omega, by omega, fun j j1 j2 hj => ?_, fun h => by omega, fun _ => ⟨i, fi, by omega, by omega, z⟩⟩)
            by_cases e : j = i
            · subst e; show (V (st + p) (4 + c)).natAbs ≤ (V (st + j) (4 + c)).natAbs; clear h2 hm ho ih; omega
            · exact hm j j1 (by omega) hj
          · intro h
            unfold wp_gather_90 wp_gather_97 wp_gather_99
            intro x2 e2
            subst e2
            rw [i_one]
            refine ih (i + 1) _ _ (by omega) (by omega) (.inr ⟨i, cnt + 1, fi, by omega, z, rfl, rfl, by omega, by omega, fun j j1 j2 hj => ?_, fun h => by omega, fun _ => ⟨p, p1, by omega, by omega, p3⟩⟩)
            by_cases e : j = i
            · subst e; exact Nat.le_refl _
            · have a := hm j j1 (by omega) hj
              have a : (V (st + p) (4 + c)).natAbs ≤ (V (st + j) (4 + c)).natAbs := a
              show (V (st + i) (4 + c)).natAbs ≤ (V (st + j) (4 + c)).natAbs
              clear h2 hm ho ih
              omega
    constructor
    · intro h
      rcases hs with ⟨e4, e5, hz⟩ | ⟨p, cnt, p1, p2, p3, e4, e5, c1, c2, hm, ho, h2⟩
      · subst e4; exact absurd h (by decide)
      · refine ⟨by rw [e4, i_six, i_in (by omega)]; omega, step _ fun p' e' _ p2' => ?_⟩
        rw [e', i_six, gL_nat _ _ (by omega), hB p' c (by omega) hc]
    · intro h
      refine step 0 fun p' e' _ p2' => ?_
      rw [e', i_0, i_le (by omega) (by omega)] at h; omega
