/-! the twin's gather, its rounds -/
def mQ (f c : Nat) (V : Nat → Nat → Int) : Nat → Int := fun j => (V j c).tdiv (V f c)
theorem qRV_0 {f : Nat} {q : Nat → Int} {V : Nat → Nat → Int} : qRV f (f + 1) q V = V := by
  funext j c; unfold qRV qRd; rw [if_neg (by omega)]
theorem qRV_s {f m : Nat} {q : Nat → Int} {V : Nat → Nat → Int} (h : f < m) : qSub f (q m) m (qRV f m q V) = qRV f (m + 1) q V := by
  funext j c
  unfold qSub qRV
  by_cases e : j = m
  · subst e
    rw [if_pos rfl, qRd_j h (Nat.lt_succ_self _), qRd_f]
    unfold qRd; rw [if_neg (by omega)]
  · rw [if_neg e]; unfold qRd
    by_cases e2 : f < j ∧ j < m
    · rw [if_pos e2, if_pos (by omega)]
    · rw [if_neg e2, if_neg (by omega)]
theorem sp_gather_145 {n k st f c : Nat} {V : Nat → Nat → Int} {Qr : Int32 → St → Prop} {K2 : Int32 → Int32 → Int32 → St → Prop} {σ0 : St} {cnt : Nat} (hn : n ≤ 6) (hk : k ≤ 6) (hf : f < k) (hc : c < n) (hcnt : cnt ≤ 6) (h17 : gI σ0 17 = Int32.ofNat n) (h31 : gI σ0 31 = Int32.ofNat k) (hX : ∀ j, f ≤ j → j < k → (V (st + j) (4 + c)).natAbs < 2 ^ 63) (h0 : V (st + f) (4 + c) ≠ 0) (q : ∀ σ2, mFr σ0 σ2 → mB σ2 n k st (qRV (st + f) (st + k) (mQ (st + f) (4 + c) V) V) → K2 (Int32.ofNat f) (Int32.ofNat c) (if cnt ≤ 1 then 0 else 1) σ2) : ∀ (d i : Nat) (σ : St), i + d = k → f < i → mFr σ0 σ → mB σ n k st (qRV (st + f) (st + i) (mQ (st + f) (4 + c) V) V) → wp_gather_145 Qr K2 (d + 1) (Int32.ofNat f) (Int32.ofNat c) (Int32.ofNat cnt) (Int32.ofNat i) σ := by
  intro d
  induction d with
  | zero =>
    intro i σ hi fi fr hB
    have : i = k := by omega
    subst this
    unfold wp_gather_145
    rw [gI_Fr fr, h31, i_le (by omega) (by omega)]
    refine ⟨fun _ => ?_, fun h => absurd (Nat.le_refl _) h⟩
    have e1 : Int32.ofNat cnt ≤ 1 ↔ cnt ≤ 1 := i_le (b := 1) (by omega) (by omega)
    rw [e1]
    unfold wp_gather_202
    have := q σ fr hB
    exact ⟨fun h => by rwa [if_pos h] at this, fun h => by rwa [if_neg h] at this⟩
  | succ d ih =>
    intro i σ hi fi fr hB
    unfold wp_gather_145
    rw [gI_Fr fr, h31, i_le (by omega) (by omega)]
    refine ⟨fun h => by omega, fun _ => ⟨?_, ?_, ?_, ?_⟩⟩
    · rw [i_six, i_in (by omega)]; omega
    · rw [i_six, i_in (by omega)]; omega
    · rw [i_six, gL_nat _ _ (by omega), hB f c hf hc]
      have e : qRV (st + f) (st + i) (mQ (st + f) (4 + c) V) V (st + f) (4 + c) = V (st + f) (4 + c) := by unfold qRV; rw [qRd_f]
      rw [e]
      intro h
      have l0 : (0 : Int64) = Int64.ofInt 0 := rfl
      rw [l0, l_eq (hX f (Nat.le_refl _) hf) (by decide)] at h
      exact h0 h
    · rw [i_six, i_six, gL_nat _ _ (by omega), gL_nat _ _ (by omega), hB f c hf hc, hB i c (by omega) hc]
      have e : qRV (st + f) (st + i) (mQ (st + f) (4 + c) V) V (st + f) (4 + c) = V (st + f) (4 + c) := by unfold qRV; rw [qRd_f]
      have e2 : qRV (st + f) (st + i) (mQ (st + f) (4 + c) V) V (st + i) (4 + c) = V (st + i) (4 + c) := by unfold qRV qRd; rw [if_neg (by omega)]
      rw [e, e2, l_div (hX i (by omega) (by omega)) (hX f (Nat.le_refl _) hf)]
      refine sp_lose hn hk (show i < k by omega) hf (by omega) (by rw [gI_Fr fr]; exact h17) hB fun σ2 f2 h2 x2 ex => ?_
      subst ex
      rw [i_one]
      refine ih (i + 1) σ2 (by omega) (by omega) (mFr_trans fr f2) ?_
      have : (V (st + i) (4 + c)).tdiv (V (st + f) (4 + c)) = mQ (st + f) (4 + c) V (st + i) := rfl
      rw [this, qRV_s (by omega)] at h2
      exact h2
/-- one round -/
theorem rd_lt {k st f c p : Nat} {s : Int} {V : Nat → Nat → Int} (hp1 : f ≤ p) (hp2 : p < k) (hs : s = 1 ∨ s = -1) (h0 : V (st + p) c ≠ 0) (hm : ∀ j, f ≤ j → j < k → V (st + j) c ≠ 0 → (V (st + p) c).natAbs ≤ (V (st + j) c).natAbs) (j : Nat) (j1 : f < j) (j2 : j < k) : (qRV (st + f) (st + k) (mQ (st + f) c (qSw (st + f) (st + p) s V)) (qSw (st + f) (st + p) s V) (st + j) c).natAbs < (V (st + p) c).natAbs := by
  have ef : (qSw (st + f) (st + p) s V (st + f) c).natAbs = (V (st + p) c).natAbs := by rw [qSw_at hs]; unfold qw; rw [if_pos rfl]
  have e : qRV (st + f) (st + k) (mQ (st + f) c (qSw (st + f) (st + p) s V)) (qSw (st + f) (st + p) s V) (st + j) c = qSw (st + f) (st + p) s V (st + j) c - (qSw (st + f) (st + p) s V (st + j) c).tdiv (qSw (st + f) (st + p) s V (st + f) c) * qSw (st + f) (st + p) s V (st + f) c := by
    unfold qRV; rw [qRd_j (by omega) (by omega)]; rfl
  rw [e, ← ef]
  exact (q_tdiv (by omega) (fun hj => by
    rw [ef]
    have a := qSw_at (f := st + f) (p := st + p) (V := V) hs (st + j) c
    rw [a]
    have r := qw_rg (f := st + f) (p := st + p) (m := st + k) (j := st + j) (by omega) (by omega) (by omega) (by omega)
    have := hm (qw (st + f) (st + p) (st + j) - st) (by omega) (by omega) (by rw [show st + (qw (st + f) (st + p) (st + j) - st) = qw (st + f) (st + p) (st + j) by omega]; omega)
    rwa [show st + (qw (st + f) (st + p) (st + j) - st) = qw (st + f) (st + p) (st + j) by omega] at this)).1
theorem q_round {k st f c p : Nat} {s : Int} {V : Nat → Nat → Int} (hp1 : f ≤ p) (hp2 : p < k) (hs : s = 1 ∨ s = -1) (h0 : V (st + p) c ≠ 0) (hm : ∀ j, f ≤ j → j < k → V (st + j) c ≠ 0 → (V (st + p) c).natAbs ≤ (V (st + j) c).natAbs) : qRnd False (st + f) (st + k) c V (qRV (st + f) (st + k) (mQ (st + f) c (qSw (st + f) (st + p) s V)) (qSw (st + f) (st + p) s V)) := by
  have ef : (qSw (st + f) (st + p) s V (st + f) c).natAbs = (V (st + p) c).natAbs := by rw [qSw_at hs]; unfold qw; rw [if_pos rfl]
  refine ⟨st + p, s, _, by omega, by omega, hs, h0, fun j j1 j2 hj => ?_, rfl, fun j j1 j2 => ?_⟩
  · have := hm (j - st) (by omega) (by omega) (by rw [show st + (j - st) = j by omega]; exact hj)
    rwa [show st + (j - st) = j by omega] at this
  · have e : qRV (st + f) (st + k) (mQ (st + f) c (qSw (st + f) (st + p) s V)) (qSw (st + f) (st + p) s V) j c = qSw (st + f) (st + p) s V j c - (qSw (st + f) (st + p) s V j c).tdiv (qSw (st + f) (st + p) s V (st + f) c) * qSw (st + f) (st + p) s V (st + f) c := by
      unfold qRV; rw [qRd_j j1 j2]; rfl
    rw [e]
    have t := q_tdiv (a := qSw (st + f) (st + p) s V j c) (b := qSw (st + f) (st + p) s V (st + f) c) (by omega) (fun hj => by
      rw [ef]
      have a := qSw_at (f := st + f) (p := st + p) (V := V) hs j c
      rw [a]
      have r := qw_rg (f := st + f) (p := st + p) (m := st + k) (by omega) (by omega) (Nat.le_of_lt j1) j2
      have := hm (qw (st + f) (st + p) j - st) (by omega) (by omega) (by rw [show st + (qw (st + f) (st + p) j - st) = qw (st + f) (st + p) j by omega]; omega)
      rwa [show st + (qw (st + f) (st + p) j - st) = qw (st + f) (st + p) j by omega] at this)
    exact ⟨by rw [← ef]; exact t.1, fun _ => t.2⟩
def mHas (x : Nat → Int) (f k B : Nat) : Prop := ∃ j, f ≤ j ∧ j < k ∧ x j ≠ 0 ∧ (x j).natAbs ≤ B
theorem sp_gather_2 {n k st f c : Nat} {V0 : Nat → Nat → Int} {Qr : Int32 → St → Prop} {σ0 : St} (hn : n ≤ 6) (hk : k ≤ 6) (hf : f < k) (hc : c < n) (h17 : gI σ0 17 = Int32.ofNat n) (h31 : gI σ0 31 = Int32.ofNat k) (q : ∀ σ2 V2, mFr σ0 σ2 → mB σ2 n k st V2 → qGath (st + f) (st + k) (4 + c) V0 V2 → 0 < V2 (st + f) (4 + c) → Qr 1 σ2) : ∀ (N : Nat) (B r : Nat) (V : Nat → Nat → Int) (σ : St), qRs r (st + f) (st + k) (4 + c) V0 V → mFr σ0 σ → mB σ n k st V → (∀ j, f ≤ j → j < k → (V (st + j) (4 + c)).natAbs < 2 ^ 63) → mHas (fun j => V (st + j) (4 + c)) f k B → (B + 3 ≤ N ∨ 2 ≤ N ∧ ∀ j, f < j → j < k → V (st + j) (4 + c) = 0) → wp_gather_2 Qr N (Int32.ofNat f) (Int32.ofNat c) 1 σ := by
  intro N
  induction N with
  | zero => intro B r V σ _ _ _ _ _ h; omega
  | succ N ih =>
    intro B r V σ hr fr hB hX hE hN
    unfold wp_gather_2
    refine ⟨fun h => absurd h (by decide), fun _ => ⟨(k - f) + 1, ?_⟩⟩
    refine sp_gather_15 hn hk hf hc (by rw [gI_Fr fr]; exact h17) (by rw [gI_Fr fr]; exact h31) hB hX (fun hz => ?_) (fun p cnt p1 p2 p3 c1 c2 hm ho h2 => ?_) (k - f) f _ _ (by omega) (Nat.le_refl _) (.inl ⟨rfl, rfl, fun j j1 j2 => by omega⟩)
    · obtain ⟨j, j1, j2, j3, _⟩ := hE; exact absurd (hz j j1 j2) j3
    -- behind the round
    have fin : ∀ (s : Int) (σ3 : St), (s = 1 ∨ s = -1) → 0 < s * V (st + p) (4 + c) → mFr σ σ3 → mB σ3 n k st (qSw (st + f) (st + p) s V) → wp_gather_140 Qr (wp_gather_2 Qr N) (Int32.ofNat f) (Int32.ofNat c) (Int32.ofNat cnt) σ3 := by
      intro s σ3 hs hpos f3 hB3
      unfold wp_gather_140
      intro x1 e1
      subst e1
      rw [i_one]
      have rd := q_round (c := 4 + c) p1 p2 hs p3 hm
      have ef : qSw (st + f) (st + p) s V (st + f) (4 + c) = s * V (st + p) (4 + c) := by unfold qSw; rw [if_pos rfl]
      have hXs : ∀ j, f ≤ j → j < k → (qSw (st + f) (st + p) s V (st + j) (4 + c)).natAbs < 2 ^ 63 := fun j j1 j2 => by
        rw [qSw_at hs]
        have r := qw_rg (f := st + f) (p := st + p) (m := st + k) (j := st + j) (by omega) (by omega) (by omega) (by omega)
        have := hX (qw (st + f) (st + p) (st + j) - st) (by omega) (by omega)
        rwa [show st + (qw (st + f) (st + p) (st + j) - st) = qw (st + f) (st + p) (st + j) by omega] at this
      refine ⟨(k - (f + 1)) + 1, sp_gather_145 hn hk hf hc (by omega) (by rw [gI_Fr f3, gI_Fr fr]; exact h17) (by rw [gI_Fr f3, gI_Fr fr]; exact h31) hXs (by omega) (fun σ4 f4 hB4 => ?_) (k - (f + 1)) (f + 1) σ3 (by omega) (by omega) (mFr_refl _) (by rw [← Nat.add_assoc, qRV_0]; exact hB3)⟩
      have rr := qRs_snoc hr (qRnd_wk rd)
      have frr := mFr_trans fr (mFr_trans f3 f4)
      have pf : 0 < qRV (st + f) (st + k) (mQ (st + f) (4 + c) (qSw (st + f) (st + p) s V)) (qSw (st + f) (st + p) s V) (st + f) (4 + c) := by
        unfold qRV; rw [qRd_f, ef]; exact hpos
      have lt : ∀ j, f < j → j < k → (qRV (st + f) (st + k) (mQ (st + f) (4 + c) (qSw (st + f) (st + p) s V)) (qSw (st + f) (st + p) s V) (st + j) (4 + c)).natAbs < (V (st + p) (4 + c)).natAbs := by
        intro j j1 j2
        exact rd_lt p1 p2 hs p3 hm j j1 j2
      by_cases c3 : cnt ≤ 1
      · rw [if_pos c3]
        obtain ⟨N2, rfl⟩ : ∃ N2, N = N2 + 1 := ⟨N - 1, by omega⟩
        unfold wp_gather_2
        refine ⟨fun _ => ⟨isB_1, q σ4 _ frr hB4 (qRs_gath rr fun j j1 j2 => ?_) pf⟩, fun h => absurd rfl h⟩
        have z : qSw (st + f) (st + p) s V j (4 + c) = 0 := by
          have a := qSw_at (f := st + f) (p := st + p) (V := V) hs j (4 + c)
          have r := qw_rg (f := st + f) (p := st + p) (m := st + k) (j := j) (by omega) (by omega) (by omega) j2
          have b := ho c3 (qw (st + f) (st + p) j - st) (by omega) (by omega) (by
            intro e
            have e : qw (st + f) (st + p) j = st + p := by omega
            have := congrArg (qw (st + f) (st + p)) e
            rw [qw_qw] at this
            unfold qw at this
            by_cases w : st + p = st + f
            · rw [if_pos w] at this; omega
            · rw [if_neg w, if_pos rfl] at this; omega)
          rw [show st + (qw (st + f) (st + p) j - st) = qw (st + f) (st + p) j by omega] at b
          rw [b] at a; omega
        unfold qRV; rw [qRd_j j1 j2]
        show qSw (st + f) (st + p) s V j (4 + c) - (qSw (st + f) (st + p) s V j (4 + c)).tdiv _ * _ = 0
        rw [z]; simp
      · rw [if_neg c3]
        have big : B + 3 ≤ N + 1 := by
          rcases hN with h | ⟨_, h⟩
          · exact h
          · exfalso
            obtain ⟨j, j1, j2, j3, j4⟩ := h2 (by omega)
            have pf : p = f := Classical.byContradiction fun w => p3 (h p (by omega) p2)
            exact j4 (h j (by omega) j2)
        have pB : (V (st + p) (4 + c)).natAbs ≤ B := by
          obtain ⟨j, j1, j2, j3, j4⟩ := hE
          exact Nat.le_trans (hm j j1 j2 j3) j4
        have x0 : 1 ≤ (V (st + p) (4 + c)).natAbs := by omega
        have hX2 : ∀ j, f ≤ j → j < k → (qRV (st + f) (st + k) (mQ (st + f) (4 + c) (qSw (st + f) (st + p) s V)) (qSw (st + f) (st + p) s V) (st + j) (4 + c)).natAbs < 2 ^ 63 := by
          intro j j1 j2
          by_cases w : j = f
          · subst w; unfold qRV; rw [qRd_f]; exact hXs j (Nat.le_refl _) j2
          · have := lt j (by omega) j2; have := hX p p1 p2; omega
        by_cases w : ∃ j, f < j ∧ j < k ∧ qRV (st + f) (st + k) (mQ (st + f) (4 + c) (qSw (st + f) (st + p) s V)) (qSw (st + f) (st + p) s V) (st + j) (4 + c) ≠ 0
        · obtain ⟨j, j1, j2, j3⟩ := w
          have l := lt j j1 j2
          have bb := show (qRV (st + f) (st + k) (mQ (st + f) (4 + c) (qSw (st + f) (st + p) s V)) (qSw (st + f) (st + p) s V) (st + j) (4 + c)).natAbs ≤ B - 1 by omega
          exact ih (B - 1) (r + 1) _ σ4 rr frr hB4 hX2 ⟨j, Nat.le_of_lt j1, j2, j3, bb⟩ (.inl (by omega))
        · exact ih (qRV (st + f) (st + k) (mQ (st + f) (4 + c) (qSw (st + f) (st + p) s V)) (qSw (st + f) (st + p) s V) (st + f) (4 + c)).natAbs (r + 1) _ σ4 rr frr hB4 hX2 ⟨f, Nat.le_refl _, hf, Int.ne_of_gt pf, Nat.le_refl _⟩ (.inr ⟨by omega, fun j j1 j2 => Classical.byContradiction fun z => w ⟨j, j1, j2, z⟩⟩)
    refine sp_exchange hn hk hf p2 (by rw [gI_Fr fr]; exact h17) hB fun σ2 f2 hB2 => ⟨by rw [i_six, i_in (by omega)]; omega, ?_⟩
    have g2 : gL σ2 30 (6 * Int32.ofNat f + Int32.ofNat c) = Int64.ofInt (V (st + p) (4 + c)) := by
      rw [i_six, gL_nat _ _ (by omega), hB2 f c hf hc]; unfold qEx qw; rw [if_pos rfl]
    have l0 : (0 : Int64) = Int64.ofInt 0 := rfl
    rw [g2, lg_cmp_ge, l0, l_le (by decide) (hX p p1 p2)]
    constructor
    · intro h
      refine fin 1 σ2 (.inl rfl) (by omega) f2 ?_
      have : qSw (st + f) (st + p) 1 V = qEx (st + f) (st + p) V := by
        funext j d; unfold qSw qEx qw
        by_cases e : j = st + f
        · rw [if_pos e, if_pos e]; omega
        · rw [if_neg e]
      rw [this]; exact hB2
    · intro h
      refine sp_turn hn hk hf (by rw [gI_Fr f2, gI_Fr fr]; exact h17) hB2 fun σ3 f3 hB3 => fin (-1) σ3 (.inr rfl) (by omega) (mFr_trans f2 f3) ?_
      have : qSw (st + f) (st + p) (-1) V = qNeg (st + f) (qEx (st + f) (st + p) V) := by
        funext j d; unfold qSw qNeg qEx qw
        by_cases e : j = st + f
        · simp [e]
        · simp [e]
      rw [this]; exact hB3
