/-! the twin's narrow, its rounds -/
theorem mRow_Sub {σ : St} {n r lo hi f p : Nat} {m : Int} {V : Nat → Nat → Int} (h1 : lo ≤ f) (h2 : f < hi) (h : mRow σ n r lo hi V) : mRow σ n r lo hi (qSub f m p V) := by
  intro j j1 j2
  unfold qSub
  by_cases e : j = p
  · subst e
    simp only [if_pos]
    rw [h j j1 j2, h f h1 h2, ← qS_mul, ← qS_sub]
    exact qS_congr fun c _ => by grind
  · simp only [if_neg e]; exact h j j1 j2
theorem mRow_Ex {σ : St} {n r lo hi f p : Nat} {V : Nat → Nat → Int} (h1 : lo ≤ f) (h2 : f < hi) (h3 : lo ≤ p) (h4 : p < hi) (h : mRow σ n r lo hi V) : mRow σ n r lo hi (qEx f p V) := by
  intro j j1 j2
  unfold qEx
  have : lo ≤ qw f p j ∧ qw f p j < hi := by unfold qw; split <;> (try split) <;> omega
  exact h _ this.1 this.2
theorem sp_narrow_123 {n k st r : Nat} {V : Nat → Nat → Int} {Qr : St → Prop} {K4 : Int32 → Int32 → Int32 → St → Prop} {σ0 : St} {cnt : Nat} (hn : n ≤ 6) (hk : k ≤ 6) (hr : r < 4) (hk0 : 0 < k) (hcnt : cnt ≤ 6) (h17 : gI σ0 17 = Int32.ofNat n) (h31 : gI σ0 31 = Int32.ofNat k) (hX : ∀ j, j < k → (V (st + j) r).natAbs < 2 ^ 63) (h0 : V (st + 0) r ≠ 0) (q : ∀ σ2, mFr σ0 σ2 → mB σ2 n k st (qRV (st + 0) (st + k) (mQ (st + 0) r V) V) → mRow σ2 n r st (st + k) (qRV (st + 0) (st + k) (mQ (st + 0) r V) V) → K4 (Int32.ofNat r) (if cnt ≤ 1 then 0 else 1) (Int32.ofNat cnt) σ2) : ∀ (d i : Nat) (σ : St), i + d = k → 0 < i → mFr σ0 σ → mB σ n k st (qRV (st + 0) (st + i) (mQ (st + 0) r V) V) → mRow σ n r st (st + k) (qRV (st + 0) (st + i) (mQ (st + 0) r V) V) → wp_narrow_123 Qr K4 (d + 1) (Int32.ofNat r) (Int32.ofNat cnt) (Int64.ofInt (V (st + 0) r)) (Int32.ofNat i) σ := by
  intro d
  induction d with
  | zero =>
    intro i σ hi fi fr hB hR
    have : i = k := by omega
    subst this
    unfold wp_narrow_123
    rw [gI_Fr fr, h31, i_le (by omega) (by omega)]
    refine ⟨fun _ => ?_, fun h => absurd (Nat.le_refl _) h⟩
    unfold wp_narrow_162 wp_narrow_172
    have e1 : Int32.ofNat cnt ≤ 1 ↔ cnt ≤ 1 := i_le (b := 1) (by omega) (by omega)
    rw [e1]
    have := q σ fr hB hR
    exact ⟨fun h => by rwa [if_pos h] at this, fun h => by rwa [if_neg h] at this⟩
  | succ d ih =>
    intro i σ hi fi fr hB hR
    unfold wp_narrow_123
    rw [gI_Fr fr, h31, i_le (by omega) (by omega)]
    refine ⟨fun h => by omega, fun _ => ?_⟩
    rw [i_six0]
    refine sp_dotV hn hr hk (show i < k by omega) (by rw [gI_Fr fr]; exact h17) hB hR ⟨?_, ?_⟩
    · intro h
      have l0 : (0 : Int64) = Int64.ofInt 0 := rfl
      rw [l0, l_eq (hX 0 hk0) (by decide)] at h
      exact h0 h
    · have e2 : qRV (st + 0) (st + i) (mQ (st + 0) r V) V (st + i) r = V (st + i) r := by unfold qRV qRd; rw [if_neg (by omega)]
      rw [e2, l_div (hX i (by omega)) (hX 0 hk0)]
      have z0 : (0 : Int32) = Int32.ofNat 0 := rfl
      rw [z0]
      refine sp_lose hn hk (show i < k by omega) hk0 (by omega) (by rw [gI_Fr fr]; exact h17) hB fun σ2 f2 h2 x2 ex => ?_
      subst ex
      rw [i_one]
      have e3 : (V (st + i) r).tdiv (V (st + 0) r) = mQ (st + 0) r V (st + i) := rfl
      rw [e3, qRV_s (by omega)] at h2
      refine ih (i + 1) σ2 (by omega) (by omega) (mFr_trans fr f2) h2 ?_
      have := mRow_Sub (f := st + 0) (p := st + i) (m := mQ (st + 0) r V (st + i)) (by omega) (by omega) (mRow_Fr f2 hR)
      rw [qRV_s (by omega)] at this
      exact this
/-- behind the rounds -/
def mFin (Qr : St → Prop) (v1 v3 : Int32) (σ : St) : Prop :=
  vp_in ((7 * v1) + (gI σ 17)) 28 ∧
      wp_dot_32 v1 0 σ (fun (y2 : Int64) (σ1 : St) =>
        ∀ (y3 : Int64), y3 = ((((gA σ 19 ((7 * v1) + (gI σ 17)))).toInt64) - y2) →
        (¬ v3 = 0 →
          wp_dot_30 v1 0 σ1 (fun (y5 : Int64) (σ4 : St) =>
            ((gI σ4 33) = 0 →
              wp_narrow_266 Qr  y3 y5 σ4) ∧
            (¬ (gI σ4 33) = 0 →
              ¬ y5 = 0 ∧
              (¬ (lg_cmp (y3 - y3 / y5 * y5) 0) = 0 →
                wp_narrow_266 Qr  y3 y5 σ4) ∧
              ((lg_cmp (y3 - y3 / y5 * y5) 0) = 0 →
                wp_narrow_267 Qr  y3 y5 1 σ4)))) ∧
        (v3 = 0 →
          ((gI σ1 33) = 0 →
            wp_narrow_227 Qr   σ1) ∧
          (¬ (gI σ1 33) = 0 →
            (¬ (lg_cmp y3 0) = 0 →
              wp_narrow_227 Qr   σ1) ∧
            ((lg_cmp y3 0) = 0 →
              wp_narrow_228 Qr  1 σ1))))
theorem sp_narrow_40 {N : Nat} {Qr : St → Prop} {v1 v3 : Int32} {σ : St} (h : mFin Qr v1 v3 σ) : wp_narrow_4 Qr (N + 1) v1 0 v3 σ := by
  unfold wp_narrow_4
  exact ⟨fun _ => h, fun k => absurd rfl k⟩
theorem sp_narrow_4 {n k st r : Nat} {V0 : Nat → Nat → Int} {Qr : St → Prop} {σ0 : St} (hn : n ≤ 6) (hk : k ≤ 6) (hr : r < 4) (hk0 : 0 < k) (h17 : gI σ0 17 = Int32.ofNat n) (h31 : gI σ0 31 = Int32.ofNat k) (q : ∀ σ2 V2 cnt, 1 ≤ cnt → cnt ≤ 6 → mFr σ0 σ2 → mB σ2 n k st V2 → mRow σ2 n r st (st + k) V2 → qGath (st + 0) (st + k) r V0 V2 → mFin Qr (Int32.ofNat r) (Int32.ofNat cnt) σ2) : ∀ (N : Nat) (B rr : Nat) (V : Nat → Nat → Int) (v3 : Int32) (σ : St), qRs rr (st + 0) (st + k) r V0 V → mFr σ0 σ → mB σ n k st V → mRow σ n r st (st + k) V → (∀ j, j < k → (V (st + j) r).natAbs < 2 ^ 63) → mHas (fun j => V (st + j) r) 0 k B → (B + 3 ≤ N ∨ 2 ≤ N ∧ ∀ j, 0 < j → j < k → V (st + j) r = 0) → wp_narrow_4 Qr N (Int32.ofNat r) 1 v3 σ := by
  intro N
  induction N with
  | zero => intro B rr V v3 σ _ _ _ _ _ _ h; omega
  | succ N ih =>
    intro B rr V v3 σ hrs fr hB hR hX hE hN
    unfold wp_narrow_4
    refine ⟨fun h => absurd h (by decide), fun _ => ⟨k + 1, ?_⟩⟩
    refine sp_narrow_16 hn hk hr (by rw [gI_Fr fr]; exact h17) (by rw [gI_Fr fr]; exact h31) hB hR hX (fun hz => ?_) (fun p cnt p2 p3 c1 c2 hm ho h2 => ?_) k 0 _ _ (by omega) (.inl ⟨rfl, rfl, fun j j1 j2 => by omega⟩)
    · obtain ⟨j, j1, j2, j3, _⟩ := hE; exact absurd (hz j j2) j3
    have z0 : (0 : Int32) = Int32.ofNat 0 := rfl
    rw [z0]
    refine sp_exchange hn hk hk0 p2 (by rw [gI_Fr fr]; exact h17) hB fun σ3 f3 hB3 => ?_
    have hR3 := mRow_Ex (f := st + 0) (p := st + p) (by omega) (by omega) (by omega) (by omega) (mRow_Fr f3 hR)
    have eq : qSw (st + 0) (st + p) 1 V = qEx (st + 0) (st + p) V := by
      funext j d; unfold qSw qEx qw
      by_cases e : j = st + 0
      · rw [if_pos e, if_pos e]; omega
      · rw [if_neg e]
    rw [← eq] at hB3 hR3
    have z6 : Int32.ofNat 0 = Int32.ofNat (6 * 0) := rfl
    have fr3 := mFr_trans fr f3
    rw [z6]
    refine sp_dotV hn hr hk hk0 (by rw [gI_Fr fr3]; exact h17) hB3 hR3 ?_
    have rd := q_round (f := 0) (st := st) (k := k) (c := r) (p := p) (s := 1) (V := V) (Nat.zero_le _) p2 (.inl rfl) p3 hm
    have lt := fun j j1 j2 => rd_lt (f := 0) (st := st) (k := k) (c := r) (p := p) (s := 1) (V := V) (Nat.zero_le _) p2 (.inl rfl) p3 hm j j1 j2
    have ef : qSw (st + 0) (st + p) 1 V (st + 0) r = V (st + p) r := by unfold qSw; rw [if_pos rfl]; omega
    have hXs : ∀ j, j < k → (qSw (st + 0) (st + p) 1 V (st + j) r).natAbs < 2 ^ 63 := fun j j2 => by
      rw [qSw_at (.inl rfl)]
      have rg := qw_rg (f := st + 0) (p := st + p) (m := st + k) (j := st + j) (by omega) (by omega) (by omega) (by omega)
      have := hX (qw (st + 0) (st + p) (st + j) - st) (by omega)
      rwa [show st + (qw (st + 0) (st + p) (st + j) - st) = qw (st + 0) (st + p) (st + j) by omega] at this
    have one : (1 : Int32) = Int32.ofNat 1 := rfl
    rw [one]
    refine ⟨(k - 1) + 1, sp_narrow_123 hn hk hr hk0 (by omega) (by rw [gI_Fr fr3]; exact h17) (by rw [gI_Fr fr3]; exact h31) hXs (by rw [ef]; exact p3) (fun σ4 f4 hB4 hR4 => ?_) (k - 1) 1 σ3 (by omega) (by omega) (mFr_refl _) (by rw [qRV_0]; exact hB3) (by rw [qRV_0]; exact hR3)⟩
    have rs := qRs_snoc hrs (qRnd_wk rd)
    have frr := mFr_trans fr3 f4
    have pne : qRV (st + 0) (st + k) (mQ (st + 0) r (qSw (st + 0) (st + p) 1 V)) (qSw (st + 0) (st + p) 1 V) (st + 0) r ≠ 0 := by
      unfold qRV; rw [qRd_f, ef]; exact p3
    by_cases c3 : cnt ≤ 1
    · rw [if_pos c3]
      obtain ⟨N2, rfl⟩ : ∃ N2, N = N2 + 1 := ⟨N - 1, by omega⟩
      refine sp_narrow_40 (q σ4 _ cnt c1 (by omega) frr hB4 hR4 (qRs_gath rs fun j j1 j2 => ?_))
      have z : qSw (st + 0) (st + p) 1 V j r = 0 := by
        have a := qSw_at (f := st + 0) (p := st + p) (V := V) (.inl (rfl : (1 : Int) = 1)) j r
        have rg := qw_rg (f := st + 0) (p := st + p) (m := st + k) (j := j) (by omega) (by omega) (by omega) j2
        have b := ho c3 (qw (st + 0) (st + p) j - st) (Nat.zero_le _) (by omega) (by
          intro e
          have e : qw (st + 0) (st + p) j = st + p := by omega
          have := congrArg (qw (st + 0) (st + p)) e
          rw [qw_qw] at this
          unfold qw at this
          by_cases w : st + p = st + 0
          · rw [if_pos w] at this; omega
          · rw [if_neg w, if_pos rfl] at this; omega)
        rw [show st + (qw (st + 0) (st + p) j - st) = qw (st + 0) (st + p) j by omega] at b
        rw [b] at a; omega
      unfold qRV; rw [qRd_j j1 j2]
      show qSw (st + 0) (st + p) 1 V j r - (qSw (st + 0) (st + p) 1 V j r).tdiv _ * _ = 0
      rw [z]; simp
    · rw [if_neg c3]
      have big : B + 3 ≤ N + 1 := by
        rcases hN with h | ⟨_, h⟩
        · exact h
        · exfalso
          obtain ⟨j, j1, j2, j3, j4⟩ := h2 (by omega)
          have pf : p = 0 := Classical.byContradiction fun w => p3 (h p (by omega) p2)
          exact j4 (h j (by omega) j2)
      have pB : (V (st + p) r).natAbs ≤ B := by
        obtain ⟨j, j1, j2, j3, j4⟩ := hE
        exact Nat.le_trans (hm j j1 j2 j3) j4
      have x0 : 1 ≤ (V (st + p) r).natAbs := by clear h2 hE hm ho; omega
      have hX2 : ∀ j, j < k → (qRV (st + 0) (st + k) (mQ (st + 0) r (qSw (st + 0) (st + p) 1 V)) (qSw (st + 0) (st + p) 1 V) (st + j) r).natAbs < 2 ^ 63 := by
        intro j j2
        by_cases w : j = 0
        · subst w; unfold qRV; rw [qRd_f]; exact hXs 0 j2
        · have := lt j (by omega) j2; have := hX p p2; omega
      have one2 : Int32.ofNat 1 = (1 : Int32) := rfl
      by_cases w : ∃ j, 0 < j ∧ j < k ∧ qRV (st + 0) (st + k) (mQ (st + 0) r (qSw (st + 0) (st + p) 1 V)) (qSw (st + 0) (st + p) 1 V) (st + j) r ≠ 0
      · obtain ⟨j, j1, j2, j3⟩ := w
        have l := lt j j1 j2
        have bb := show (qRV (st + 0) (st + k) (mQ (st + 0) r (qSw (st + 0) (st + p) 1 V)) (qSw (st + 0) (st + p) 1 V) (st + j) r).natAbs ≤ B - 1 by clear h2 hE hm ho; omega
        exact ih (B - 1) (rr + 1) _ _ σ4 rs frr hB4 hR4 hX2 ⟨j, Nat.zero_le _, j2, j3, bb⟩ (.inl (by clear h2 hE hm ho; omega))
      · exact ih (qRV (st + 0) (st + k) (mQ (st + 0) r (qSw (st + 0) (st + p) 1 V)) (qSw (st + 0) (st + p) 1 V) (st + 0) r).natAbs (rr + 1) _ _ σ4 rs frr hB4 hR4 hX2 ⟨0, Nat.zero_le _, hk0, pne, Nat.le_refl _⟩ (.inr ⟨by clear h2 hE hm ho w; omega, fun j j1 j2 => Classical.byContradiction fun z => w ⟨j, j1, j2, z⟩⟩)
