/-! THE TWIN's narrow: a gather by what the vectors make of a row -/
/-- coordinate r is what row r makes of the vector -/
def mRow (σ : St) (n r lo hi : Nat) (V : Nat → Nat → Int) : Prop := ∀ j, lo ≤ j → j < hi → V j r = qS (fun c => mA σ r c * V j (4 + c)) n
theorem mA_Fr {σ σ2 : St} (h : mFr σ σ2) (r c : Nat) : mA σ2 r c = mA σ r c := by unfold mA; rw [h.2.1]
theorem mRow_Fr {σ σ2 : St} {n r lo hi : Nat} {V : Nat → Nat → Int} (h : mFr σ σ2) (hr : mRow σ n r lo hi V) : mRow σ2 n r lo hi V := fun j j1 j2 => by
  rw [hr j j1 j2]; exact qS_congr fun c _ => by rw [mA_Fr h]
theorem sp_dotV {n r i k st : Nat} {V : Nat → Nat → Int} {Q : Int64 → St → Prop} {σ : St} (hn : n ≤ 6) (hr : r < 4) (hk : k ≤ 6) (hi : i < k) (h17 : gI σ 17 = Int32.ofNat n) (hB : mB σ n k st V) (hR : mRow σ n r st (st + k) V) (q : Q (Int64.ofInt (V (st + i) r)) σ) : wp_dot_30 (Int32.ofNat r) (Int32.ofNat (6 * i)) σ Q := by
  refine sp_dot_30 (v := fun c => V (st + i) (4 + c)) hn hr (by omega) h17 (fun c hc => hB i c hi hc) ?_
  rw [← hR (st + i) (by omega) (by omega)]; exact q
theorem i_six0 (a : Nat) : 6 * Int32.ofNat a = Int32.ofNat (6 * a) := i_mul 6 a
theorem sp_narrow_16 {n k st r : Nat} {V : Nat → Nat → Int} {Qr : St → Prop} {K4 : Int32 → Int32 → Int32 → St → Prop} {σ : St} (hn : n ≤ 6) (hk : k ≤ 6) (hr : r < 4) (h17 : gI σ 17 = Int32.ofNat n) (h31 : gI σ 31 = Int32.ofNat k) (hB : mB σ n k st V) (hR : mRow σ n r st (st + k) V) (hX : ∀ j, j < k → (V (st + j) r).natAbs < 2 ^ 63) (q0 : (∀ j, j < k → V (st + j) r = 0) → wp_narrow_162 Qr K4 (Int32.ofNat r) 0 σ) (q1 : ∀ p cnt : Nat, p < k → V (st + p) r ≠ 0 → 1 ≤ cnt → cnt ≤ k → (∀ j, 0 ≤ j → j < k → V (st + j) r ≠ 0 → (V (st + p) r).natAbs ≤ (V (st + j) r).natAbs) → (cnt ≤ 1 → ∀ j, 0 ≤ j → j < k → j ≠ p → V (st + j) r = 0) → (2 ≤ cnt → mOth (fun j => V (st + j) r) 0 k p) → wp_exchange 0 (Int32.ofNat p) σ (fun (σ1 : St) => wp_dot_30 (Int32.ofNat r) 0 σ1 (fun (y3 : Int64) (σ2 : St) => ∃ n123, wp_narrow_123 Qr K4 n123 (Int32.ofNat r) (Int32.ofNat cnt) y3 1 σ2))) : ∀ (d i : Nat) (v4 v5 : Int32), i + d = k → mScan (fun j => V (st + j) r) 0 i v4 v5 → wp_narrow_16 Qr K4 (d + 1) (Int32.ofNat r) v5 v4 (Int32.ofNat i) σ := by
  intro d
  induction d with
  | zero =>
    intro i v4 v5 hi hs
    have : i = k := by omega
    subst this
    unfold wp_narrow_16
    rw [h31, i_le (by omega) (by omega)]
    refine ⟨fun _ => ?_, fun h => absurd (Nat.le_refl _) h⟩
    rcases hs with ⟨e4, e5, hz⟩ | ⟨p, cnt, p1, p2, p3, e4, e5, c1, c2, hm, ho, h2⟩
    · subst e4; subst e5
      exact ⟨fun _ => q0 (fun j hj => hz j (Nat.zero_le _) hj), fun h => absurd (by decide) h⟩
    · subst e4; subst e5
      refine ⟨fun h => ?_, fun _ => q1 p cnt p2 p3 c1 c2 hm ho h2⟩
      have h : Int32.ofNat cnt ≤ Int32.ofNat 0 := h
      clear h2 hm ho
      rw [i_le (by omega) (by omega)] at h; omega
  | succ d ih =>
    intro i v4 v5 hi hs
    unfold wp_narrow_16
    rw [h31, i_le (by omega) (by omega)]
    refine ⟨fun h => by omega, fun _ => ?_⟩
    have xi := hX i (by omega)
    have l0 : (0 : Int64) = Int64.ofInt 0 := rfl
    rw [i_six0]
    refine sp_dotV hn hr hk (show i < k by omega) h17 hB hR (sp_size xi ?_)
    have ai : ((V (st + i) r).natAbs : Int).natAbs < 2 ^ 63 := by omega
    rw [lg_cmp_eq, l0, l_eq ai (by decide)]
    constructor
    · intro z
      have z : V (st + i) r = 0 := by omega
      unfold wp_narrow_91
      intro x1 e1
      subst e1
      rw [i_one]
      refine ih (i + 1) v4 v5 (by omega) ?_
      rcases hs with ⟨e4, e5, hz⟩ | ⟨p, cnt, p1, p2, p3, e4, e5, c1, c2, hm, ho, h2⟩
      · left
        refine ⟨e4, e5, fun j j1 j2 => ?_⟩
        by_cases e : j = i
        · subst e; exact z
        · exact hz j j1 (by omega)
      · right
        refine ⟨p, cnt, p1, by omega, p3, e4, e5, c1, by omega, fun j j1 j2 hj => ?_, fun h j j1 j2 hj => ?_, fun h => by obtain ⟨j, j1, j2, j3, j4⟩ := h2 h; exact ⟨j, j1, by omega, j3, j4⟩⟩
        · by_cases e : j = i
          · subst e; exact absurd z hj
          · exact hm j j1 (by omega) hj
        · by_cases e : j = i
          · subst e; exact z
          · exact ho h j j1 (by omega) hj
    · intro z x8 e8
      have z : V (st + i) r ≠ 0 := by omega
      subst e8
      rcases hs with ⟨e4, e5, hz⟩ | ⟨p, cnt, p1, p2, p3, e4, e5, c1, c2, hm, ho, h2⟩
      · subst e4; subst e5
        refine ⟨fun _ => ?_, fun h => absurd (by decide) h⟩
        unfold wp_narrow_82 wp_narrow_89 wp_narrow_91
        intro x2 e2
        subst e2
        rw [i_one]
        refine ih (i + 1) _ _ (by omega) (.inr ⟨i, 1, Nat.zero_le _, by omega, z, rfl, rfl, by omega, by omega, fun j j1 j2 hj => ?_, fun _ j j1 j2 hj => hz j j1 (by omega), fun h => by omega⟩)
        by_cases e : j = i
        · subst e; exact Nat.le_refl _
        · exact absurd (hz j j1 (by omega)) hj
      · subst e4; subst e5
        have xp := hX p (by omega)
        have c6 : cnt < 2147483648 := by clear h2 hm ho ih; omega
        constructor
        · intro h
          clear h2 hm ho ih
          rw [i_0, i_lt (by omega) (by omega)] at h; omega
        intro _
        rw [i_six0]
        refine sp_dotV hn hr hk (show p < k by omega) h17 hB hR (sp_size xp ?_)
        have ap : ((V (st + p) r).natAbs : Int).natAbs < 2 ^ 63 := by clear h2 hm ho ih; omega
        rw [lg_cmp_ge, l_le ap ai, i_one]
        constructor
        · intro h
          unfold wp_narrow_89 wp_narrow_91
          intro x2 e2
          subst e2
          rw [i_one]
          refine ih (i + 1) _ _ (by omega) (.inr ⟨p, cnt + 1, Nat.zero_le _, by omega, p3, rfl, rfl, by omega, by omega, fun j j1 j2 hj => ?_, fun h => by omega, fun _ => ⟨i, Nat.zero_le _, by omega, by omega, z⟩⟩)
          by_cases e : j = i
          · subst e; show (V (st + p) r).natAbs ≤ (V (st + j) r).natAbs; clear h2 hm ho ih; omega
          · exact hm j j1 (by omega) hj
        · intro h
          unfold wp_narrow_82 wp_narrow_89 wp_narrow_91
          intro x2 e2
          subst e2
          rw [i_one]
          refine ih (i + 1) _ _ (by omega) (.inr ⟨i, cnt + 1, Nat.zero_le _, by omega, z, rfl, rfl, by omega, by omega, fun j j1 j2 hj => ?_, fun h => by omega, fun _ => ⟨p, Nat.zero_le _, by omega, by omega, p3⟩⟩)
          by_cases e : j = i
          · subst e; exact Nat.le_refl _
          · have a := hm j j1 (by omega) hj
            have a : (V (st + p) r).natAbs ≤ (V (st + j) r).natAbs := a
            show (V (st + i) r).natAbs ≤ (V (st + j) r).natAbs
            clear h2 hm ho ih
            omega
