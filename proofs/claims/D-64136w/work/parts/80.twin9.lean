/-! the twin's narrow, whole -/
theorem l_tmod {a b : Int} (ha : a.natAbs < 2 ^ 63) (hb : b.natAbs < 2 ^ 63) (hb0 : b ≠ 0) : Int64.ofInt a - Int64.ofInt a / Int64.ofInt b * Int64.ofInt b = 0 ↔ b ∣ a := by
  have l0 : (0 : Int64) = Int64.ofInt 0 := rfl
  have e : a - a.tdiv b * b = a.tmod b := by have := Int.tmod_add_mul_tdiv a b; rw [Int.mul_comm] at this; omega
  have l : (a.tmod b).natAbs < b.natAbs := by rw [Int.natAbs_tmod]; exact Nat.mod_lt _ (by omega)
  rw [l_div ha hb, l_mul, l_sub, e, l0, l_eq (by omega) (by decide)]
  constructor
  · intro h; exact Int.dvd_of_tmod_eq_zero h
  · intro h; exact Int.tmod_eq_zero_of_dvd h
theorem mO_any (σ : St) (n : Nat) : mO σ n (fun c => (σ.2.2 32 c).toInt) := fun c _ => (l_ofI _).symm
/-- what row r misses at v -/
def mMs (σ : St) (n r : Nat) (v : Nat → Int) : Int := (σ.2.1 19 (7 * r + n)).toInt - qS (fun c => mA σ r c * v c) n
theorem mMs_Fs {σ σ2 : St} (h : mFs σ σ2) (n r : Nat) (v : Nat → Int) : mMs σ2 n r v = mMs σ n r v := by unfold mMs mA; rw [h.2.1]
theorem sp_narrow_267 {n k st : Nat} {V : Nat → Nat → Int} {v : Nat → Int} {y p : Int} {Q : St → Prop} {σ : St} (hn : n ≤ 6) (hk : k + 1 ≤ 6) (h17 : gI σ 17 = Int32.ofNat n) (h31 : gI σ 31 = Int32.ofNat (k + 1)) (hB : mB σ n (k + 1) st V) (hO : mO σ n v) (hy : y.natAbs < 2 ^ 63) (hp : p.natAbs < 2 ^ 63) (hp0 : p ≠ 0) (q : ∀ σ2, mFs σ σ2 → gI σ2 31 = Int32.ofNat k → gI σ2 33 = 1 → mB σ2 n k (st + 1) V → mO σ2 n (fun c => v c + y.tdiv p * V (st + 0) (4 + c)) → Q σ2) : wp_narrow_267 Q (Int64.ofInt y) (Int64.ofInt p) 1 σ := by
  unfold wp_narrow_267
  refine ⟨isB_1, fun σ1 e1 => ⟨n + 1, ?_⟩⟩
  have f1 : mFs σ σ1 := by rw [e1]; exact ⟨fun j _ h => by simp [sI, h], rfl, fun _ _ _ => rfl⟩
  exact sp_narrow_273 hn hk (σ0 := σ1) (by rw [gI_Fs f1 (by decide) (by decide)]; exact h17) (by rw [e1, gI_sI, if_neg (by decide)]; exact h31) (by rw [e1, gI_sI, if_pos rfl]) (by rw [e1]; exact hB) (by rw [e1]; exact hO) hy hp hp0 (fun σ2 f2 => q σ2 (mFs_trans f1 f2)) n 0 σ1 (by omega) (mFs_refl _) (by rw [e1, gI_sI, if_neg (by decide)]; exact h31) (by rw [e1, gI_sI, if_pos rfl]) rfl (fun c hc => by rw [if_neg (by omega), e1]; exact hO c hc)
theorem sp_narrow_266 {n k st : Nat} {V : Nat → Nat → Int} {y p : Int64} {Q : St → Prop} {σ : St} (hn : n ≤ 6) (hk : k + 1 ≤ 6) (h17 : gI σ 17 = Int32.ofNat n) (h31 : gI σ 31 = Int32.ofNat (k + 1)) (hB : mB σ n (k + 1) st V) (q : ∀ σ2, mFs σ σ2 → gI σ2 31 = Int32.ofNat k → gI σ2 33 = 0 → mB σ2 n k (st + 1) V → Q σ2) : wp_narrow_266 Q y p σ := by
  unfold wp_narrow_266 wp_narrow_267
  refine ⟨isB_0, fun σ1 e1 => ⟨1, ?_⟩⟩
  have f1 : mFs σ σ1 := by rw [e1]; exact ⟨fun j _ h => by simp [sI, h], rfl, fun _ _ _ => rfl⟩
  have g31 : gI σ1 31 = Int32.ofNat (k + 1) := by rw [e1, gI_sI, if_neg (by decide)]; exact h31
  have g33 : gI σ1 33 = 0 := by rw [e1, gI_sI, if_pos rfl]
  have fin := sp_narrow_323 (Q := Q) hn hk g31 (by rw [e1]; exact hB) (fun σ2 f2 a1 a2 _ hB2 => q σ2 (mFs_trans f1 f2) a1 (a2.trans g33) hB2)
  unfold wp_narrow_273
  exact ⟨fun _ => fin, fun _ => ⟨fun _ => fin, fun h => absurd g33 h⟩⟩
/-- the result of a narrow -/
def mNw (σ σ2 : St) (n k st r : Nat) (V : Nat → Nat → Int) (v : Nat → Int) (F : Prop) : Prop :=
  mFs σ σ2 ∧
  ((∀ j, j < k → V (st + j) r = 0) ∧ gI σ2 31 = Int32.ofNat k ∧ mB σ2 n k st V ∧ (F ∧ mMs σ n r v = 0 ∧ gI σ2 33 = 1 ∧ mO σ2 n v ∨ ¬ (F ∧ mMs σ n r v = 0) ∧ gI σ2 33 = 0) ∨
   ∃ V2, 0 < k ∧ qGath st (st + k) r V V2 ∧ gI σ2 31 = Int32.ofNat (k - 1) ∧ mB σ2 n (k - 1) (st + 1) V2 ∧ (F ∧ V2 st r ∣ mMs σ n r v ∧ gI σ2 33 = 1 ∧ mO σ2 n (fun c => v c + (mMs σ n r v).tdiv (V2 st r) * V2 st (4 + c)) ∨ ¬ (F ∧ V2 st r ∣ mMs σ n r v) ∧ gI σ2 33 = 0))
theorem sp_narrow {n k st r : Nat} {V : Nat → Nat → Int} {v : Nat → Int} {F : Prop} {Q : St → Prop} {σ : St} (hn : n ≤ 6) (hk : k ≤ 6) (hr : r < 4) (h17 : gI σ 17 = Int32.ofNat n) (h31 : gI σ 31 = Int32.ofNat k) (hB : mB σ n k st V) (hR : mRow σ n r st (st + k) V) (hX : ∀ j, j < k → (V (st + j) r).natAbs < 2 ^ 63) (hF : F ∧ gI σ 33 = 1 ∧ mO σ n v ∧ (mMs σ n r v).natAbs < 2 ^ 63 ∨ ¬ F ∧ gI σ 33 = 0) (q : ∀ σ2, mNw σ σ2 n k st r V v F → Q σ2) : wp_narrow (Int32.ofNat r) σ Q := by
  have l0 : (0 : Int64) = Int64.ofInt 0 := rfl
  have dot : ∀ (σ1 : St) (Q1 : Int64 → St → Prop), mFr σ σ1 → (∀ y : Int, (F → y = qS (fun c => mA σ r c * v c) n) → Q1 (Int64.ofInt y) σ1) → wp_dot_32 (Int32.ofNat r) 0 σ1 Q1 := by
    intro σ1 Q1 f1 k1
    have g17 : gI σ1 17 = Int32.ofNat n := by rw [gI_Fr f1]; exact h17
    rcases hF with ⟨hf, _, hO, _⟩ | ⟨hf, _⟩
    · refine sp_dot_32 (v := v) hn hr g17 (fun c hc => by rw [f1.2.2 32 (by decide)]; exact hO c hc) (k1 _ fun _ => qS_congr fun c _ => by rw [mA_Fr f1])
    · exact sp_dot_32 (v := fun c => (σ1.2.2 32 c).toInt) hn hr g17 (fun c hc => (l_ofI _).symm) (k1 _ fun h => absurd h hf)
  have num : ∀ (σ1 : St), mFr σ σ1 → gA σ1 19 (7 * Int32.ofNat r + gI σ1 17) = σ.2.1 19 (7 * r + n) := by
    intro σ1 f1
    rw [gI_Fr f1, h17, i_sev, gA_nat _ _ (by omega), f1.2.1]
  have inn : ∀ (σ1 : St), mFr σ σ1 → vp_in (7 * Int32.ofNat r + gI σ1 17) 28 := by
    intro σ1 f1; rw [gI_Fr f1, h17, i_sev, i_in (by omega)]; omega
  by_cases w : ∃ j, j < k ∧ V (st + j) r ≠ 0
  · obtain ⟨j, j2, j3⟩ := w
    obtain ⟨k', rfl⟩ : ∃ k', k = k' + 1 := ⟨k - 1, by omega⟩
    refine ⟨_, sp_narrow_4 hn hk hr (by omega) h17 h31 (fun σ2 V2 cnt c1 c2 f2 hB2 hR2 g => ?_) ((V (st + j) r).natAbs + 3) (V (st + j) r).natAbs 0 V 0 σ qRs_0 (mFr_refl σ) hB hR hX ⟨j, Nat.zero_le _, j2, j3, Nat.le_refl _⟩ (.inl (Nat.le_refl _))⟩
    have g' : qGath st (st + (k' + 1)) r V V2 := g
    have piv := qGath_ind (Pr := fun U => (U st r).natAbs < 2 ^ 63) g' (fun U u => by
      obtain ⟨p, s, qq, p1, p2, hs, hp, hm, e, hrr⟩ := u
      have e1 : (U st r).natAbs = (V p r).natAbs := by rw [e]; unfold qRV; rw [qRd_f, qSw_at hs]; unfold qw; rw [if_pos rfl]
      have := hX (p - st) (by omega)
      rw [show st + (p - st) = p by omega] at this
      omega) (fun U U2 _ hl ih u => by
      obtain ⟨p, s, qq, p1, p2, hs, hp, hm, e, hrr⟩ := u
      have e1 : (U2 st r).natAbs = (U p r).natAbs := by rw [e]; unfold qRV; rw [qRd_f, qSw_at hs]; unfold qw; rw [if_pos rfl]
      by_cases x : p = st
      · subst x; omega
      · have := hl p (by omega) p2; omega)
    obtain ⟨pl, p0, _⟩ := piv
    unfold mFin
    refine ⟨inn σ2 f2, dot σ2 _ f2 fun y hy y3 e3 => ⟨fun _ => ?_, fun h => ?_⟩⟩
    · rw [num σ2 f2, l_i2l, l_sub] at e3
      subst e3
      change wp_dot_30 (Int32.ofNat r) (Int32.ofNat (6 * 0)) σ2 _
      refine sp_dotV hn hr hk (by omega) (by rw [gI_Fr f2]; exact h17) hB2 hR2 ?_
      rw [gI_Fr f2, Nat.add_zero]
      have h17' : gI σ2 17 = Int32.ofNat n := by rw [gI_Fr f2]; exact h17
      have h31' : gI σ2 31 = Int32.ofNat (k' + 1) := by rw [gI_Fr f2]; exact h31
      rcases hF with ⟨hf, h33, hO, hM⟩ | ⟨hf, h33⟩
      · have ey : (σ.2.1 19 (7 * r + n)).toInt - y = mMs σ n r v := by unfold mMs; rw [hy hf]
        rw [ey, h33]
        refine ⟨fun h => absurd h (by decide), fun _ => ⟨?_, ?_, ?_⟩⟩
        · intro h; rw [l0, l_eq pl (by decide)] at h; exact p0 h
        · intro h
          rw [lg_cmp_eq, l_tmod hM pl p0] at h
          exact sp_narrow_266 hn hk h17' h31' hB2 fun σ3 f3 a1 a2 hB3 => q σ3 ⟨mFs_trans (mFr_s f2) f3, .inr ⟨V2, by omega, g', a1, hB3, .inr ⟨fun x => h x.2, a2⟩⟩⟩
        · intro h
          rw [lg_cmp_eq, l_tmod hM pl p0] at h
          exact sp_narrow_267 hn hk h17' h31' hB2 (v := v) (fun c hc => by rw [f2.2.2 32 (by decide)]; exact hO c hc) hM pl p0 fun σ3 f3 a1 a2 hB3 hO3 => q σ3 ⟨mFs_trans (mFr_s f2) f3, .inr ⟨V2, by omega, g', a1, hB3, .inl ⟨hf, h, a2, hO3⟩⟩⟩
      · rw [h33]
        refine ⟨fun _ => ?_, fun h => absurd rfl h⟩
        exact sp_narrow_266 hn hk h17' h31' hB2 fun σ3 f3 a1 a2 hB3 => q σ3 ⟨mFs_trans (mFr_s f2) f3, .inr ⟨V2, by omega, g', a1, hB3, .inr ⟨fun x => hf x.1, a2⟩⟩⟩
    · have h : Int32.ofNat cnt = Int32.ofNat 0 := h
      rw [i_eq (by omega) (by omega)] at h; omega
  · have hz : ∀ j, j < k → V (st + j) r = 0 := fun j hj => Classical.byContradiction fun z => w ⟨j, hj, z⟩
    refine ⟨2, ?_⟩
    have fin : mFin Q (Int32.ofNat r) 0 σ := by
      unfold mFin
      refine ⟨inn σ (mFr_refl σ), dot σ _ (mFr_refl σ) fun y hy y3 e3 => ⟨fun h => absurd rfl h, fun _ => ?_⟩⟩
      rw [num σ (mFr_refl σ), l_i2l, l_sub] at e3
      subst e3
      have set0 : ∀ u : Int32, ∀ σ1 : St, σ1 = sI σ 33 u → mFs σ σ1 ∧ gI σ1 31 = Int32.ofNat k ∧ gI σ1 33 = u ∧ mB σ1 n k st V := by
        intro u σ1 e1
        refine ⟨by rw [e1]; exact ⟨fun j _ h => by simp [sI, h], rfl, fun _ _ _ => rfl⟩, by rw [e1, gI_sI, if_neg (by decide)]; exact h31, by rw [e1, gI_sI, if_pos rfl], by rw [e1]; exact hB⟩
      rcases hF with ⟨hf, h33, hO, hM⟩ | ⟨hf, h33⟩
      · have ey : (σ.2.1 19 (7 * r + n)).toInt - y = mMs σ n r v := by unfold mMs; rw [hy hf]
        rw [ey, h33, lg_cmp_eq, l0, l_eq hM (by decide)]
        refine ⟨fun h => absurd h (by decide), fun _ => ⟨fun h => ?_, fun h => ?_⟩⟩
        · unfold wp_narrow_227 wp_narrow_228
          refine ⟨isB_0, fun σ1 e1 => ?_⟩
          obtain ⟨a1, a2, a3, a4⟩ := set0 0 σ1 e1
          exact q σ1 ⟨a1, .inl ⟨hz, a2, a4, .inr ⟨fun x => h x.2, a3⟩⟩⟩
        · unfold wp_narrow_228
          refine ⟨isB_1, fun σ1 e1 => ?_⟩
          obtain ⟨a1, a2, a3, a4⟩ := set0 1 σ1 e1
          exact q σ1 ⟨a1, .inl ⟨hz, a2, a4, .inl ⟨hf, h, a3, by rw [e1]; exact hO⟩⟩⟩
      · rw [h33]
        refine ⟨fun _ => ?_, fun h => absurd rfl h⟩
        unfold wp_narrow_227 wp_narrow_228
        refine ⟨isB_0, fun σ1 e1 => ?_⟩
        obtain ⟨a1, a2, a3, a4⟩ := set0 0 σ1 e1
        exact q σ1 ⟨a1, .inl ⟨hz, a2, a4, .inr ⟨fun x => hf x.1, a3⟩⟩⟩
    unfold wp_narrow_4
    refine ⟨fun h => absurd h (by decide), fun _ => ⟨k + 1, ?_⟩⟩
    refine sp_narrow_16 hn hk hr h17 h31 hB hR hX (fun _ => ?_) (fun p cnt p2 p3 => absurd (hz p p2) p3) k 0 _ _ (by omega) (.inl ⟨rfl, rfl, fun j j1 j2 => by omega⟩)
    unfold wp_narrow_162 wp_narrow_172
    refine ⟨fun _ => ?_, fun h => absurd (by decide) h⟩
    exact sp_narrow_40 fin
