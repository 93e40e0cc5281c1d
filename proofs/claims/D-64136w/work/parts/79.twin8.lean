/-! the twin's narrow, its end: the solution moves, the first vector goes -/
/-- all but the basis, the solution, their number and flag -/
def mFs (σ σ2 : St) : Prop := (∀ j, j ≠ 31 → j ≠ 33 → σ2.1 j = σ.1 j) ∧ σ2.2.1 = σ.2.1 ∧ ∀ j, j ≠ 30 → j ≠ 32 → σ2.2.2 j = σ.2.2 j
theorem mFs_refl (σ : St) : mFs σ σ := ⟨fun _ _ _ => rfl, rfl, fun _ _ _ => rfl⟩
theorem mFs_trans {σ σ2 σ3 : St} (h : mFs σ σ2) (g : mFs σ2 σ3) : mFs σ σ3 := ⟨fun j h1 h2 => (g.1 j h1 h2).trans (h.1 j h1 h2), g.2.1.trans h.2.1, fun j h1 h2 => (g.2.2 j h1 h2).trans (h.2.2 j h1 h2)⟩
theorem mFr_s {σ σ2 : St} (h : mFr σ σ2) : mFs σ σ2 := ⟨fun j _ _ => by rw [h.1], h.2.1, fun j h1 _ => h.2.2 j h1⟩
theorem gI_Fs {σ σ2 : St} (h : mFs σ σ2) {k : Nat} (h1 : k ≠ 31) (h2 : k ≠ 33) : gI σ2 k = gI σ k := h.1 k h1 h2
theorem mA_Fs {σ σ2 : St} (h : mFs σ σ2) (r c : Nat) : mA σ2 r c = mA σ r c := by unfold mA; rw [h.2.1]
theorem gI_sI (σ : St) (k : Nat) (x : Int32) (j : Nat) : gI (sI σ k x) j = if j = k then x else gI σ j := by unfold gI sI; rfl
def mO (σ : St) (n : Nat) (v : Nat → Int) : Prop := ∀ c, c < n → σ.2.2 32 c = Int64.ofInt (v c)
theorem sp_narrow_336 {n k st : Nat} {V : Nat → Nat → Int} {Q : St → Prop} (hn : n ≤ 6) (hk : k + 1 ≤ 6) {σ0 : St} (h31 : gI σ0 31 = Int32.ofNat k) (hB : mB σ0 n (k + 1) st V) (q : ∀ σ2, mFr σ0 σ2 → mB σ2 n k (st + 1) V → Q σ2) : ∀ (d i : Nat) (σ : St), i + d = 6 * k → mFr σ0 σ → (∀ e, σ.2.2 30 e = if e < i then σ0.2.2 30 (e + 6) else σ0.2.2 30 e) → wp_narrow_336 Q (d + 1) (Int32.ofNat i) σ := by
  intro d
  induction d with
  | zero =>
    intro i σ hi fr h
    unfold wp_narrow_336
    rw [gI_Fr fr, h31, i_six0, i_le (by omega) (by omega)]
    refine ⟨fun _ => q σ fr fun a c ha hc => ?_, fun h => absurd (by omega) h⟩
    rw [h, if_pos (by omega), show 6 * a + c + 6 = 6 * (a + 1) + c by omega, hB (a + 1) c (by omega) hc, show st + (a + 1) = st + 1 + a by omega]
  | succ d ih =>
    intro i σ hi fr h
    unfold wp_narrow_336
    rw [gI_Fr fr, h31, i_six0, i_le (by omega) (by omega)]
    have six : (6 : Int32) = Int32.ofNat 6 := rfl
    refine ⟨fun h => by omega, fun _ => ⟨by rw [six, i_add, i_in (by omega)]; omega, by rw [i_in (by omega)]; omega, fun σ1 e1 x2 e2 => ?_⟩⟩
    subst e2
    rw [i_one]
    have f1 : mFr σ σ1 := by rw [e1]; exact mFr_sL _ _ _
    refine ih (i + 1) σ1 (by omega) (mFr_trans fr f1) fun e => ?_
    rw [six, i_add, gL_nat _ _ (by omega), h, if_neg (by omega)] at e1
    rw [e1, sL_nat _ _ (by omega), h]
    by_cases y : e = i
    · subst y; simp
    · rw [if_neg (by omega)]
      by_cases y2 : e < i
      · rw [if_pos y2, if_pos (by omega)]
      · rw [if_neg y2, if_neg (by omega)]
theorem sp_narrow_323 {n k st : Nat} {V : Nat → Nat → Int} {Q : St → Prop} {σ : St} (hn : n ≤ 6) (hk : k + 1 ≤ 6) (h31 : gI σ 31 = Int32.ofNat (k + 1)) (hB : mB σ n (k + 1) st V) (q : ∀ σ2, mFs σ σ2 → gI σ2 31 = Int32.ofNat k → gI σ2 33 = gI σ 33 → (∀ c, σ2.2.2 32 c = σ.2.2 32 c) → mB σ2 n k (st + 1) V → Q σ2) : wp_narrow_323 Q σ := by
  unfold wp_narrow_323
  intro σ1 e1
  have h1 : gI σ1 31 = Int32.ofNat k := by
    rw [e1, gI_sI, if_pos rfl, h31, ← i_one, Int32.add_sub_cancel]
  have f1 : mFs σ σ1 := by
    rw [e1]; exact ⟨fun j h _ => by simp [sI, h], rfl, fun _ _ _ => rfl⟩
  refine ⟨6 * k + 1, sp_narrow_336 hn hk (σ0 := σ1) h1 (by rw [e1]; exact hB) (fun σ2 f2 h2 => q σ2 (mFs_trans f1 (mFr_s f2)) ?_ ?_ ?_ h2) (6 * k) 0 σ1 (by omega) (mFr_refl _) (fun e => by rw [if_neg (by omega)])⟩
  · rw [gI_Fr f2]; exact h1
  · rw [gI_Fr f2, e1, gI_sI, if_neg (by decide)]
  · intro c; rw [f2.2.2 32 (by decide), e1]; rfl
theorem sp_narrow_273 {n k st : Nat} {V : Nat → Nat → Int} {v : Nat → Int} {y p : Int} {Q : St → Prop} {σ0 : St} (hn : n ≤ 6) (hk : k + 1 ≤ 6) (h17 : gI σ0 17 = Int32.ofNat n) (h31 : gI σ0 31 = Int32.ofNat (k + 1)) (h33 : gI σ0 33 = 1) (hB : mB σ0 n (k + 1) st V) (hO : mO σ0 n v) (hy : y.natAbs < 2 ^ 63) (hp : p.natAbs < 2 ^ 63) (hp0 : p ≠ 0) (q : ∀ σ2, mFs σ0 σ2 → gI σ2 31 = Int32.ofNat k → gI σ2 33 = 1 → mB σ2 n k (st + 1) V → mO σ2 n (fun c => v c + y.tdiv p * V (st + 0) (4 + c)) → Q σ2) : ∀ (d i : Nat) (σ : St), i + d = n → mFs σ0 σ → gI σ 31 = Int32.ofNat (k + 1) → gI σ 33 = 1 → σ.2.2 30 = σ0.2.2 30 → (∀ c, c < n → σ.2.2 32 c = Int64.ofInt (if c < i then v c + y.tdiv p * V (st + 0) (4 + c) else v c)) → wp_narrow_273 Q (d + 1) (Int64.ofInt y) (Int64.ofInt p) (Int32.ofNat i) σ := by
  intro d
  induction d with
  | zero =>
    intro i σ hi fr s31 s33 s30 h
    unfold wp_narrow_273
    rw [gI_Fs fr (by decide) (by decide), h17, i_le (by omega) (by omega)]
    refine ⟨fun _ => sp_narrow_323 hn hk s31 (fun a c ha hc => by rw [s30]; exact hB a c ha hc) (fun σ2 f2 g31 g33 g32 hB2 => q σ2 (mFs_trans fr f2) g31 (g33.trans s33) hB2 fun c hc => ?_), fun h => absurd (by omega) h⟩
    rw [g32, h c hc, if_pos (by omega)]
  | succ d ih =>
    intro i σ hi fr s31 s33 s30 h
    unfold wp_narrow_273
    rw [gI_Fs fr (by decide) (by decide), h17, i_le (by omega) (by omega), s33]
    refine ⟨fun h => by omega, fun _ => ⟨fun h => absurd h (by decide), fun _ => ⟨by rw [i_in (by omega)]; omega, ?_, by rw [i_in (by omega)]; omega, by rw [i_in (by omega)]; omega, fun σ1 e1 x2 e2 => ?_⟩⟩⟩
    · intro h
      have l0 : (0 : Int64) = Int64.ofInt 0 := rfl
      rw [l0, l_eq hp (by decide)] at h; exact hp0 h
    · subst e2
      rw [i_one]
      have b := hB 0 i (by omega) (by omega)
      rw [show 6 * 0 + i = i by omega] at b
      rw [gL_nat _ _ (by omega), gL_nat _ _ (by omega), s30, h i (by omega), if_neg (by omega), b, l_div hy hp, l_mul, l_add] at e1
      have f1 : mFs σ σ1 := by rw [e1]; exact ⟨fun _ _ _ => rfl, rfl, fun j _ h => by simp [sL, h]⟩
      refine ih (i + 1) σ1 (by omega) (mFs_trans fr f1) (by rw [e1]; exact s31) (by rw [e1]; exact s33) ?_ fun c hc => ?_
      · rw [e1, ← s30]; simp [sL]
      · rw [e1, sL_nat _ _ (by omega)]
        by_cases z : c = i
        · subst z; rw [if_pos ⟨rfl, rfl⟩, if_pos (by omega)]
        · rw [if_neg (by omega), h c hc]
          by_cases z2 : c < i
          · rw [if_pos z2, if_pos (by omega)]
          · rw [if_neg z2, if_neg (by omega)]
