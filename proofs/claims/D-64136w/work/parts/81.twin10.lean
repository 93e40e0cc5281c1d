/-! THE TWIN's shorten -/
/-- all but the solution -/
def mFo (σ σ2 : St) : Prop := σ2.1 = σ.1 ∧ σ2.2.1 = σ.2.1 ∧ ∀ j, j ≠ 32 → σ2.2.2 j = σ.2.2 j
theorem mFo_refl (σ : St) : mFo σ σ := ⟨rfl, rfl, fun _ _ => rfl⟩
theorem mFo_trans {σ σ2 σ3 : St} (h : mFo σ σ2) (g : mFo σ2 σ3) : mFo σ σ3 := ⟨g.1.trans h.1, g.2.1.trans h.2.1, fun j hj => (g.2.2 j hj).trans (h.2.2 j hj)⟩
theorem gI_Fo {σ σ2 : St} (h : mFo σ σ2) (k : Nat) : gI σ2 k = gI σ k := by unfold gI; rw [h.1]
theorem mFo_s {σ σ2 : St} (h : mFo σ σ2) : mFs σ σ2 := ⟨fun j _ _ => by rw [h.1], h.2.1, fun j _ h1 => h.2.2 j h1⟩
theorem sp_shorten_56 {n i : Nat} {w v : Nat → Int} {m : Int} {Q : St → Prop} {K2 : Int32 → St → Prop} {σ0 : St} (hn : n ≤ 6) (hi : i < 6) (h17 : gI σ0 17 = Int32.ofNat n) (hw : ∀ c, c < n → σ0.2.2 30 (6 * i + c) = Int64.ofInt (w c)) (q : ∀ σ2, mFo σ0 σ2 → mO σ2 n (fun c => v c - m * w c) → K2 (Int32.ofNat (i + 1)) σ2) : ∀ (d c : Nat) (σ : St), c + d = n → mFo σ0 σ → (∀ e, e < n → σ.2.2 32 e = Int64.ofInt (if e < c then v e - m * w e else v e)) → wp_shorten_56 Q K2 (d + 1) (Int32.ofNat i) (Int64.ofInt m) (Int32.ofNat c) σ := by
  intro d
  induction d with
  | zero =>
    intro c σ hc fr h
    unfold wp_shorten_56
    rw [gI_Fo fr, h17, i_le (by omega) (by omega)]
    refine ⟨fun _ x1 e1 => ?_, fun h => absurd (by omega) h⟩
    subst e1
    rw [i_one]
    exact q σ fr fun e he => by rw [h e he, if_pos (by omega)]
  | succ d ih =>
    intro c σ hc fr h
    unfold wp_shorten_56
    rw [gI_Fo fr, h17, i_le (by omega) (by omega)]
    refine ⟨fun h => by omega, fun _ => ⟨by rw [i_in (by omega)]; omega, by rw [i_six, i_in (by omega)]; omega, by rw [i_in (by omega)]; omega, fun σ2 e2 x3 e3 => ?_⟩⟩
    subst e3
    rw [i_one]
    rw [i_six, gL_nat _ _ (by omega), gL_nat _ _ (by omega), h c (by omega), if_neg (by omega), fr.2.2 30 (by decide), hw c (by omega), l_mul, l_sub] at e2
    have f1 : mFo σ σ2 := by rw [e2]; exact ⟨rfl, rfl, fun j hj => by simp [sL, hj]⟩
    refine ih (c + 1) σ2 (by omega) (mFo_trans fr f1) fun e he => ?_
    rw [e2, sL_nat _ _ (by omega)]
    by_cases z : e = c
    · subst z; rw [if_pos ⟨rfl, rfl⟩, if_pos (by omega)]
    · rw [if_neg (by omega), h e he]
      by_cases z2 : e < c
      · rw [if_pos z2, if_pos (by omega)]
      · rw [if_neg z2, if_neg (by omega)]
/-- the lead of vector i is looked for; the solution is divided by it -/
theorem sp_shorten_12 {n k st i : Nat} {cN : Nat → Nat} {V : Nat → Nat → Int} {Q : St → Prop} {K2 : Int32 → St → Prop} {σ : St} (hn : n ≤ 6) (hk : k ≤ 6) (hi : i < k) (h17 : gI σ 17 = Int32.ofNat n) (hB : mB σ n k st V) (hl : cN i < n) (hp : 0 < V (st + i) (4 + cN i)) (hpb : (V (st + i) (4 + cN i)).natAbs < 2 ^ 63) (hz : ∀ c, c < cN i → V (st + i) (4 + c) = 0) (q : ∀ (v : Nat → Int) (m : Int), mO σ n v → Int64.ofInt m = Int64.ofInt (v (cN i)) / Int64.ofInt (V (st + i) (4 + cN i)) → (Int64.ofInt m).toInt = m → ∀ σ2, mFo σ σ2 → mO σ2 n (fun c => v c - m * V (st + i) (4 + c)) → K2 (Int32.ofNat (i + 1)) σ2) : ∀ (d c : Nat), c + d = cN i → wp_shorten_12 Q K2 (d + 1) (Int32.ofNat i) (Int32.ofNat c) σ := by
  intro d
  have l0 : (0 : Int64) = Int64.ofInt 0 := rfl
  induction d with
  | zero =>
    intro c hc
    have : c = cN i := by omega
    subst this
    unfold wp_shorten_12
    rw [i_six, gL_nat _ _ (by omega), hB i (cN i) hi hl, lg_cmp_eq, l0, l_eq hpb (by decide), gL_nat _ _ (by omega)]
    refine ⟨by rw [i_in (by omega)]; omega, fun _ => ⟨by rw [i_in (by omega)]; omega, by rw [i_in (by omega)]; omega, ?_, fun y1 e1 => ⟨n + 1, ?_⟩⟩, fun h => by omega⟩
    · intro h; omega
    · have ey : y1 = Int64.ofInt y1.toInt := (l_ofI y1).symm
      rw [ey]
      have hO := mO_any σ n
      refine sp_shorten_56 (v := fun c => (σ.2.2 32 c).toInt) (w := fun c => V (st + i) (4 + c)) hn (by omega) h17 (fun c hc => hB i c hi hc) (fun σ2 f2 h2 => q _ _ hO ?_ (by rw [l_ofI]) σ2 f2 h2) n 0 σ (by omega) (mFo_refl _) (fun e he => by rw [if_neg (by omega)]; exact hO e he)
      rw [l_ofI, e1, l_ofI]
  | succ d ih =>
    intro c hc
    unfold wp_shorten_12
    rw [i_six, gL_nat _ _ (by omega), hB i c hi (by omega), hz c (by omega), lg_cmp_eq, l0]
    refine ⟨by rw [i_in (by omega)]; omega, fun h => absurd rfl h, fun _ x2 e2 => ?_⟩
    subst e2
    rw [i_one]
    exact ih (c + 1) (by omega)
