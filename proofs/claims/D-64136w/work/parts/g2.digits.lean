/-! READING: the twin's cut, one word -/
theorem tDg_0 {tx : Nat → Int} {len i : Nat} : tDg tx len i = true ↔ 48 ≤ tC0 tx len i ∧ tC0 tx len i ≤ 57 := by
  rw [tDg_iff]
  unfold tCh tC0
  by_cases w : i < len
  · rw [if_pos w, if_pos w]
  · rw [if_neg w, if_neg w]; omega
theorem sp_cut_55 {len i : Nat} {tx : Nat → Int} {c : Int} {σ : St} {Q : St → Prop} {K9 : Int32 → Int32 → St → Prop} (T : mTx σ len tx) (F : tFine tx len) (hl : len ≤ 300) (R : Nat × Int) (q : ∀ u : Int32, (R.1 ≤ i + 4 → u = Int32.ofInt R.2) → wp_cut_261 Q K9 (Int32.ofNat i) 1 (Int32.ofInt c) (Int32.ofNat R.1) u (if R.1 ≤ i + 4 then 1 else 10) σ) : ∀ (f p : Nat) (v : Int) (v5 : Int32), len < p + f → i ≤ p → p ≤ len → tRun tx len f p v = R → (p ≤ i + 5 → v5 = Int32.ofInt v) → wp_cut_55 Q K9 (f + 1) (Int32.ofNat i) 1 (Int32.ofInt c) (Int32.ofNat p) v5 σ := by
  have c48 : (48 : Int32) = Int32.ofInt 48 := rfl
  have c57 : (57 : Int32) = Int32.ofInt 57 := rfl
  have four : (4 : Int32) = Int32.ofNat 4 := rfl
  have five : (5 : Int32) = Int32.ofNat 5 := rfl
  have c10 : (10 : Int32) = Int32.ofInt 10 := rfl
  intro f
  induction f with
  | zero => intro p v v5 h1 h2 h3; omega
  | succ f ih =>
    intro p v v5 hf hip hpl er hv
    have b : (tC0 tx len p).natAbs ≤ 126 := by
      unfold tC0
      by_cases w : p < len
      · rw [if_pos w]; have := F p w; omega
      · rw [if_neg w]; decide
    have eu : tRun tx len (f + 1) p v = if tDg tx len p = true then tRun tx len f (p + 1) (10 * v + tCh tx len p - 48) else (p, v) := rfl
    rw [eu] at er
    have stop : ¬ (48 ≤ tC0 tx len p ∧ tC0 tx len p ≤ 57) → wp_cut_113 Q K9 (Int32.ofNat i) 1 (Int32.ofInt c) (Int32.ofNat p) v5 σ := by
      intro nd
      rw [if_neg (fun w => nd (tDg_0.mp w))] at er
      unfold wp_cut_113 wp_cut_127
      have qq := q v5 (by rw [← er]; intro h; exact hv (by simp only at h; omega))
      rw [← er] at qq
      simp only at qq
      rw [i_sub hip, four, i_le (by omega) (by omega)]
      refine ⟨fun w => ?_, fun w => ?_⟩
      · rw [if_pos (by omega)] at qq; exact qq
      · rw [if_neg (by omega)] at qq; exact qq
    unfold wp_cut_55
    refine sp_letter0 T hl (by omega) ?_
    rw [c48, i_ltI (by omega) (by decide)]
    refine ⟨fun w => stop (by omega), fun w => sp_letter0 T hl (by omega) ?_⟩
    rw [c57, i_ltI (by decide) (by omega)]
    refine ⟨fun w2 => stop (by omega), fun w2 => ?_⟩
    have dg : tDg tx len p = true := tDg_0.mpr ⟨by omega, by omega⟩
    rw [if_pos dg] at er
    have pl : p < len := by
      apply Classical.byContradiction
      intro y
      unfold tC0 at w
      rw [if_neg y] at w; omega
    have ec : tCh tx len p = tC0 tx len p := by unfold tCh tC0; rw [if_pos pl, if_pos pl]
    rw [i_sub hip, five, i_le (by omega) (by omega)]
    refine ⟨fun w3 x1 e1 => ?_, fun w3 => sp_letter0 T hl (by omega) fun x1 e1 => ?_⟩
    · rw [e1, i_one]
      exact ih (p + 1) _ v5 (by omega) (by omega) (by omega) er fun h => by omega
    · rw [e1, i_one]
      refine ih (p + 1) _ _ (by omega) (by omega) (by omega) er fun h => ?_
      rw [hv (by omega), c10, i_mulI, i_addI, ← c48, c48, i_subI, ec]
