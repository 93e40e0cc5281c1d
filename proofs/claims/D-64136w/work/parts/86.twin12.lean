/-! the twin's solveWhole: the start -/
theorem i_diag : ∀ i, i < 36 → ((Int32.ofNat i - Int32.ofNat i / 6 * 6 = Int32.ofNat i / 6) ↔ i % 6 = i / 6) := by decide +kernel
theorem sp_solveWhole_51 {Q : St → Prop} {σ0 : St} (q : ∀ σ2, mFo σ0 σ2 → (∀ c, c < 6 → σ2.2.2 32 c = Int64.ofInt 0) → ∃ n72, wp_solveWhole_72 Q n72 0 σ2) : ∀ (d i : Nat) (σ : St), i + d = 6 → mFo σ0 σ → (∀ c, c < i → σ.2.2 32 c = Int64.ofInt 0) → wp_solveWhole_51 Q (d + 1) (Int32.ofNat i) σ := by
  intro d
  have six : (6 : Int32) = Int32.ofNat 6 := rfl
  induction d with
  | zero =>
    intro i σ hi fr h
    unfold wp_solveWhole_51
    rw [six, i_le (by omega) (by omega)]
    exact ⟨fun _ => q σ fr fun c hc => h c (by omega), fun h => absurd (by omega) h⟩
  | succ d ih =>
    intro i σ hi fr h
    unfold wp_solveWhole_51
    rw [six, i_le (by omega) (by omega)]
    refine ⟨fun h => by omega, fun _ => ⟨by rw [i_in (by omega)]; omega, fun σ1 e1 x2 e2 => ?_⟩⟩
    subst e2
    rw [i_one]
    have f1 : mFo σ σ1 := by rw [e1]; exact ⟨rfl, rfl, fun j hj => by simp [sL, hj]⟩
    refine ih (i + 1) σ1 (by omega) (mFo_trans fr f1) fun c hc => ?_
    rw [e1, sL_nat _ _ (by omega)]
    by_cases z : c = i
    · subst z; rw [if_pos ⟨rfl, rfl⟩]; rfl
    · rw [if_neg (by omega)]; exact h c (by omega)
theorem sp_solveWhole_15 {Q : St → Prop} {σ0 : St} (q : ∀ σ2, mFr σ0 σ2 → (∀ i, i < 36 → σ2.2.2 30 i = Int64.ofInt (if i % 6 = i / 6 then 1 else 0)) → ∃ n51, wp_solveWhole_51 Q n51 0 σ2) : ∀ (d i : Nat) (σ : St), i + d = 36 → mFr σ0 σ → (∀ c, c < i → σ.2.2 30 c = Int64.ofInt (if c % 6 = c / 6 then 1 else 0)) → wp_solveWhole_15 Q (d + 1) (Int32.ofNat i) σ := by
  intro d
  have t6 : (36 : Int32) = Int32.ofNat 36 := rfl
  induction d with
  | zero =>
    intro i σ hi fr h
    unfold wp_solveWhole_15
    rw [t6, i_le (by omega) (by omega)]
    exact ⟨fun _ => q σ fr fun c hc => h c (by omega), fun h => absurd (by omega) h⟩
  | succ d ih =>
    intro i σ hi fr h
    unfold wp_solveWhole_15
    rw [t6, i_le (by omega) (by omega), i_diag i (by omega)]
    have go : ∀ u : Int, u = (if i % 6 = i / 6 then 1 else 0) → wp_solveWhole_42 Q (wp_solveWhole_15 Q (d + 1)) (Int32.ofNat i) (Int32.ofNat i) (Int64.ofInt u) σ := by
      intro u hu
      unfold wp_solveWhole_42
      refine ⟨by rw [i_in (by omega)]; omega, fun σ1 e1 x2 e2 => ?_⟩
      subst e2
      rw [i_one]
      have f1 : mFr σ σ1 := by rw [e1]; exact mFr_sL _ _ _
      refine ih (i + 1) σ1 (by omega) (mFr_trans fr f1) fun c hc => ?_
      rw [e1, sL_nat _ _ (by omega)]
      by_cases z : c = i
      · subst z; rw [if_pos ⟨rfl, rfl⟩, hu]
      · rw [if_neg (by omega)]; exact h c (by omega)
    refine ⟨fun h => by omega, fun _ => ⟨fun h => ?_, fun h => ?_⟩⟩
    · exact go 0 (by rw [if_neg h])
    · exact go 1 (by rw [if_pos h])
/-- unit vectors, no solution yet but 0, all of them -/
theorem sp_solveWhole {n : Nat} {Q : St → Prop} {σ : St} (hn : n ≤ 6) (h17 : gI σ 17 = Int32.ofNat n) (q : ∀ σ2 (V : Nat → Nat → Int), mFs σ σ2 → gI σ2 31 = Int32.ofNat n → gI σ2 33 = 1 → (∀ i c, V i (4 + c) = if i = c then 1 else 0) → mB σ2 n n 0 V → mO σ2 n (fun _ => 0) → ∃ n72, wp_solveWhole_72 Q n72 0 σ2) : wp_solveWhole σ Q := by
  unfold wp_solveWhole
  intro σ1 e1 σ2 e2
  refine ⟨36 + 1, sp_solveWhole_15 (σ0 := σ2) (fun σ3 f3 h3 => ⟨6 + 1, sp_solveWhole_51 (σ0 := σ3) (fun σ4 f4 h4 => ?_) 6 0 σ3 (by omega) (mFo_refl _) (fun c hc => by omega)⟩) 36 0 σ2 (by omega) (mFr_refl _) (fun c hc => by omega)⟩
  have g1 : mFs σ σ2 := by
    rw [e2, e1]; exact ⟨fun j h h' => by simp [sI, h, h'], rfl, fun _ _ _ => rfl⟩
  refine q σ4 (fun i c => if c < 4 then 0 else if i = c - 4 then 1 else 0) (mFs_trans g1 (mFs_trans (mFr_s f3) (mFo_s f4))) ?_ ?_ (fun i c => ?_) (fun a c ha hc => ?_) (fun c hc => h4 c (by omega))
  · rw [gI_Fo f4, gI_Fr f3, e2, gI_sI, if_neg (by decide), e1, gI_sI, if_pos rfl]; exact h17
  · rw [gI_Fo f4, gI_Fr f3, e2, gI_sI, if_pos rfl]
  · show (if 4 + c < 4 then (0 : Int) else if i = 4 + c - 4 then 1 else 0) = _
    rw [if_neg (by omega), Nat.add_sub_cancel_left]
  · rw [f4.2.2 30 (by decide), h3 (6 * a + c) (by omega)]
    show _ = Int64.ofInt (if 4 + c < 4 then (0 : Int) else if 0 + a = 4 + c - 4 then 1 else 0)
    rw [if_neg (show ¬ 4 + c < 4 by omega), Nat.add_sub_cancel_left, Nat.zero_add]
    congr 1
    by_cases z : a = c
    · rw [if_pos (by omega), if_pos z]
    · rw [if_neg (by omega), if_neg z]
