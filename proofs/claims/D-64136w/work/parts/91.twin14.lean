/-! THE TWIN: one row, all rows -/
theorem qRf_F {σ : St} {n s : Nat} {A : Nat → Nat → Int} (hn : n ≤ 6) (hA : ∀ c, c < 7 → A s c = mRf σ n s c) (v : Nat → Int) (hv : ∀ c, n ≤ c → c < 6 → v c = 0) : qF (A s) v = qS (fun c => mA σ s c * v c) n - (σ.2.1 19 (7 * s + n)).toInt * v 6 := by
  unfold qF
  rw [qS_congr (g := fun c => mRf σ n s c * v c) fun c hc => by rw [hA c hc]]
  have e : ∀ m, n + m ≤ 6 → qS (fun c => mRf σ n s c * v c) (n + m) = qS (fun c => mA σ s c * v c) n := by
    intro m
    induction m with
    | zero => intro _; exact qS_congr fun c hc => by unfold mRf; rw [if_pos (by omega)]
    | succ m ih =>
      intro hm
      show qS (fun c => mRf σ n s c * v c) (n + m) + mRf σ n s (n + m) * v (n + m) = _
      rw [ih (by omega), hv (n + m) (by omega) (by omega)]; simp
  have e6 := e (6 - n) (by omega)
  rw [show n + (6 - n) = 6 by omega] at e6
  show qS (fun c => mRf σ n s c * v c) 6 + mRf σ n s 6 * v 6 = _
  rw [e6]
  have : mRf σ n s 6 = -(σ.2.1 19 (7 * s + n)).toInt := by unfold mRf; rw [if_neg (by omega), if_pos rfl]
  rw [this, Int.neg_mul]; omega
theorem q_last {x : Nat → Int} : ∀ k, (∀ i, i < k → x i = 0) ∨ ∃ R, R < k ∧ x R ≠ 0 ∧ ∀ i, R < i → i < k → x i = 0 := by
  intro k
  induction k with
  | zero => exact .inl fun i hi => by omega
  | succ k ih =>
    by_cases e : x k = 0
    · rcases ih with h | ⟨R, h1, h2, h3⟩
      · exact .inl fun i hi => by
          by_cases z : i = k
          · rw [z]; exact e
          · exact h i (by omega)
      · exact .inr ⟨R, by omega, h2, fun i i1 i2 => by
          by_cases z : i = k
          · rw [z]; exact e
          · exact h3 i i1 (by omega)⟩
    · exact .inr ⟨k, by omega, e, fun i i1 i2 => by omega⟩
theorem mFs_17 {σ σ2 : St} (h : mFs σ σ2) : gI σ2 17 = gI σ 17 := gI_Fs h (by decide) (by decide)
theorem sp_row {n r : Nat} {A : Nat → Nat → Int} {Q : St → Prop} {σ : St} (hn : n ≤ 6) (hr : r < 4) (h17 : gI σ 17 = Int32.ofNat n) (hA : ∀ s, s ≤ r → qRow n (A s)) (hAr : ∀ c, c < 7 → A r c = mRf σ n r c) (h : mWh σ n r A) (q : ∀ σ2, mFs σ σ2 → mWh σ2 n (r + 1) A → Q σ2) : wp_narrow (Int32.ofNat r) σ (fun σ1 => wp_order σ1 (fun σ2 => wp_shorten σ2 Q)) := by
  obtain ⟨ρ, k, a, b, cN, w, inv, h31, hc, hF⟩ := h
  have hk : ρ + k = n := inv.1.1.1
  have hρ : ρ ≤ 3 := by have := inv.2.1; omega
  have rows := inv.1.1.2.2
  have hN := qKB_HN inv.1
  have h6 : n ≤ 6 := hn
  have hV : ∀ i, i < k → ∀ col, col < 7 → qVs w (fun i => qF (A r) (w i)) r (0 + i) (4 + col) = w i col := fun i hi col hc => by rw [Nat.zero_add]; exact qVs_w _ _ _ _ hc
  have hVr : ∀ i, i < k → qVs w (fun i => qF (A r) (w i)) r (0 + i) r = qF (A r) (w i) := fun i hi => by rw [Nat.zero_add]; exact qVs_r w (fun i => qF (A r) (w i)) i hr
  have hVu : ∀ i l, i < k → l < k → qVs w (fun i => qF (A r) (w i)) r (0 + i) (16 + l) = if i = l then 1 else 0 := fun i l _ _ => by rw [Nat.zero_add]; exact qVs_u _ _ _ _ _
  generalize hVV : qVs w (fun i => qF (A r) (w i)) r = V at hV hVr hVu
  have hB : mB σ n k 0 V := fun i c hi hcn => by rw [hV i hi c (by omega)]; exact hc i c hi hcn
  have hw6 : ∀ i, i < k → w i 6 = 0 := fun i hi => qInv_6 inv hi
  have hwz : ∀ i, i < k → ∀ c, n ≤ c → c < 6 → w i c = 0 := fun i hi => (inv.2.2.2.1 i hi).1
  have hR : mRow σ n r 0 (0 + k) V := by
    intro j j1 j2
    have e := hVr j (by omega)
    rw [Nat.zero_add] at e
    rw [e, qRf_F hn hAr _ (hwz j (by omega)), hw6 j (by omega), Int.mul_zero, Int.sub_zero]
    exact qS_congr fun c hcn => by
      have := hV j (by omega) c (by omega)
      rw [Nat.zero_add] at this; rw [this]
  have hX : ∀ j, j < k → (V (0 + j) r).natAbs < 2 ^ 63 := fun j hj => by
    rw [hVr j hj]; exact q_rowfit inv.1 hρ (qInv_row inv hA) (hA r (Nat.le_refl _)) hj
  have miss : ∀ v : Nat → Int, v 6 = 1 → qAll n r A v → mMs σ n r v = -qF (A r) v := by
    intro v v6 hv
    rw [qRf_F hn hAr v hv.1, v6]; unfold mMs; omega
  -- the solution that is there, if there is one
  have hFv : ∃ v : Nat → Int, (qSol n r A ∧ gI σ 33 = 1 ∧ mO σ n v ∧ v 6 = 1 ∧ qAll n r A v ∧ (∀ i, i < k → (v (cN i)).natAbs < (w i (cN i)).natAbs)) ∨ ¬ qSol n r A ∧ gI σ 33 = 0 := by
    rcases hF with ⟨s, e, hv⟩ | ⟨s, e⟩
    · obtain ⟨v, v1, v2, v3, v4⟩ := hv hρ
      exact ⟨v, .inl ⟨s, e, v3, v1, v2, v4⟩⟩
    · exact ⟨fun _ => 0, .inr ⟨s, e⟩⟩
  obtain ⟨v, hFv⟩ := hFv
  refine sp_narrow (v := v) (F := qSol n r A) hn (by omega) hr h17 h31 hB hR hX ?_ fun σ1 hnw => ?_
  · rcases hFv with ⟨s, e, hO, v6, hv, hl⟩ | hno
    · refine .inl ⟨s, e, hO, ?_⟩
      rw [miss v v6 hv]
      have := qInv_col inv hA hρ (hA r (Nat.le_refl _)) v6 hv hl
      have m : qMt ρ ≤ 192000 := by
        have : ρ = 0 ∨ ρ = 1 ∨ ρ = 2 ∨ ρ = 3 := by omega
        rcases this with rfl | rfl | rfl | rfl <;> decide
      omega
    · exact .inr hno
  obtain ⟨f1, hnw⟩ := hnw
  have h171 : gI σ1 17 = Int32.ofNat n := by rw [mFs_17 f1]; exact h17
  have hAs : ∀ s, s < r + 1 → qRow n (A s) := fun s hs => hA s (by omega)
  rcases hnw with ⟨hz, g31, gB, gF⟩ | ⟨V2, k0, gath, g31, gB, gF⟩
  · -- the row makes nothing of the basis
    have hz2 : ∀ i, i < k → qF (A r) (w i) = 0 := fun i hi => by rw [← hVr i hi]; exact hz i hi
    have inv2 := qInv_idle inv hz2
    have lead := qInv_lead inv (fun s hs => hA s (by omega)) (by omega)
    unfold wp_order
    refine ⟨n + 1, sp_order_4 (z := 0) (kk := k) (P := fun s c V => qLi k 0 cN w s c V) hn (by omega) h171 g31 (fun s c V hs hcn p => qLi_fit hN hn (fun i hi => by have := lead i hi; omega) hs p) (fun s c V hs hcn p => qLi_no hN hn hs p) (fun s c V V2 hs hcn p g pos => qLi_yes hN hn (fun i hi => by have := lead i hi; omega) hs p g pos) (fun σ2 V2 s c fr hB2 p _ _ => ?_) n 0 0 V σ1 (by omega) (Nat.zero_le _) (mFr_refl σ1) gB ⟨hV, fun i hi => by omega, fun _ => Nat.zero_le _⟩⟩
    refine sp_wh_short (z := 0) (V := V2) hn inv2 hAs (by rw [gI_Fr fr]; exact h171) (by rw [gI_Fr fr]; exact g31) hB2 (fun i hi c hcn => p.1 i hi c (by omega)) ?_ fun σ3 f3 hw3 => q σ3 (mFs_trans f1 (mFs_trans (mFr_s fr) f3)) hw3
    rw [gI_Fr fr]
    rcases hFv with ⟨s, e, hO, v6, hv, hl⟩ | ⟨no, e⟩
    · have st := qSol_idle inv hz2 v6 hv
      have mz : mMs σ n r v = 0 ↔ qF (A r) v = 0 := by rw [miss v v6 hv]; omega
      rcases gF with ⟨⟨_, m0, g33, gO⟩⟩ | ⟨nn, g33⟩
      · have al := st.1 (mz.mp m0)
        refine .inl ⟨⟨v, v6, al⟩, g33, fun _ => ⟨v, 3840000, v6, al, fun c hc => by rw [fr.2.2 32 (by decide)]; exact gO c hc, fun i hi => by have := lead i hi; have := hl i hi; omega, fun i hi => ?_⟩⟩
        have a2 : 2 ^ k ≤ 2 ^ 6 := Nat.pow_le_pow_right (by decide) (by omega)
        exact Nat.lt_of_le_of_lt (Nat.mul_le_mul a2 (Nat.mul_le_mul_left _ (lead i hi))) (by decide)
      · exact .inr ⟨fun hs => nn ⟨s, mz.mpr (st.2 hs)⟩, g33⟩
    · rcases gF with ⟨s, _⟩ | ⟨nn, g33⟩
      · exact absurd s no
      · exact .inr ⟨fun hs => no (qSol_le hs), g33⟩
  · -- the row counts
    have p0 : V2 0 r ≠ 0 := (qGath_ind (Pr := fun _ => True) gath (fun _ _ => trivial) fun _ _ _ _ _ _ => trivial).2.1
    obtain ⟨R, hR1, hR2, hR3⟩ : ∃ R, R < k ∧ qF (A r) (w R) ≠ 0 ∧ ∀ i, R < i → i < k → qF (A r) (w i) = 0 := by
      rcases q_last (x := fun i => qF (A r) (w i)) k with hz | hR
      · exfalso
        have := q_pivrow (row := A r) gath hV hVr 0 (Nat.le_refl _) (by omega)
        have md := q_made gath hV hVu 0 (Nat.le_refl _) (by omega)
        rw [this] at p0
        exact p0 (qSpan_F ⟨_, md⟩ hz)
      · exact hR
    have ok : qOk n ρ k R a b cN w (A r) := ⟨inv.1, hρ, qInv_row inv hA, hA r (Nat.le_refl _), hR1, hR2, hR3⟩
    have ld0 := qLd_0 ok hV hVr hVu gath
    have h1 : 0 + 1 = 1 := rfl
    unfold wp_order
    refine ⟨n + 1, sp_order_4 (z := 0 + 1) (kk := k - 1) (P := fun s c V => qLd n ρ k R (0 + 1) cN w (A r) s c V) hn (by omega) h171 g31 (fun s c V hs hcn p => qLd_fit ok hs hcn p) (fun s c V hs hcn p => qLd_no ok p) (fun s c V V2 hs hcn p g pos => qLd_yes ok hs hcn p g pos) (fun σ2 V3 s c fr hB3 p hs he => ?_) n 0 0 V2 σ1 (by omega) (Nat.zero_le _) (mFr_refl σ1) gB ld0⟩
    obtain ⟨se, kb, sp⟩ := qLd_end ok p hs he
    have inv2 := qInv_step inv kb sp (qLd_span hR1 p se)
    refine sp_wh_short (z := 0 + 1) (V := V3) hn inv2 hAs (by rw [gI_Fr fr]; exact h171) (by rw [gI_Fr fr]; exact g31) hB3 (fun i hi c hcn => by unfold qVw; rw [if_pos (by omega)]) ?_ fun σ3 f3 hw3 => q σ3 (mFs_trans f1 (mFs_trans (mFr_s fr) f3)) hw3
    rw [gI_Fr fr]
    rcases hFv with ⟨s, e, hO, v6, hv, hl⟩ | ⟨no, e⟩
    · have st := qSol_step inv gath hV hVr hVu p0 v6 hv
      rw [miss v v6 hv] at gF
      have mz : V2 0 r ∣ -qF (A r) v ↔ V2 0 r ∣ qF (A r) v := Int.dvd_neg
      rcases gF with ⟨_, m0, g33, gO⟩ | ⟨nn, g33⟩
      · obtain ⟨s6, al⟩ := st.1 (mz.mp m0)
        refine .inl ⟨⟨_, s6, al⟩, g33, fun hρ2 => ⟨_, qMt ρ * 220 + qMt ρ * 220 * (qMt ρ * 20 + 2 * (k * (qMt (ρ + 1) * 20))), s6, al, fun c hc => by rw [fr.2.2 32 (by decide)]; exact gO c hc, fun i hi => ?_, fun i hi => ?_⟩⟩
        · have hρ2 : ρ ≤ 2 := by omega
          have cn : qNc R cN i < n := (inv2.1.2.1 i hi).1
          generalize qNc R cN i = c at cn
          have pv := q_pivcol inv.1 hρ2 (qInv_row inv hA) (hA r (Nat.le_refl _)) (c := c) (by omega) hV hVr gath
          have vc := qInv_col inv hA hρ (qUr_row n c) v6 hv hl
          rw [qUr_F (by omega)] at vc
          have uu := qInv_col inv hA hρ (hA r (Nat.le_refl _)) v6 hv hl
          have t1 : ((-qF (A r) v).tdiv (V2 0 r)).natAbs ≤ qMt ρ * 220 := by
            rw [Int.natAbs_tdiv, Int.natAbs_neg]
            exact Nat.le_trans (Nat.div_le_self _ _) uu
          have t2 : (V2 0 (4 + c)).natAbs ≤ qMt ρ * 20 + 2 * (k * (qMt (ρ + 1) * 20)) := by omega
          show (v c + (-qF (A r) v).tdiv (V2 0 r) * V2 0 (4 + c)).natAbs ≤ _
          refine Nat.le_trans (Int.natAbs_add_le _ _) (Nat.add_le_add vc ?_)
          rw [Int.natAbs_mul]
          exact Nat.mul_le_mul t1 t2
        · have lead2 := qKB_p inv2.1 hi
          have ar : ∀ i, i < ρ + 1 → qRow n (qNx ρ a (A r) i) := fun i hi => by
            obtain ⟨s, s1, s2⟩ := inv2.2.2.1 i hi; rw [s2]; exact hAs s s1
          have dl := qDe_le inv2.1 hρ ar
          exact q_E (by omega) (by omega) (Nat.le_trans lead2 dl) k0
      · exact .inr ⟨fun hs => nn ⟨s, mz.mpr (st.2 hs)⟩, g33⟩
    · rcases gF with ⟨s, _⟩ | ⟨nn, g33⟩
      · exact absurd s no
      · exact .inr ⟨fun hs => no (qSol_le hs), g33⟩
theorem mRf_Fs {σ σ2 : St} (h : mFs σ σ2) (n s : Nat) : mRf σ2 n s = mRf σ n s := by
  funext c; unfold mRf; rw [mA_Fs h, h.2.1]
theorem sp_rows {n R : Nat} {A : Nat → Nat → Int} {Q : St → Prop} {σ0 : St} (hn : n ≤ 6) (hR : R ≤ 4) (h17 : gI σ0 17 = Int32.ofNat n) (h15 : gI σ0 15 = Int32.ofNat R) (hA : ∀ s, s < R → qRow n (A s)) (hAr : ∀ s, s < R → ∀ c, c < 7 → A s c = mRf σ0 n s c) (q : ∀ σ2, mFs σ0 σ2 → mWh σ2 n R A → Q σ2) : ∀ (d r : Nat) (σ : St), r + d = R → mFs σ0 σ → mWh σ n r A → wp_solveWhole_72 Q (d + 1) (Int32.ofNat r) σ := by
  intro d
  induction d with
  | zero =>
    intro r σ hr f h
    have : r = R := by omega
    subst this
    unfold wp_solveWhole_72
    rw [gI_Fs f (by decide) (by decide), h15, i_le (by omega) (by omega)]
    exact ⟨fun _ => q σ f h, fun h => absurd (Nat.le_refl _) h⟩
  | succ d ih =>
    intro r σ hr f h
    unfold wp_solveWhole_72
    rw [gI_Fs f (by decide) (by decide), h15, i_le (by omega) (by omega)]
    refine ⟨fun h => by omega, fun _ => sp_row hn (by omega) (by rw [mFs_17 f]; exact h17) (fun s hs => hA s (by omega)) (fun c hc => by rw [mRf_Fs f]; exact hAr r (by omega) c hc) h fun σ2 f2 h2 x4 e4 => ?_⟩
    subst e4
    rw [i_one]
    exact ih (r + 1) σ2 (by omega) (mFs_trans f f2) h2
/-- THE TWIN's solveWhole: the basis in its one form, and whether there is a solution -/
theorem sp_solve {n R : Nat} {A : Nat → Nat → Int} {Q : St → Prop} {σ : St} (hn : n ≤ 6) (hR : R ≤ 4) (h17 : gI σ 17 = Int32.ofNat n) (h15 : gI σ 15 = Int32.ofNat R) (hA : ∀ s, s < R → qRow n (A s)) (hAr : ∀ s, s < R → ∀ c, c < 7 → A s c = mRf σ n s c) (q : ∀ σ2, mFs σ σ2 → mWh σ2 n R A → Q σ2) : wp_solveWhole σ Q := by
  refine sp_solveWhole hn h17 fun σ2 V f h31 h33 hV hB hO => ⟨R + 1, ?_⟩
  refine sp_rows hn hR (by rw [mFs_17 f]; exact h17) (by rw [gI_Fs f (by decide) (by decide)]; exact h15) hA (fun s hs c hc => by rw [mRf_Fs f]; exact hAr s hs c hc) (fun σ3 f3 h3 => q σ3 (mFs_trans f f3) h3) R 0 σ2 (by omega) (mFs_refl σ2) ⟨0, n, fun _ _ => 0, fun _ => 0, _, _, qInv_0 hn A _ _, h31, fun i c hi hc => ?_, .inl ⟨⟨fun c => if c = 6 then 1 else 0, rfl, fun c c1 c2 => if_neg (by omega), fun s hs => by omega⟩, h33, fun _ => ⟨fun c => if c = 6 then 1 else 0, rfl, ⟨fun c c1 c2 => if_neg (by omega), fun s hs => by omega⟩, fun c hc => ?_, fun i hi => ?_⟩⟩⟩
  · have := hB i c hi hc
    rw [Nat.zero_add, hV] at this
    rw [this]
    congr 1
    show _ = if i = c ∧ i < n then (1 : Int) else 0
    by_cases e : i = c
    · rw [if_pos e, if_pos ⟨e, hi⟩]
    · rw [if_neg e, if_neg (fun z => e z.1)]
  · rw [hO c hc]
    show _ = Int64.ofInt (if c = 6 then (1 : Int) else 0)
    rw [if_neg (by omega)]
  · show (if i = 6 then (1 : Int) else 0).natAbs < (if i = i ∧ i < n then (1 : Int) else 0).natAbs
    rw [if_neg (by omega), if_pos ⟨rfl, hi⟩]; decide
