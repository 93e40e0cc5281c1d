/-! THE TWIN's work whole -/
def mFw (wh : Nat) (σ σ2 : St) : Prop := (∀ k, k ≠ 0 → k ≠ 26 → gI σ2 k = gI σ k) ∧ σ2.2.2 = σ.2.2 ∧ (∀ j, j ≠ 20 → j ≠ 21 → j ≠ 22 → j ≠ 23 → j ≠ 35 → σ2.2.1 j = σ.2.1 j) ∧ (∀ c, c ≠ wh → σ2.2.1 20 c = σ.2.1 20 c ∧ σ2.2.1 21 c = σ.2.1 21 c ∧ σ2.2.1 22 c = σ.2.1 22 c) ∧ ∀ c, (c < 12000 * wh ∨ 12000 * wh + 12000 ≤ c) → σ2.2.1 23 c = σ.2.1 23 c
theorem mSys_gen {σ σ2 : St} {n R : Nat} {A : Nat → Nat → Int} (h15 : gI σ2 15 = gI σ 15) (h17 : gI σ2 17 = gI σ 17) (h19 : σ2.2.1 19 = σ.2.1 19) (S : mSys σ n R A) : mSys σ2 n R A := by
  obtain ⟨s1, s2, s3, s4, s5, s6, s7⟩ := S
  refine ⟨h17.trans s1, h15.trans s2, s3, s4, fun r hr c hc => ?_, s6, s7⟩
  rw [s5 r hr c hc]
  unfold mRf mA; rw [h19]
theorem mLs_gen {σ σ2 : St} {n w : Nat} {L : List Vc} (h22 : σ2.2.1 22 w = σ.2.1 22 w) (h23 : ∀ c, 12000 * w ≤ c → c < 12000 * w + 12000 → σ2.2.1 23 c = σ.2.1 23 c) (hn : n ≤ 6) (hl : L.length ≤ 2000) (M : mLs σ n w L) : mLs σ2 n w L := by
  refine ⟨h22.trans M.1, fun k v hk c hc => ?_⟩
  have := (List.getElem?_eq_some_iff.mp hk).1
  rw [h23 _ (by omega) (by omega)]
  exact M.2 k v hk c hc
theorem sp_work_un {p1 p2 u : Int32} {σ : St} {Q : Int32 → St → Prop} (hu : ¬ u ≤ 0) (q : Q 0 (sI σ 0 u)) : wp_work_46 Q p1 p2 u σ := by
  unfold wp_work_46
  intro σ1 e1
  subst e1
  refine ⟨fun w => ?_, fun _ => q⟩
  rw [gI_sI, if_pos rfl] at w; exact absurd w hu
theorem sp_work_no {p1 p2 : Int32} {σ : St} {Q : Int32 → St → Prop} (b : wBad p1 p2) (q : Q 0 (sI σ 0 1)) : wp_work p1 p2 σ Q := by
  have bad : wp_work_30 Q p1 p2 σ := sp_work_un (by decide) q
  unfold wBad at b
  have b27 : ∀ u0 u1 : Int32, ¬ u0 ≤ u1 → wp_work_27 Q p1 p2 u0 u1 σ := fun u0 u1 hn => ⟨fun z => absurd z hn, fun _ => bad⟩
  unfold wp_work
  refine ⟨fun _ => bad, fun a => ⟨fun _ => bad, fun a2 => ⟨fun _ => bad, fun a3 => ⟨fun a4 => b27 _ _ ?_, fun a4 => b27 _ _ ?_⟩⟩⟩⟩
  · rcases b with w | w | w | w | w
    · exact absurd w a
    · exact absurd w a2
    · exact absurd w a3
    · exact w.2
    · exact absurd w.1 a4
  · rcases b with w | w | w | w | w
    · exact absurd w a
    · exact absurd w a2
    · exact absurd w a3
    · exact absurd a4 w.1
    · exact w.2
theorem sp_work_fair {wh bd : Nat} {σ : St} {Q : Int32 → St → Prop} (hw : wh < 3) (hb : bd ≤ 16) (h2 : wh = 2 → bd ≤ 10) (k : wp_work_46 Q (Int32.ofNat wh) (Int32.ofNat bd) (if gI σ 14 = 0 then 2 else 0) σ) : wp_work (Int32.ofNat wh) (Int32.ofNat bd) σ Q := by
  have two : (2 : Int32) = Int32.ofNat 2 := rfl
  have b27 : ∀ u1 : Nat, bd ≤ u1 → u1 < 100 → wp_work_27 Q (Int32.ofNat wh) (Int32.ofNat bd) (Int32.ofNat bd) (Int32.ofNat u1) σ := by
    intro u1 hu hl
    unfold wp_work_27
    rw [i_le (by omega) (by omega)]
    refine ⟨fun _ => ⟨fun z => ?_, fun z => ?_⟩, fun z => absurd hu z⟩
    · rw [if_pos z] at k; exact k
    · rw [if_neg z] at k; exact k
  unfold wp_work
  rw [two, i_lt (by omega) (by omega), i_eq (by omega) (by omega)]
  exact ⟨fun z => absurd z (i_nneg (by omega)), fun _ => ⟨fun z => by omega, fun _ => ⟨fun z => absurd z (i_nneg (by omega)), fun _ => ⟨fun _ => b27 16 hb (by omega), fun z => b27 10 (h2 z) (by omega)⟩⟩⟩⟩
theorem sp_work {wh bd n R : Nat} {A : Nat → Nat → Int} {dv : Bool} {σ : St} {Q : Int32 → St → Prop} (hw : wh < 3) (hb : bd ≤ 16) (h2 : wh = 2 → bd ≤ 10) (S : mSys σ n R A) (k14 : gI σ 14 ≠ 0) (b26 : gI σ 26 = bI dv)
    (q1 : ∀ σ2 L, mFw wh σ σ2 → gI σ2 0 = 0 → gI σ2 26 = bI (dv && decide (wh = 2)) → σ2.2.1 20 wh = 1 → σ2.2.1 21 wh = Int32.ofNat bd → mLs σ2 n wh L → tLst wh A R n bd L → L.length ≤ 2000 → Q (Int32.ofNat L.length) σ2)
    (q0 : ∀ σ2, mFw wh σ σ2 → gI σ2 0 = 0 → gI σ2 26 = bI (dv && decide (wh = 2)) → σ2.2.1 20 wh = 0 → tBig wh A R n bd → Q (-1) σ2) : wp_work (Int32.ofNat wh) (Int32.ofNat bd) σ Q := by
  refine sp_work_fair hw hb h2 ?_
  rw [if_neg k14]
  have wi : wh < 2147483648 := by omega
  have win : vp_in (Int32.ofNat wh) 3 := (i_in wi).mpr hw
  have two : (2 : Int32) = Int32.ofNat 2 := rfl
  -- the state as the work begins
  generalize eσ : sI (sA (sA (sI σ 0 0) 20 (Int32.ofNat wh) 0) 22 (Int32.ofNat wh) 0) 26 (bI (dv && decide (wh = 2))) = σ0
  have I0 : ∀ k, gI σ0 k = if k = 26 then bI (dv && decide (wh = 2)) else if k = 0 then 0 else gI σ k := fun k => by
    rw [← eσ, gI_sI]
    by_cases y : k = 26
    · rw [if_pos y, if_pos y]
    · rw [if_neg y, if_neg y]; rfl
  have A0 : ∀ j c, σ0.2.1 j c = if j = 22 ∧ c = wh then 0 else if j = 20 ∧ c = wh then 0 else σ.2.1 j c := fun j c => by
    rw [← eσ]
    show (sA (sA (sI σ 0 0) 20 (Int32.ofNat wh) 0) 22 (Int32.ofNat wh) 0).2.1 j c = _
    rw [sA_nat _ _ wi, sA_nat _ _ wi]; rfl
  have L0 : σ0.2.2 = σ.2.2 := by rw [← eσ]; rfl
  have S0 : mSys σ0 n R A := mSys_gen (by rw [I0, if_neg (by omega), if_neg (by omega)]) (by rw [I0, if_neg (by omega), if_neg (by omega)]) (funext fun c => by rw [A0, if_neg (by omega), if_neg (by omega)]) S
  have main : ∃ n98, wp_work_98 Q n98 (Int32.ofNat wh) (Int32.ofNat bd) 1 0 σ0 := by
    refine ⟨(if n = 0 then 0 else bd) + 1 + 2, ?_⟩
    rw [show (0 : Int32) = Int32.ofNat 0 from rfl]
    have fr : ∀ σ2 σ3, mFz wh σ0 σ2 → (∀ k, gI σ3 k = gI σ2 k) → σ3.2.2 = σ2.2.2 → (∀ j, j ≠ 20 → j ≠ 21 → j ≠ 22 → σ3.2.1 j = σ2.2.1 j) → (∀ j c, c ≠ wh → σ3.2.1 j c = σ2.2.1 j c) → mFw wh σ σ3 ∧ gI σ3 0 = 0 ∧ gI σ3 26 = bI (dv && decide (wh = 2)) := by
      intro σ2 σ3 f g1 g2 g3 g4
      refine ⟨⟨fun k k1 k2 => ?_, ?_, fun j j1 j2 j3 j4 j5 => ?_, fun c hc => ⟨?_, ?_, ?_⟩, fun c hc => ?_⟩, ?_, ?_⟩
      · rw [g1, gI_Fz f, I0, if_neg k2, if_neg k1]
      · rw [g2, f.2.1, L0]
      · rw [g3 j j1 j2 j3, f.2.2.1 j j3 j4 j5]
        exact funext fun c => by rw [A0, if_neg (by omega), if_neg (by omega)]
      · rw [g4 _ _ hc, f.2.2.1 20 (by omega) (by omega) (by omega), A0, if_neg (by omega), if_neg (by omega)]
      · rw [g4 _ _ hc, f.2.2.1 21 (by omega) (by omega) (by omega), A0, if_neg (by omega), if_neg (by omega)]
      · rw [g4 _ _ hc, f.2.2.2.1 c hc, A0, if_neg (by omega), if_neg (by omega)]
      · rw [g3 23 (by omega) (by omega) (by omega), f.2.2.2.2 c hc, A0, if_neg (by omega), if_neg (by omega)]
      · rw [g1, gI_Fz f, I0, if_neg (by omega), if_pos rfl]
      · rw [g1, gI_Fz f, I0, if_pos rfl]
    refine sp_work_98 (σ0 := σ0) (R := R) (A := A) (by omega) hb S0 (fun σ2 L f M T hl => ?_) (fun σ2 f T => ?_) _ 0 [] σ0 (by omega) (mFz_refl wh σ0) ⟨?_, fun k v hk => ?_⟩ ⟨List.Pairwise.nil, Nat.zero_le _, fun v => ⟨fun h => (by cases h), fun h => ?_⟩⟩
    · unfold wp_work_213
      refine ⟨fun _ => ⟨win, fun σ3 e3 => ⟨win, fun σ4 e4 => ⟨win, ?_⟩⟩⟩, fun z => absurd z (by decide)⟩
      have A4 : ∀ j c, σ4.2.1 j c = if j = 21 ∧ c = wh then Int32.ofNat bd else if j = 20 ∧ c = wh then 1 else σ2.2.1 j c := fun j c => by
        rw [e4, sA_nat _ _ wi, e3, sA_nat _ _ wi]; rfl
      obtain ⟨g1, g2, g3⟩ := fr σ2 σ4 f (fun k => by rw [e4, e3]; rfl) (by rw [e4, e3]; rfl) (fun j j1 j2 j3 => funext fun c => by rw [A4, if_neg (by omega), if_neg (by omega)]) fun j c hc => by rw [A4, if_neg (by omega), if_neg (by omega)]
      have M4 : mLs σ4 n wh L := mLs_gen (by rw [A4, if_neg (by omega), if_neg (by omega)]) (fun c _ _ => by rw [A4, if_neg (by omega), if_neg (by omega)]) S.2.2.1 hl M
      have := q1 σ4 L g1 g2 g3 (by rw [A4, if_neg (by omega), if_pos ⟨rfl, rfl⟩]) (by rw [A4, if_pos ⟨rfl, rfl⟩]) M4 T hl
      rw [gA_nat σ4 22 wi, M4.1]; exact this
    · unfold wp_work_213
      refine ⟨fun z => absurd rfl z, fun _ => ⟨win, fun σ3 e3 => ?_⟩⟩
      have A4 : ∀ j c, σ3.2.1 j c = if j = 22 ∧ c = wh then 0 else σ2.2.1 j c := fun j c => by
        rw [e3, sA_nat _ _ wi]
      obtain ⟨g1, g2, g3⟩ := fr σ2 σ3 f (fun k => by rw [e3]; rfl) (by rw [e3]; rfl) (fun j j1 j2 j3 => funext fun c => by rw [A4, if_neg (by omega)]) fun j c hc => by rw [A4, if_neg (by omega)]
      exact q0 σ3 g1 g2 g3 (by rw [A4, if_neg (by omega), f.2.2.1 20 (by omega) (by omega) (by omega), A0, if_neg (by omega), if_pos ⟨rfl, rfl⟩]) T
    · rw [A0, if_pos ⟨rfl, rfl⟩]; rfl
    · cases hk
    · have := vSize_nn0 v; omega
  unfold wp_work_46
  intro σ1 e1
  refine ⟨fun _ => ⟨win, fun σ2 e2 => ⟨win, fun σ3 e3 => ?_⟩⟩, fun z => ?_⟩
  · have i3 : gI σ3 26 = bI dv := by rw [e3, e2, e1]; exact b26
    have r90 : ∀ u : Int32, u = bI (dv && decide (wh = 2)) → wp_work_90 Q (Int32.ofNat wh) (Int32.ofNat bd) u σ3 := by
      intro u hu
      unfold wp_work_90
      refine ⟨by rw [hu]; exact bI_B _, fun σ4 e4 => ?_⟩
      have : σ4 = σ0 := by rw [e4, e3, e2, e1, ← eσ, hu]; rfl
      rw [this]; exact main
    unfold wp_work_89
    rw [i3, two, i_eq (by omega) (by omega)]
    refine ⟨fun z => r90 0 ?_, fun z => ⟨fun y => r90 0 ?_, fun y => r90 1 ?_⟩⟩
    · rw [(bI_0 dv).mp z]; rfl
    · rw [show decide (wh = 2) = false by simp [y], Bool.and_false]; rfl
    · have : dv = true := by
        cases dv with
        | true => rfl
        | false => exact absurd rfl z
      rw [this, y]; rfl
  · rw [e1, gI_sI, if_pos rfl] at z; exact absurd (by decide) z
