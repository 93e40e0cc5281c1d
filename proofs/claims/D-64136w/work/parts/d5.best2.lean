/-! THE TWIN's best one, whole -/
theorem sp_best {n R bd : Nat} {A : Nat → Nat → Int} {co bv0 : Vc} {sg : Bool} {σ : St} {Q : Int32 → St → Prop} (hb : bd ≤ 16) (S0 : mSys σ n R A) (k14 : gI σ 14 ≠ 0) (k28 : gI σ 28 = bI sg) (hc25 : ∀ c, c < 6 → σ.2.1 25 c = Int32.ofInt (co c)) (hco : ∀ c, c < 6 → (co c).natAbs ≤ 99) (h29 : mN n 29 σ bv0)
    (q : ∀ σ2 fo bv ls, (∀ k, k ≠ 0 → k ≠ 28 → gI σ2 k = gI σ k) → σ2.2.2 = σ.2.2 → (∀ j, j ≠ 29 → j ≠ 35 → σ2.2.1 j = σ.2.1 j) → bO (bP A R n bd) co fo bv → mN n 29 σ2 bv → (fo = true → ls = bCo co bv) → (fo = false → bv = bv0) → gI σ2 0 = (if fo = true then 0 else 3) → gI σ2 28 = bI (sg || fo) → Q (Int32.ofInt ls) σ2) : wp_best (Int32.ofNat bd) σ Q := by
  have hn : n ≤ 6 := S0.2.2.1
  have z0 : (0 : Int32) = Int32.ofNat 0 := rfl
  have b27 : wp_best_27 Q (Int32.ofNat bd) 0 σ := by
    unfold wp_best_27
    intro σ1 e1
    refine ⟨fun _ => ⟨(if n = 0 then 0 else bd) + 1 + 2, ?_⟩, fun z => ?_⟩
    · have I1 : ∀ k, gI σ1 k = if k = 0 then 0 else gI σ k := fun k => by rw [e1, gI_sI]
      have A1 : σ1.2 = σ.2 := by rw [e1]; rfl
      have S1 : mSys σ1 n R A := mSys_gen (by rw [I1, if_neg (by omega)]) (by rw [I1, if_neg (by omega)]) (by rw [A1]) S0
      have mst : ∀ (σ2 : St) (Qr : Int32 → St → Prop), gI σ2 17 = Int32.ofNat n → Qr (Int32.ofNat (if n = 0 then 0 else bd)) σ2 → wp_most (Int32.ofNat bd) σ2 Qr := by
        intro σ2 Qr h17 hq
        unfold wp_most wp_most_12
        rw [h17, i_0, i_eq (by omega) (by omega)]
        refine ⟨fun w => ?_, fun w => ?_⟩
        · rw [if_neg w] at hq; exact hq
        · rw [if_pos w] at hq; exact hq
      have bm : (if n = 0 then 0 else bd) ≤ bd := by split <;> omega
      -- the end
      have fin : ∀ σ2 fo ls bv, mG σ1 σ2 → bO (bP A R n bd) co fo bv → mN n 29 σ2 bv → (fo = true → ls = bCo co bv) → (fo = false → bv = bv0) → ((bI fo = 0 → wp_best_223 Q (bI fo) (Int32.ofInt ls) 3 σ2) ∧ (¬ bI fo = 0 → wp_best_223 Q (bI fo) (Int32.ofInt ls) 0 σ2)) := by
        intro σ2 fo ls bv f O M k l
        have out : ∀ (u w : Int32), u = (if fo = true then 0 else 3) → w = bI (sg || fo) → isB w → ∀ σ3, σ3 = sI σ2 0 u → ∀ σ4, σ4 = sI σ3 28 w → Q (Int32.ofInt ls) σ4 := by
          intro u w hu hw _ σ3 e3 σ4 e4
          have I4 : ∀ k, gI σ4 k = if k = 28 then w else if k = 0 then u else gI σ2 k := fun k => by rw [e4, gI_sI, e3, gI_sI]
          refine q σ4 fo bv ls (fun k k0 k28 => ?_) ?_ (fun j j1 j2 => ?_) O (fun c hc => ?_) k l ?_ ?_
          · rw [I4, if_neg k28, if_neg k0, gI_G f, I1, if_neg k0]
          · rw [e4, e3]; show σ2.2.2 = _; rw [f.2.1, A1]
          · rw [e4, e3]; show σ2.2.1 j = _; rw [f.2.2 j j1 j2, A1]
          · rw [e4, e3]; exact M c hc
          · rw [I4, if_neg (by omega), if_pos rfl, hu]
          · rw [I4, if_pos rfl, hw]
        have go : ∀ u : Int32, u = (if fo = true then 0 else 3) → wp_best_223 Q (bI fo) (Int32.ofInt ls) u σ2 := by
          intro u hu
          unfold wp_best_223 wp_best_238 wp_best_243
          intro σ3 e3
          have i28 : gI σ3 28 = bI sg := by rw [e3, gI_sI, if_neg (by omega), gI_G f, I1, if_neg (by omega), k28]
          rw [i28, bI_0, bI_0]
          have sgt : ¬ sg = false → (1 : Int32) = bI (sg || fo) := fun y => by
            cases sg with
            | true => rfl
            | false => exact absurd rfl y
          refine ⟨fun y => ⟨isB_1, out u 1 hu (sgt y) isB_1 σ3 e3⟩, fun y => ⟨fun y2 => ⟨isB_0, out u 0 hu ?_ isB_0 σ3 e3⟩, fun y2 => ⟨isB_1, out u 1 hu ?_ isB_1 σ3 e3⟩⟩⟩
          · rw [y, y2]; rfl
          · cases fo with
            | true => rw [y]; rfl
            | false => exact absurd rfl y2
        rw [bI_0]
        refine ⟨fun y => go 3 (by rw [y]; rfl), fun y => go 0 ?_⟩
        cases fo with
        | true => rfl
        | false => exact absurd rfl y
      have run : ∀ (t s : Nat) (fo : Bool) (ls : Int) (bv : Vc) (σ2 : St), s + t = (if n = 0 then 0 else bd) + 1 → mG σ1 σ2 → mK A n co bv0 σ2 (bSz A R n bd s) fo ls bv → wp_best_46 Q (t + 2) (Int32.ofNat bd) (bI fo) (Int32.ofInt ls) (Int32.ofNat s) σ2 := by
        intro t
        induction t with
        | zero =>
          intro s fo ls bv σ2 hs f K
          have S2 := mSys_G f S1
          unfold wp_best_46
          refine mst σ2 _ S2.1 ?_
          rw [i_lt (by omega) (by omega)]
          refine ⟨fun _ => fin σ2 fo ls bv f (bO_congr (fun u => ?_) K.1) K.2.1 K.2.2.1 K.2.2.2, fun w => by omega⟩
          unfold bSz
          refine ⟨fun w => w.1, fun p => ⟨p, ?_⟩⟩
          have e : vSize u = qS u 6 := vSize_nn p.1
          by_cases z : n = 0
          · have : qS u 6 = 0 := qS_zero fun c _ => p.2.1 c (by omega)
            omega
          · rw [if_neg z] at hs
            have := p.2.2.1; omega
        | succ t ih =>
          intro s fo ls bv σ2 hs f K
          have S2 := mSys_G f S1
          have h0 : n = 0 → s = 0 := fun z => by rw [if_pos z] at hs; omega
          have tb := tB_ok (n := n) (s := s) (sd := false) hn h0
          unfold wp_best_46
          refine mst σ2 _ S2.1 ?_
          rw [i_lt (by omega) (by omega)]
          refine ⟨fun w => by omega, fun _ => ?_⟩
          refine sp_begin (sd := false) hn S2.1 h0 fun σ3 f3 V3 => ⟨(645733984 - tK (tB n false s)).toNat + 1 + 1, ?_⟩
          refine sp_best_66 (σ0 := σ1) (bv0 := bv0) (by omega) hb S1 (fun c hc => by rw [A1]; exact hc25 c hc) hco (fun σ4 fo4 ls4 bv4 f4 K4 => ih (s + 1) fo4 ls4 bv4 σ4 (by omega) f4 K4) _ _ fo ls bv σ3 (by omega) (mG_trans f (mG_35 f3)) V3 tb.1 ⟨bO_congr (fun u => ?_) K.1, fun c hc => by rw [f3.2.2 29 (by omega)]; exact K.2.1 c hc, K.2.2.1, K.2.2.2⟩
          unfold bSz bSx
          constructor
          · rintro ⟨p, w⟩; exact ⟨p, .inl w⟩
          · rintro ⟨p, w | ⟨e, w⟩⟩
            · exact ⟨p, w⟩
            · exfalso
              rcases tb.2 u ⟨p.2.1, fun _ => p.1, e⟩ with y | y
              · rw [y] at w; exact vLx_irr _ w
              · exact vLx_irr u (vLx_trans w y)
      refine run ((if n = 0 then 0 else bd) + 1) 0 false 0 bv0 σ1 (by omega) (mG_refl σ1) ⟨?_, fun c hc => by rw [A1]; exact h29 c hc, fun w => (by cases w), fun _ => rfl⟩
      unfold bO
      rw [if_neg (by simp)]
      rintro u ⟨_, w⟩
      have := vSize_nn0 u; omega
    · rw [e1, gI_sI, if_pos rfl] at z; exact absurd (by decide) z
  unfold wp_best
  rw [show (16 : Int32) = Int32.ofNat 16 from rfl, i_le (by omega) (by omega)]
  exact ⟨fun z => absurd z (i_nneg (by omega)), fun _ => ⟨fun _ => ⟨fun _ => b27, fun z => absurd z k14⟩, fun z => absurd hb z⟩⟩
theorem sp_best_un {p u : Int32} {σ : St} {Q : Int32 → St → Prop} (hu : ¬ u ≤ 0) (q : Q 0 (sI σ 0 u)) : wp_best_27 Q p u σ := by
  intro σ1 e1
  subst e1
  refine ⟨fun w => ?_, fun _ => q⟩
  rw [gI_sI, if_pos rfl] at w; exact absurd w hu
theorem best_ex (p : Int32) : (p < 0 ∨ ¬ p ≤ 16) ∨ ∃ bd, p = Int32.ofNat bd ∧ bd ≤ 16 := by
  by_cases h : p < 0
  · exact .inl (.inl h)
  · obtain ⟨bd, w, rfl⟩ := i_ex h
    by_cases y : bd ≤ 16
    · exact .inr ⟨bd, rfl, y⟩
    · left; right
      rw [show (16 : Int32) = Int32.ofNat 16 from rfl, i_le w (by omega)]; exact y
/-- the desk's best, thrown or not -/
theorem sp_best_no {p : Int32} {σ : St} {Q : Int32 → St → Prop} (b : p < 0 ∨ ¬ p ≤ 16) (q : Q 0 (sI σ 0 1)) : wp_best p σ Q := by
  have bad : wp_best_11 Q p σ := sp_best_un (by decide) q
  unfold wp_best
  exact ⟨fun _ => bad, fun a => ⟨fun z => (b.elim (fun w => absurd w a) fun w => absurd z w), fun _ => bad⟩⟩
theorem sp_X1_best_no {ev : Nat → Nat} {h : Hp} {a0 MC MS : Nat} {p : Int32} {Q : Int32 → Hp → Prop} {Xr : String → Hp → Prop} (b : p < 0 ∨ ¬ p ≤ 16) (mc : 1 ≤ MC) (ms : 6 ≤ MS) (x : Xr eIAE h) : wp_X1_best ev h a0 p MC MS Q Xr := by
  have bad : wp_X1_best_10 ev Q Xr a0 h MC MS := ⟨MC - 1, MS - 6, by omega, by omega, x⟩
  unfold wp_X1_best
  exact ⟨fun _ => bad, fun a => ⟨fun z => (b.elim (fun w => absurd w a) fun w => absurd z w), fun _ => bad⟩⟩
theorem sp_X1_best {ev ow : Nat → Nat} {i : Nat} {h : Hp} {a0 R n vr bd MC MS : Nat} {rf fd sh : Nat → Nat} {co bv : Vc} {A : Nat → Nat → Int} {Lt : Nat → Int32} {Q : Int32 → Hp → Prop} {Xr : String → Hp → Prop} (D : xDk ow h a0 rf fd sh) (hi : i ≠ 7) (hb : bd ≤ 16) (hco : ∀ c, c < 6 → (co c).natAbs ≤ 99) (M : xMo ow i h (rf 2) R n vr A Lt) (T : xSeek ow h (rf 6) co bv) (mc : 1 ≤ MC) (ms : 6 ≤ MS) (un : hI h a0 8 = 0 → Xr eISE h)
    (q : hI h a0 8 ≠ 0 → ∀ h2 bv2, hE (fun j => j = 7 ∨ j = 1) ow h ow h2 → xSeek ow h2 (rf 6) co bv2 → bO (bP A R n bd) co true bv2 → xDk ow h2 a0 rf fd sh → (∀ k, hI h2 a0 k = if k = 13 then 1 else hI h a0 k) → Q (Int32.ofInt (bCo co bv2)) h2)
    (no : hI h a0 8 ≠ 0 → ∀ h2, hE (· = 7) ow h ow h2 → xSeek ow h2 (rf 6) co bv → (∀ u, ¬ bP A R n bd u) → Xr eNSE h2) : wp_X1_best ev h a0 (Int32.ofNat bd) MC MS Q Xr := by
  unfold wp_X1_best
  rw [show (16 : Int32) = Int32.ofNat 16 from rfl, i_le (by omega) (by omega)]
  refine ⟨fun z => absurd z (i_nneg (by omega)), fun _ => ⟨fun _ => ?_, fun z => absurd hb z⟩⟩
  by_cases k8 : hI h a0 8 = 0
  · unfold wp_X1_needSystem
    exact ⟨MC, MS, 0, 0, by omega, by omega, D.1, D.1, fun z => absurd k8 z, fun _ => ⟨MC - 1, MS - 6, by omega, by omega, un k8⟩⟩
  · unfold wp_X1_needSystem
    have T0 := T
    obtain ⟨ca, xa, ba, ⟨t1, t2⟩, _⟩ := T0
    refine ⟨0, 0, MC, MS, by omega, by omega, D.1, D.1, fun _ => ⟨D.1, rf 6, D.2.2.1 6 (by omega) (by omega) (by omega) (by omega) (by omega), D.1, rf 2, D.2.2.1 2 (by omega) (by omega) (by omega) (by omega) (by omega), t1, ?_⟩, fun z => absurd z k8⟩
    refine sp_X8_work hi hb hco M T fun h2 fo bv2 f2 T2 O2 l2 k2 c2 => ?_
    have D2 := xDk_E f2 (by omega) (by omega) D
    rw [bI_0]
    refine ⟨fun y => ⟨D2.1, fun h16 e16 => ?_⟩, fun y => ⟨MC - 1, MS - 6, by omega, by omega, ?_⟩⟩
    · have y : fo = true := by cases fo with
        | true => rfl
        | false => exact absurd rfl y
      subst y
      have f16 : hE (· = 1) ow h2 ow h16 := by rw [e16]; exact hE_uI h2 D2.2.1 13 1
      have D16 : xDk ow h16 a0 rf fd sh := by rw [e16]; exact xDk_uI D2
      have ne : rf 6 ≠ a0 := hok_ne k2 D2.1 (by decide)
      refine ⟨D16.1, rf 6, D16.2.2.1 6 (by omega) (by omega) (by omega) (by omega) (by omega), (hok_E f16 k2).1, ?_⟩
      have e4 : hI h16 (rf 6) 4 = Int32.ofInt (bCo co bv2) := by
        rw [e16, hI_uI, if_neg (fun z => ne z.1)]; exact c2 rfl
      rw [e4]
      refine q k8 h16 bv2 (hE_trans (hE_mono f2 fun _ w => .inl w) (hE_mono f16 fun _ w => .inr w)) (xSeek_E f16 (by omega) T2) O2 D16 fun k => ?_
      rw [e16, hI_uI]
      by_cases z : k = 13
      · rw [if_pos ⟨rfl, z⟩, if_pos z]
      · rw [if_neg (fun w => z w.2), if_neg z]; exact hI_E f2 D.1 (by rw [D.2.1]; omega) k
    · have e := l2 y
      subst e
      refine no k8 h2 f2 T2 ?_
      subst y
      unfold bO at O2
      rw [if_neg (by simp)] at O2
      exact O2
