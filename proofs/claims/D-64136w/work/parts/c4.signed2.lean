/-! THE DESK's lists: signed, all orthants -/
theorem sp_X1_signed {ev ow : Nat → Nat} {h : Hp} {a0 i m R n vr bd MC MS : Nat} {rf fd sh : Nat → Nat} {A : Nat → Nat → Int} {Lt : Nat → Int32} {S : LW} {Q : Int32 → Hp → Prop} (D : xDk ow h a0 rf fd sh) (em : rf 2 = m) (W : xLW ev ow h rf sh S) (ok : lwOk S) (e0 : (S.2.2.2.1 2).1 = []) (M : xMo ow i h m R n vr A Lt) (hi : ¬ Iwk i) (hb : bd ≤ 16) (mc : lwC (sgAll A R n bd (2 ^ n) 0 S).1 ≤ MC + lwC S) (ms : lwS (sgAll A R n bd (2 ^ n) 0 S).1 ≤ MS + lwS S) (q : ∀ ow2 h2, hE Iwk ow h ow2 h2 → xLW ev ow2 h2 rf sh (sgAll A R n bd (2 ^ n) 0 S).1 → lwOk (sgAll A R n bd (2 ^ n) 0 S).1 → Q (if (sgAll A R n bd (2 ^ n) 0 S).2 = true then 1 else 0) h2) : wp_X1_signed ev h a0 (fd 2) (Int32.ofNat bd) MC MS Q := by
  generalize eF : sgAll A R n bd (2 ^ n) 0 S = F at mc ms q
  have n6 : n ≤ 6 := M.1.2.2.2.2.1
  have p64 : 2 ^ n ≤ 64 := by
    have : 2 ^ n ≤ 2 ^ 6 := Nat.pow_le_pow_right (by decide) n6
    omega
  have go : ∀ (t B : Nat) (ow1 : Nat → Nat) (h1 : Hp) (S1 : LW) (mc ms : Nat), B + t = 2 ^ n → hE Iwk ow h ow1 h1 → xLW ev ow1 h1 rf sh S1 → lwOk S1 → sMem (S1.2.2.2.1 2) B [] → sgAll A R n bd t B S1 = F → lwC F.1 ≤ mc + lwC S1 → lwS F.1 ≤ ms + lwS S1 → wp_X1_signed_2 ev Q (t + 1) a0 (fd 2) (Int32.ofNat bd) (Int32.ofNat B) h1 mc ms := by
    intro t
    induction t with
    | zero =>
      intro B ow1 h1 S1 mc ms hB f W ok mem e hmc hms
      have D1 := xDk_E f (by unfold Iwk; omega) (by unfold Iwk; omega) D
      have M1 := xMo_E f hi M
      unfold wp_X1_signed_2
      refine ⟨D1.1, m, by rw [D1.2.2.1 2 (by omega) (by omega) (by omega) (by omega) (by omega), em], M1.1.1, ?_, ?_⟩
      · intro _
        have e : (S1, true) = F := e
        subst e
        exact ⟨isB_1, q ow1 h1 f W ok⟩
      · rw [M1.1.2.2.1, i_shl n (by omega), i_le (by omega) (by omega)]
        intro w; omega
    | succ t ih =>
      intro B ow1 h1 S1 mc ms hB f W ok mem e hmc hms
      obtain ⟨fs, hc, nc, l, be⟩ := S1
      obtain ⟨fsh, W1, W2, W3, W4⟩ := W
      obtain ⟨ok1, ok2, ok3⟩ := ok
      simp only at W1 W2 W3 W4 ok1 ok2 ok3 mem
      have D1 := xDk_E f (by unfold Iwk; omega) (by unfold Iwk; omega) D
      have M1 := xMo_E f hi M
      have hi56 : ¬ I56 i := fun w => hi (Iwk_56 w)
      have kC := gKer_C A R n B bd fs hc nc
      have kE := gKer_end (B := B) (R := R) (A := A) (hc := hc) (nc := nc) n6 hb ok1
      have kgr := gTop_f W1
      unfold sgAll at e
      simp only at e
      generalize eT : gKer A R n B bd fs hc nc = T at kC kE e
      simp only [gC, gSl] at kC
      simp only [lwC, lwS] at hmc hms
      have sl := sgLp_C B T.1.1 (l 2)
      have el := lwU_C T.1 T.2.2.2.1 T.2.2.2.2 l (sgLp B (l 2) T.1.1).1 be
      have gt : gC T + (shC (l 0) + shC (l 1) + shC (l 2)) + shC be ≤ lwC F.1 ∧ gSl T + (shS (l 0) + shS (l 1) + shS (l 2)) + shS be ≤ lwS F.1 := by
        rw [← e]
        simp only [gC, gSl]
        split
        · simp only [lwC, lwS]; omega
        · split
          · have i := sgAll_C A R n bd t (B + 1) (T.1, T.2.2.2.1, T.2.2.2.2, lwU l 2 (sgLp B (l 2) T.1.1).1, be)
            rw [el.1, el.2] at i; omega
          · rw [el.1, el.2]; omega
      simp only [gC, gSl, lwC, lwS] at gt
      unfold wp_X1_signed_2
      refine ⟨D1.1, m, by rw [D1.2.2.1 2 (by omega) (by omega) (by omega) (by omega) (by omega), em], M1.1.1, ?_, ?_⟩
      · rw [M1.1.2.2.1, i_shl n (by omega), i_le (by omega) (by omega)]
        intro w; omega
      intro _
      refine ⟨D1.1, rf 5, D1.2.2.1 5 (by omega) (by omega) (by omega) (by omega) (by omega), D1.1, m, by rw [D1.2.2.1 2 (by omega) (by omega) (by omega) (by omega) (by omega), em], gC T - (shC fs + hc / 224 + nc / 224), gSl T - (shS fs + 2 * hc + 2 * nc), mc - (gC T - (shC fs + hc / 224 + nc / 224)), ms - (gSl T - (shS fs + 2 * hc + 2 * nc)), by simp only [gC]; omega, by simp only [gSl]; omega, kgr.1, ?_⟩
      refine sp_X6_kernel (B := B) W1 W2 ok1 M1 hi56 (by omega) hb (by rw [eT]; simp only [gC]; omega) (by rw [eT]; simp only [gSl]; omega) fun ow2 h2 f2 T2 S2 so2 => ?_
      rw [eT] at T2 S2 so2 ⊢
      have D2 := xDk_E f2 (by unfold I56; omega) (by unfold I56; omega) D1
      have Wl : ∀ w, w < 3 → xShS ev ow2 (60 + w) h2 (sh w) (l w) := fun w hw => xSh_E f2 (by unfold I56; omega) (W3 w hw)
      have Wb := xSh_E f2 n63 W4
      have F2 := hE_trans f (hE_mono f2 fun _ w => Iwk_56 w)
      by_cases w : T.2.1 = true
      · rw [if_pos w] at e ⊢
        refine ⟨fun z => absurd rfl z, fun _ => ⟨isB_0, ?_⟩⟩
        subst e
        exact q ow2 h2 F2 ⟨fsh, T2, S2, Wl, Wb⟩ ⟨so2, ok2, ok3⟩
      · rw [if_neg w] at e ⊢
        refine ⟨fun _ => ⟨T.1.1.length + 1, ?_⟩, fun z => absurd z (by decide)⟩
        have fin := kE.2.1 (by simpa using w)
        have okl := ok2 2 (by omega)
        have n15 : ∀ j, j ≠ 15 → j ≠ 62 → ¬ I15 62 j := fun j h1 h2 h => by rcases h with h | h <;> omega
        have fsts : ∀ (ow3 : Nat → Nat) (h3 : Hp), hE (I15 62) ow2 h2 ow3 h3 → xShS ev ow3 62 h3 (sh 2) (sgLp B (l 2) T.1.1).1 → shOk (sgLp B (l 2) T.1.1).1 → hE Iwk ow h ow3 h3 ∧ xLW ev ow3 h3 rf sh (T.1, T.2.2.2.1, T.2.2.2.2, lwU l 2 (sgLp B (l 2) T.1.1).1, be) ∧ lwOk (T.1, T.2.2.2.1, T.2.2.2.2, lwU l 2 (sgLp B (l 2) T.1.1).1, be) := by
          intro ow3 h3 f3 S3 so3
          refine ⟨hE_trans F2 (hE_mono f3 fun _ z => Iwk_15 (w := 2) (by omega) z), ⟨fsh, gTop_E f3 (n15 5 (by omega) (by omega)) T2, xSh_E f3 (n15 50 (by omega) (by omega)) S2, fun u hu => ?_, xSh_E f3 (n15 63 (by omega) (by omega)) Wb⟩, so2, fun u hu => ?_, ok3⟩
          · show xShS ev ow3 (60 + u) h3 (sh u) (if u = 2 then _ else l u)
            by_cases y : u = 2
            · subst y; exact S3
            · rw [if_neg y]; exact xSh_E f3 (n15 _ (by omega) (by omega)) (Wl u hu)
          · show shOk (if u = 2 then _ else l u)
            by_cases y : u = 2
            · rw [if_pos y]; exact so3
            · rw [if_neg y]; exact ok2 u hu
        have gt2 : shC T.1 + T.2.2.2.1 / 224 + T.2.2.2.2 / 224 + (shC (l 0) + shC (l 1) + shC (sgLp B (l 2) T.1.1).1) + shC be ≤ lwC F.1 ∧ shS T.1 + 2 * T.2.2.2.1 + 2 * T.2.2.2.2 + (shS (l 0) + shS (l 1) + shS (sgLp B (l 2) T.1.1).1) + shS be ≤ lwS F.1 := by
          rw [← e]
          split
          · have i := sgAll_C A R n bd t (B + 1) (T.1, T.2.2.2.1, T.2.2.2.2, lwU l 2 (sgLp B (l 2) T.1.1).1, be)
            rw [el.1, el.2] at i; omega
          · rw [el.1, el.2]; omega
        simp only [lwC, lwS] at gt2
        refine sp_X1_signed_36 (TC := shC (l 2) + (mc - (gC T - (shC fs + hc / 224 + nc / 224)))) (TS := shS (l 2) + (ms - (gSl T - (shS fs + 2 * hc + 2 * nc)))) (s0 := l 2) D2 T2 S2 so2 (by omega) (fun v hv => gMin_ok ((fin v).mp hv).1) ?_ ?_ (fun ow3 h3 mc2 ms2 f3 S3 so3 mem3 e3 hmc3 hms3 => ?_) (fun ow3 h3 f3 S3 so3 e3 => ?_) T.1.1.length 0 ow2 h2 (l 2) _ _ (by omega) (hE_refl _ _ _) (Wl 2 (by omega)) okl (fun u hu => ?_) rfl (by omega) (by omega)
        · simp only [gC]; omega
        · simp only [gSl]; omega
        · rw [if_pos e3] at e
          obtain ⟨g1, g2, g3⟩ := fsts ow3 h3 f3 S3 so3
          refine ih (B + 1) ow3 h3 _ mc2 ms2 (by omega) g1 g2 g3 mem3 e ?_ ?_
          · rw [el.1]; simp only [lwC, gC] at hmc3 hmc ⊢; omega
          · rw [el.2]; simp only [lwS, gSl] at hms3 hms ⊢; omega
        · rw [if_neg (by rw [e3]; simp)] at e
          obtain ⟨g1, g2, g3⟩ := fsts ow3 h3 f3 S3 so3
          subst e
          exact q ow3 h3 g1 g2 g3
        · obtain ⟨B', x, h1, h2, h3, h4, h5, h6⟩ := mem u hu
          exact ⟨B', x, h1, h2, h3, h4, h5, .inl (by rcases h6 with w | ⟨_, w⟩; exact w; cases w)⟩
  refine ⟨2 ^ n + 1, go (2 ^ n) 0 ow h S MC MS (by omega) (hE_refl _ _ _) W ok (fun u hu => ?_) eF mc ms⟩
  rw [e0] at hu; cases hu
