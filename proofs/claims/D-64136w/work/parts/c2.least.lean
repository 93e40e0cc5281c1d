/-! THE DESK's lists: least -/
theorem lwU_s (x : Nat → Sh) (w : Nat) (y : Sh) (u : Nat) : lwU x w y u = if u = w then y else x u := rfl
theorem sp_X1_least {ev ow : Nat → Nat} {h : Hp} {a0 i m R n vr bd MC MS : Nat} {rf fd sh : Nat → Nat} {A : Nat → Nat → Int} {Lt : Nat → Int32} {S : LW} {Q : Int32 → Hp → Prop} (D : xDk ow h a0 rf fd sh) (em : rf 2 = m) (W : xLW ev ow h rf sh S) (ok : lwOk S) (e0 : (S.2.2.2.1 1).1 = []) (M : xMo ow i h m R n vr A Lt) (hi : ¬ Iwk i) (hb : bd ≤ 16) (mc : lwC (wLea A R n bd S).1 ≤ MC + lwC S) (ms : lwS (wLea A R n bd S).1 ≤ MS + lwS S) (q : ∀ ow2 h2, hE Iwk ow h ow2 h2 → xLW ev ow2 h2 rf sh (wLea A R n bd S).1 → lwOk (wLea A R n bd S).1 → Q (if (wLea A R n bd S).2 = true then 1 else 0) h2) : wp_X1_least ev h a0 (fd 1) (Int32.ofNat bd) MC MS Q := by
  obtain ⟨f, hc, nc, l, be⟩ := S
  obtain ⟨fsh, W1, W2, W3, W4⟩ := W
  obtain ⟨ok1, ok2, ok3⟩ := ok
  simp only at W1 W2 W3 W4 ok1 ok2 ok3 e0
  have hi56 : ¬ I56 i := fun w => hi (Iwk_56 w)
  have n6 : n ≤ 6 := M.1.2.2.2.2.1
  have kC := gKer_C A R n 0 bd f hc nc
  have kE := gKer_end (B := 0) (R := R) (A := A) (hc := hc) (nc := nc) n6 hb ok1
  have i63 : ¬ Iwk 63 → False := fun h => h (by unfold Iwk; omega)
  generalize eT : gKer A R n 0 bd f hc nc = T at kC kE
  -- what is below
  have okc := shClear_ok ok3
  have ccl := shClear_C be
  have kclr : ∀ z : Sh, z = shClear be → shC be ≤ shC z ∧ shS be ≤ shS z := fun z e => by rw [e]; exact ⟨ccl.1, ccl.2.1⟩
  have ec : (shClear be).1 = [] := rfl
  have cpB := shCp_C T.1.1 (shClear be)
  generalize eb : (if T.2.1 = true then shClear be else shCp (shClear be) T.1.1) = b2
  have b2C : shC (shClear be) ≤ shC b2 ∧ shS (shClear be) ≤ shS b2 := by
    rw [← eb]; split
    · exact ⟨Nat.le_refl _, Nat.le_refl _⟩
    · exact cpB
  have kEo := kE.1.1
  have b2ok : shOk b2 := by
    rw [← eb]; split
    · exact okc
    · exact shCp_ok T.1.1 _ okc (by rw [ec]; simp only [List.length_nil]; omega) (vSort_nd kE.1.2.2.2.1) fun v hv => ⟨kE.1.2.2.2.2 v hv, by rw [ec]; exact List.not_mem_nil⟩
  have b2P : ∀ v, v ∈ b2.1 → gP A R n (sgB 0) false v := by
    intro v hv
    rw [← eb] at hv
    by_cases w : T.2.1 = true
    · rw [if_pos w] at hv; cases hv
    · rw [if_neg w, shCp_mem] at hv
      rcases hv with y | y
      · cases y
      · exact ((kE.2.1 (by simpa using w) v).mp y).1.1
  have sC := gSlv_C A R n bd b2.1 T.1 T.2.2.2.1 T.2.2.2.2
  have sE' := gSlv_end (R := R) (A := A) (os := b2.1) (hc := T.2.2.2.1) (nc := T.2.2.2.2) n6 hb kE.1 b2P
  generalize eU : gSlv A R n bd b2.1 T.1 T.2.2.2.1 T.2.2.2.2 = U at sC sE'
  have ws : wLea A R n bd (f, hc, nc, l, be) = ((U.1, U.2.2.2.1, U.2.2.2.2, (if U.2.1 = true then l else lwU l 1 (shCp (l 1) U.1.1)), b2), !U.2.1) := by
    unfold wLea
    simp only [eT]
    rw [eb]
    simp only [eU]
  rw [ws] at mc ms q
  simp only [lwC, lwS] at mc ms
  simp only [gC, gSl] at kC sC
  have okl := ok2 1 (by omega)
  have cpC := shCp_C U.1.1 (l 1)
  generalize el : (if U.2.1 = true then l else lwU l 1 (shCp (l 1) U.1.1)) = l2 at mc ms q
  have lC : shC (l2 0) = shC (l 0) ∧ shC (l 1) ≤ shC (l2 1) ∧ shC (l2 2) = shC (l 2) ∧ shS (l2 0) = shS (l 0) ∧ shS (l 1) ≤ shS (l2 1) ∧ shS (l2 2) = shS (l 2) := by
    rw [← el]; split
    · exact ⟨rfl, Nat.le_refl _, rfl, rfl, Nat.le_refl _, rfl⟩
    · exact ⟨rfl, cpC.1, rfl, rfl, cpC.2, rfl⟩
  -- the last half: solutions, copied
  have half : ∀ (ow1 : Nat → Nat) (h1 : Hp) (mc1 ms1 : Nat), hE Iwk ow h ow1 h1 → xDk ow1 h1 a0 rf fd sh → gTop ow1 h1 (rf 5) fsh T.2.2.2.1 T.2.2.2.2 → xShS ev ow1 50 h1 fsh T.1 → (∀ w, w < 3 → xShS ev ow1 (60 + w) h1 (sh w) (l w)) → xShS ev ow1 63 h1 (rf 14) b2 → shC U.1 + U.2.2.2.1 / 224 + U.2.2.2.2 / 224 + shC (l2 1) ≤ mc1 + (shC T.1 + T.2.2.2.1 / 224 + T.2.2.2.2 / 224 + shC (l 1)) → shS U.1 + 2 * U.2.2.2.1 + 2 * U.2.2.2.2 + shS (l2 1) ≤ ms1 + (shS T.1 + 2 * T.2.2.2.1 + 2 * T.2.2.2.2 + shS (l 1)) → wp_X1_least_55 ev Q a0 (fd 1) (Int32.ofNat bd) h1 mc1 ms1 := by
    intro ow1 h1 mc1 ms1 F1 D1 T1 S1 L1 B1 hmc hms
    have kgr := gTop_f T1
    unfold wp_X1_least_55
    refine ⟨D1.1, rf 5, D1.2.2.1 5 (by omega) (by omega) (by omega) (by omega) (by omega), D1.1, m, by rw [D1.2.2.1 2 (by omega) (by omega) (by omega) (by omega) (by omega), em], D1.1, rf 14, D1.2.2.1 14 (by omega) (by omega) (by omega) (by omega) (by omega), gC U - (shC T.1 + T.2.2.2.1 / 224 + T.2.2.2.2 / 224), gSl U - (shS T.1 + 2 * T.2.2.2.1 + 2 * T.2.2.2.2), mc1 - (gC U - (shC T.1 + T.2.2.2.1 / 224 + T.2.2.2.2 / 224)), ms1 - (gSl U - (shS T.1 + 2 * T.2.2.2.1 + 2 * T.2.2.2.2)), by simp only [gC]; omega, by simp only [gSl]; omega, kgr.1, ?_⟩
    have b2l := b2ok.1
    refine sp_X6_solutions T1 S1 kE.1 (xMo_E F1 hi M) hi56 B1 (by omega) hb (by rw [eU]; simp only [gC]; omega) (by rw [eU]; simp only [gSl]; omega) fun ow2 h2 f2 T2 S2 so2 => ?_
    rw [eU] at T2 S2 so2 ⊢
    have D2 := xDk_E f2 (by unfold I56; omega) (by unfold I56; omega) D1
    have Wl : ∀ w, w < 3 → xShS ev ow2 (60 + w) h2 (sh w) (l w) := fun w hw => xSh_E f2 (by unfold I56; omega) (L1 w hw)
    have Wb := xSh_E f2 n63 B1
    have F2 := hE_trans F1 (hE_mono f2 fun _ w => Iwk_56 w)
    have T2f := gTop_f T2
    refine ⟨U.1.1.length + 1, ?_⟩
    by_cases w : U.2.1 = true
    · rw [if_pos w]
      rw [if_pos w] at el
      have q := q ow2 h2 F2 ⟨fsh, T2, S2, by rw [← el]; exact Wl, Wb⟩ ⟨so2, by rw [← el]; exact ok2, b2ok⟩
      rw [w] at q
      unfold wp_X1_least_75 wp_X1_least_111
      refine ⟨D2.1, rf 5, D2.2.2.1 5 (by omega) (by omega) (by omega) (by omega) (by omega), T2f.1, fsh, T2f.2.2, xSh_len S2, sp_X7_size S2 ⟨fun _ => ⟨isB_0, q⟩, fun _ => ⟨fun _ => ⟨isB_0, q⟩, fun z => absurd rfl z⟩⟩⟩
    · rw [if_neg w]
      rw [if_neg w] at el
      have w2 : U.2.1 = false := by simpa using w
      have fin := sE'.2.1 w2
      have so := so2.1
      have e21 : l2 1 = shCp (l 1) U.1.1 := by rw [← el]; rfl
      rw [e21] at hmc hms
      refine sp_X1_least_75 (w0 := 1) (t := 61) (TC := shC (shCp (l 1) U.1.1)) (TS := shS (shCp (l 1) U.1.1)) D2 rfl T2 S2 so2 (by omega) rfl okl (by rw [e0]; simp only [List.length_nil]; omega) (fun v hv => ⟨gMin_ok ((fin v).mp hv).1, by rw [e0]; exact List.not_mem_nil⟩) (Nat.le_refl _) (Nat.le_refl _) (fun ow3 h3 f3 S3 => ?_) U.1.1.length 0 ow2 h2 (l 1) _ _ (by omega) (hE_refl _ _ _) (Wl 1 (by omega)) okl (by omega) (fun v hv => .inl hv) rfl (by simp only [gC]; omega) (by simp only [gSl]; omega)
      have n15 : ∀ j, j ≠ 15 → j ≠ 61 → ¬ I15 61 j := fun j h1 h2 h => by rcases h with h | h <;> omega
      have cok : shOk (shCp (l 1) U.1.1) := shCp_ok U.1.1 (l 1) okl (by rw [e0]; simp only [List.length_nil]; omega) (vSort_nd so2.2.2.2.1) fun v hv => ⟨so2.2.2.2.2 v hv, by rw [e0]; exact List.not_mem_nil⟩
      have q := q ow3 h3 (hE_trans F2 (hE_mono f3 fun _ z => Iwk_15 (w := 1) (by omega) z)) ⟨fsh, gTop_E f3 (n15 5 (by omega) (by omega)) T2, xSh_E f3 (n15 50 (by omega) (by omega)) S2, fun u hu => ?_, xSh_E f3 (n15 63 (by omega) (by omega)) Wb⟩ ⟨so2, fun u hu => ?_, b2ok⟩
      · rw [w2] at q; exact q
      · rw [← el]
        show xShS ev ow3 (60 + u) h3 (sh u) (if u = 1 then _ else l u)
        by_cases y : u = 1
        · subst y; exact S3
        · rw [if_neg y]; exact xSh_E f3 (n15 _ (by omega) (by omega)) (Wl u hu)
      · rw [← el]
        show shOk (if u = 1 then _ else l u)
        by_cases y : u = 1
        · rw [if_pos y]; exact cok
        · rw [if_neg y]; exact ok2 u hu
  unfold wp_X1_least
  have o3l := ok3.1
  refine ⟨D.1, rf 14, D.2.2.1 14 (by omega) (by omega) (by omega) (by omega) (by omega), shC (shClear be) - shC be, shS (shClear be) - shS be, MC - (shC (shClear be) - shC be), MS - (shS (shClear be) - shS be), by omega, by omega, xSh_len W4, ?_⟩
  refine sp_X7_clear W4 (by omega) (Nat.le_trans ccl.2.2.1 (Nat.le_refl _)) (Nat.le_trans ccl.2.2.2 (Nat.le_refl _)) fun ow1 h1 f1 _ B1 => ?_
  have D1 := xDk_E f1 (by decide) (by decide) D
  have T1 := gTop_E f1 (by decide) W1
  have S1 := xSh_E f1 (by decide) W2
  have L1 : ∀ w, w < 3 → xShS ev ow1 (60 + w) h1 (sh w) (l w) := fun w hw => xSh_E f1 (by omega) (W3 w hw)
  have F1 : hE Iwk ow h ow1 h1 := hE_mono f1 fun _ w => by unfold Iwk; omega
  have kgr := gTop_f T1
  refine ⟨D1.1, rf 5, D1.2.2.1 5 (by omega) (by omega) (by omega) (by omega) (by omega), D1.1, m, by rw [D1.2.2.1 2 (by omega) (by omega) (by omega) (by omega) (by omega), em], gC T - (shC f + hc / 224 + nc / 224), gSl T - (shS f + 2 * hc + 2 * nc), MC - (shC (shClear be) - shC be) - (gC T - (shC f + hc / 224 + nc / 224)), MS - (shS (shClear be) - shS be) - (gSl T - (shS f + 2 * hc + 2 * nc)), by simp only [gC]; omega, by simp only [gSl]; omega, kgr.1, ?_⟩
  rw [show (0 : Int32) = Int32.ofNat 0 from rfl]
  refine sp_X6_kernel (B := 0) T1 S1 ok1 (xMo_E F1 hi M) hi56 (by decide) hb (by rw [eT]; simp only [gC]; omega) (by rw [eT]; simp only [gSl]; omega) fun ow2 h2 f2 T2 S2 so2 => ?_
  rw [eT] at T2 S2 so2 ⊢
  have D2 := xDk_E f2 (by unfold I56; omega) (by unfold I56; omega) D1
  have L2 : ∀ w, w < 3 → xShS ev ow2 (60 + w) h2 (sh w) (l w) := fun w hw => xSh_E f2 (by unfold I56; omega) (L1 w hw)
  have B2 := xSh_E f2 n63 B1
  have F2 := hE_trans F1 (hE_mono f2 fun _ w => Iwk_56 w)
  by_cases w : T.2.1 = true
  · rw [if_pos w] at eb ⊢
    refine ⟨fun _ => half ow2 h2 _ _ F2 D2 T2 S2 L2 (by rw [← eb]; exact B2) (by simp only [gC]; omega) (by simp only [gSl]; omega), fun z => absurd rfl z⟩
  · rw [if_neg w] at eb ⊢
    refine ⟨fun z => absurd z (by decide), fun _ => ⟨T.1.1.length + 1, ?_⟩⟩
    have fin := kE.2.1 (by simpa using w)
    have so := so2.1
    refine sp_X1_least_25 (TC := shC b2 + (MC - (shC b2 - shC be) - (gC T - (shC f + hc / 224 + nc / 224)))) (TS := shS b2 + (MS - (shS b2 - shS be) - (gSl T - (shS f + 2 * hc + 2 * nc)))) (s0 := shClear be) D2 rfl T2 S2 so2 okc (by rw [ec]; simp only [List.length_nil]; omega) (fun v hv => ⟨gMin_ok ((fin v).mp hv).1, by rw [ec]; exact List.not_mem_nil⟩) (by rw [eb]; omega) (by rw [eb]; omega) (fun ow3 h3 mc2 ms2 f3 S3 hmc hms => ?_) T.1.1.length 0 ow2 h2 (shClear be) _ _ (by omega) (hE_refl _ _ _) B2 okc (by omega) (fun v hv => .inl hv) rfl (by simp only [gC]; omega) (by simp only [gSl]; omega)
    rw [eb] at S3 hmc hms
    have n15 : ∀ j, j ≠ 15 → j ≠ 63 → ¬ I15 63 j := fun j h1 h2 h => by rcases h with h | h <;> omega
    exact half ow3 h3 mc2 ms2 (hE_trans F2 (hE_mono f3 fun _ z => Iwk_15 (w := 3) (by omega) z)) (xDk_E f3 (n15 1 (by omega) (by omega)) (n15 6 (by omega) (by omega)) D2) (gTop_E f3 (n15 5 (by omega) (by omega)) T2) (xSh_E f3 (n15 50 (by omega) (by omega)) S2) (fun u hu => xSh_E f3 (n15 _ (by omega) (by omega)) (L2 u hu)) S3 (by simp only [gC] at hmc; omega) (by simp only [gSl] at hms; omega)
