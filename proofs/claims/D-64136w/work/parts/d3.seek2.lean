/-! THE BEST ONE: the seeker's way -/
theorem xSk_x {ow : Nat → Nat} {h : Hp} {k m ca xa ba : Nat} {co x bv : Vc} {fo : Bool} (K : xSk ow h k m ca xa ba co x fo bv) {c : Nat} (hc : c < 6) (v : Int) : xSk ow (uA h xa (Int32.ofNat c) (Int32.ofInt v)) k m ca xa ba co (bSt x c v) fo bv := by
  obtain ⟨k1, k2, k3, c1, x1, b1, ne, hco, hx, hb, f1, f2⟩ := K
  refine ⟨k1, k2, k3, c1, x1, b1, ne, fun j hj => ?_, fun j hj => ?_, fun j hj => ?_, f1, f2⟩
  · rw [hA_uA_ne ne.1]; exact hco j hj
  · rw [hA_uA, i_cl (by omega), i_cl (by omega)]
    by_cases w : j = c
    · rw [if_pos ⟨rfl, w⟩, w, bSt_c]
    · rw [if_neg (fun z => w z.2), bSt_ne x v w]; exact hx j hj
  · rw [hA_uA_ne (Ne.symm ne.2.2)]; exact hb j hj
theorem bCo_pre {co x : Vc} {c : Nat} (hc : c ≤ 6) (z : ∀ j, c ≤ j → x j = 0) : bCo co x = qS (fun j => co j * x j) c ∧ qS x 6 = qS x c := by
  have a := qS_split (fun j => co j * x j) (6 - c) c
  have b := qS_split x (6 - c) c
  rw [show c + (6 - c) = 6 by omega] at a b
  rw [qS_zero (f := fun j => co (c + j) * x (c + j)) fun j _ => by rw [z _ (by omega), Int.mul_zero]] at a
  rw [qS_zero (f := fun j => x (c + j)) fun j _ => z _ (by omega)] at b
  unfold bCo
  omega
theorem qS_st {x : Vc} {c : Nat} (v : Int) (g : Int → Nat → Int) : qS (fun j => g (bSt x c v j) j) (c + 1) = qS (fun j => g (x j) j) c + g v c := by
  show qS _ c + g (bSt x c v c) c = _
  rw [bSt_c]; congr 1
  exact qS_congr fun j hj => by rw [bSt_ne x v (by omega)]
theorem sp_X8_seek {ev ow : Nat → Nat} {i : Nat} {k m ca xa ba R n vr bd : Nat} {co bv0 : Vc} {A : Nat → Nat → Int} {Lt : Nat → Int32} {h0 : Hp} (hi : i ≠ 7) (hb : bd ≤ 16) (hco : ∀ c, c < 6 → (co c).natAbs ≤ 99) (M0 : xMo ow i h0 m R n vr A Lt) : ∀ (dd c sz : Nat) (x bv : Vc) (fo : Bool) (h : Hp) (Q : Hp → Prop), n < dd + c → c ≤ n → hE (· = 7) ow h0 ow h → xSk ow h k m ca xa ba co x fo bv → (∀ j, c ≤ j → x j = 0) → (∀ j, j < 6 → 0 ≤ x j) → qS x c + sz = bd → ((fo = true → (bCo co bv).natAbs ≤ 20000) ∧ (fo = false → bv = bv0)) → bO (fun u => bP A R n bd u ∧ bBf c x u) co fo bv → (∀ h2 fo2 bv2, hE (· = 7) ow h0 ow h2 → xSk ow h2 k m ca xa ba co x fo2 bv2 → ((fo2 = true → (bCo co bv2).natAbs ≤ 20000) ∧ (fo2 = false → bv2 = bv0)) → bO (fun u => bP A R n bd u ∧ (bBf c x u ∨ bPr c x u)) co fo2 bv2 → Q h2) → wp_X8_seek ev dd h k (Int32.ofNat c) (Int32.ofNat sz) (Int32.ofInt (qS (fun j => co j * x j) c)) Q := by
  intro dd
  have n6 : n ≤ 6 := M0.1.2.2.2.2.1
  induction dd with
  | zero => intro c sz x bv fo h Q h1 h2; omega
  | succ dd ih =>
    intro c sz x bv fo h Q hd hc f K x0 xp hs hbv O q
    have M := xMo_E f hi M0
    have K0 := K
    have cz := bCo_pre (co := co) (x := x) (c := c) (by omega) x0
    have q06 : 0 ≤ qS x 6 := qS_nonneg xp
    have sz16 : sz ≤ 16 := by omega
    have x16 : ∀ j, j < 6 → 0 ≤ x j ∧ x j ≤ 16 := fun j hj => by
      have := qS_term (f := x) (n := 6) xp hj
      have := xp j hj
      omega
    have cb : ∀ y : Vc, (∀ j, j < 6 → 0 ≤ y j ∧ y j ≤ 16) → ∀ c, c ≤ 6 → (qS (fun j => co j * y j) c).natAbs ≤ 1584 * c := by
      intro y hy c
      induction c with
      | zero => intro _; exact Nat.zero_le _
      | succ c ih =>
        intro h'
        have i := ih (by omega)
        have a := hco c (by omega)
        have b := hy c (by omega)
        have p : (co c * y c).natAbs ≤ 99 * 16 := by rw [Int.natAbs_mul]; exact Nat.mul_le_mul a (by omega)
        have e : qS (fun j => co j * y j) (c + 1) = qS (fun j => co j * y j) c + co c * y c := rfl
        rw [e]; omega
    have cbx := cb x x16 c (by omega)
    obtain ⟨k1, k2, ⟨k3, k4, k5, k6⟩, c1, x1, b1, ne, hca, hxa, hba, f1, f2⟩ := K
    have rd := xMo_rd M
    unfold wp_X8_seek
    refine ⟨k1, ?_⟩
    refine sp_X8_canCome K0 M hc (by omega) x16 (fun can => ?_) fun ⟨r, hr, no⟩ => ?_
    · refine ⟨fun _ => ⟨k1, m, k3, rd.1, ?_⟩, fun z => absurd z (by decide)⟩
      rw [rd.2.2.1, i_eq (by omega) (by omega)]
      refine ⟨fun hne => ⟨sz + 2, ?_⟩, fun hcn => ⟨k1, ?_⟩⟩
      · -- the loop
        have c6 : c < 6 := by omega
        have go : ∀ (t v : Nat) (v' : Int) (bv1 : Vc) (fo1 : Bool) (h1 : Hp), v + t = sz + 1 → hE (· = 7) ow h0 ow h1 → xSk ow h1 k m ca xa ba co (bSt x c v') fo1 bv1 → ((fo1 = true → (bCo co bv1).natAbs ≤ 20000) ∧ (fo1 = false → bv1 = bv0)) → bO (fun u => bP A R n bd u ∧ bBf (c + 1) (bSt x c (v : Int)) u) co fo1 bv1 → wp_X8_seek_65 ev (wp_X8_seek ev dd) Q (t + 1) k (Int32.ofNat c) (Int32.ofNat sz) (Int32.ofInt (qS (fun j => co j * x j) c)) (Int32.ofNat v) h1 := by
          intro t
          have stst : ∀ a b : Int, bSt (bSt x c a) c b = bSt x c b := fun a b => funext fun j => by
            by_cases w : j = c
            · rw [w, bSt_c, bSt_c]
            · rw [bSt_ne _ b w, bSt_ne x a w, bSt_ne x b w]
          induction t with
          | zero =>
            intro v v' bv1 fo1 h1 hv f1' K1 hbv1 O1
            have K1' := K1
            obtain ⟨j1, j2, ⟨j3, j4, j5, j6⟩, d1, y1, e1, _⟩ := K1
            unfold wp_X8_seek_65
            rw [i_lt (by omega) (by omega)]
            refine ⟨fun _ => ⟨j1, xa, j5, y1.1, (i_in (by omega)).mpr (by omega), fun h3 e3 => ?_⟩, fun w => by omega⟩
            subst e3
            have Kx := xSk_x K1' c6 0
            rw [stst] at Kx
            have ex : bSt x c 0 = x := funext fun j => by
              by_cases w : j = c
              · rw [w, bSt_c, x0 c (Nat.le_refl _)]
              · exact bSt_ne x 0 w
            rw [ex] at Kx
            refine q _ fo1 bv1 (hE_trans f1' (hE_uA h1 y1.2.1 _ _)) Kx hbv1 (bO_congr (fun u => ?_) O1)
            rw [bBf_st]
            constructor
            · rintro ⟨p, w | ⟨w, _⟩⟩
              · exact ⟨p, .inl w⟩
              · exact ⟨p, .inr w⟩
            · rintro ⟨p, w | w⟩
              · exact ⟨p, .inl w⟩
              · refine ⟨p, .inr ⟨w, ?_⟩⟩
                have e : qS u (c + 1) = qS u c + u c := rfl
                have e2 : qS u c = qS x c := qS_congr fun j hj => w j hj
                have sp := qS_split u (6 - (c + 1)) (c + 1)
                rw [show c + 1 + (6 - (c + 1)) = 6 by omega] at sp
                have nn : 0 ≤ qS (fun j => u (c + 1 + j)) (6 - (c + 1)) := qS_nonneg fun j hj => p.1 _ (by omega)
                have := p.2.2.1
                omega
          | succ t iht =>
            intro v v' bv1 fo1 h1 hv f1' K1 hbv1 O1
            have K1' := K1
            obtain ⟨j1, j2, ⟨j3, j4, j5, j6⟩, d1, y1, e1, ne1, jc, _⟩ := K1
            unfold wp_X8_seek_65
            rw [i_lt (by omega) (by omega)]
            refine ⟨fun w => by omega, fun _ => ⟨j1, xa, j5, y1.1, (i_in (by omega)).mpr (by omega), fun h8 e8 => ?_⟩⟩
            have Kx := xSk_x K1' c6 (v : Int)
            rw [stst, ← i_ofN, ← e8] at Kx
            have f8 : hE (· = 7) ow h0 ow h8 := by rw [e8]; exact hE_trans f1' (hE_uA h1 y1.2.1 _ _)
            have Kx' := Kx
            obtain ⟨l1, l2, ⟨l3, l4, l5, l6⟩, g1, z1, o1, ne2, lc, _⟩ := Kx
            refine ⟨l1, ca, l4, g1.1, (i_in (by omega)).mpr (by omega), l1, ?_⟩
            rw [lc c c6, i_one, i_sub (show v ≤ sz by omega), i_ofN v, i_mulI, i_addI]
            have ev' : qS (fun j => co j * x j) c + (v : Int) * co c = qS (fun j => co j * bSt x c (v : Int) j) (c + 1) := by
              rw [qS_st (v : Int) (fun y j => co j * y), Int.mul_comm]
            rw [ev']
            have es : qS (bSt x c (v : Int)) (c + 1) = qS x c + v := qS_st (v : Int) (fun y j => y)
            refine ih (c + 1) (sz - v) (bSt x c (v : Int)) bv1 fo1 h8 _ (by omega) (by omega) f8 Kx' (fun j hj => by rw [bSt_ne x _ (by omega)]; exact x0 j (by omega)) (fun j hj => ?_) (by rw [es]; omega) hbv1 O1 fun h2 fo2 bv2 f2' K2 hbv2 O2 x17 e17 => ?_
            · by_cases w : j = c
              · rw [w, bSt_c]; omega
              · rw [bSt_ne x _ w]; exact xp j hj
            · rw [e17, ← i_ofN v, i_one]
              refine iht (v + 1) v bv2 fo2 h2 (by omega) f2' K2 hbv2 (bO_congr (fun u => ?_) O2)
              rw [bBf_st, bBf_st, bPr_st]
              constructor
              · rintro ⟨p, (w | ⟨w, w2⟩) | ⟨w, w2⟩⟩
                · exact ⟨p, .inl w⟩
                · exact ⟨p, .inr ⟨w, by omega⟩⟩
                · exact ⟨p, .inr ⟨w, by omega⟩⟩
              · rintro ⟨p, w | ⟨w, w2⟩⟩
                · exact ⟨p, .inl (.inl w)⟩
                · by_cases y : u c = v
                  · exact ⟨p, .inr ⟨w, y⟩⟩
                  · exact ⟨p, .inl (.inr ⟨w, by omega⟩)⟩
        have ex : bSt x c 0 = x := funext fun j => by
          by_cases w : j = c
          · rw [w, bSt_c, x0 c (Nat.le_refl _)]
          · exact bSt_ne x 0 w
        refine go (sz + 1) 0 0 bv fo h (by omega) f (by rw [ex]; exact K0) hbv (bO_congr (fun u => ?_) O)
        show _ ↔ _ ∧ bBf (c + 1) (bSt x c 0) u
        rw [bBf_st]
        constructor
        · rintro ⟨p, w⟩; exact ⟨p, .inl w⟩
        · rintro ⟨p, w | ⟨_, w⟩⟩
          · exact ⟨p, w⟩
          · have := p.1 c c6; omega
      · -- a leaf
        subst hcn
        have bp : bP A R c bd x := by
          refine ⟨xp, x0, by omega, fun r hr => (bMd A c r x).mpr ?_⟩
          have := can r hr
          unfold bCan at this
          rw [show c - c = 0 by omega] at this
          simp only [bLo, bHi] at this
          omega
        have setq : ∀ u, (bP A R c bd u ∧ (bBf c x u ∨ bPr c x u)) ↔ (bP A R c bd u ∧ bBf c x u) ∨ u = x := by
          intro u
          constructor
          · rintro ⟨p, w | w⟩
            · exact .inl ⟨p, w⟩
            · right; funext j
              by_cases y : j < c
              · exact w j y
              · rw [p.2.1 j (by omega), x0 j (by omega)]
          · rintro (⟨p, w⟩ | w)
            · exact ⟨p, .inl w⟩
            · rw [w]; exact ⟨bp, .inr fun j _ => rfl⟩
        have new : (fo = true → bCo co x < bCo co bv) → wp_X8_seek_36 ev (wp_X8_seek ev dd) Q k (Int32.ofInt (qS (fun j => co j * x j) c)) h := by
          intro less
          unfold wp_X8_seek_36 wp_X8_seek_61
          refine ⟨k1, fun h1 e1 => ⟨by rw [e1]; exact k1, fun h3 e3 => ?_⟩⟩
          have r3 : h3 = uI (uI h k 5 1) k 4 (Int32.ofInt (qS (fun j => co j * x j) c)) := by rw [e3, e1]
          subst r3
          refine ⟨k1, xa, k5, k1, ba, k6, x1.1, b1.1, ⟨by decide, by decide, by decide, ?_, ?_⟩, fun h9 e9 => ?_⟩
          · show 0 + 6 ≤ hN h xa; rw [x1.2.2]; decide
          · show 0 + 6 ≤ hN h ba; rw [b1.2.2]; decide
          have F9 : hE (· = 7) ow h0 ow h9 := by
            rw [e9]; exact hE_trans (hE_trans (hE_trans f (hE_uI h k2 5 1)) (hE_uI _ k2 4 _)) (hE_uAf _ b1.2.1 _)
          have hA9 : ∀ a (j : Nat), hA h9 a (Int32.ofNat j) = if a = ba then (if (Int32.ofNat j).toNatClampNeg < 6 then hA h xa (Int32.ofNat j) else hA h ba (Int32.ofNat j)) else hA h a (Int32.ofNat j) := by
            intro a j
            rw [e9]
            unfold hA uAf va_up
            by_cases y : a = ba
            · subst y
              simp only [if_pos]
              unfold va_cpy
              have z0 : (0 : Int32).toNatClampNeg = 0 := rfl
              have z6 : (6 : Int32).toNatClampNeg = 6 := rfl
              rw [z0, z6]
              by_cases w : (Int32.ofNat j).toNatClampNeg < 6
              · rw [if_pos w, if_pos ⟨Nat.zero_le _, by omega⟩]
                show _ = _
                rw [Nat.zero_add, Nat.sub_zero]; rfl
              · rw [if_neg w, if_neg (by omega)]; rfl
            · simp only [if_neg y]; rfl
          have hI9 : ∀ j, hI h9 k j = if j = 4 then Int32.ofInt (qS (fun j => co j * x j) c) else if j = 5 then 1 else hI h k j := by
            intro j
            rw [e9, hI_uAf, hI_uI, hI_uI]
            by_cases y : j = 4
            · rw [if_pos ⟨rfl, y⟩, if_pos y]
            · rw [if_neg (fun z => y z.2), if_neg y]
              by_cases w : j = 5
              · rw [if_pos ⟨rfl, w⟩, if_pos w]
              · rw [if_neg (fun z => w z.2), if_neg w]
          refine q h9 true x F9 ⟨by rw [e9]; exact k1, k2, ⟨by rw [e9]; exact k3, by rw [e9]; exact k4, by rw [e9]; exact k5, by rw [e9]; exact k6⟩, ⟨by rw [e9]; exact c1.1, c1.2.1, by rw [e9]; exact c1.2.2⟩, ⟨by rw [e9]; exact x1.1, x1.2.1, by rw [e9]; exact x1.2.2⟩, ⟨by rw [e9]; exact b1.1, b1.2.1, by rw [e9]; exact b1.2.2⟩, ne, fun j hj => ?_, fun j hj => ?_, fun j hj => ?_, ?_, fun _ => ?_⟩ ⟨fun _ => (by omega), fun w => (by cases w)⟩ (bO_new O setq fun y => .inl (less y))
          · rw [hA9, if_neg ne.2.1]; exact hca j hj
          · rw [hA9, if_neg ne.2.2]; exact hxa j hj
          · rw [hA9, if_pos rfl, i_cl (by omega), if_pos hj]; exact hxa j hj
          · rw [hI9, if_neg (by omega), if_pos rfl]; rfl
          · rw [hI9, if_pos rfl, cz.1]
        rw [f1, bI_0]
        refine ⟨fun y => new fun z => (by rw [y] at z; cases z), fun y => ⟨k1, ?_⟩⟩
        have y : fo = true := by cases fo with
          | true => rfl
          | false => exact absurd rfl y
        have hb2 := hbv.1 y
        rw [f2 y, i_leI (by omega) (by omega)]
        refine ⟨fun w => ?_, fun w => new fun _ => by omega⟩
        unfold wp_X8_seek_61
        subst y
        refine q h true bv f K0 hbv (bO_old O setq ?_)
        have ob : bP A R c bd bv ∧ bBf c x bv := by
          unfold bO at O; rw [if_pos rfl] at O; exact O.1
        by_cases z : bCo co bv = bCo co x
        · exact .inr ⟨z, .inr (bBf_lx (by omega) ob.2)⟩
        · left; omega
    · refine ⟨fun z => absurd rfl z, fun _ => q h fo bv f K0 hbv (bO_congr (fun u => ?_) O)⟩
      constructor
      · rintro ⟨p, w⟩; exact ⟨p, .inl w⟩
      · rintro ⟨p, w | w⟩
        · exact ⟨p, w⟩
        · exact absurd (bCan_of n6 hc p w hs r hr) no
/-- the seeker between its runs -/
def xSeek (ow : Nat → Nat) (h : Hp) (k : Nat) (co bv : Vc) : Prop := ∃ ca xa ba,
  (hok h k 7 ∧ ow k = 7) ∧ (hR h k 1 = some ca ∧ hR h k 2 = some xa ∧ hR h k 3 = some ba) ∧
  (hok h ca 20 ∧ ow ca = 7 ∧ hN h ca = 6) ∧ (hok h xa 20 ∧ ow xa = 7 ∧ hN h xa = 6) ∧ (hok h ba 20 ∧ ow ba = 7 ∧ hN h ba = 6) ∧ (ca ≠ xa ∧ ca ≠ ba ∧ xa ≠ ba) ∧
  (∀ c, c < 6 → hA h ca (Int32.ofNat c) = Int32.ofInt (co c)) ∧ (∀ c, c < 6 → hA h xa (Int32.ofNat c) = Int32.ofInt 0) ∧ (∀ c, c < 6 → hA h ba (Int32.ofNat c) = Int32.ofInt (bv c))
theorem xSeek_E {I : Nat → Prop} {ow ow2 : Nat → Nat} {h h2 : Hp} {k : Nat} {co bv : Vc} (f : hE I ow h ow2 h2) (hi : ¬ I 7) (T : xSeek ow h k co bv) : xSeek ow2 h2 k co bv := by
  obtain ⟨ca, xa, ba, ⟨t1, t2⟩, ⟨r1, r2, r3⟩, ⟨c1, c2, c3⟩, ⟨x1, x2, x3⟩, ⟨b1, b2, b3⟩, ne, hc, hx, hb⟩ := T
  have ik : ¬ I (ow k) := by rw [t2]; exact hi
  have ic : ¬ I (ow ca) := by rw [c2]; exact hi
  have ix : ¬ I (ow xa) := by rw [x2]; exact hi
  have ib : ¬ I (ow ba) := by rw [b2]; exact hi
  have e0 := hok_E f t1
  have e1 := hok_E f c1
  have e2 := hok_E f x1
  have e3 := hok_E f b1
  exact ⟨ca, xa, ba, ⟨e0.1, e0.2.1.trans t2⟩, ⟨by rw [hR_E f t1 ik]; exact r1, by rw [hR_E f t1 ik]; exact r2, by rw [hR_E f t1 ik]; exact r3⟩, ⟨e1.1, e1.2.1.trans c2, e1.2.2.trans c3⟩, ⟨e2.1, e2.2.1.trans x2, e2.2.2.trans x3⟩, ⟨e3.1, e3.2.1.trans b2, e3.2.2.trans b3⟩, ne, fun c h => by rw [hA_E f c1 ic]; exact hc c h, fun c h => by rw [hA_E f x1 ix]; exact hx c h, fun c h => by rw [hA_E f b1 ib]; exact hb c h⟩
theorem sp_X8_work {ev ow : Nat → Nat} {i : Nat} {h : Hp} {k m R n vr bd : Nat} {co bv : Vc} {A : Nat → Nat → Int} {Lt : Nat → Int32} {Q : Int32 → Hp → Prop} (hi : i ≠ 7) (hb : bd ≤ 16) (hco : ∀ c, c < 6 → (co c).natAbs ≤ 99) (M : xMo ow i h m R n vr A Lt) (T : xSeek ow h k co bv) (q : ∀ h2 fo bv2, hE (· = 7) ow h ow h2 → xSeek ow h2 k co bv2 → bO (bP A R n bd) co fo bv2 → (fo = false → bv2 = bv) → hok h2 k 7 → (fo = true → hI h2 k 4 = Int32.ofInt (bCo co bv2)) → Q (bI fo) h2) : wp_X8_work ev h k m (Int32.ofNat bd) Q := by
  obtain ⟨ca, xa, ba, ⟨t1, t2⟩, ⟨r1, r2, r3⟩, c1, x1, b1, ne, hc, hx, hbv⟩ := T
  unfold wp_X8_work
  refine ⟨t1, fun h1 e1 => ⟨by rw [e1]; exact t1, fun h3 e3 => ?_⟩⟩
  have r : h3 = uI (uR h k 0 (some m)) k 5 0 := by rw [e3, e1]
  subst r
  have f3 : hE (· = 7) ow h ow (uI (uR h k 0 (some m)) k 5 0) := hE_trans (hE_uR h t2 0 _) (hE_uI _ t2 5 _)
  have K : xSk ow (uI (uR h k 0 (some m)) k 5 0) k m ca xa ba co (fun _ => 0) false bv := by
    refine ⟨t1, t2, ⟨?_, ?_, ?_, ?_⟩, c1, x1, b1, ne, hc, hx, hbv, ?_, fun w => by cases w⟩
    · rw [hR_uI, hR_uR, if_pos ⟨rfl, rfl⟩]
    · rw [hR_uI, hR_uR, if_neg (by omega)]; exact r1
    · rw [hR_uI, hR_uR, if_neg (by omega)]; exact r2
    · rw [hR_uI, hR_uR, if_neg (by omega)]; exact r3
    · rw [hI_uI, if_pos ⟨rfl, rfl⟩]; rfl
  have e0 : (0 : Int32) = Int32.ofInt (qS (fun j => co j * (fun _ => (0 : Int)) j) 0) := rfl
  refine ⟨t1, ?_⟩
  have n6 : n ≤ 6 := M.1.2.2.2.2.1
  have main := sp_X8_seek (ev := ev) (bd := bd) (bv0 := bv) hi hb hco (xMo_E f3 (by omega) M) 8 0 bd (fun _ => 0) bv false (uI (uR h k 0 (some m)) k 5 0) (fun (h5 : Hp) => hok h5 k 7 ∧ isB (hI h5 k 5) ∧ Q (hI h5 k 5) h5) (by omega) (Nat.zero_le _) (hE_refl _ _ _) K (fun _ _ => rfl) (fun _ _ => Int.le_refl _) (by simp [qS]) ⟨fun w => (by cases w), fun _ => rfl⟩ (by
    unfold bO
    rw [if_neg (by simp)]
    rintro u ⟨_, d, d1, _⟩
    omega) fun h2 fo bv2 f2 K2 hb2 O2 => ?_
  · exact main
  · obtain ⟨k1, k2, ⟨k3, k4, k5, k6⟩, g1, g2, g3, ne2, hc2, hx2, hb2', i5, i4⟩ := K2
    refine ⟨k1, by rw [i5]; exact bI_B fo, ?_⟩
    rw [i5]
    refine q h2 fo bv2 (hE_trans f3 f2) ⟨ca, xa, ba, ⟨k1, k2⟩, ⟨k4, k5, k6⟩, g1, g2, g3, ne2, hc2, hx2, hb2'⟩ (bO_congr (fun u => ?_) O2) hb2.2 k1 i4
    exact ⟨fun w => w.1, fun w => ⟨w, .inr fun j hj => by omega⟩⟩
