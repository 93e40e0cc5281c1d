/-! THE GROWER IN THE HEAP: turns, hasBelow, come -/
theorem sp_X6_turns {ev ow : Nat → Nat} {h : Hp} {g m sgn xa mk fsh hr nr i R n vr j : Nat} {sg x md : Vc} {H N : List Ent} {hc nc : Nat} {fu : Bool} {ot : Option Nat} {A : Nat → Nat → Int} {Lt : Nat → Int32} {Q : Int32 → Hp → Prop} (G : gX ow h g m sgn xa mk fsh hr nr sg x md H N hc nc fu ot) (M : xMo ow i h m R n vr A Lt) (hj : j < n) (q : Q (Int32.ofInt (gTn A R sg md j)) h) : wp_X6_turns ev h g (Int32.ofNat j) Q := by
  obtain ⟨⟨g1, o1⟩, ⟨r0, r1, r2, r3, r4, r7, r8, r9⟩, ⟨a1, a2, a3, a4, a5⟩, nd, g3, g4, s1, s2, s3, s4, s5⟩ := G
  obtain ⟨⟨m1, m2, m3, m4, m5, ⟨ao, q1', q2, q3, q4⟩, ⟨ab, b1, b2, b3, b4⟩, m6, m7, m8⟩, mo⟩ := M
  have go : ∀ (t r : Nat), r + t = R → wp_X6_turns_4 ev Q (t + 1) g (Int32.ofNat j) (Int32.ofInt (qS (fun r => md r * A r j * sg j) r)) (Int32.ofNat r) h := by
    intro t
    induction t with
    | zero =>
      intro r hrr
      have er : r = R := by omega
      subst er
      unfold wp_X6_turns_4
      refine ⟨g1, m, r0, m1, ?_⟩
      rw [m2, i_le (by omega) (by omega)]
      exact ⟨fun _ => q, fun w => by omega⟩
    | succ t ih =>
      intro r hrr
      obtain ⟨b, y1, y2, y3, y4⟩ := q4 r (by omega)
      unfold wp_X6_turns_4
      refine ⟨g1, m, r0, m1, ?_⟩
      rw [m2, i_le (by omega) (by omega)]
      refine ⟨fun w => by omega, fun _ => ⟨g1, mk, r8, a3.1, vin a3.2.2 (by omega) (by omega), g1, m, r0, m1, ao, q1', q2, vin q3 (by omega) (by omega), b, y1, y2, vin y3 (by omega) (by omega), g1, sgn, r1, a1.1, vin a1.2.2 (by omega) (by omega), fun x21 e21 x22 e22 => ?_⟩⟩
      subst e22
      rw [i_one]
      have ea : hA h b (Int32.ofNat j) = Int32.ofInt (A r j) := by rw [← y4 j (by omega) hj]; exact (i_ofI _).symm
      rw [s3 r (by omega), ea, s1 j (by omega), i_mulI, i_mulI, i_addI] at e21
      subst e21
      exact ih (r + 1) (by omega)
  exact ⟨R + 1, go R 0 (by omega)⟩
theorem sp_X6_hasBelow {ev ow : Nat → Nat} {h : Hp} {g m sgn xa mk fsh hr nr i q s ct cs : Nat} {sg x md : Vc} {H N : List Ent} {hc nc : Nat} {fu : Bool} {ot : Option Nat} {xs : List Vc} {Q : Int32 → Hp → Prop} (G : gX ow h g m sgn xa mk fsh hr nr sg x md H N hc nc fu ot) (hx : ∀ c, c < 6 → (x c).natAbs < 1000000000) (S : xSh ev ow i h q xs s ct cs) (hl : xs.length ≤ 2000) (q0 : ¬ gHas xs x → Q 0 h) (q1 : gHas xs x → Q 1 h) : wp_X6_hasBelow ev h g q Q := by
  have X := gX_xa G hx
  obtain ⟨⟨g1, o1⟩, ⟨r0, r1, r2, r3, r4, r7, r8, r9⟩, _⟩ := G
  have sq : hok h q 6 := by obtain ⟨lt, ls, T, S, fb, A, _⟩ := S; exact A.1.1
  have stop : ∀ (t k : Nat), gHas xs x → wp_X6_hasBelow_4 ev Q (t + 1) g q 1 (Int32.ofNat k) h := by
    intro t k hh
    unfold wp_X6_hasBelow_4 wp_X6_hasBelow_38
    exact ⟨sq, sp_X7_size S ⟨fun _ => ⟨isB_1, q1 hh⟩, fun _ => ⟨fun _ => ⟨isB_1, q1 hh⟩, fun w => absurd w (by decide)⟩⟩⟩
  have go : ∀ (t k : Nat), k + t = xs.length → (∀ j v, j < k → xs[j]? = some v → ¬ vBe v x) → wp_X6_hasBelow_4 ev Q (t + 2) g q 0 (Int32.ofNat k) h := by
    intro t
    induction t with
    | zero =>
      intro k hk hn
      unfold wp_X6_hasBelow_4 wp_X6_hasBelow_38
      refine ⟨sq, sp_X7_size S ⟨fun _ => ⟨isB_0, q0 ?_⟩, fun w => absurd (by rw [i_le (by omega) (by omega)]; omega) w⟩⟩
      rintro ⟨v, hv, hb⟩
      obtain ⟨j, hj⟩ := List.mem_iff_getElem?.mp hv
      exact hn j v (by have := (List.getElem?_eq_some_iff.mp hj).1; omega) hj hb
    | succ t ih =>
      intro k hk hn
      unfold wp_X6_hasBelow_4
      refine ⟨sq, sp_X7_size S ⟨fun w => by rw [i_le (by omega) (by omega)] at w; omega, fun _ => ⟨fun w => absurd rfl w, fun _ => ⟨sq, sp_X7_get S (by omega) fun a v ev' V => ⟨fun b hb => ?_, g1, xa, r7, a, rfl, V.1, sp_X11_isIn V X (fun hb x14 e14 => ?_) fun hb x14 e14 => ?_⟩⟩⟩⟩⟩
      · rw [← Option.some.inj hb]; exact V.1
      · subst e14
        rw [i_one]
        refine ih (k + 1) (by omega) fun j u hj hu => ?_
        by_cases w : j = k
        · rw [w, ev'] at hu; rw [← Option.some.inj hu]; exact hb
        · exact hn j u (by omega) hu
      · subst e14
        rw [i_one]
        exact stop (t + 1) (k + 1) ⟨v, List.mem_of_getElem? ev', hb⟩
  exact ⟨xs.length + 2, go xs.length 0 (by omega) fun j v hj => by omega⟩
theorem nd5i {a b c d e : Nat} (h : a ≠ b ∧ a ≠ c ∧ a ≠ d ∧ a ≠ e ∧ b ≠ c ∧ b ≠ d ∧ b ≠ e ∧ c ≠ d ∧ c ≠ e ∧ d ≠ e) : [a, b, c, d, e].Nodup := by
  simp
  omega
/-- what lies behind the ways in next is free -/
theorem gX_nr {ow : Nat → Nat} {h : Hp} {g m sgn xa mk fsh hr nr : Nat} {sg x md : Vc} {H N : List Ent} {hc nc : Nat} {fu : Bool} {ot : Option Nat} (G : gX ow h g m sgn xa mk fsh hr nr sg x md H N hc nc fu ot) (k : Nat) (hk : 7 * N.length ≤ k) (hk2 : k < 2000000) (v : Int32) : gX ow (uA h nr (Int32.ofNat k) v) g m sgn xa mk fsh hr nr sg x md H N hc nc fu ot := by
  obtain ⟨g1, g2, ⟨a1, a2, a3, a4, a5⟩, nd, g3, g4, s1, s2, s3, s4, s5⟩ := G
  obtain ⟨n1, n2, n3, n4, n5, n6, n7, n8, n9, n10⟩ := nd5 nd
  refine ⟨g1, g2, ⟨a1, a2, a3, a4, a5⟩, nd, g3, g4, fun j hj => by rw [hA_uA_ne n4]; exact s1 j hj, fun j hj => by rw [hA_uA_ne n7]; exact s2 j hj, fun j hj => by rw [hA_uA_ne n9]; exact s3 j hj, gEn_ne _ _ n10 s4, fun j e he => ?_⟩
  have jl : j < N.length := (List.getElem?_eq_some_iff.mp he).1
  refine ⟨fun c hc6 => ?_, ?_⟩
  · rw [hA_uA, if_neg (by rw [i_cl (by omega), i_cl (by omega)]; omega)]; exact (s5 j e he).1 c hc6
  · rw [hA_uA, if_neg (by rw [i_cl (by omega), i_cl (by omega)]; omega)]; exact (s5 j e he).2
theorem sp_X6_come_44 {ev ow ow0 : Nat → Nat} {h h0 : Hp} {g m sgn xa mk fsh hr nr C mc ms : Nat} {sg x md : Vc} {H N : List Ent} {hc nc : Nat} {fu : Bool} {ot : Option Nat} {Q : Hp → Prop} (f0 : hE (· = 5) ow0 h0 ow h) (G : gX ow h g m sgn xa mk fsh hr nr sg x md H N hc nc fu ot) (hr7 : 7 * N.length + 7 ≤ nc) (q : ∀ h2, hE (· = 5) ow0 h0 ow h2 → gX ow h2 g m sgn xa mk fsh hr nr sg x md H (N ++ [(x, C)]) hc nc fu ot → Q h2) : wp_X6_come_44 ev Q g xa (Int32.ofNat C) h mc ms := by
  have six : (6 : Int32) = Int32.ofNat 6 := rfl
  have sev : (7 : Int32) = Int32.ofNat 7 := rfl
  have go : ∀ (t c : Nat) (h1 : Hp), c + t = 6 → hE (· = 5) ow0 h0 ow h1 → gX ow h1 g m sgn xa mk fsh hr nr sg x md H N hc nc fu ot → (∀ j, j < c → hA h1 nr (Int32.ofNat (7 * N.length + j)) = Int32.ofInt (x j)) → wp_X6_come_46 ev Q (t + 1) g xa (Int32.ofNat C) (Int32.ofNat c) h1 mc ms := by
    intro t
    induction t with
    | zero =>
      intro c h1 hc6 f G1 hh
      have G0 := G1
      obtain ⟨⟨g1, o1⟩, ⟨r0, r1, r2, r3, r4, r7, r8, r9⟩, ⟨a1, a2, a3, a4, a5⟩, nd, ⟨k5, k6, k10⟩, ⟨l1, l2, l3, l4, l5, l6⟩, s1, s2, s3, s4, s5⟩ := G1
      unfold wp_X6_come_46
      rw [six, i_le (by omega) (by omega), k6, i_add]
      refine ⟨fun _ => ⟨g1, nr, r4, g1, a5.1, vin a5.2.2 (by omega) (by omega), fun h4 e4 => ⟨?_, ?_, fun h8 e8 => ?_⟩⟩, fun w => by omega⟩
      · rw [e4]; exact g1
      · rw [e4]; exact g1
      have G4 := gX_nr G0 (7 * N.length + 6) (by omega) (by omega) (Int32.ofNat C)
      have f4 : hE (· = 5) ow0 h0 ow h4 := by rw [e4]; exact hE_trans f (hE_uA h1 a5.2.1 _ _)
      have e6 : hI h4 g 6 = Int32.ofNat (7 * N.length) := by rw [e4, hI_uA]; exact k6
      rw [e6, sev, i_add] at e8
      have f8 : hE (· = 5) ow0 h0 ow h8 := by rw [e8]; exact hE_trans f4 (hE_uI h4 o1 6 _)
      refine q h8 f8 ?_
      rw [← e4] at G4
      obtain ⟨g1', g2', g0', nd', ⟨k5', k6', k10'⟩, g4', s1', s2', s3', s4', s5'⟩ := G4
      rw [e8]
      refine ⟨g1', g2', g0', nd', ⟨?_, ?_, ?_⟩, ⟨l1, ?_, l3, l4, l5, l6⟩, s1', s2', s3', s4', fun k e he => ?_⟩
      · rw [hI_uI, if_neg (by omega)]; exact k5'
      · rw [hI_uI, if_pos ⟨rfl, rfl⟩, List.length_append]; rfl
      · rw [hI_uI, if_neg (by omega)]; exact k10'
      · rw [List.length_append]; show 7 * (N.length + 1) ≤ nc; omega
      · by_cases w : k < N.length
        · rw [List.getElem?_append_left w] at he
          exact s5' k e he
        · have kl : k = N.length := by
            have := (List.getElem?_eq_some_iff.mp he).1
            rw [List.length_append] at this
            have : k < N.length + 1 := this
            omega
          subst kl
          rw [List.getElem?_append_right (Nat.le_refl _), Nat.sub_self] at he
          have he : (x, C) = e := Option.some.inj he
          subst he
          refine ⟨fun c hc' => ?_, ?_⟩
          · rw [hA_uI, e4, hA_uA, if_neg (by rw [i_cl (by omega), i_cl (by omega)]; omega)]
            exact hh c (by omega)
          · rw [hA_uI, e4, hA_uA, if_pos ⟨rfl, rfl⟩]
    | succ t ih =>
      intro c h1 hc6 f G1 hh
      have G0 := G1
      obtain ⟨⟨g1, o1⟩, ⟨r0, r1, r2, r3, r4, r7, r8, r9⟩, ⟨a1, a2, a3, a4, a5⟩, nd, ⟨k5, k6, k10⟩, ⟨l1, l2, l3, l4, l5, l6⟩, s1, s2, s3, s4, s5⟩ := G1
      unfold wp_X6_come_46
      rw [six, i_le (by omega) (by omega), k6, i_add, i_add]
      refine ⟨fun w => by omega, fun _ => ⟨g1, nr, r4, g1, a2.1, vin a2.2.2 (by omega) (by omega), a5.1, vin a5.2.2 (by omega) (by omega), fun h15 e15 x18 e18 => ?_⟩⟩
      subst e18
      rw [i_one]
      rw [s2 c (by omega)] at e15
      subst e15
      refine ih (c + 1) _ (by omega) (hE_trans f (hE_uA h1 a5.2.1 _ _)) (gX_nr G0 _ (by omega) (by omega) _) fun j hj => ?_
      rw [hA_uA, i_cl (by omega), i_cl (by omega)]
      by_cases w : j = c
      · rw [if_pos ⟨rfl, by omega⟩, w]
      · rw [if_neg (by omega)]; exact hh j (by omega)
  exact ⟨7, go 6 0 h rfl f0 G fun j hj => by omega⟩
theorem sp_X6_come {ev ow : Nat → Nat} {h : Hp} {g m sgn xa mk fsh hr nr C MC MS : Nat} {sg x md : Vc} {H N : List Ent} {hc nc : Nat} {fu : Bool} {ot : Option Nat} {Q : Hp → Prop} (G : gX ow h g m sgn xa mk fsh hr nr sg x md H N hc nc fu ot) (hl : N.length ≤ 20349) (mc : 7 * N.length + 7 > nc → 1 ≤ MC) (ms : 7 * N.length + 7 > nc → 2 * nc ≤ MS) (q : ∀ ow2 h2 nr2, hE (· = 5) ow h ow2 h2 → gX ow2 h2 g m sgn xa mk fsh hr nr2 sg x md H (N ++ [(x, C)]) hc (if 7 * N.length + 7 > nc then 2 * nc else nc) fu ot → Q h2) : wp_X6_come ev h g xa (Int32.ofNat C) MC MS Q := by
  have G0 := G
  obtain ⟨⟨g1, o1⟩, ⟨r0, r1, r2, r3, r4, r7, r8, r9⟩, ⟨a1, a2, a3, a4, a5⟩, nd, ⟨k5, k6, k10⟩, ⟨l1, l2, l3, l4, l5, l6⟩, s1, s2, s3, s4, s5⟩ := G
  have sev : (7 : Int32) = Int32.ofNat 7 := rfl
  have nn : nI (hN h nr) = Int32.ofNat nc := by rw [a5.2.2]; rfl
  unfold wp_X6_come
  refine ⟨g1, g1, nr, r4, a5.1, ?_⟩
  rw [k6, sev, i_add, nn, i_le (by omega) (by omega)]
  refine ⟨fun w => ?_, fun w => ⟨g1, nr, r4, a5.1, ?_⟩⟩
  · refine sp_X6_come_44 (hE_refl _ _ _) G0 w fun h2 f G2 => q ow h2 nr f ?_
    rw [if_neg (by omega)]; exact G2
  · have two : (2 : Int32) = Int32.ofNat 2 := rfl
    rw [nn, two, i_mul]
    refine ⟨i_nneg (by omega), fun k8 e8 => ⟨by rw [← e8, i_cl (by omega)]; omega, ?_⟩⟩
    rw [i_cl (by omega)] at e8
    have m1 := mc (by omega)
    have m2 := ms (by omega)
    refine ⟨MC - 1, MS - k8, by omega, by omega, fun q12 hq h13 e13 => ?_⟩
    have f1 : hE (fun _ => False) ow h (owS ow q12 5) h13 := by rw [e13]; exact hE_nA 5 hq
    have nf : ∀ j, ¬ (fun _ : Nat => False) j := fun _ w => w
    have g1' := (hok_E f1 g1).1
    have a5' := hok_E f1 a5.1
    have r4' : hR h13 g 4 = some nr := by rw [hR_E f1 g1 (nf 0)]; exact r4
    have i6' : hI h13 g 6 = Int32.ofNat (7 * N.length) := by rw [hI_E f1 g1 (nf 0)]; exact k6
    have z0 : (0 : Int32).toNatClampNeg = 0 := rfl
    have zc : (Int32.ofNat (7 * N.length)).toNatClampNeg = 7 * N.length := i_cl (by omega)
    have kq : hok h13 q12 20 := by rw [e13]; exact hok_nA
    have nq : hN h13 q12 = k8 := by rw [e13, hN_nA, if_pos rfl]
    refine ⟨g1', nr, r4', g1', a5'.1, kq, ?_, ?_⟩
    · rw [i6', z0, zc, a5'.2.2, a5.2.2, nq]
      exact ⟨by decide, by decide, i_nneg (by omega), by omega, by omega⟩
    rw [i6', z0, zc]
    refine fun h17 e17 => ⟨by rw [e17, hok_uAf]; exact g1', fun h21 e21 => ?_⟩
    have ne : ∀ a, hok h a 20 → a ≠ q12 := fun a ha => hok_fresh ha hq
    have gne : g ≠ q12 := hok_fresh g1 hq
    have fB : hE (· = 5) ow h (owS ow q12 5) h21 := by
      have x1 : hE (· = 5) ow h (owS ow q12 5) h13 := hE_mono f1 fun _ w => w.elim
      have x2 : hE (· = 5) (owS ow q12 5) h13 (owS ow q12 5) h17 := by rw [e17]; exact hE_uAf h13 (owS_q ow q12 5) _
      have x3 : hE (· = 5) (owS ow q12 5) h17 (owS ow q12 5) h21 := by rw [e21]; exact hE_uR h17 (by rw [owS_ne ow gne]; exact o1) 4 _
      exact hE_trans x1 (hE_trans x2 x3)
    have keep : ∀ a n, gAr ow h a n → gAr (owS ow q12 5) h21 a n := fun a n ha => by
      obtain ⟨b1, b2, b3⟩ := hok_E fB ha.1
      exact ⟨b1, b2.trans ha.2.1, b3.trans ha.2.2⟩
    have rdA : ∀ a, hok h a 20 → ∀ j, hA h21 a j = hA h a j := fun a ha j => by
      rw [e21, hA_uR, e17, hA_uAf, if_neg (ne a ha)]
      exact hA_E f1 ha (nf 0) j
    have rdI : ∀ j, hI h21 g j = hI h g j := fun j => by
      rw [e21, hI_uR, e17, hI_uAf]; exact hI_E f1 g1 (nf 0) j
    have rdR : ∀ j, j ≠ 4 → hR h21 g j = hR h g j := fun j hj => by
      rw [e21, hR_uR, if_neg (fun w => hj w.2), e17, hR_uAf]; exact hR_E f1 g1 (nf 0) j
    have GN : gX (owS ow q12 5) h21 g m sgn xa mk fsh hr q12 sg x md H N hc (2 * nc) fu ot := by
      refine ⟨⟨(hok_E fB g1).1, by rw [owS_ne ow gne]; exact o1⟩, ⟨by rw [rdR 0 (by decide)]; exact r0, by rw [rdR 1 (by decide)]; exact r1, by rw [rdR 2 (by decide)]; exact r2, by rw [rdR 3 (by decide)]; exact r3, by rw [e21, hR_uR, if_pos ⟨rfl, rfl⟩], by rw [rdR 7 (by decide)]; exact r7, by rw [rdR 8 (by decide)]; exact r8, by rw [rdR 9 (by decide)]; exact r9⟩, ⟨keep _ _ a1, keep _ _ a2, keep _ _ a3, keep _ _ a4, ?_⟩, ?_, ⟨by rw [rdI]; exact k5, by rw [rdI]; exact k6, by rw [rdI]; exact k10⟩, ⟨l1, by omega, l3, by omega, l5, by omega⟩, fun c hc => by rw [rdA _ a1.1]; exact s1 c hc, fun c hc => by rw [rdA _ a2.1]; exact s2 c hc, fun c hc => by rw [rdA _ a3.1]; exact s3 c hc, fun k e he => ?_, fun k e he => ?_⟩
      · refine ⟨by rw [e21, hok_uR, e17, hok_uAf]; exact kq, owS_q ow q12 5, by rw [e21, hN_uR, e17, hN_uAf, nq]; omega⟩
      · have n1 := ne _ a1.1
        have n2 := ne _ a2.1
        have n3 := ne _ a3.1
        have n4 := ne _ a4.1
        have d5 := nd5 nd
        exact nd5i (by omega)
      · exact ⟨fun c hc => by rw [rdA _ a4.1]; exact (s4 k e he).1 c hc, by rw [rdA _ a4.1]; exact (s4 k e he).2⟩
      · have kl : k < N.length := (List.getElem?_eq_some_iff.mp he).1
        have rd : ∀ j, j < 7 * N.length → hA h21 q12 (Int32.ofNat j) = hA h nr (Int32.ofNat j) := by
          intro j hj
          rw [e21, hA_uR, e17, hA_uAf, if_pos rfl, i_cl (by omega)]
          unfold va_cpy
          rw [if_pos (by omega), Nat.zero_add, Nat.sub_zero]
          have : h13.2.2.2.2.2.1 nr = h.2.2.2.2.2.1 nr := (f1.2 nr a5.1.1 (nf 0)).2.2.1
          rw [this]; unfold hA; rw [i_cl (by omega)]
        exact ⟨fun c hc => by rw [rd _ (by omega)]; exact (s5 k e he).1 c hc, by rw [rd _ (by omega)]; exact (s5 k e he).2⟩
    exact sp_X6_come_44 fB GN (by omega) fun h2 f2 G2 => q (owS ow q12 5) h2 q12 f2 (by rw [if_pos (by omega)]; exact G2)
