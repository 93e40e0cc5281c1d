/-! THE GROWER IN THE HEAP: look, spread -/
def I56 : Nat → Prop := fun i => i = 5 ∨ i = 50
theorem hE_5 {ow ow2 : Nat → Nat} {h h2 : Hp} (f : hE (· = 5) ow h ow2 h2) : hE I56 ow h ow2 h2 := hE_mono f fun _ w => .inl w
theorem hE_50 {ow ow2 : Nat → Nat} {h h2 : Hp} (f : hE (· = 50) ow h ow2 h2) : hE I56 ow h ow2 h2 := hE_mono f fun _ w => .inr w
theorem gX_E {I : Nat → Prop} {ow ow2 : Nat → Nat} {h h2 : Hp} {g m sgn xa mk fsh hr nr : Nat} {sg x md : Vc} {H N : List Ent} {hc nc : Nat} {fu : Bool} {ot : Option Nat} (f : hE I ow h ow2 h2) (h5 : ¬ I 5) (G : gX ow h g m sgn xa mk fsh hr nr sg x md H N hc nc fu ot) : gX ow2 h2 g m sgn xa mk fsh hr nr sg x md H N hc nc fu ot := by
  obtain ⟨⟨g1, o1⟩, ⟨r0, r1, r2, r3, r4, r7, r8, r9⟩, ⟨a1, a2, a3, a4, a5⟩, nd, ⟨k5, k6, k10⟩, g4, s1, s2, s3, s4, s5⟩ := G
  have og : ¬ I (ow g) := by rw [o1]; exact h5
  have keep : ∀ a n, gAr ow h a n → gAr ow2 h2 a n := fun a n ha => by
    obtain ⟨b1, b2, b3⟩ := hok_E f ha.1
    exact ⟨b1, b2.trans ha.2.1, b3.trans ha.2.2⟩
  have rd : ∀ a n, gAr ow h a n → ∀ j, hA h2 a j = hA h a j := fun a n ha j => hA_E f ha.1 (by rw [ha.2.1]; exact h5) j
  have rdI : ∀ j, hI h2 g j = hI h g j := fun j => hI_E f g1 og j
  have rdR : ∀ j, hR h2 g j = hR h g j := fun j => hR_E f g1 og j
  obtain ⟨b1, b2, b3⟩ := hok_E f g1
  exact ⟨⟨b1, b2.trans o1⟩, ⟨by rw [rdR]; exact r0, by rw [rdR]; exact r1, by rw [rdR]; exact r2, by rw [rdR]; exact r3, by rw [rdR]; exact r4, by rw [rdR]; exact r7, by rw [rdR]; exact r8, by rw [rdR]; exact r9⟩, ⟨keep _ _ a1, keep _ _ a2, keep _ _ a3, keep _ _ a4, keep _ _ a5⟩, nd, ⟨by rw [rdI]; exact k5, by rw [rdI]; exact k6, by rw [rdI]; exact k10⟩, g4, fun c hc => by rw [rd _ _ a1]; exact s1 c hc, fun c hc => by rw [rd _ _ a2]; exact s2 c hc, fun c hc => by rw [rd _ _ a3]; exact s3 c hc, fun k e he => ⟨fun c hc => by rw [rd _ _ a4]; exact (s4 k e he).1 c hc, by rw [rd _ _ a4]; exact (s4 k e he).2⟩, fun k e he => ⟨fun c hc => by rw [rd _ _ a5]; exact (s5 k e he).1 c hc, by rw [rd _ _ a5]; exact (s5 k e he).2⟩⟩
theorem vSg_0 {x : Vc} (h : ∀ c, 6 ≤ c → x c = 0) : vSg 0 x = x := by
  funext c
  unfold vSg
  by_cases w : c < 6
  · rw [if_pos w, if_neg (by rw [Nat.zero_testBit]; decide)]
  · rw [if_neg w, h c (by omega)]
abbrev xShS (ev ow : Nat → Nat) (i : Nat) (h : Hp) (q : Nat) (s : Sh) : Prop := xSh ev ow i h q s.1 s.2.1 s.2.2.1 s.2.2.2
theorem sp_X6_look {ev ow : Nat → Nat} {h : Hp} {g m sgn xa mk fsh hr nr i R n vr k sz MC MS : Nat} {sg x md : Vc} {H N : List Ent} {hc nc : Nat} {ot : Option Nat} {A : Nat → Nat → Int} {Lt : Nat → Int32} {rt : Bool} {s : Sh} {e : Ent} {Q : Hp → Prop} (G : gX ow h g m sgn xa mk fsh hr nr sg x md H N hc nc false ot) (M : xMo ow i h m R n vr A Lt) (hi : ¬ I56 i) (hs : ∀ c, c < 6 → sg c = 1 ∨ sg c = -1) (S : xShS ev ow 50 h fsh s) (so : shOk s) (hk : H[k]? = some e) (he : wOk1 n sz e) (hz : sz ≤ 16) (mc : shC (gLk1 A R n sg rt s e.1).1 - shC s ≤ MC) (ms : shS (gLk1 A R n sg rt s e.1).1 - shS s ≤ MS) (q : ∀ ow2 h2 x2 md2, hE I56 ow h ow2 h2 → gX ow2 h2 g m sgn xa mk fsh hr nr sg x2 md2 H N hc nc (gLk1 A R n sg rt s e.1).2 ot → xShS ev ow2 50 h2 fsh (gLk1 A R n sg rt s e.1).1 → shOk (gLk1 A R n sg rt s e.1).1 → Q h2) : wp_X6_look ev h g (Int32.ofNat (7 * k)) (if rt = true then 1 else 0) MC MS Q := by
  have n6 : n ≤ 6 := M.1.2.2.2.2.1
  have h5i : i ≠ 5 := fun w => hi (.inl w)
  have xb : ∀ c, c < 6 → 0 ≤ e.1 c ∧ e.1 c ≤ 17 := fun c hc => ⟨he.1 c hc, by have := wOk1_le he hc; omega⟩
  have x6 : ∀ c, 6 ≤ c → e.1 c = 0 := fun c hc => he.2.1 c (by omega)
  have len : s.1.length ≤ 2000 := by have := so.1; omega
  unfold wp_X6_look wp_X6_look_24
  refine ⟨G.1.1, sp_X6_take G hk fun h1 f1 G1 => ⟨G1.1.1, sp_X6_make G1 (xMo_E f1 h5i M) h5i hs xb (fun h3 nz f3 G3 => ⟨fun _ => ?_, fun w => absurd rfl w⟩) fun h3 z f3 G3 => ⟨fun w => absurd w (by decide), fun _ => ?_⟩⟩⟩
  · have el : gLk1 A R n sg rt s e.1 = (s, false) := by unfold gLk1; rw [if_neg (fun w => nz w.1)]
    rw [el] at q
    have f := hE_trans f1 f3
    exact q ow h3 _ _ (hE_5 f) G3 (xSh_E f (by decide) S) so
  · have f := hE_trans f1 f3
    have S3 := xSh_E f (by decide) S
    refine ⟨G3.1.1, fsh, G3.2.1.2.2.1, G3.1.1, sp_X6_hasBelow G3 (fun c hc => by have := xb c hc; omega) S3 len (fun nh => ⟨fun _ => ?_, fun w => absurd rfl w⟩) fun hh => ⟨fun w => absurd w (by decide), fun _ => ?_⟩⟩
    · have sq : hok h3 fsh 6 := by obtain ⟨lt, ls, T, S', fb, A', _⟩ := S3; exact A'.1.1
      refine ⟨G3.1.1, fsh, G3.2.1.2.2.1, sq, sp_X7_size S3 ?_⟩
      rw [show (2000 : Int32) = Int32.ofNat 2000 from rfl, i_eq (by omega) (by omega)]
      refine ⟨fun w => ?_, fun w => ⟨G3.1.1, fun h25 e25 => ?_⟩⟩
      · have el : gLk1 A R n sg rt s e.1 = (shKeep s e.1, false) := by unfold gLk1; rw [if_pos ⟨z, nh⟩, if_neg w]
        rw [el] at q mc ms
        have kc := shKeep_C s e.1
        refine ⟨G3.1.1, fsh, G3.2.1.2.2.1, G3.1.1, xa, G3.2.1.2.2.2.2.2.1, MC, MS, 0, 0, by omega, by omega, ?_⟩
        refine sp_X1_keep (B := 0) S3 (gX_xa G3 fun c hc => by have := xb c hc; omega) (fun c hc => by have := xb c hc; omega) (by decide) so.2.2.2.1 (by omega) (Nat.le_trans kc.2.2.1 mc) (Nat.le_trans kc.2.2.2 ms) fun ow4 h4 f4 S4 => ?_
        rw [vSg_0 x6] at S4
        have vo : vOk e.1 := ⟨fun c hc => by have := xb c hc; omega, x6⟩
        have nm : e.1 ∉ s.1 := fun hm => nh ⟨e.1, hm, vBe_iff.mpr fun c _ => Int.le_refl _⟩
        exact q ow4 h4 _ _ (hE_trans (hE_5 f) (hE_50 f4)) (gX_E f4 (by decide) G3) S4 (shKeep_ok so (by omega) vo nm)
      · have el : gLk1 A R n sg rt s e.1 = (s, true) := by unfold gLk1; rw [if_pos ⟨z, nh⟩, if_pos w]
        rw [el] at q
        have f25 : hE (· = 5) ow h3 ow h25 := by rw [e25]; exact hE_uI h3 G3.1.2 10 1
        refine q ow h25 e.1 (fun r => if r < R then gMd A n sg rt e.1 r else md r) (hE_5 (hE_trans f f25)) ?_ (xSh_E f25 (by decide) S3) so
        obtain ⟨g1, g2, g0, nd, ⟨k5, k6, k10⟩, g4, s1, s2, s3, s4, s5⟩ := G3
        rw [e25]
        exact ⟨g1, g2, g0, nd, ⟨by rw [hI_uI, if_neg (by omega)]; exact k5, by rw [hI_uI, if_neg (by omega)]; exact k6, by rw [hI_uI, if_pos ⟨rfl, rfl⟩]; rfl⟩, g4, s1, s2, s3, s4, s5⟩
    · have el : gLk1 A R n sg rt s e.1 = (s, false) := by unfold gLk1; rw [if_neg (fun w => w.2 hh)]
      rw [el] at q
      exact q ow h3 _ _ (hE_5 f) G3 S3 so
theorem i_or : ∀ B, B < 64 → ∀ j, j < 6 → Int32.ofNat B ||| (1 <<< (Int32.ofNat j &&& 31)) = Int32.ofNat (B ||| 1 <<< j) := by decide +kernel
/-- the shelf that nothing is to be above -/
def gOt (ev ow : Nat → Nat) (h : Hp) (ot : Option Nat) (os : List Vc) : Prop := ot = none ∧ os = [] ∨ ∃ b s ct cs, ot = some b ∧ xSh ev ow 63 h b os s ct cs ∧ os.length ≤ 2000
theorem gOt_E {I : Nat → Prop} {ev ow ow2 : Nat → Nat} {h h2 : Hp} {ot : Option Nat} {os : List Vc} (f : hE I ow h ow2 h2) (hi : ¬ I 63) (O : gOt ev ow h ot os) : gOt ev ow2 h2 ot os := by
  rcases O with o | ⟨b, s, ct, cs, o1, o2, o3⟩
  · exact .inl o
  · exact .inr ⟨b, s, ct, cs, o1, xSh_E f hi o2, o3⟩
theorem sp_X6_spread {ev ow : Nat → Nat} {h : Hp} {g m sgn xa mk fsh hr nr i R n vr k sz c0 MC MS : Nat} {sg x md : Vc} {H N : List Ent} {hc : Nat} {ot : Option Nat} {A : Nat → Nat → Int} {Lt : Nat → Int32} {rt : Bool} {s : Sh} {os : List Vc} {e : Ent} {Q : Hp → Prop} (G : gX ow h g m sgn xa mk fsh hr nr sg x md H N hc (capK c0 N.length) false ot) (c0g : 224 ≤ c0) (M : xMo ow i h m R n vr A Lt) (hi : ¬ I56 i) (hs : ∀ c, c < 6 → sg c = 1 ∨ sg c = -1) (S : xShS ev ow 50 h fsh s) (so : shOk s) (O : gOt ev ow h ot os) (hk : H[k]? = some e) (he : wOk1 n sz e) (hz : sz ≤ 15) (hN : N.length + (gKid A R n sg rt os s.1 e.1 n 0 e.2).length ≤ 20349) (mc : capK c0 (N.length + (gKid A R n sg rt os s.1 e.1 n 0 e.2).length) / 224 ≤ MC + capK c0 N.length / 224) (ms : 2 * capK c0 (N.length + (gKid A R n sg rt os s.1 e.1 n 0 e.2).length) ≤ MS + 2 * capK c0 N.length) (q : ∀ ow2 h2 nr2 x2 md2, hE (· = 5) ow h ow2 h2 → gX ow2 h2 g m sgn xa mk fsh hr nr2 sg x2 md2 H (N ++ gKid A R n sg rt os s.1 e.1 n 0 e.2) hc (capK c0 (N.length + (gKid A R n sg rt os s.1 e.1 n 0 e.2).length)) false ot → Q h2) : wp_X6_spread ev h g (Int32.ofNat (7 * k)) (if rt = true then 1 else 0) MC MS Q := by
  have n6 : n ≤ 6 := M.1.2.2.2.2.1
  have h5i : i ≠ 5 := fun w => hi (.inl w)
  have xb : ∀ c, c < 6 → 0 ≤ e.1 c ∧ e.1 c ≤ 16 := fun c hc => ⟨he.1 c hc, by have := wOk1_le he hc; omega⟩
  have len : s.1.length ≤ 2000 := by have := so.1; omega
  have kl : k < H.length := (List.getElem?_eq_some_iff.mp hk).1
  have go : ∀ (t j C : Nat) (ow1 : Nat → Nat) (h1 : Hp) (nr1 : Nat) (x1 md1 : Vc) (N1 : List Ent) (mc ms : Nat), j + t = n → C < 64 → hE (· = 5) ow h ow1 h1 → gX ow1 h1 g m sgn xa mk fsh hr nr1 sg x1 md1 H N1 hc (capK c0 N1.length) false ot → N1 ++ gKid A R n sg rt os s.1 e.1 t j C = N ++ gKid A R n sg rt os s.1 e.1 n 0 e.2 → capK c0 (N.length + (gKid A R n sg rt os s.1 e.1 n 0 e.2).length) / 224 ≤ mc + capK c0 N1.length / 224 → 2 * capK c0 (N.length + (gKid A R n sg rt os s.1 e.1 n 0 e.2).length) ≤ ms + 2 * capK c0 N1.length → wp_X6_spread_13 ev Q (t + 1) g (Int32.ofNat (7 * k)) (if rt = true then 1 else 0) (Int32.ofNat C) (Int32.ofNat j) h1 mc ms := by
    intro t
    induction t with
    | zero =>
      intro j C ow1 h1 nr1 x1 md1 N1 mc ms hj hC f G1 hNN hmc hms
      have M1 := xMo_E f h5i M
      unfold wp_X6_spread_13
      refine ⟨G1.1.1, m, G1.2.1.1, M1.1.1, ?_⟩
      rw [M1.1.2.2.1, i_le (by omega) (by omega)]
      refine ⟨fun _ => q ow1 h1 nr1 x1 md1 f ?_, fun w => by omega⟩
      have e1 : N1 = N ++ gKid A R n sg rt os s.1 e.1 n 0 e.2 := by rw [← hNN]; exact (List.append_nil N1).symm
      rw [e1, List.length_append] at G1
      exact G1
    | succ t ih =>
      intro j C ow1 h1 nr1 x1 md1 N1 mc ms hj hC f G1 hNN hmc hms
      have M1 := xMo_E f h5i M
      have wo := w_or C hC j (by omega)
      -- when nothing comes of it
      have skip : ∀ (h3 : Hp) (x3 md3 : Vc), hE (· = 5) ow h ow1 h3 → gX ow1 h3 g m sgn xa mk fsh hr nr1 sg x3 md3 H N1 hc (capK c0 N1.length) false ot → ¬ (C.testBit j = false ∧ ¬ gZ A R n sg rt e.1 ∧ gTn A R sg (gMd A n sg rt e.1) j < 0 ∧ ¬ gHas s.1 (gUp e.1 j) ∧ ¬ gHas os (gUp e.1 j)) → wp_X6_spread_123 ev Q (wp_X6_spread_13 ev Q (t + 1)) g (Int32.ofNat (7 * k)) (if rt = true then 1 else 0) (Int32.ofNat C) (Int32.ofNat j) h3 mc ms := by
        intro h3 x3 md3 f3 G3 hn
        unfold wp_X6_spread_123
        intro x1' e1'
        subst e1'
        rw [i_one]
        refine ih (j + 1) C ow1 h3 nr1 x3 md3 N1 mc ms (by omega) hC f3 G3 ?_ hmc hms
        rw [← hNN]
        show _ = N1 ++ (if _ then _ else _)
        rw [if_neg hn]
      unfold wp_X6_spread_13
      refine ⟨G1.1.1, m, G1.2.1.1, M1.1.1, ?_⟩
      rw [M1.1.2.2.1, i_le (by omega) (by omega), i_bit C hC j (by omega)]
      refine ⟨fun w => by omega, fun _ => ⟨fun nb => ⟨G1.1.1, ?_⟩, fun b => skip h1 x1 md1 f G1 fun w => by rw [b] at w; exact absurd w.1 (by decide)⟩⟩
      have nb : C.testBit j = false := by simpa using nb
      refine sp_X6_take G1 hk fun h4 f4 G4 => ⟨G4.1.1, ?_⟩
      have F4 := hE_trans f f4
      refine sp_X6_make G4 (xMo_E F4 h5i M) h5i hs (fun c hc => by have := xb c hc; omega) (fun h6 nz f6 G6 => ⟨fun w => absurd rfl w, fun _ => ⟨G6.1.1, ?_⟩⟩) fun h6 z f6 G6 => ⟨fun _ => skip h6 _ _ (hE_trans F4 f6) G6 fun w => w.2.1 z, fun w => absurd w (by decide)⟩
      have F6 := hE_trans F4 f6
      have et : gTn A R sg (fun r => if r < R then gMd A n sg rt e.1 r else md1 r) j = gTn A R sg (gMd A n sg rt e.1) j := by
        unfold gTn; exact qS_congr fun r hr' => by
          show (if r < R then gMd A n sg rt e.1 r else md1 r) * A r j * sg j = _
          rw [if_pos hr']
      refine sp_X6_turns G6 (xMo_E F6 h5i M) (by omega) ?_
      rw [et, i_0I]
      have tb : (gTn A R sg (gMd A n sg rt e.1) j).natAbs < 2147483648 := by
        have rows : ∀ r, qRow n (A r) := M.1.2.2.2.2.2.2.2.2.2
        have R4 : R ≤ 4 := M.1.2.2.2.1
        have one : ∀ r, (gMd A n sg rt e.1 r * A r j * sg j).natAbs ≤ 44800 := by
          intro r
          rw [Int.natAbs_mul, Int.natAbs_mul]
          have a := gMd_b (rt := rt) (r := r) n6 (rows r) hs (x := e.1) fun c hc => by have := xb c hc; omega
          have b := (rows r).1 j (by omega)
          have c : (sg j).natAbs = 1 := by rcases hs j (by omega) with w | w <;> rw [w] <;> rfl
          rw [c, Nat.mul_one]
          exact Nat.le_trans (Nat.mul_le_mul a b) (by decide)
        have s : ∀ m, (qS (fun r => gMd A n sg rt e.1 r * A r j * sg j) m).natAbs ≤ 44800 * m := by
          intro m
          induction m with
          | zero => simp [qS]
          | succ m ih =>
            have := one m
            show (qS (fun r => gMd A n sg rt e.1 r * A r j * sg j) m + gMd A n sg rt e.1 m * A m j * sg j).natAbs ≤ _
            omega
        have := s R
        unfold gTn; omega
      rw [i_ltI tb (by decide)]
      refine ⟨fun tn => ?_, fun tn => skip h6 _ _ F6 G6 fun w => tn w.2.2.1⟩
      obtain ⟨a1, a2, a3, a4, a5⟩ := G6.2.2.1
      refine ⟨G6.1.1, xa, G6.2.1.2.2.2.2.2.1, a2.1, vin a2.2.2 (by omega) (by omega), a2.1, vin a2.2.2 (by omega) (by omega), fun h16 e16 => ?_⟩
      have xj : hA h6 xa (Int32.ofNat j) = Int32.ofInt (e.1 j) := G6.2.2.2.2.2.2.2.1 j (by omega)
      have one1 : (1 : Int32) = Int32.ofInt 1 := rfl
      rw [xj, show Int32.ofInt (e.1 j) + (1 : Int32) = Int32.ofInt (e.1 j) + Int32.ofInt 1 from rfl, i_addI] at e16
      have f16 : hE (· = 5) ow1 h6 ow1 h16 := by rw [e16]; exact hE_uA h6 a2.2.1 _ _
      have F16 := hE_trans F6 f16
      have G16 : gX ow1 h16 g m sgn xa mk fsh hr nr1 sg (gUp e.1 j) (fun r => if r < R then gMd A n sg rt e.1 r else md1 r) H N1 hc (capK c0 N1.length) false ot := by
        rw [e16]
        refine gX_xc (gX_x G6 j (by omega) (e.1 j + 1)) (fun c _ => ?_) fun _ _ => rfl
        show gUp e.1 j c = if c = j then e.1 j + 1 else e.1 c
        unfold gUp
        by_cases w : c = j
        · rw [if_pos w, if_pos w, w]
        · rw [if_neg w, if_neg w]
      have xb2 : ∀ c, c < 6 → (gUp e.1 j c).natAbs < 1000000000 := fun c hc => by
        have := xb c hc; unfold gUp; split <;> omega
      have S16 := xSh_E F16 (by decide) S
      -- it comes
      have come : ∀ h21, h21 = h16 → ¬ gHas s.1 (gUp e.1 j) → ¬ gHas os (gUp e.1 j) → wp_X6_spread_107 ev Q (wp_X6_spread_13 ev Q (t + 1)) g (Int32.ofNat (7 * k)) (if rt = true then 1 else 0) (Int32.ofNat C) (Int32.ofNat j) h21 mc ms := by
        intro h21 e21 n1 n2
        subst e21
        have hcond : C.testBit j = false ∧ ¬ gZ A R n sg rt e.1 ∧ gTn A R sg (gMd A n sg rt e.1) j < 0 ∧ ¬ gHas s.1 (gUp e.1 j) ∧ ¬ gHas os (gUp e.1 j) := ⟨nb, nz, tn, n1, n2⟩
        have ek : gKid A R n sg rt os s.1 e.1 (t + 1) j C = (gUp e.1 j, C) :: gKid A R n sg rt os s.1 e.1 t (j + 1) (C ||| 1 <<< j) := by
          show (if _ then _ else _) = _
          rw [if_pos hcond]
        rw [ek] at hNN
        have hlen := congrArg List.length hNN
        simp only [List.length_append, List.length_cons] at hlen
        have mono := capK_mono2 c0 (N1.length + 1) (gKid A R n sg rt os s.1 e.1 t (j + 1) (C ||| 1 <<< j)).length
        rw [show N1.length + 1 + (gKid A R n sg rt os s.1 e.1 t (j + 1) (C ||| 1 <<< j)).length = N.length + (gKid A R n sg rt os s.1 e.1 n 0 e.2).length by omega] at mono
        have md := Nat.div_le_div_right (c := 224) mono
        have m1 := Nat.div_le_div_right (c := 224) (capK_mono c0 N1.length)
        have m2 := capK_mono c0 N1.length
        unfold wp_X6_spread_107
        refine ⟨G16.1.1, xa, G16.2.1.2.2.2.2.2.1, capK c0 (N1.length + 1) / 224 - capK c0 N1.length / 224, 2 * capK c0 (N1.length + 1) - 2 * capK c0 N1.length, mc - (capK c0 (N1.length + 1) / 224 - capK c0 N1.length / 224), ms - (2 * capK c0 (N1.length + 1) - 2 * capK c0 N1.length), by omega, by omega, G16.1.1, ?_⟩
        refine sp_X6_come G16 (by omega) (fun w => by have := capK_C c0g w; omega) (fun w => by have := capK_C c0g w; omega) fun ow2 h2 nr2 f2 G2 x9 e9 => ?_
        rw [i_or C hC j (by omega)] at e9
        subst e9
        unfold wp_X6_spread_123
        intro x1' e1'
        subst e1'
        rw [i_one]
        rw [← capK_s c0 N1.length] at G2
        refine ih (j + 1) (C ||| 1 <<< j) ow2 h2 nr2 _ _ (N1 ++ [(gUp e.1 j, C)]) _ _ (by omega) wo.1 (hE_trans F16 f2) (by rw [List.length_append]; exact G2) ?_ ?_ ?_
        · rw [List.append_assoc]; exact hNN
        · rw [List.length_append]; show _ ≤ _ + capK c0 (N1.length + 1) / 224; omega
        · rw [List.length_append]; show _ ≤ _ + 2 * capK c0 (N1.length + 1); omega
      refine ⟨G16.1.1, fsh, G16.2.1.2.2.1, G16.1.1, sp_X6_hasBelow G16 xb2 S16 len (fun nh => ⟨fun w => absurd rfl w, fun _ => ⟨G16.1.1, ?_, ?_⟩⟩) fun hh => ⟨fun _ => skip h16 _ _ F16 G16 fun w => w.2.2.2.1 hh, fun w => absurd w (by decide)⟩⟩
      · intro e9
        rcases O with ⟨o1, o2⟩ | ⟨b, s', ct, cs, o1, o2, o3⟩
        · exact come h16 rfl nh (by rw [o2]; rintro ⟨v, hv, _⟩; cases hv)
        · rw [G16.2.1.2.2.2.2.2.2.2, o1] at e9; cases e9
      · intro b25 e25
        rcases O with ⟨o1, o2⟩ | ⟨b, s', ct, cs, o1, o2, o3⟩
        · rw [G16.2.1.2.2.2.2.2.2.2, o1] at e25; cases e25
        · have eb : b = b25 := by rw [G16.2.1.2.2.2.2.2.2.2, o1] at e25; exact Option.some.inj e25
          subst eb
          refine ⟨G16.1.1, b, e25, G16.1.1, sp_X6_hasBelow G16 xb2 (xSh_E F16 (by decide) o2) o3 (fun nh2 => ⟨fun w => absurd rfl w, fun _ => come h16 rfl nh nh2⟩) fun hh => ⟨fun _ => skip h16 _ _ F16 G16 fun w => w.2.2.2.2 hh, fun w => absurd w (by decide)⟩⟩
  obtain ⟨a1, a2, a3, a4, a5⟩ := G.2.2.1
  have cl := (G.2.2.2.2.2.2.2.2.2.1 k e hk).2
  have lim := G.2.2.2.2.2.1
  unfold wp_X6_spread
  rw [show Int32.ofNat (7 * k) + 6 = Int32.ofNat (7 * k + 6) from i_add (7 * k) 6]
  refine ⟨G.1.1, hr, G.2.1.2.2.2.1, a4.1, vin a4.2.2 (by omega) (by omega), fun x5 e5 => ⟨n + 1, ?_⟩⟩
  rw [cl] at e5
  subst e5
  exact go n 0 e.2 ow h nr x md N MC MS (by omega) he.2.2.2 (hE_refl _ _ _) G rfl mc ms
