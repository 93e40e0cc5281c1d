/-! THE GROWER IN THE HEAP: its cells; take, make, turns, hasBelow, come -/
/-- a system with its owner, its letters -/
def xMo (ow : Nat → Nat) (i : Nat) (h : Hp) (m R n vr : Nat) (A : Nat → Nat → Int) (L : Nat → Int32) : Prop :=
  xM h m R n A ∧ ow m = i ∧ (∀ ao, hR h m 4 = some ao → ow ao = i ∧ ∀ r, r < 4 → ∀ b, hO h ao (Int32.ofNat r) = some b → ow b = i) ∧ (∀ ab, hR h m 5 = some ab → ow ab = i) ∧ vr ≤ n ∧ hI h m 2 = Int32.ofNat vr ∧
  ∃ lt, hR h m 3 = some lt ∧ hok h lt 20 ∧ ow lt = i ∧ hN h lt = 6 ∧ ∀ c, c < vr → hA h lt (Int32.ofNat c) = L c
theorem xMo_E {I : Nat → Prop} {ow ow2 : Nat → Nat} {h h2 : Hp} {i m R n vr : Nat} {A : Nat → Nat → Int} {L : Nat → Int32} (f : hE I ow h ow2 h2) (hi : ¬ I i) (M : xMo ow i h m R n vr A L) : xMo ow2 i h2 m R n vr A L := by
  obtain ⟨⟨m1, m2, m3, m4, m5, ⟨ao, q1, q2, q3, q4⟩, ⟨ab, r1, r2, r3, r4⟩, m6⟩, o1, o2, o3, v1, v2, lt, t1, t2, t3, t4, t5⟩ := M
  have hm : ¬ I (ow m) := by rw [o1]; exact hi
  obtain ⟨oa, ob⟩ := o2 ao q1
  have hao : ¬ I (ow ao) := by rw [oa]; exact hi
  have hab : ¬ I (ow ab) := by rw [o3 ab r1]; exact hi
  have hlt : ¬ I (ow lt) := by rw [t3]; exact hi
  obtain ⟨a1, a2, a3⟩ := hok_E f m1
  obtain ⟨b1, b2, b3⟩ := hok_E f q2
  obtain ⟨c1, c2, c3⟩ := hok_E f r2
  obtain ⟨d1, d2, d3⟩ := hok_E f t2
  have e4 : hR h2 m 4 = hR h m 4 := hR_E f m1 hm 4
  have e5 : hR h2 m 5 = hR h m 5 := hR_E f m1 hm 5
  refine ⟨⟨a1, by rw [hI_E f m1 hm]; exact m2, by rw [hI_E f m1 hm]; exact m3, m4, m5, ⟨ao, e4.trans q1, b1, b3.trans q3, fun r hr => ?_⟩, ⟨ab, e5.trans r1, c1, c3.trans r3, fun r hr => by rw [hA_E f r2 hab]; exact r4 r hr⟩, m6⟩, a2.trans o1, fun ao' h' => ?_, fun ab' h' => ?_, v1, by rw [hI_E f m1 hm]; exact v2, lt, by rw [hR_E f m1 hm]; exact t1, d1, d2.trans t3, d3.trans t4, fun c hc => by rw [hA_E f t2 hlt]; exact t5 c hc⟩
  · obtain ⟨b, y1, y2, y3, y4⟩ := q4 r hr
    have hb : ¬ I (ow b) := by rw [ob r hr b y1]; exact hi
    obtain ⟨g1, g2, g3⟩ := hok_E f y2
    exact ⟨b, by rw [hO_E f q2 hao]; exact y1, g1, g3.trans y3, fun c h1 h2 => by rw [hA_E f y2 hb]; exact y4 c h1 h2⟩
  · rw [e4, q1] at h'
    have := Option.some.inj h'
    subst this
    refine ⟨b2.trans oa, fun r hr b hb => ?_⟩
    rw [hO_E f q2 hao] at hb
    obtain ⟨b', y1, y2, y3, y4⟩ := q4 r hr
    rw [y1] at hb
    have := Option.some.inj hb
    subst this
    exact (hok_E f y2).2.1.trans (ob r hr _ y1)
  · rw [e5, r1] at h'
    have := Option.some.inj h'
    subst this
    exact c2.trans (o3 ab r1)
/-- ways in an array -/
def gEn (h : Hp) (arr : Nat) (F : List Ent) : Prop := ∀ (k : Nat) (e : Ent), F[k]? = some e → (∀ c, c < 6 → hA h arr (Int32.ofNat (7 * k + c)) = Int32.ofInt (e.1 c)) ∧ hA h arr (Int32.ofNat (7 * k + 6)) = Int32.ofNat e.2
def gAr (ow : Nat → Nat) (h : Hp) (a n : Nat) : Prop := hok h a 20 ∧ ow a = 5 ∧ hN h a = n
/-- the grower's cells: signs, the vector at hand, what was made, ways here and next -/
def gX (ow : Nat → Nat) (h : Hp) (g m sgn xa mk fsh hr nr : Nat) (sg x md : Vc) (H N : List Ent) (hc nc : Nat) (fu : Bool) (ot : Option Nat) : Prop :=
  (hok h g 5 ∧ ow g = 5) ∧ (hR h g 0 = some m ∧ hR h g 1 = some sgn ∧ hR h g 2 = some fsh ∧ hR h g 3 = some hr ∧ hR h g 4 = some nr ∧ hR h g 7 = some xa ∧ hR h g 8 = some mk ∧ hR h g 9 = ot) ∧
  (gAr ow h sgn 6 ∧ gAr ow h xa 6 ∧ gAr ow h mk 4 ∧ gAr ow h hr hc ∧ gAr ow h nr nc) ∧ [sgn, xa, mk, hr, nr].Nodup ∧
  (hI h g 5 = Int32.ofNat (7 * H.length) ∧ hI h g 6 = Int32.ofNat (7 * N.length) ∧ hI h g 10 = if fu = true then 1 else 0) ∧
  (7 * H.length ≤ hc ∧ 7 * N.length ≤ nc ∧ 224 ≤ hc ∧ 224 ≤ nc ∧ hc ≤ 400000 ∧ nc ≤ 400000) ∧
  (∀ c, c < 6 → hA h sgn (Int32.ofNat c) = Int32.ofInt (sg c)) ∧ (∀ c, c < 6 → hA h xa (Int32.ofNat c) = Int32.ofInt (x c)) ∧ (∀ r, r < 4 → hA h mk (Int32.ofNat r) = Int32.ofInt (md r)) ∧ gEn h hr H ∧ gEn h nr N
theorem nd5 {a b c d e : Nat} (h : [a, b, c, d, e].Nodup) : a ≠ b ∧ a ≠ c ∧ a ≠ d ∧ a ≠ e ∧ b ≠ c ∧ b ≠ d ∧ b ≠ e ∧ c ≠ d ∧ c ≠ e ∧ d ≠ e := by
  simp only [List.nodup_cons, List.mem_cons, not_or, List.not_mem_nil] at h
  omega
theorem hA_uA_ne {h : Hp} {a b : Nat} (hab : b ≠ a) (i x j : Int32) : hA (uA h a i x) b j = hA h b j := by rw [hA_uA, if_neg (fun w => hab w.1)]
theorem gEn_ne {h : Hp} {a arr : Nat} {F : List Ent} (i x : Int32) (hn : arr ≠ a) (E : gEn h arr F) : gEn (uA h a i x) arr F := fun k e he => ⟨fun c hc => by rw [hA_uA_ne hn]; exact (E k e he).1 c hc, by rw [hA_uA_ne hn]; exact (E k e he).2⟩
theorem gX_x {ow : Nat → Nat} {h : Hp} {g m sgn xa mk fsh hr nr : Nat} {sg x md : Vc} {H N : List Ent} {hc nc : Nat} {fu : Bool} {ot : Option Nat} (G : gX ow h g m sgn xa mk fsh hr nr sg x md H N hc nc fu ot) (c : Nat) (hc6 : c < 6) (v : Int) : gX ow (uA h xa (Int32.ofNat c) (Int32.ofInt v)) g m sgn xa mk fsh hr nr sg (fun j => if j = c then v else x j) md H N hc nc fu ot := by
  obtain ⟨g1, g2, ⟨a1, a2, a3, a4, a5⟩, nd, g3, g4, s1, s2, s3, s4, s5⟩ := G
  obtain ⟨n1, n2, n3, n4, n5, n6, n7, n8, n9, n10⟩ := nd5 nd
  refine ⟨g1, g2, ⟨a1, a2, a3, a4, a5⟩, nd, g3, g4, fun j hj => by rw [hA_uA_ne n1]; exact s1 j hj, fun j hj => ?_, fun j hj => by rw [hA_uA_ne (Ne.symm n5)]; exact s3 j hj, gEn_ne _ _ (Ne.symm n6) s4, gEn_ne _ _ (Ne.symm n7) s5⟩
  rw [hA_uA, i_cl (by omega), i_cl (by omega)]
  show _ = Int32.ofInt (if j = c then v else x j)
  by_cases w : j = c
  · rw [if_pos ⟨rfl, w⟩, if_pos w]
  · rw [if_neg (fun y => w y.2), if_neg w]; exact s2 j hj
theorem gX_mk {ow : Nat → Nat} {h : Hp} {g m sgn xa mk fsh hr nr : Nat} {sg x md : Vc} {H N : List Ent} {hc nc : Nat} {fu : Bool} {ot : Option Nat} (G : gX ow h g m sgn xa mk fsh hr nr sg x md H N hc nc fu ot) (r : Nat) (hr4 : r < 4) (v : Int) : gX ow (uA h mk (Int32.ofNat r) (Int32.ofInt v)) g m sgn xa mk fsh hr nr sg x (fun j => if j = r then v else md j) H N hc nc fu ot := by
  obtain ⟨g1, g2, ⟨a1, a2, a3, a4, a5⟩, nd, g3, g4, s1, s2, s3, s4, s5⟩ := G
  obtain ⟨n1, n2, n3, n4, n5, n6, n7, n8, n9, n10⟩ := nd5 nd
  refine ⟨g1, g2, ⟨a1, a2, a3, a4, a5⟩, nd, g3, g4, fun j hj => by rw [hA_uA_ne n2]; exact s1 j hj, fun j hj => by rw [hA_uA_ne n5]; exact s2 j hj, fun j hj => ?_, gEn_ne _ _ (Ne.symm n8) s4, gEn_ne _ _ (Ne.symm n9) s5⟩
  rw [hA_uA, i_cl (by omega), i_cl (by omega)]
  show _ = Int32.ofInt (if j = r then v else md j)
  by_cases w : j = r
  · rw [if_pos ⟨rfl, w⟩, if_pos w]
  · rw [if_neg (fun y => w y.2), if_neg w]; exact s3 j hj
theorem gX_xc {ow : Nat → Nat} {h : Hp} {g m sgn xa mk fsh hr nr : Nat} {sg x y md md2 : Vc} {H N : List Ent} {hc nc : Nat} {fu : Bool} {ot : Option Nat} (G : gX ow h g m sgn xa mk fsh hr nr sg x md H N hc nc fu ot) (e : ∀ c, c < 6 → y c = x c) (e2 : ∀ r, r < 4 → md2 r = md r) : gX ow h g m sgn xa mk fsh hr nr sg y md2 H N hc nc fu ot := by
  obtain ⟨g1, g2, g0, nd, g3, g4, s1, s2, s3, s4, s5⟩ := G
  exact ⟨g1, g2, g0, nd, g3, g4, s1, fun c hc => by rw [e c hc]; exact s2 c hc, fun r hr => by rw [e2 r hr]; exact s3 r hr, s4, s5⟩
theorem gX_xa {ow : Nat → Nat} {h : Hp} {g m sgn xa mk fsh hr nr : Nat} {sg x md : Vc} {H N : List Ent} {hc nc : Nat} {fu : Bool} {ot : Option Nat} (G : gX ow h g m sgn xa mk fsh hr nr sg x md H N hc nc fu ot) (hx : ∀ c, c < 6 → (x c).natAbs < 1000000000) : xA6 h xa x := by
  obtain ⟨g1, g2, ⟨a1, a2, a3, a4, a5⟩, nd, g3, g4, s1, s2, s3, s4, s5⟩ := G
  exact ⟨a2.1, a2.2.2, fun c hc => ⟨s2 c hc, hx c hc⟩⟩
theorem sp_X6_take {ev ow : Nat → Nat} {h : Hp} {g m sgn xa mk fsh hr nr k : Nat} {sg x md : Vc} {H N : List Ent} {hc nc : Nat} {fu : Bool} {ot : Option Nat} {e : Ent} {Q : Hp → Prop} (G : gX ow h g m sgn xa mk fsh hr nr sg x md H N hc nc fu ot) (hk : H[k]? = some e) (q : ∀ h2, hE (· = 5) ow h ow h2 → gX ow h2 g m sgn xa mk fsh hr nr sg e.1 md H N hc nc fu ot → Q h2) : wp_X6_take ev h g (Int32.ofNat (7 * k)) Q := by
  have six : (6 : Int32) = Int32.ofNat 6 := rfl
  have kl : k < H.length := (List.getElem?_eq_some_iff.mp hk).1
  have go : ∀ (t c : Nat) (h1 : Hp), c + t = 6 → hE (· = 5) ow h ow h1 → gX ow h1 g m sgn xa mk fsh hr nr sg (fun j => if j < c then e.1 j else x j) md H N hc nc fu ot → wp_X6_take_2 ev Q (t + 1) g (Int32.ofNat (7 * k)) (Int32.ofNat c) h1 := by
    intro t
    induction t with
    | zero =>
      intro c h1 hc6 f G1
      unfold wp_X6_take_2
      rw [six, i_le (by omega) (by omega)]
      exact ⟨fun _ => q h1 f (gX_xc G1 (fun j hj => (if_pos (by omega)).symm) fun _ _ => rfl), fun w => by omega⟩
    | succ t ih =>
      intro c h1 hc6 f G1
      have G0 := G1
      obtain ⟨⟨g1, o1⟩, ⟨r0, r1, r2, r3, r4, r7, r8, r9⟩, ⟨a1, a2, a3, a4, a5⟩, nd, g3, ⟨b1, b2, b3, b4, b5, b6⟩, s1, s2, s3, s4, s5⟩ := G1
      unfold wp_X6_take_2
      rw [six, i_le (by omega) (by omega), i_add]
      refine ⟨fun w => by omega, fun _ => ⟨g1, xa, r7, g1, hr, r3, a4.1, vin a4.2.2 (by omega) (by omega), a2.1, vin a2.2.2 (by omega) (by omega), fun h7 e7 x10 e10 => ?_⟩⟩
      subst e10
      rw [i_one]
      rw [(s4 k e hk).1 c (by omega)] at e7
      subst e7
      refine ih (c + 1) _ (by omega) (hE_trans f (hE_uA h1 a2.2.1 _ _)) (gX_xc (gX_x G0 c (by omega) (e.1 c)) (fun j hj => ?_) fun _ _ => rfl)
      show (if j < c + 1 then e.1 j else x j) = if j = c then e.1 c else if j < c then e.1 j else x j
      by_cases w : j = c
      · rw [if_pos (by omega), if_pos w, w]
      · by_cases y : j < c
        · rw [if_pos (by omega), if_neg w, if_pos y]
        · rw [if_neg (by omega), if_neg w, if_neg y]
  exact ⟨7, go 6 0 h rfl (hE_refl _ _ _) (gX_xc G (fun j _ => if_neg (by omega)) fun _ _ => rfl)⟩
/-- sizes -/
theorem gMd_b {A : Nat → Nat → Int} {n : Nat} {sg x : Vc} {rt : Bool} {r : Nat} (hn : n ≤ 6) (hA : qRow n (A r)) (hs : ∀ c, c < 6 → sg c = 1 ∨ sg c = -1) (hx : ∀ c, c < 6 → 0 ≤ x c ∧ x c ≤ 17) : (gMd A n sg rt x r).natAbs ≤ 2240 := by
  have t : ∀ j, j < n → (A r j * sg j * x j).natAbs ≤ 340 := by
    intro j hj
    rw [Int.natAbs_mul, Int.natAbs_mul]
    have a := hA.1 j hj
    have b : (sg j).natAbs = 1 := by rcases hs j (by omega) with w | w <;> rw [w] <;> rfl
    have c := hx j (by omega)
    rw [b, Nat.mul_one]
    exact Nat.le_trans (Nat.mul_le_mul a (show (x j).natAbs ≤ 17 by omega)) (by decide)
  have s : ∀ m, m ≤ n → (qS (fun j => A r j * sg j * x j) m).natAbs ≤ 340 * m := by
    intro m
    induction m with
    | zero => intro _; simp [qS]
    | succ m ih =>
      intro hm
      have := ih (by omega)
      have := t m (by omega)
      show (qS (fun j => A r j * sg j * x j) m + A r m * sg m * x m).natAbs ≤ _
      omega
  have := s n (Nat.le_refl _)
  have b := hA.2
  unfold gMd
  split <;> omega
theorem sp_X6_make {ev ow : Nat → Nat} {h : Hp} {g m sgn xa mk fsh hr nr i R n vr : Nat} {sg x md : Vc} {H N : List Ent} {hc nc : Nat} {fu : Bool} {ot : Option Nat} {A : Nat → Nat → Int} {Lt : Nat → Int32} {rt : Bool} {Q : Int32 → Hp → Prop} (G : gX ow h g m sgn xa mk fsh hr nr sg x md H N hc nc fu ot) (M : xMo ow i h m R n vr A Lt) (hi : i ≠ 5) (hs : ∀ c, c < 6 → sg c = 1 ∨ sg c = -1) (hx : ∀ c, c < 6 → 0 ≤ x c ∧ x c ≤ 17) (q0 : ∀ h2, ¬ gZ A R n sg rt x → hE (· = 5) ow h ow h2 → gX ow h2 g m sgn xa mk fsh hr nr sg x (fun r => if r < R then gMd A n sg rt x r else md r) H N hc nc fu ot → Q 0 h2) (q1 : ∀ h2, gZ A R n sg rt x → hE (· = 5) ow h ow h2 → gX ow h2 g m sgn xa mk fsh hr nr sg x (fun r => if r < R then gMd A n sg rt x r else md r) H N hc nc fu ot → Q 1 h2) : wp_X6_make ev h g (if rt = true then 1 else 0) Q := by
  have hR4 : R ≤ 4 := M.1.2.2.2.1
  have hn6 : n ≤ 6 := M.1.2.2.2.2.1
  have rows : ∀ r, qRow n (A r) := M.1.2.2.2.2.2.2.2.2.2
  have one1 : (1 : Int32) &&& 1 = 1 := by decide
  have and0 : ∀ z : Int32, (z = 0 ∨ z = 1) → z &&& 0 = 0 ∧ (0 : Int32) &&& z = 0 := by
    intro z hz; rcases hz with rfl | rfl <;> exact ⟨by decide, by decide⟩
  have go : ∀ (t r : Nat) (z : Int32) (h1 : Hp), r + t = R → hE (· = 5) ow h ow h1 → gX ow h1 g m sgn xa mk fsh hr nr sg x (fun j => if j < r then gMd A n sg rt x j else md j) H N hc nc fu ot → ((z = 1 ∧ ∀ j, j < r → gMd A n sg rt x j = 0) ∨ (z = 0 ∧ ∃ j, j < r ∧ gMd A n sg rt x j ≠ 0)) → wp_X6_make_4 ev Q (t + 1) g (if rt = true then 1 else 0) z (Int32.ofNat r) h1 := by
    intro t
    induction t with
    | zero =>
      intro r z h1 hrr f G1 hz
      have er : r = R := by omega
      subst er
      have M1 := xMo_E f hi M
      have G0 := G1
      obtain ⟨⟨g1, o1⟩, ⟨r0, _⟩, _⟩ := G1
      unfold wp_X6_make_4
      refine ⟨g1, m, r0, M1.1.1, ?_⟩
      rw [M1.1.2.1, i_le (by omega) (by omega)]
      refine ⟨fun _ => ?_, fun w => by omega⟩
      rcases hz with ⟨e, hz⟩ | ⟨e, j, hj, hz⟩
      · subst e; exact ⟨isB_1, q1 h1 hz f G0⟩
      · subst e; exact ⟨isB_0, q0 h1 (fun w => hz (w j hj)) f G0⟩
    | succ t ih =>
      intro r z h1 hrr f G1 hz
      have M1 := xMo_E f hi M
      have G0 := G1
      obtain ⟨⟨g1, o1⟩, ⟨r0, r1, r2, r3, r4, r7, r8, r9⟩, ⟨a1, a2, a3, a4, a5⟩, nd, g3, g4, s1, s2, s3, s4, s5⟩ := G1
      obtain ⟨⟨m1, m2, m3, m4, m5, ⟨ao, q1', q2, q3, q4⟩, ⟨ab, b1, b2, b3, b4⟩, m6, m7, m8⟩, mo⟩ := M1
      obtain ⟨b, y1, y2, y3, y4⟩ := q4 r (by omega)
      have sum : ∀ (t2 j : Nat), j + t2 = n → wp_X6_make_38 ev Q (wp_X6_make_4 ev Q (t + 1)) (t2 + 1) g (if rt = true then 1 else 0) z (Int32.ofNat r) (Int32.ofInt ((if rt = true then A r 6 else 0) + qS (fun j => A r j * sg j * x j) j)) (Int32.ofNat j) h1 := by
        intro t2
        induction t2 with
        | zero =>
          intro j hj
          have ej : j = n := by omega
          subst ej
          unfold wp_X6_make_38 wp_X6_make_108
          refine ⟨g1, m, r0, m1, ?_⟩
          rw [m3, i_le (by omega) (by omega)]
          refine ⟨fun _ => ⟨g1, mk, r8, a3.1, vin a3.2.2 (by omega) (by omega), fun h6 e6 => ?_⟩, fun w => by omega⟩
          have bd : (gMd A j sg rt x r).natAbs ≤ 2240 := gMd_b hn6 (rows r) hs hx
          have G6 : gX ow h6 g m sgn xa mk fsh hr nr sg x (fun k => if k < r + 1 then gMd A j sg rt x k else md k) H N hc nc fu ot := by
            rw [e6]
            refine gX_xc (gX_mk G0 r (by omega) (gMd A j sg rt x r)) (fun _ _ => rfl) fun k hk => ?_
            show (if k < r + 1 then _ else _) = if k = r then _ else if k < r then _ else _
            by_cases w : k = r
            · rw [if_pos (by omega), if_pos w, w]
            · by_cases y : k < r
              · rw [if_pos (by omega), if_neg w, if_pos y]
              · rw [if_neg (by omega), if_neg w, if_neg y]
          have f6 : hE (· = 5) ow h ow h6 := by rw [e6]; exact hE_trans f (hE_uA h1 a3.2.1 _ _)
          have tst : (Int32.ofInt ((if rt = true then A r 6 else 0) + qS (fun j => A r j * sg j * x j) j) = 0) ↔ gMd A j sg rt x r = 0 := by
            rw [i_0I]; exact i_eqI (by show (gMd A j sg rt x r).natAbs < _; omega) (by decide)
          rw [tst]
          refine ⟨fun w x1 e1 x2 e2 => ?_, fun w x1 e1 x2 e2 => ?_⟩
          · subst e2; rw [i_one]
            have : x1 = 0 := by rw [e1]; exact (and0 z (by rcases hz with ⟨e, _⟩ | ⟨e, _⟩ <;> simp [e])).1
            exact ih (r + 1) x1 h6 (by omega) f6 G6 (.inr ⟨this, r, by omega, w⟩)
          · subst e2; rw [i_one]
            rcases hz with ⟨e, hz⟩ | ⟨e, k, hk, hz⟩
            · refine ih (r + 1) x1 h6 (by omega) f6 G6 (.inl ⟨by rw [e1, e]; exact one1, fun k hk => ?_⟩)
              by_cases y : k = r
              · rw [y]; exact w
              · exact hz k (by omega)
            · exact ih (r + 1) x1 h6 (by omega) f6 G6 (.inr ⟨by rw [e1, e]; exact (and0 1 (.inr rfl)).2, k, by omega, hz⟩)
        | succ t2 ih2 =>
          intro j hj
          unfold wp_X6_make_38
          refine ⟨g1, m, r0, m1, ?_⟩
          rw [m3, i_le (by omega) (by omega)]
          refine ⟨fun w => by omega, fun _ => ⟨g1, m, r0, m1, ao, q1', q2, vin q3 (by omega) (by omega), b, y1, y2, vin y3 (by omega) (by omega), g1, sgn, r1, a1.1, vin a1.2.2 (by omega) (by omega), g1, xa, r7, a2.1, vin a2.2.2 (by omega) (by omega), fun x26 e26 x27 e27 => ?_⟩⟩
          subst e27
          rw [i_one]
          have ea : hA h1 b (Int32.ofNat j) = Int32.ofInt (A r j) := by rw [← y4 j (by omega) (by omega)]; exact (i_ofI _).symm
          rw [ea, s1 j (by omega), s2 j (by omega), i_mulI, i_mulI, i_addI] at e26
          subst e26
          have := ih2 (j + 1) (by omega)
          rw [show (if rt = true then A r 6 else 0) + qS (fun j => A r j * sg j * x j) (j + 1) = (if rt = true then A r 6 else 0) + qS (fun j => A r j * sg j * x j) j + A r j * sg j * x j from (Int.add_assoc _ _ _).symm] at this
          exact this
      have start : wp_X6_make_33 ev Q (wp_X6_make_4 ev Q (t + 1)) g (if rt = true then 1 else 0) z (Int32.ofNat r) (Int32.ofInt (if rt = true then A r 6 else 0)) h1 := by
        unfold wp_X6_make_33
        refine ⟨n + 1, ?_⟩
        have := sum n 0 (by omega)
        rw [show (if rt = true then A r 6 else 0) + qS (fun j => A r j * sg j * x j) 0 = if rt = true then A r 6 else 0 from Int.add_zero _] at this
        exact this
      unfold wp_X6_make_4
      refine ⟨g1, m, r0, m1, ?_⟩
      rw [m2, i_le (by omega) (by omega)]
      refine ⟨fun w => by omega, fun _ => ⟨fun w => ?_, fun w => ⟨g1, m, r0, m1, ab, b1, b2, vin b3 (by omega) (by omega), ?_⟩⟩⟩
      · cases rt with
        | true => exact absurd w (by decide)
        | false => exact start
      · cases rt with
        | false => exact absurd rfl w
        | true =>
          have e : -(hA h1 ab (Int32.ofNat r)) = Int32.ofInt (A r 6) := by
            rw [← i_ofI (hA h1 ab (Int32.ofNat r)), b4 r (by omega), i_negI, Int.neg_neg]
          rw [e]; exact start
  exact ⟨R + 1, go R 0 1 h (by omega) (hE_refl _ _ _) (gX_xc G (fun _ _ => rfl) fun j _ => if_neg (by omega)) (.inl ⟨rfl, fun j hj => by omega⟩)⟩
