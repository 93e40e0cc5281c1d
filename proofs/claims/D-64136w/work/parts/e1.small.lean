/-! COLUMNS, numbers that are told, costs, times, the best one's numbers -/
theorem col_ex {n : Nat} (hn : n ≤ 6) (p : Int32) : (p < 0 ∨ ¬ p < 0 ∧ Int32.ofNat n ≤ p) ∨ ∃ c, c < n ∧ p = Int32.ofNat c := by
  by_cases h : p < 0
  · exact .inl (.inl h)
  · obtain ⟨c, w, rfl⟩ := i_ex h
    by_cases y : c < n
    · exact .inr ⟨c, y, rfl⟩
    · exact .inl (.inr ⟨h, by rw [i_le (by omega) w]; omega⟩)
def noCol (n : Nat) (p : Int32) : Prop := p < 0 ∨ ¬ p < 0 ∧ Int32.ofNat n ≤ p
theorem noCol_c {n c : Nat} (hn : n ≤ 6) (hc : c < n) : ¬ noCol n (Int32.ofNat c) := by
  rintro (h | ⟨_, h⟩)
  · exact i_nneg (by omega) h
  · rw [i_le (by omega) (by omega)] at h; omega
theorem sp_X1_isColumn {ev ow : Nat → Nat} {i : Nat} {h : Hp} {a0 R n vr : Nat} {rf fd sh : Nat → Nat} {A : Nat → Nat → Int} {Lt : Nat → Int32} {p : Int32} {Q : Int32 → Hp → Prop} (D : xDk ow h a0 rf fd sh) (M : xMo ow i h (rf 2) R n vr A Lt) (no : noCol n p → Q 0 h) (yes : ∀ c, c < n → p = Int32.ofNat c → Q 1 h) : wp_X1_isColumn ev h a0 p Q := by
  obtain ⟨m1, m2, m3, m4, m5, _⟩ := xMo_rd M
  have r2 := D.2.2.1 2 (by omega) (by omega) (by omega) (by omega) (by omega)
  unfold wp_X1_isColumn wp_X1_isColumn_19 wp_X1_isColumn_20
  refine ⟨fun y => ⟨isB_0, no (.inl y)⟩, fun y => ⟨D.1, rf 2, r2, m1, ?_⟩⟩
  rw [m3]
  refine ⟨fun z => ⟨isB_0, no (.inr ⟨y, z⟩)⟩, fun z => ⟨isB_1, ?_⟩⟩
  rcases col_ex m5 p with w | ⟨c, w1, w2⟩
  · rcases w with w | w
    · exact absurd w y
    · exact absurd w.2 z
  · exact yes c w1 w2
theorem sp_isColumn {n R : Nat} {A : Nat → Nat → Int} {kn : Bool} {p : Int32} {σ : St} {Q : Int32 → St → Prop} (S : mSys σ n R A) (k14 : gI σ 14 = bI kn) (k0 : kn = false → n = 0) (no : noCol n p → Q 0 σ) (yes : ∀ c, c < n → p = Int32.ofNat c → Q 1 σ) : wp_isColumn p σ Q := by
  unfold wp_isColumn wp_isColumn_23 wp_isColumn_24
  rw [k14, bI_0, S.1]
  have hn := S.2.2.1
  refine ⟨fun y => ⟨isB_0, no ?_⟩, fun y => ⟨fun y => ⟨isB_0, no (.inl y)⟩, fun y => ⟨fun z => ⟨isB_0, no (.inr ⟨y, z⟩)⟩, fun z => ⟨isB_1, ?_⟩⟩⟩⟩
  · rcases col_ex hn p with w | ⟨c, w1, _⟩
    · exact w
    · have := k0 y; omega
  · rcases col_ex hn p with w | ⟨c, w1, w2⟩
    · rcases w with w | w
      · exact absurd w y
      · exact absurd w.2 z
    · exact yes c w1 w2
theorem num_ex (p : Int32) : (p < -99 ∨ ¬ p < -99 ∧ ¬ p ≤ 99) ∨ ∃ t : Int, t.natAbs ≤ 99 ∧ p = Int32.ofInt t := by
  have e : p = Int32.ofInt p.toInt := (i_ofI p).symm
  have a := Int32.le_toInt p
  have b := Int32.toInt_lt p
  have n99 : (-99 : Int32) = Int32.ofInt (-99) := rfl
  have p99 : (99 : Int32) = Int32.ofInt 99 := rfl
  have lt : p < -99 ↔ p.toInt < -99 := by rw [Int32.lt_iff_toInt_lt]; exact Iff.rfl
  have le : p ≤ 99 ↔ p.toInt ≤ 99 := by rw [Int32.le_iff_toInt_le]; exact Iff.rfl
  rw [lt, le]
  by_cases h : p.toInt < -99
  · exact .inl (.inl h)
  · by_cases w : p.toInt ≤ 99
    · exact .inr ⟨p.toInt, by omega, e⟩
    · exact .inl (.inr ⟨h, w⟩)
def noNum (p : Int32) : Prop := p < -99 ∨ ¬ p < -99 ∧ ¬ p ≤ 99
theorem sp_X1_needNumber {ev : Nat → Nat} {h : Hp} {p : Int32} {MC MS : Nat} {Q : Hp → Prop} {Xr : String → Hp → Prop} (mc : 1 ≤ MC) (ms : 6 ≤ MS) (no : noNum p → Xr eIAE h) (yes : ∀ t : Int, t.natAbs ≤ 99 → p = Int32.ofInt t → Q h) : wp_X1_needNumber ev h p MC MS Q Xr := by
  unfold wp_X1_needNumber wp_X1_needNumber_12
  refine ⟨fun y => ⟨MC - 1, MS - 6, by omega, by omega, no (.inl y)⟩, fun y => ⟨fun z => ?_, fun z => ⟨MC - 1, MS - 6, by omega, by omega, no (.inr ⟨y, z⟩)⟩⟩⟩
  rcases num_ex p with w | ⟨t, w1, w2⟩
  · rcases w with w | w
    · exact absurd w y
    · exact absurd z w.2
  · exact yes t w1 w2
theorem xA6o_set {ow : Nat → Nat} {i : Nat} {h : Hp} {a : Nat} {x : Vc} (T : xA6o ow i h a x) {c : Nat} (hc : c < 6) (t : Int) : xA6o ow i (uA h a (Int32.ofNat c) (Int32.ofInt t)) a (bSt x c t) := by
  obtain ⟨t1, t2, t3, t4⟩ := T
  refine ⟨t1, t2, t3, fun j hj => ?_⟩
  rw [hA_uA, i_cl (by omega), i_cl (by omega)]
  by_cases z : j = c
  · rw [if_pos ⟨rfl, z⟩, z, bSt_c]
  · rw [if_neg (fun w => z w.2), bSt_ne x t z]; exact t4 j hj
theorem sp_X1_tell {ev ow : Nat → Nat} {i j : Nat} {h : Hp} {a0 R n vr MC MS : Nat} {rf fd sh : Nat → Nat} {tv : Vc} {A : Nat → Nat → Int} {Lt : Nat → Int32} {p1 p2 : Int32} {Q : Hp → Prop} {Xr : String → Hp → Prop} (D : xDk ow h a0 rf fd sh) (M : xMo ow i h (rf 2) R n vr A Lt) (T : xA6o ow j h (rf 10) tv) (mc : 1 ≤ MC) (ms : 6 ≤ MS) (noc : noCol n p1 → Xr eIOB h) (non : ∀ c, c < n → p1 = Int32.ofNat c → noNum p2 → Xr eIAE h) (q : ∀ (c : Nat) (t : Int), c < n → p1 = Int32.ofNat c → t.natAbs ≤ 99 → p2 = Int32.ofInt t → ∀ h2, hE (· = j) ow h ow h2 → xA6o ow j h2 (rf 10) (bSt tv c t) → Q h2) : wp_X1_tell ev h a0 p1 p2 MC MS Q Xr := by
  have n6 : n ≤ 6 := M.1.2.2.2.2.1
  have r10 := D.2.2.1 10 (by omega) (by omega) (by omega) (by omega) (by omega)
  unfold wp_X1_tell
  refine ⟨D.1, sp_X1_isColumn D M (fun w => ⟨fun z => absurd rfl z, fun _ => ⟨MC - 1, MS - 6, by omega, by omega, noc w⟩⟩) fun c hc e => ⟨fun _ => ⟨MC, MS, 0, 0, by omega, by omega, ?_⟩, fun z => absurd z (by decide)⟩⟩
  refine sp_X1_needNumber mc ms (non c hc e) fun t ht et => ⟨D.1, rf 10, r10, T.1, by rw [T.2.2.1, e]; exact (i_in (by omega)).mpr (by omega), fun h13 e13 => ?_⟩
  rw [e13, e, et]
  exact q c t hc e ht et _ (hE_uA h T.2.1 _ _) (xA6o_set T (by omega) t)
theorem sp_X1_cost {ev ow : Nat → Nat} {i : Nat} {h : Hp} {a0 R n vr MC MS : Nat} {rf fd sh : Nat → Nat} {co bv : Vc} {A : Nat → Nat → Int} {Lt : Nat → Int32} {p1 p2 : Int32} {Q : Hp → Prop} {Xr : String → Hp → Prop} (D : xDk ow h a0 rf fd sh) (M : xMo ow i h (rf 2) R n vr A Lt) (T : xSeek ow h (rf 6) co bv) (mc : 1 ≤ MC) (ms : 6 ≤ MS) (noc : noCol n p1 → Xr eIOB h) (non : ∀ c, c < n → p1 = Int32.ofNat c → noNum p2 → Xr eIAE h) (q : ∀ (c : Nat) (t : Int), c < n → p1 = Int32.ofNat c → t.natAbs ≤ 99 → p2 = Int32.ofInt t → ∀ h2, hE (· = 7) ow h ow h2 → xSeek ow h2 (rf 6) (bSt co c t) bv → Q h2) : wp_X1_cost ev h a0 p1 p2 MC MS Q Xr := by
  have n6 : n ≤ 6 := M.1.2.2.2.2.1
  have r6 := D.2.2.1 6 (by omega) (by omega) (by omega) (by omega) (by omega)
  obtain ⟨ca, xa, ba, ⟨t1, t2⟩, ⟨r1, r2, r3⟩, c1, x1, b1, ne, hc, hx, hbv⟩ := T
  unfold wp_X1_cost
  refine ⟨D.1, sp_X1_isColumn D M (fun w => ⟨fun z => absurd rfl z, fun _ => ⟨MC - 1, MS - 6, by omega, by omega, noc w⟩⟩) fun c hc' e => ⟨fun _ => ⟨MC, MS, 0, 0, by omega, by omega, ?_⟩, fun z => absurd z (by decide)⟩⟩
  refine sp_X1_needNumber mc ms (non c hc' e) fun t ht et => ⟨D.1, rf 6, r6, t1, ca, r1, c1.1, by rw [c1.2.2, e]; exact (i_in (by omega)).mpr (by omega), fun h13 e13 => ?_⟩
  rw [e13, e, et]
  have X := xA6o_set (ow := ow) (i := 7) (h := h) (a := ca) (x := co) ⟨c1.1, c1.2.1, c1.2.2, hc⟩ (show c < 6 by omega) t
  refine q c t hc' e ht et _ (hE_uA h c1.2.1 _ _) ⟨ca, xa, ba, ⟨t1, t2⟩, ⟨r1, r2, r3⟩, c1, x1, b1, ne, X.2.2.2, fun j hj => ?_, fun j hj => ?_⟩
  · rw [hA_uA_ne (Ne.symm ne.1)]; exact hx j hj
  · rw [hA_uA_ne (Ne.symm ne.2.1)]; exact hbv j hj
theorem sp_tell {n R : Nat} {A : Nat → Nat → Int} {kn : Bool} {tv : Vc} {p1 p2 : Int32} {σ : St} {Q : St → Prop} (S : mSys σ n R A) (k14 : gI σ 14 = bI kn) (k0 : kn = false → n = 0) (V : mV 24 σ tv) (noc : noCol n p1 → Q (sI σ 0 1)) (non : ∀ c, c < n → p1 = Int32.ofNat c → noNum p2 → Q (sI σ 0 2)) (q : ∀ (c : Nat) (t : Int), c < n → p1 = Int32.ofNat c → t.natAbs ≤ 99 → p2 = Int32.ofInt t → ∀ σ2, mF1 24 (sI σ 0 0) σ2 → mV 24 σ2 (bSt tv c t) → Q σ2) : wp_tell p1 p2 σ Q := by
  have hn := S.2.2.1
  have un : ∀ u : Int32, ¬ u = 0 → Q (sI σ 0 u) → wp_tell_30 Q p1 p2 u σ := by
    intro u hu hq σ1 e1
    refine ⟨fun _ => by rw [e1]; exact hq, fun z => ?_⟩
    rw [e1, gI_sI, if_pos rfl] at z; exact absurd z hu
  unfold wp_tell wp_tell_25
  refine sp_isColumn S k14 k0 (fun w => ⟨fun z => absurd rfl z, fun _ => un 1 (by decide) (noc w)⟩) fun c hc e => ⟨fun _ => ⟨fun y => un 2 (by decide) (non c hc e (.inl y)), fun y => ⟨fun z => ?_, fun z => un 2 (by decide) (non c hc e (.inr ⟨y, z⟩))⟩⟩, fun z => absurd z (by decide)⟩
  rcases num_ex p2 with w | ⟨t, w1, w2⟩
  · rcases w with w | w
    · exact absurd w y
    · exact absurd z w.2
  · intro σ1 e1
    refine ⟨fun u => ?_, fun _ => ⟨by rw [e]; exact (i_in (by omega)).mpr (by omega), fun σ2 e2 => ?_⟩⟩
    · rw [e1, gI_sI, if_pos rfl] at u; exact absurd rfl u
    · refine q c t hc e w1 w2 σ2 (by rw [e2, e1]; exact mF1_sA 24 _ _ _) ?_
      rw [e2, e, w2, e1]
      exact mV_set (v := tv) (fun j hj => V j hj) (by omega) t
theorem sp_cost {n R : Nat} {A : Nat → Nat → Int} {kn : Bool} {tv : Vc} {p1 p2 : Int32} {σ : St} {Q : St → Prop} (S : mSys σ n R A) (k14 : gI σ 14 = bI kn) (k0 : kn = false → n = 0) (V : mV 25 σ tv) (noc : noCol n p1 → Q (sI σ 0 1)) (non : ∀ c, c < n → p1 = Int32.ofNat c → noNum p2 → Q (sI σ 0 2)) (q : ∀ (c : Nat) (t : Int), c < n → p1 = Int32.ofNat c → t.natAbs ≤ 99 → p2 = Int32.ofInt t → ∀ σ2, mF1 25 (sI σ 0 0) σ2 → mV 25 σ2 (bSt tv c t) → Q σ2) : wp_cost p1 p2 σ Q := by
  have hn := S.2.2.1
  have un : ∀ u : Int32, ¬ u = 0 → Q (sI σ 0 u) → wp_cost_30 Q p1 p2 u σ := by
    intro u hu hq σ1 e1
    refine ⟨fun _ => by rw [e1]; exact hq, fun z => ?_⟩
    rw [e1, gI_sI, if_pos rfl] at z; exact absurd z hu
  unfold wp_cost wp_cost_25
  refine sp_isColumn S k14 k0 (fun w => ⟨fun z => absurd rfl z, fun _ => un 1 (by decide) (noc w)⟩) fun c hc e => ⟨fun _ => ⟨fun y => un 2 (by decide) (non c hc e (.inl y)), fun y => ⟨fun z => ?_, fun z => un 2 (by decide) (non c hc e (.inr ⟨y, z⟩))⟩⟩, fun z => absurd z (by decide)⟩
  rcases num_ex p2 with w | ⟨t, w1, w2⟩
  · rcases w with w | w
    · exact absurd w y
    · exact absurd z w.2
  · intro σ1 e1
    refine ⟨fun u => ?_, fun _ => ⟨by rw [e]; exact (i_in (by omega)).mpr (by omega), fun σ2 e2 => ?_⟩⟩
    · rw [e1, gI_sI, if_pos rfl] at u; exact absurd rfl u
    · refine q c t hc e w1 w2 σ2 (by rw [e2, e1]; exact mF1_sA 25 _ _ _) ?_
      rw [e2, e, w2, e1]
      exact mV_set (v := tv) (fun j hj => V j hj) (by omega) t
/-- the best one's numbers -/
theorem sp_X1_bestAt {ev ow : Nat → Nat} {i : Nat} {h : Hp} {a0 R n vr : Nat} {rf fd sh : Nat → Nat} {co bv : Vc} {sg : Bool} {A : Nat → Nat → Int} {Lt : Nat → Int32} {p : Int32} {Q : Int32 → Hp → Prop} (D : xDk ow h a0 rf fd sh) (M : xMo ow i h (rf 2) R n vr A Lt) (T : xSeek ow h (rf 6) co bv) (k13 : hI h a0 13 = bI sg) (no : (sg = false ∨ noCol n p) → Q (-1) h) (q : ∀ c, sg = true → c < n → p = Int32.ofNat c → Q (Int32.ofInt (bv c)) h) : wp_X1_bestAt ev h a0 p Q := by
  have n6 : n ≤ 6 := M.1.2.2.2.2.1
  have r6 := D.2.2.1 6 (by omega) (by omega) (by omega) (by omega) (by omega)
  obtain ⟨ca, xa, ba, ⟨t1, t2⟩, ⟨r1, r2, r3⟩, c1, x1, b1, ne, hc, hx, hbv⟩ := T
  unfold wp_X1_bestAt wp_X1_bestAt_27 wp_X1_bestAt_28
  rw [k13, bI_0]
  refine ⟨D.1, fun y => no (.inl y), fun y => ⟨D.1, sp_X1_isColumn D M (fun w => ⟨fun _ => no (.inr w), fun z => absurd rfl z⟩) fun c hc' e => ⟨fun z => absurd z (by decide), fun _ => ⟨D.1, rf 6, r6, t1, ba, r3, b1.1, ?_, ?_⟩⟩⟩⟩
  · rw [b1.2.2, e]; exact (i_in (by omega)).mpr (by omega)
  · rw [e, hbv c (by omega)]; exact q c (b_t y) hc' e
theorem sp_bestAt {n R : Nat} {A : Nat → Nat → Int} {kn sg : Bool} {bv : Vc} {p : Int32} {σ : St} {Q : Int32 → St → Prop} (S : mSys σ n R A) (k14 : gI σ 14 = bI kn) (k0 : kn = false → n = 0) (B : mN n 29 σ bv) (k28 : gI σ 28 = bI sg) (no : (sg = false ∨ noCol n p) → Q (-1) (sI σ 0 0)) (q : ∀ c, sg = true → c < n → p = Int32.ofNat c → Q (Int32.ofInt (bv c)) (sI σ 0 0)) : wp_bestAt p σ Q := by
  have hn := S.2.2.1
  unfold wp_bestAt wp_bestAt_29 wp_bestAt_30
  intro σ1 e1
  rw [← e1] at no q
  have S1 : mSys σ1 n R A := mSys_gen (by rw [e1]; rfl) (by rw [e1]; rfl) (by rw [e1]; rfl) S
  have i1 : gI σ1 28 = bI sg := by rw [e1, gI_sI, if_neg (by omega)]; exact k28
  rw [i1, bI_0]
  refine ⟨fun y => no (.inl y), fun y => sp_isColumn S1 (by rw [e1, gI_sI, if_neg (by omega)]; exact k14) k0 (fun w => ⟨fun _ => no (.inr w), fun z => absurd rfl z⟩) fun c hc e => ⟨fun z => absurd z (by decide), fun _ => ⟨?_, ?_⟩⟩⟩
  · rw [e]; exact (i_in (by omega)).mpr (by omega)
  · rw [e, gA_nat σ1 29 (by omega), e1]
    have := q c (b_t y) hc e
    rw [e1] at this
    show Q (σ.2.1 29 c) _
    rw [B c hc]; exact this
