/-! COUNT, letter, number; at in the twin -/
def cntV (kn : Bool) (R n vr : Nat) (p : Int32) : Int32 := if kn = false then -1 else if p = 0 then Int32.ofNat R else if p = 1 then Int32.ofNat n else if p = 2 then Int32.ofNat vr else -1
theorem xMo_vr {ow : Nat → Nat} {i : Nat} {h : Hp} {m R n vr : Nat} {A : Nat → Nat → Int} {Lt : Nat → Int32} (M : xMo ow i h m R n vr A Lt) : vr ≤ n ∧ hI h m 2 = Int32.ofNat vr ∧ ∃ lt, hR h m 3 = some lt ∧ hok h lt 20 ∧ hN h lt = 6 ∧ ∀ c, c < vr → hA h lt (Int32.ofNat c) = Lt c := by
  obtain ⟨_, _, _, _, v1, v2, lt, t1, t2, t3, t4, t5⟩ := M
  exact ⟨v1, v2, lt, t1, t2, t4, t5⟩
theorem sp_X1_count {ev ow : Nat → Nat} {i : Nat} {h : Hp} {a0 R n vr : Nat} {rf fd sh : Nat → Nat} {kn : Bool} {A : Nat → Nat → Int} {Lt : Nat → Int32} {p : Int32} {Q : Int32 → Hp → Prop} (D : xDk ow h a0 rf fd sh) (M : xMo ow i h (rf 2) R n vr A Lt) (k8 : hI h a0 8 = bI kn) (q : Q (cntV kn R n vr p) h) : wp_X1_count ev h a0 p Q := by
  obtain ⟨m1, m2, m3, _⟩ := xMo_rd M
  obtain ⟨v1, v2, _⟩ := xMo_vr M
  have r2 := D.2.2.1 2 (by omega) (by omega) (by omega) (by omega) (by omega)
  unfold wp_X1_count
  rw [k8, bI_0]
  unfold cntV at q
  refine ⟨D.1, fun y => ?_, fun y => by rw [if_pos y] at q; exact q⟩
  rw [if_neg y] at q
  refine ⟨fun z => ⟨D.1, rf 2, r2, m1, by rw [m2]; rw [if_pos z] at q; exact q⟩, fun z => ?_⟩
  rw [if_neg z] at q
  refine ⟨fun z => ⟨D.1, rf 2, r2, m1, by rw [m3]; rw [if_pos z] at q; exact q⟩, fun z => ?_⟩
  rw [if_neg z] at q
  refine ⟨fun z => ⟨D.1, rf 2, r2, m1, by rw [v2]; rw [if_pos z] at q; exact q⟩, fun z => ?_⟩
  rw [if_neg z] at q; exact q
theorem sp_count {n R vr : Nat} {A : Nat → Nat → Int} {kn : Bool} {p : Int32} {σ : St} {Q : Int32 → St → Prop} (S : mSys σ n R A) (k14 : gI σ 14 = bI kn) (k16 : gI σ 16 = Int32.ofNat vr) (q : Q (cntV kn R n vr p) (sI σ 0 0)) : wp_count p σ Q := by
  unfold wp_count wp_count_52
  intro σ1 e1
  rw [← e1] at q
  have I : ∀ k, k ≠ 0 → gI σ1 k = gI σ k := fun k hk => by rw [e1, gI_sI, if_neg hk]
  rw [I 14 (by omega), I 15 (by omega), I 16 (by omega), I 17 (by omega), k14, k16, S.1, S.2.1, bI_0]
  unfold cntV at q
  refine ⟨fun y => ?_, fun y => by rw [if_pos y] at q; exact q⟩
  rw [if_neg y] at q
  refine ⟨fun z => ?_, fun z => by rw [if_pos z] at q; exact q⟩
  rw [if_neg z] at q
  refine ⟨fun z => ?_, fun z => by rw [if_pos z] at q; exact q⟩
  rw [if_neg z] at q
  exact ⟨fun z => by rw [if_neg z] at q; exact q, fun z => by rw [if_pos z] at q; exact q⟩
theorem sp_X1_letter {ev ow : Nat → Nat} {i : Nat} {h : Hp} {a0 R n vr : Nat} {rf fd sh : Nat → Nat} {kn : Bool} {A : Nat → Nat → Int} {Lt : Nat → Int32} {p : Int32} {Q : Int32 → Hp → Prop} (D : xDk ow h a0 rf fd sh) (M : xMo ow i h (rf 2) R n vr A Lt) (k8 : hI h a0 8 = bI kn) (no : (kn = false ∨ noCol vr p) → Q (-1) h) (q : ∀ c, kn = true → c < vr → p = Int32.ofNat c → Q (Lt c) h) : wp_X1_letter ev h a0 p Q := by
  obtain ⟨m1, m2, m3, m4, m5, _⟩ := xMo_rd M
  obtain ⟨v1, v2, lt, t1, t2, t3, t4⟩ := xMo_vr M
  have r2 := D.2.2.1 2 (by omega) (by omega) (by omega) (by omega) (by omega)
  unfold wp_X1_letter wp_X1_letter_34 wp_X1_letter_35
  rw [k8, bI_0]
  refine ⟨D.1, fun y => no (.inl y), fun y => ⟨fun z => no (.inr (.inl z)), fun z => ⟨D.1, rf 2, r2, m1, ?_⟩⟩⟩
  rw [v2]
  refine ⟨fun w => no (.inr (.inr ⟨z, w⟩)), fun w => ⟨D.1, rf 2, r2, m1, lt, t1, t2, ?_⟩⟩
  rcases col_ex (show vr ≤ 6 by omega) p with u | ⟨c, c1, c2⟩
  · rcases u with u | u
    · exact absurd u z
    · exact absurd u.2 w
  · rw [c2, t4 c c1, t3]
    exact ⟨(i_in (by omega)).mpr (by omega), q c (b_t y) c1 c2⟩
theorem sp_letter {vr : Nat} {kn : Bool} {Lt : Nat → Int32} {p : Int32} {σ : St} {Q : Int32 → St → Prop} (hv : vr ≤ 6) (k14 : gI σ 14 = bI kn) (k16 : gI σ 16 = Int32.ofNat vr) (hl : ∀ c, c < vr → σ.2.1 18 c = Lt c) (no : (kn = false ∨ noCol vr p) → Q (-1) (sI σ 0 0)) (q : ∀ c, kn = true → c < vr → p = Int32.ofNat c → Q (Lt c) (sI σ 0 0)) : wp_letter p σ Q := by
  unfold wp_letter wp_letter_33 wp_letter_34
  intro σ1 e1
  rw [← e1] at no q
  have I : ∀ k, k ≠ 0 → gI σ1 k = gI σ k := fun k hk => by rw [e1, gI_sI, if_neg hk]
  rw [I 14 (by omega), I 16 (by omega), k14, k16, bI_0]
  refine ⟨fun y => no (.inl y), fun y => ⟨fun z => no (.inr (.inl z)), fun z => ⟨fun w => no (.inr (.inr ⟨z, w⟩)), fun w => ?_⟩⟩⟩
  rcases col_ex hv p with u | ⟨c, c1, c2⟩
  · rcases u with u | u
    · exact absurd u z
    · exact absurd u.2 w
  · have e : gA σ1 18 p = Lt c := by rw [c2, gA_nat σ1 18 (by omega), e1]; exact hl c c1
    rw [e]
    exact ⟨by rw [c2]; exact (i_in (by omega)).mpr (by omega), q c (b_t y) c1 c2⟩
/-- the arguments of number are fair; what it answers -/
def numV (n : Nat) (A : Nat → Nat → Int) (r c : Nat) : Int32 := Int32.ofInt (if c = n then -A r 6 else A r c)
theorem sp_X1_number {ev ow : Nat → Nat} {i : Nat} {h : Hp} {a0 R n vr MC MS : Nat} {rf fd sh : Nat → Nat} {A : Nat → Nat → Int} {Lt : Nat → Int32} {p1 p2 : Int32} {Q : Int32 → Hp → Prop} {Xr : String → Hp → Prop} (D : xDk ow h a0 rf fd sh) (M : xMo ow i h (rf 2) R n vr A Lt) (mc : 1 ≤ MC) (ms : 6 ≤ MS) (no : (noCol R p1 ∨ noCol (n + 1) p2) → Xr eIOB h) (q : ∀ r c, r < R → c < n + 1 → p1 = Int32.ofNat r → p2 = Int32.ofNat c → Q (numV n A r c) h) : wp_X1_number ev h a0 p1 p2 MC MS Q Xr := by
  obtain ⟨m1, m2, m3, m4, m5, ao, ab, a1, a2, a3, a4, a5, a6, rows, rhs, qr⟩ := xMo_rd M
  have r2 := D.2.2.1 2 (by omega) (by omega) (by omega) (by omega) (by omega)
  have bad : (noCol R p1 ∨ noCol (n + 1) p2) → wp_X1_number_30 ev Q Xr a0 h MC MS := fun hh => ⟨MC - 1, MS - 6, by omega, by omega, no hh⟩
  unfold wp_X1_number
  refine ⟨fun y => bad (.inl (.inl y)), fun y => ⟨D.1, rf 2, r2, m1, ?_⟩⟩
  rw [m2]
  refine ⟨fun z => bad (.inl (.inr ⟨y, z⟩)), fun z => ⟨fun y2 => bad (.inr (.inl y2)), fun y2 => ⟨D.1, rf 2, r2, m1, ?_⟩⟩⟩
  rw [m3]
  obtain ⟨r, r1, rfl⟩ : ∃ r, r < R ∧ p1 = Int32.ofNat r := by
    rcases col_ex (show R ≤ 6 by omega) p1 with u | u
    · rcases u with u | u
      · exact absurd u y
      · exact absurd u.2 z
    · exact u
  obtain ⟨c, c1, rfl⟩ := i_ex y2
  rw [i_le c1 (by omega)]
  refine ⟨fun w => ⟨D.1, rf 2, r2, m1, ?_⟩, fun w => bad (.inr (.inr ⟨y2, by rw [i_le (by omega) c1]; omega⟩))⟩
  have qq := q r c r1 (by omega) rfl rfl
  unfold numV at qq
  unfold wp_X1_number_72
  rw [m3, i_eq c1 (by omega)]
  obtain ⟨b, g1, g2, g3, g4⟩ := rows r (by omega)
  refine ⟨fun e => ⟨D.1, rf 2, r2, m1, ao, a1, a2, by rw [a3]; exact (i_in (by omega)).mpr (by omega), b, g1, g2, by rw [g3]; exact (i_in (by omega)).mpr (by omega), ?_⟩, fun e => ⟨D.1, rf 2, r2, m1, ab, a4, a5, by rw [a6]; exact (i_in (by omega)).mpr (by omega), ?_⟩⟩
  · rw [g4 c r1 (by omega)]; rw [if_neg e] at qq; exact qq
  · rw [rhs r r1]; rw [if_pos e] at qq; exact qq
theorem sp_number {n R : Nat} {A : Nat → Nat → Int} {kn : Bool} {p1 p2 : Int32} {σ : St} {Q : Int32 → St → Prop} (S : mSys σ n R A) (k14 : gI σ 14 = bI kn) (kR : kn = false → R = 0) (no : (noCol R p1 ∨ noCol (n + 1) p2) → Q 0 (sI σ 0 1)) (q : ∀ r c, r < R → c < n + 1 → p1 = Int32.ofNat r → p2 = Int32.ofNat c → Q (numV n A r c) (sI σ 0 0)) : wp_number p1 p2 σ Q := by
  have hn := S.2.2.1
  have hR := S.2.2.2.1
  have bad : (noCol R p1 ∨ noCol (n + 1) p2) → wp_number_36 Q p1 p2 σ := by
    intro hh σ1 e1
    refine ⟨fun _ => by rw [e1]; exact no hh, fun z => ?_⟩
    rw [e1, gI_sI, if_pos rfl] at z; exact absurd z (by decide)
  unfold wp_number
  rw [k14, bI_0, S.2.1, S.1]
  refine ⟨fun y => bad (.inl ?_), fun _ => ⟨fun y => bad (.inl (.inl y)), fun y => ⟨fun z => bad (.inl (.inr ⟨y, z⟩)), fun z => ⟨fun y2 => bad (.inr (.inl y2)), fun y2 => ?_⟩⟩⟩⟩
  · have := kR y
    subst this
    rcases col_ex (show 0 ≤ 6 by omega) p1 with u | ⟨c, c1, _⟩
    · exact u
    · omega
  obtain ⟨r, r1, rfl⟩ : ∃ r, r < R ∧ p1 = Int32.ofNat r := by
    rcases col_ex (show R ≤ 6 by omega) p1 with u | u
    · rcases u with u | u
      · exact absurd u y
      · exact absurd u.2 z
    · exact u
  obtain ⟨c, c1, rfl⟩ := i_ex y2
  rw [i_lt (by omega) c1]
  refine ⟨fun w => bad (.inr (.inr ⟨y2, by rw [i_le (by omega) c1]; omega⟩)), fun w σ1 e1 => ?_⟩
  have num := mSys_num S r1
  have qq := q r c r1 (by omega) rfl rfl
  unfold numV at qq
  unfold wp_number_62
  refine ⟨fun z => ?_, fun _ => ?_⟩
  · rw [e1, gI_sI, if_pos rfl] at z; exact absurd rfl z
  · rw [i_sev]
    refine ⟨(i_in (by omega)).mpr (by omega), ?_⟩
    have g : gA σ1 19 (Int32.ofNat (7 * r + c)) = gA σ 19 (Int32.ofNat (7 * r + c)) := by rw [e1]; rfl
    rw [g, e1]
    by_cases e : c = n
    · subst e; rw [num.2]; rw [if_pos rfl] at qq; exact qq
    · rw [num.1 c (by omega)]; rw [if_neg e] at qq; exact qq
theorem sp_at {n R : Nat} {A : Nat → Nat → Int} {kn : Bool} {bo : Nat → Option Nat} {Ls : Nat → List Vc} {p1 p2 p3 : Int32} {σ : St} {Q : Int32 → St → Prop} (S : mSys σ n R A) (k14 : gI σ 14 = bI kn) (k0 : kn = false → n = 0) (hL : ∀ w, w < 3 → σ.2.1 20 w = bI (bo w).isSome ∧ ((bo w).isSome = true → mLs σ n w (Ls w) ∧ (Ls w).length ≤ 2000)) (no : (∀ w k c, ¬ atOk n bo (fun w => (Ls w).length) p1 p2 p3 w k c) → Q 0 (sI σ 0 1)) (q : ∀ w k c v, atOk n bo (fun w => (Ls w).length) p1 p2 p3 w k c → (Ls w)[k]? = some v → Q (Int32.ofInt (v c)) (sI σ 0 0)) : wp_at p1 p2 p3 σ Q := by
  have n6 := S.2.2.1
  have two : (2 : Int32) = Int32.ofNat 2 := rfl
  have bad : (∀ w k c, ¬ atOk n bo (fun w => (Ls w).length) p1 p2 p3 w k c) → wp_at_44 Q p1 p2 p3 σ := by
    intro hn
    unfold wp_at_44 wp_at_45 wp_at_58 wp_at_87
    exact ⟨fun _ σ1 e1 => ⟨fun _ => by rw [e1]; exact no hn, fun z => absurd rfl z⟩, fun z => absurd rfl z⟩
  unfold wp_at
  refine ⟨fun y => bad fun w k c ok => ?_, fun y => ⟨fun z => bad fun w k c ok => ?_, fun z => ?_⟩⟩
  · obtain ⟨rfl, _, _, hw, _⟩ := ok
    exact i_nneg (by omega) y
  · obtain ⟨rfl, _, _, hw, _⟩ := ok
    rw [two, i_lt (by omega) (by omega)] at z; omega
  obtain ⟨w, w1, rfl⟩ := i_ex y
  rw [two, i_lt (by omega) w1] at z
  have hw : w < 3 := by omega
  have vw : vp_in (Int32.ofNat w) 3 := (i_in (by omega)).mpr hw
  have uq : ∀ w', w' < 3 → Int32.ofNat w = Int32.ofNat w' → w' = w := fun w' h' e => ((i_eq w1 (by omega)).mp e).symm
  obtain ⟨l1, l2⟩ := hL w hw
  refine sp_isColumn S k14 k0 (fun nc => ⟨fun _ => bad fun w' k c ok => ?_, fun t => absurd rfl t⟩) fun c hc e3 => ⟨fun t => absurd t (by decide), fun _ => ⟨vw, ?_⟩⟩
  · obtain ⟨_, _, e3, _, _, _, hc⟩ := ok
    rw [e3] at nc; exact noCol_c n6 hc nc
  rw [gA_nat σ 20 (by omega), l1, bI_0]
  refine ⟨fun u => bad fun w' k c ok => ?_, fun u => ⟨fun z2 => bad fun w' k c ok => ?_, fun z2 => ⟨vw, ?_⟩⟩⟩
  · obtain ⟨e, _, _, h', hs, _⟩ := ok
    have := uq w' h' e; subst this
    rw [u] at hs; cases hs
  · obtain ⟨e, e2, _, h', hs, hk, _⟩ := ok
    have := uq w' h' e; subst this
    have := (l2 hs).2
    simp only at hk
    rw [e2] at z2; exact i_nneg (by omega) z2
  obtain ⟨M, len⟩ := l2 (b_t u)
  rw [gA_nat σ 22 (by omega), M.1]
  refine ⟨fun z3 => bad fun w' k c ok => ?_, fun z3 => ?_⟩
  · obtain ⟨e, e2, _, h', hs, hk, _⟩ := ok
    have := uq w' h' e; subst this
    simp only at hk
    rw [e2, i_le (by omega) (by omega)] at z3; omega
  rcases idx_ex len p2 with t | ⟨k, k1, k2⟩
  · rcases t with t | t
    · exact absurd t z2
    · exact absurd t.2 z3
  obtain ⟨v, ev'⟩ : ∃ v, (Ls w)[k]? = some v := ⟨_, List.getElem?_eq_getElem k1⟩
  have qq := q w k c v ⟨rfl, k2, e3, hw, b_t u, k1, hc⟩ ev'
  unfold wp_at_45 wp_at_58 wp_at_87
  refine ⟨fun t => absurd t (by decide), fun _ σ1 e1 => ⟨fun t => absurd t (by decide), fun _ => ?_⟩⟩
  rw [k2, e3, i_tw]
  refine ⟨(i_in (by omega)).mpr (by omega), ?_⟩
  have g : gA σ1 23 (Int32.ofNat (12000 * w + 6 * k + c)) = Int32.ofInt (v c) := by
    rw [gA_nat σ1 23 (by omega), e1]; exact M.2 k v ev' c hc
  rw [g, e1]; exact qq
