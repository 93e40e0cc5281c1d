/-! TIMES, and the numbers of a list -/
theorem idx_ex {N : Nat} (hN : N ≤ 2000) (p : Int32) : (p < 0 ∨ ¬ p < 0 ∧ Int32.ofNat N ≤ p) ∨ ∃ c, c < N ∧ p = Int32.ofNat c := by
  by_cases h : p < 0
  · exact .inl (.inl h)
  · obtain ⟨c, w, rfl⟩ := i_ex h
    by_cases y : c < N
    · exact .inr ⟨c, y, rfl⟩
    · exact .inl (.inr ⟨h, by rw [i_le (by omega) w]; omega⟩)
theorem sp_X1_times {ev ow : Nat → Nat} {h : Hp} {a0 : Nat} {rf fd sh : Nat → Nat} {s0 : Sh} {dv : Bool} {tm : Nat → Int32} {p : Int32} {Q : Int32 → Hp → Prop} (D : xDk ow h a0 rf fd sh) (S0 : xShS ev ow 60 h (sh 0) s0) (o0 : shOk s0) (Tm : xTm ow h (rf 11)) (k12 : hI h a0 12 = bI dv) (ht : dv = true → ∀ c, c < s0.1.length → hA h (rf 11) (Int32.ofNat c) = tm c) (no : (dv = false ∨ noCol s0.1.length p) → Q (-1) h) (q : ∀ c, dv = true → c < s0.1.length → p = Int32.ofNat c → Q (tm c) h) : wp_X1_times ev h a0 p Q := by
  have sl := o0.1
  have f0 := D.2.2.2.2.1 0 (by omega)
  unfold wp_X1_times wp_X1_times_36 wp_X1_times_37
  rw [k12, bI_0]
  refine ⟨D.1, fun y => no (.inl y), fun y => ⟨fun z => no (.inr (.inl z)), fun z => ⟨D.1, rf 7, D.2.2.1 7 (by omega) (by omega) (by omega) (by omega) (by omega), D.2.2.2.1.1, by rw [D.2.2.2.1.2.2]; exact vp_03, fd 0, f0.1, f0.2.1, sh 0, f0.2.2.2, xSh_len S0, sp_X7_size S0 ⟨fun w => no (.inr (.inr ⟨z, w⟩)), fun w => ?_⟩⟩⟩⟩
  rcases idx_ex (show s0.1.length ≤ 2000 by omega) p with u | ⟨c, c1, c2⟩
  · rcases u with u | u
    · exact absurd u z
    · exact absurd u.2 w
  · refine ⟨D.1, rf 11, D.2.2.1 11 (by omega) (by omega) (by omega) (by omega) (by omega), Tm.1, by rw [Tm.2.2, c2]; exact (i_in (by omega)).mpr (by omega), ?_⟩
    rw [c2, ht (b_t y) c c1]; exact q c (b_t y) c1 c2
theorem sp_times {N : Nat} {dv : Bool} {tm : Nat → Int32} {p : Int32} {σ : St} {Q : Int32 → St → Prop} (hN : N ≤ 2000) (k26 : gI σ 26 = bI dv) (h22 : dv = true → σ.2.1 22 0 = Int32.ofNat N) (ht : dv = true → ∀ c, c < N → σ.2.1 27 c = tm c) (no : (dv = false ∨ noCol N p) → Q (-1) (sI σ 0 0)) (q : ∀ c, dv = true → c < N → p = Int32.ofNat c → Q (tm c) (sI σ 0 0)) : wp_times p σ Q := by
  unfold wp_times wp_times_35 wp_times_36
  intro σ1 e1
  rw [← e1] at no q
  have i1 : gI σ1 26 = bI dv := by rw [e1, gI_sI, if_neg (by omega)]; exact k26
  have A1 : σ1.2 = σ.2 := by rw [e1]; rfl
  rw [i1, bI_0]
  refine ⟨fun y => no (.inl y), fun y => ⟨fun z => no (.inr (.inl z)), fun z => ⟨vp_03, ?_⟩⟩⟩
  have g : gA σ1 22 0 = Int32.ofNat N := by rw [i_0, gA_nat σ1 22 (by omega), A1]; exact h22 (b_t y)
  rw [g]
  refine ⟨fun w => no (.inr (.inr ⟨z, w⟩)), fun w => ?_⟩
  rcases idx_ex hN p with u | ⟨c, c1, c2⟩
  · rcases u with u | u
    · exact absurd u z
    · exact absurd u.2 w
  · refine ⟨by rw [c2]; exact (i_in (by omega)).mpr (by omega), ?_⟩
    rw [c2, gA_nat σ1 27 (by omega), A1, ht (b_t y) c c1]; exact q c (b_t y) c1 c2
/-- the arguments of at are fair -/
def atOk (n : Nat) (bo : Nat → Option Nat) (len : Nat → Nat) (p1 p2 p3 : Int32) (w k c : Nat) : Prop := p1 = Int32.ofNat w ∧ p2 = Int32.ofNat k ∧ p3 = Int32.ofNat c ∧ w < 3 ∧ (bo w).isSome = true ∧ k < len w ∧ c < n
theorem sp_X1_at {ev ow : Nat → Nat} {i : Nat} {h : Hp} {a0 R n vr MC MS : Nat} {rf fd sh : Nat → Nat} {l : Nat → Sh} {bo : Nat → Option Nat} {A : Nat → Nat → Int} {Lt : Nat → Int32} {p1 p2 p3 : Int32} {Q : Int32 → Hp → Prop} {Xr : String → Hp → Prop} (D : xDk ow h a0 rf fd sh) (M : xMo ow i h (rf 2) R n vr A Lt) (S : ∀ w, w < 3 → xShS ev ow (60 + w) h (sh w) (l w)) (so : ∀ w, w < 3 → shOk (l w)) (hb : ∀ w, w < 3 → hI h (fd w) 1 = bdI (bo w)) (b16 : ∀ w b, w < 3 → bo w = some b → b ≤ 16) (mc : 1 ≤ MC) (ms : 6 ≤ MS) (no : (∀ w k c, ¬ atOk n bo (fun w => (l w).1.length) p1 p2 p3 w k c) → Xr eIOB h) (q : ∀ w k c v, atOk n bo (fun w => (l w).1.length) p1 p2 p3 w k c → (l w).1[k]? = some v → Q (Int32.ofInt (v c)) h) : wp_X1_at ev h a0 p1 p2 p3 MC MS Q Xr := by
  have n6 : n ≤ 6 := M.1.2.2.2.2.1
  have two : (2 : Int32) = Int32.ofNat 2 := rfl
  have bad : (∀ w k c, ¬ atOk n bo (fun w => (l w).1.length) p1 p2 p3 w k c) → wp_X1_at_53 ev Q Xr a0 p1 p2 p3 h MC MS := by
    intro hn
    unfold wp_X1_at_53 wp_X1_at_54
    exact ⟨fun z => absurd rfl z, fun _ => ⟨MC - 1, MS - 6, by omega, by omega, no hn⟩⟩
  have r7 := D.2.2.1 7 (by omega) (by omega) (by omega) (by omega) (by omega)
  have n7 := D.2.2.2.1
  unfold wp_X1_at
  refine ⟨fun y => bad fun w k c ok => ?_, fun y => ⟨fun z => bad fun w k c ok => ?_, fun z => ?_⟩⟩
  · obtain ⟨rfl, _, _, hw, _⟩ := ok
    exact i_nneg (by omega) y
  · obtain ⟨rfl, _, _, hw, _⟩ := ok
    rw [two, i_lt (by omega) (by omega)] at z; omega
  obtain ⟨w, w1, rfl⟩ := i_ex y
  rw [two, i_lt (by omega) w1] at z
  have hw : w < 3 := by omega
  have fw := D.2.2.2.2.1 w hw
  have vw : vp_in (Int32.ofNat w) (hN h (rf 7)) := by rw [n7.2.2]; exact (i_in (by omega)).mpr hw
  have sw := (so w hw).1
  have uq : ∀ w', w' < 3 → Int32.ofNat w = Int32.ofNat w' → w' = w := fun w' h' e => ((i_eq w1 (by omega)).mp e).symm
  refine ⟨D.1, rf 7, r7, n7.1, vw, fd w, fw.1, fw.2.1, ?_⟩
  refine sp_X9_isThere D hw (hb w hw) (fun b e => b16 w b hw e) ?_
  rw [bI_0]
  refine ⟨fun u => bad fun w' k c ok => ?_, fun u => ⟨fun z2 => bad fun w' k c ok => ?_, fun z2 => ⟨D.1, rf 7, r7, n7.1, vw, fd w, fw.1, fw.2.1, sh w, fw.2.2.2, xSh_len (S w hw), sp_X7_size (S w hw) ⟨fun z3 => bad fun w' k c ok => ?_, fun z3 => ?_⟩⟩⟩⟩
  · obtain ⟨e, _, _, h', hs, _⟩ := ok
    have := uq w' h' e; subst this
    rw [u] at hs; cases hs
  · obtain ⟨e, e2, _, h', hs, hk, _⟩ := ok
    have := uq w' h' e; subst this
    simp only at hk
    rw [e2] at z2; exact i_nneg (by omega) z2
  · obtain ⟨e, e2, _, h', hs, hk, _⟩ := ok
    have := uq w' h' e; subst this
    simp only at hk
    rw [e2, i_le (by omega) (by omega)] at z3; omega
  rcases idx_ex (show (l w).1.length ≤ 2000 by omega) p2 with t | ⟨k, k1, k2⟩
  · rcases t with t | t
    · exact absurd t z2
    · exact absurd t.2 z3
  refine ⟨D.1, sp_X1_isColumn D M (fun nc => ⟨fun _ => bad fun w' k c ok => ?_, fun t => absurd rfl t⟩) fun c hc e3 => ⟨fun t => absurd t (by decide), fun _ => ?_⟩⟩
  · obtain ⟨_, _, e3, _, _, _, hc⟩ := ok
    rw [e3] at nc; exact noCol_c n6 hc nc
  · have ok : atOk n bo (fun w => (l w).1.length) (Int32.ofNat w) p2 p3 w k c := ⟨rfl, k2, e3, hw, b_t u, k1, hc⟩
    unfold wp_X1_at_54
    rw [k2] at ok q ⊢
    rw [e3] at ok q ⊢
    refine ⟨fun _ => ⟨D.1, rf 7, r7, n7.1, vw, fd w, fw.1, fw.2.1, sh w, fw.2.2.2, xSh_len (S w hw), sp_X7_get (S w hw) k1 fun a v ev' V => ⟨fun b hb => by rw [← Option.some.inj hb]; exact V.1, a, rfl, V.1, ?_⟩⟩, fun t => absurd t (by decide)⟩
    obtain ⟨x1, x2, b, x3, x4, x5, x6, x7, x8, x9⟩ := V
    refine ⟨b, x3, x4, by rw [x6]; exact (i_in (by omega)).mpr (by omega), ?_⟩
    rw [x8 c (by omega)]; exact q w k c v ok ev'
