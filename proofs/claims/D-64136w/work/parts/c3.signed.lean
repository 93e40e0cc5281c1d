/-! THE DESK's lists: signed -/
def vBlB (B : Nat) (v : Vc) : Nat → Nat → Bool → Bool
  | 0, _, _ => true
  | t + 1, j, f => (!(B.testBit j) || (decide (v j ≠ 0) && !f)) && vBlB B v t (j + 1) (f && decide (v j = 0))
abbrev vBl (B : Nat) (v : Vc) : Prop := vBlB B v 6 0 true = true
theorem vBlB_iff (B : Nat) (v : Vc) : ∀ (t j : Nat) (f : Bool), vBlB B v t j f = true ↔ ∀ i, j ≤ i → i < j + t → B.testBit i = true → v i ≠ 0 ∧ (f = false ∨ ∃ k, j ≤ k ∧ k < i ∧ v k ≠ 0) := by
  intro t
  induction t with
  | zero => intro j f; exact ⟨fun _ i h1 h2 => by omega, fun _ => rfl⟩
  | succ t ih =>
    intro j f
    unfold vBlB
    rw [Bool.and_eq_true, ih]
    constructor
    · rintro ⟨h1, h2⟩ i i1 i2 hb
      by_cases e : i = j
      · subst e
        rw [hb] at h1
        simp at h1
        exact ⟨h1.1, .inl h1.2⟩
      · obtain ⟨a, b⟩ := h2 i (by omega) (by omega) hb
        refine ⟨a, ?_⟩
        rcases b with b | ⟨k, k1, k2, k3⟩
        · cases f with
          | false => exact .inl rfl
          | true =>
            simp at b
            exact .inr ⟨j, Nat.le_refl _, by omega, b⟩
        · exact .inr ⟨k, by omega, k2, k3⟩
    · intro h
      refine ⟨?_, fun i i1 i2 hb => ?_⟩
      · cases hb : B.testBit j with
        | false => simp
        | true =>
          obtain ⟨a, b⟩ := h j (Nat.le_refl _) (by omega) hb
          rcases b with b | ⟨k, k1, k2, _⟩
          · simp [a, b]
          · omega
      · obtain ⟨a, b⟩ := h i (by omega) (by omega) hb
        refine ⟨a, ?_⟩
        rcases b with b | ⟨k, k1, k2, k3⟩
        · left; rw [b]; rfl
        · by_cases e : k = j
          · left; subst e; simp [k3]
          · exact .inr ⟨k, by omega, k2, k3⟩
def bI (b : Bool) : Int32 := if b = true then 1 else 0
theorem bI_and (a b : Bool) : bI a &&& bI b = bI (a && b) := by cases a <;> cases b <;> decide
theorem bI_0 (b : Bool) : bI b = 0 ↔ b = false := by cases b <;> decide
theorem bI_B (b : Bool) : isB (bI b) := by cases b; exact isB_0; exact isB_1
theorem sp_X1_belongs {ev : Nat → Nat} {a b B : Nat} {v : Vc} {h : Hp} {Q : Int32 → Hp → Prop} (hb : hok h b 21) (nb : hN h b = 6) (V : xVc h a b v) (hB : B < 64) (q : Q (bI (vBlB B v 6 0 true)) h) : wp_X1_belongs ev h b (Int32.ofNat B) Q := by
  obtain ⟨_, v2, v3⟩ := V
  have six : (6 : Int32) = Int32.ofNat 6 := rfl
  have go : ∀ (t j : Nat) (r f : Bool), j + t = 6 → (r && vBlB B v t j f) = vBlB B v 6 0 true → wp_X1_belongs_7 ev Q (t + 1) b (Int32.ofNat B) (bI r) (bI f) (Int32.ofNat j) h := by
    intro t
    induction t with
    | zero =>
      intro j r f hj he
      unfold wp_X1_belongs_7
      rw [six, i_le (by omega) (by omega)]
      have : r = vBlB B v 6 0 true := by rw [← he]; show r = (r && true); simp
      rw [← this] at q
      exact ⟨fun _ => ⟨bI_B r, q⟩, fun w => by omega⟩
    | succ t ih =>
      intro j r f hj he
      have vb := v3.1 j (by omega)
      have at53 : ∀ u : Bool, u = (!(B.testBit j) || (decide (v j ≠ 0) && !f)) → wp_X1_belongs_53 ev Q (wp_X1_belongs_7 ev Q (t + 1)) b (Int32.ofNat B) (bI f) (Int32.ofNat j) (bI r) (bI u) h := by
        intro u hu
        unfold wp_X1_belongs_53 wp_X1_belongs_68
        intro x1 e1
        rw [bI_and] at e1
        subst e1
        rw [v2 j (by omega), i_0I, i_eqI (by omega) (by decide)]
        have nx : ∀ w : Bool, w = decide (v j = 0) → (∀ (x1 : Int32), x1 = (bI f &&& bI w) → ∀ (x2 : Int32), x2 = Int32.ofNat j + 1 → wp_X1_belongs_7 ev Q (t + 1) b (Int32.ofNat B) (bI (r && u)) x1 x2 h) := by
          intro w hw x1 e1 x2 e2
          rw [bI_and] at e1
          subst e1
          subst e2
          rw [i_one]
          refine ih (j + 1) (r && u) (f && w) (by omega) ?_
          rw [← he, hu, hw]
          show _ = (r && ((!(B.testBit j) || (decide (v j ≠ 0) && !f)) && vBlB B v t (j + 1) (f && decide (v j = 0))))
          rw [Bool.and_assoc]
        refine ⟨hb, vin nb (by omega) (by omega), fun w => nx false (by simp [w]), fun w => nx true (by simp [w])⟩
      unfold wp_X1_belongs_7
      rw [six, i_le (by omega) (by omega), i_bit B hB j (by omega)]
      refine ⟨fun w => by omega, fun _ => ⟨fun w => ?_, fun w => ?_⟩⟩
      · have w : B.testBit j = false := by simpa using w
        unfold wp_X1_belongs_29 wp_X1_belongs_48
        exact ⟨fun _ => at53 true (by rw [w]; rfl), fun z => absurd rfl z⟩
      · unfold wp_X1_belongs_29 wp_X1_belongs_52 wp_X1_belongs_48
        refine ⟨fun z => absurd z (by decide), fun _ => ⟨hb, vin nb (by omega) (by omega), ?_, ?_⟩⟩ <;> rw [v2 j (by omega), i_0I, i_eqI (by omega) (by decide)]
        · exact fun z => at53 false (by rw [w, z]; simp)
        · intro z
          rw [← i_0I, bI_0]
          exact ⟨fun y => at53 false (by rw [w]; cases f <;> simp at y ⊢), fun y => at53 true (by rw [w, y]; simp [z])⟩
  exact ⟨7, go 6 0 true true rfl rfl⟩
/-- what comes of one orthant -/
def sgLp (B : Nat) : Sh → List Vc → Sh × Bool
  | s, [] => (s, true)
  | s, v :: t => if vBl B v then (if s.1.length = 2000 then (s, false) else sgLp B (shKeep s (vSg B v)) t) else sgLp B s t
theorem sgLp_C (B : Nat) : ∀ (xs : List Vc) (s : Sh), shC s ≤ shC (sgLp B s xs).1 ∧ shS s ≤ shS (sgLp B s xs).1 := by
  intro xs
  induction xs with
  | nil => intro s; exact ⟨Nat.le_refl _, Nat.le_refl _⟩
  | cons v t ih =>
    intro s
    unfold sgLp
    split
    · split
      · exact ⟨Nat.le_refl _, Nat.le_refl _⟩
      · have a := shKeep_C s (vSg B v)
        have b := ih (shKeep s (vSg B v))
        exact ⟨Nat.le_trans a.1 b.1, Nat.le_trans a.2.1 b.2⟩
    · exact ih s
def sgAll (A : Nat → Nat → Int) (R n bd : Nat) : Nat → Nat → LW → LW × Bool
  | 0, _, S => (S, true)
  | t + 1, B, S =>
    let T := gKer A R n B bd S.1 S.2.1 S.2.2.1
    if T.2.1 = true then ((T.1, T.2.2.2.1, T.2.2.2.2, S.2.2.2.1, S.2.2.2.2), false) else
    let r := sgLp B (S.2.2.2.1 2) T.1.1
    if r.2 = true then sgAll A R n bd t (B + 1) (T.1, T.2.2.2.1, T.2.2.2.2, lwU S.2.2.2.1 2 r.1, S.2.2.2.2) else ((T.1, T.2.2.2.1, T.2.2.2.2, lwU S.2.2.2.1 2 r.1, S.2.2.2.2), false)
theorem lwU_C (T : Sh) (a b : Nat) (l : Nat → Sh) (y be : Sh) : lwC (T, a, b, lwU l 2 y, be) = shC T + a / 224 + b / 224 + (shC (l 0) + shC (l 1) + shC y) + shC be ∧ lwS (T, a, b, lwU l 2 y, be) = shS T + 2 * a + 2 * b + (shS (l 0) + shS (l 1) + shS y) + shS be := ⟨rfl, rfl⟩
theorem sgAll_C (A : Nat → Nat → Int) (R n bd : Nat) : ∀ (t B : Nat) (S : LW), lwC S ≤ lwC (sgAll A R n bd t B S).1 ∧ lwS S ≤ lwS (sgAll A R n bd t B S).1 := by
  intro t
  induction t with
  | zero => intro B S; exact ⟨Nat.le_refl _, Nat.le_refl _⟩
  | succ t ih =>
    intro B S
    obtain ⟨f, hc, nc, l, be⟩ := S
    have kC := gKer_C A R n B bd f hc nc
    unfold sgAll
    simp only
    generalize gKer A R n B bd f hc nc = T at kC
    simp only [gC, gSl] at kC
    have sl := sgLp_C B T.1.1 (l 2)
    have e := lwU_C T.1 T.2.2.2.1 T.2.2.2.2 l (sgLp B (l 2) T.1.1).1 be
    split
    · simp only [lwC, lwS]; omega
    · split
      · have i := ih (B + 1) (T.1, T.2.2.2.1, T.2.2.2.2, lwU l 2 (sgLp B (l 2) T.1.1).1, be)
        rw [e.1, e.2] at i
        simp only [lwC, lwS] at i ⊢; omega
      · rw [e.1, e.2]; simp only [lwC, lwS]; omega
/-- whence the vectors of the list come -/
def sMem (s : Sh) (B : Nat) (xs : List Vc) : Prop := ∀ u, u ∈ s.1 → ∃ (B' : Nat) (x : Vc), u = vSg B' x ∧ vBl B' x ∧ (∀ c, c < 6 → 0 ≤ x c) ∧ (∀ c, 6 ≤ c → x c = 0) ∧ B' < 64 ∧ (B' < B ∨ B' = B ∧ x ∈ xs)
theorem vSg_inj {B B' : Nat} {x x' : Vc} (hB : B < 64) (hB' : B' < 64) (h : vBl B x) (h' : vBl B' x') (p : ∀ c, c < 6 → 0 ≤ x c) (p' : ∀ c, c < 6 → 0 ≤ x' c) (z : ∀ c, 6 ≤ c → x c = 0) (z' : ∀ c, 6 ≤ c → x' c = 0) (e : vSg B x = vSg B' x') : B = B' ∧ x = x' := by
  have i1 := (vBlB_iff B x 6 0 true).mp h
  have i2 := (vBlB_iff B' x' 6 0 true).mp h'
  have key : ∀ c, c < 6 → x c = x' c ∧ B.testBit c = B'.testBit c := by
    intro c hc
    have ec := congrFun e c
    unfold vSg at ec
    rw [if_pos hc, if_pos hc] at ec
    have a := p c hc
    have b := p' c hc
    cases h1 : B.testBit c <;> cases h2 : B'.testBit c
    · rw [h1, h2] at ec; simp at ec; exact ⟨ec, rfl⟩
    · have := (i2 c (Nat.zero_le _) (by omega) h2).1
      rw [h1, h2] at ec; simp at ec; omega
    · have := (i1 c (Nat.zero_le _) (by omega) h1).1
      rw [h1, h2] at ec; simp at ec; omega
    · rw [h1, h2] at ec; simp at ec; exact ⟨by omega, rfl⟩
  refine ⟨Nat.eq_of_testBit_eq fun i => ?_, funext fun c => ?_⟩
  · by_cases w : i < 6
    · exact (key i w).2
    · have l : 64 ≤ 2 ^ i := by
        have : 2 ^ 6 ≤ 2 ^ i := Nat.pow_le_pow_right (by decide) (by omega)
        omega
      rw [Nat.testBit_lt_two_pow (by omega), Nat.testBit_lt_two_pow (by omega)]
  · by_cases w : c < 6
    · exact (key c w).1
    · rw [z c (by omega), z' c (by omega)]
theorem sMem_keep {s : Sh} {B k : Nat} {xs : List Vc} {v : Vc} (M : sMem s B (xs.take k)) (hB : B < 64) (hk : xs[k]? = some v) (nd : xs.Nodup) (hb : vBl B v) (p : ∀ c, c < 6 → 0 ≤ v c) (z : ∀ c, 6 ≤ c → v c = 0) : vSg B v ∉ s.1 ∧ sMem (shKeep s (vSg B v)) B (xs.take (k + 1)) := by
  have kl := (List.getElem?_eq_some_iff.mp hk).1
  refine ⟨fun hm => ?_, fun u hu => ?_⟩
  · obtain ⟨B', x, e, b', px, zx, lt, w⟩ := M _ hm
    obtain ⟨e1, e2⟩ := vSg_inj hB lt hb b' p px z zx e
    rcases w with w | ⟨_, w⟩
    · omega
    · rw [← e2] at w
      obtain ⟨j, hj⟩ := List.mem_iff_getElem?.mp w
      have jl : j < k := by have := (List.getElem?_eq_some_iff.mp hj).1; rw [List.length_take] at this; omega
      rw [List.getElem?_take, if_pos jl] at hj
      have := (List.getElem?_inj (by omega) nd).mp (hj.trans hk.symm)
      omega
  · rcases (vIns_mem s.1).mp hu with e | e
    · exact ⟨B, v, e, hb, p, z, hB, .inr ⟨rfl, by rw [List.take_add_one, hk]; exact List.mem_append_right _ (by simp)⟩⟩
    · obtain ⟨B', x, h1, h2, h3, h4, h5, h6⟩ := M u e
      refine ⟨B', x, h1, h2, h3, h4, h5, ?_⟩
      rcases h6 with w | ⟨w, w2⟩
      · exact .inl w
      · exact .inr ⟨w, by rw [List.take_add_one]; exact List.mem_append_left _ w2⟩
theorem i_shl : ∀ n, n < 7 → (1 : Int32) <<< (Int32.ofNat n &&& 31) = Int32.ofNat (2 ^ n) := by decide +kernel
theorem sp_X1_signed_36 {ev ow : Nat → Nat} {h : Hp} {a0 fsh hc nc B bd TC TS : Nat} {rf fd sh : Nat → Nat} {s s0 : Sh} {Q : Int32 → Hp → Prop} {K2 : Nat → Nat → Int32 → Int32 → Hp → Nat → Nat → Prop} (D : xDk ow h a0 rf fd sh) (T : gTop ow h (rf 5) fsh hc nc) (S : xShS ev ow 50 h fsh s) (so : shOk s) (hB : B < 64) (hv : ∀ v, v ∈ s.1 → ∀ c, c < 6 → 0 ≤ v c) (tc : shC (sgLp B s0 s.1).1 ≤ TC) (ts : shS (sgLp B s0 s.1).1 ≤ TS) (q1 : ∀ ow2 h2 mc2 ms2, hE (I15 62) ow h ow2 h2 → xShS ev ow2 62 h2 (sh 2) (sgLp B s0 s.1).1 → shOk (sgLp B s0 s.1).1 → sMem (sgLp B s0 s.1).1 (B + 1) [] → (sgLp B s0 s.1).2 = true → TC ≤ mc2 + shC (sgLp B s0 s.1).1 → TS ≤ ms2 + shS (sgLp B s0 s.1).1 → K2 a0 (fd 2) (Int32.ofNat bd) (Int32.ofNat (B + 1)) h2 mc2 ms2) (q0 : ∀ ow2 h2, hE (I15 62) ow h ow2 h2 → xShS ev ow2 62 h2 (sh 2) (sgLp B s0 s.1).1 → shOk (sgLp B s0 s.1).1 → (sgLp B s0 s.1).2 = false → Q 0 h2) : ∀ (m k : Nat) (ow1 : Nat → Nat) (h1 : Hp) (s1 : Sh) (mc ms : Nat), k + m = s.1.length → hE (I15 62) ow h ow1 h1 → xShS ev ow1 62 h1 (sh 2) s1 → shOk s1 → sMem s1 B (s.1.take k) → sgLp B s1 (s.1.drop k) = sgLp B s0 s.1 → TC ≤ mc + shC s1 → TS ≤ ms + shS s1 → wp_X1_signed_36 ev Q K2 (m + 1) a0 (fd 2) (Int32.ofNat bd) (Int32.ofNat B) (Int32.ofNat k) h1 mc ms := by
  intro m
  have nI : ∀ j, j < 60 → j ≠ 15 → ¬ I15 62 j := fun j h1 h2 h => by rcases h with h | h <;> omega
  induction m with
  | zero =>
    intro k ow1 h1 s1 mc ms hk f S1 so1 mem e1 hmc hms
    have D1 := xDk_E f (nI 1 (by omega) (by omega)) (nI 6 (by omega) (by omega)) D
    have T1 := gTop_f (gTop_E f (nI 5 (by omega) (by omega)) T)
    have SS := xSh_E f (nI 50 (by omega) (by omega)) S
    have len := so.1
    have e2 : (s1, true) = sgLp B s0 s.1 := by rw [← e1, show k = s.1.length by omega, List.drop_length]; rfl
    rw [← e2] at q1
    unfold wp_X1_signed_36
    refine ⟨D1.1, rf 5, D1.2.2.1 5 (by omega) (by omega) (by omega) (by omega) (by omega), T1.1, fsh, T1.2.2, xSh_len SS, sp_X7_size SS ?_⟩
    rw [i_le (by omega) (by omega)]
    refine ⟨fun _ x8 e8 => ?_, fun w => by omega⟩
    subst e8
    rw [i_one]
    refine q1 ow1 h1 mc ms f S1 so1 (fun u hu => ?_) rfl hmc hms
    obtain ⟨B', x, h1, h2, h3, h4, h5, h6⟩ := mem u hu
    exact ⟨B', x, h1, h2, h3, h4, h5, .inl (by rcases h6 with w | ⟨w, _⟩ <;> omega)⟩
  | succ m ih =>
    intro k ow1 h1 s1 mc ms hk f S1 so1 mem e1 hmc hms
    have D1 := xDk_E f (nI 1 (by omega) (by omega)) (nI 6 (by omega) (by omega)) D
    have T0 := gTop_E f (nI 5 (by omega) (by omega)) T
    have T1 := gTop_f T0
    have SS := xSh_E f (nI 50 (by omega) (by omega)) S
    have len := so.1
    obtain ⟨v, ev'⟩ : ∃ v, s.1[k]? = some v := ⟨_, List.getElem?_eq_getElem (by omega)⟩
    obtain ⟨kl, ekv⟩ := List.getElem?_eq_some_iff.mp ev'
    have vm := List.mem_of_getElem? ev'
    have vo := so.2.2.2.2 v vm
    have dr : sgLp B s1 (s.1.drop k) = if vBl B v then (if s1.1.length = 2000 then (s1, false) else sgLp B (shKeep s1 (vSg B v)) (s.1.drop (k + 1))) else sgLp B s1 (s.1.drop (k + 1)) := by rw [List.drop_eq_getElem_cons kl, ekv]; rfl
    rw [dr] at e1
    obtain ⟨e2, e3, e4, e5⟩ := D1.2.2.2.2.1 2 (by omega)
    unfold wp_X1_signed_36
    refine ⟨D1.1, rf 5, D1.2.2.1 5 (by omega) (by omega) (by omega) (by omega) (by omega), T1.1, fsh, T1.2.2, xSh_len SS, sp_X7_size SS ?_⟩
    rw [i_le (by omega) (by omega)]
    refine ⟨fun w => by omega, fun _ => ⟨D1.1, rf 5, D1.2.2.1 5 (by omega) (by omega) (by omega) (by omega) (by omega), T1.1, fsh, T1.2.2, xSh_len SS, sp_X7_get SS (by omega) fun a u eu V => ⟨fun b hb => by rw [← Option.some.inj hb]; exact V.1, a, rfl, V.1, ?_⟩⟩⟩
    have euv : u = v := by rw [ev'] at eu; exact (Option.some.inj eu).symm
    subst euv
    obtain ⟨_, _, b, w2, w3, _, w4, w5⟩ := V
    refine ⟨b, w2, sp_X1_belongs w3 w4 w5 hB ?_⟩
    rw [bI_0]
    have nxt : ∀ (ow2 : Nat → Nat) (h2 : Hp) (s2 : Sh) (mc2 ms2 : Nat), hE (I15 62) ow h ow2 h2 → xShS ev ow2 62 h2 (sh 2) s2 → shOk s2 → sMem s2 B (s.1.take (k + 1)) → sgLp B s2 (s.1.drop (k + 1)) = sgLp B s0 s.1 → TC ≤ mc2 + shC s2 → TS ≤ ms2 + shS s2 → wp_X1_signed_106 ev Q K2 (wp_X1_signed_36 ev Q K2 (m + 1)) a0 (fd 2) (Int32.ofNat bd) (Int32.ofNat B) (Int32.ofNat k) h2 mc2 ms2 := by
      intro ow2 h2 s2 mc2 ms2 f2 S2 so2 mem2 e12 hmc2 hms2
      unfold wp_X1_signed_106
      intro x1 e1
      subst e1
      rw [i_one]
      exact ih (k + 1) ow2 h2 s2 mc2 ms2 (by omega) f2 S2 so2 mem2 e12 hmc2 hms2
    refine ⟨fun nb => ?_, fun yb => ?_⟩
    · rw [if_neg (by show ¬ vBlB B u 6 0 true = true; rw [nb]; simp)] at e1
      refine nxt ow1 h1 s1 mc ms f S1 so1 (fun y hy => ?_) e1 hmc hms
      obtain ⟨B', x, h1, h2, h3, h4, h5, h6⟩ := mem y hy
      refine ⟨B', x, h1, h2, h3, h4, h5, ?_⟩
      rcases h6 with w | ⟨w, w2⟩
      · exact .inl w
      · exact .inr ⟨w, by rw [List.take_add_one]; exact List.mem_append_left _ w2⟩
    · have yb : vBl B u := by simpa using yb
      rw [if_pos yb] at e1
      have s1l := so1.1
      refine ⟨e3, sh 2, e5, xSh_len S1, sp_X7_size S1 ?_⟩
      rw [show (2000 : Int32) = Int32.ofNat 2000 from rfl, i_eq (by omega) (by omega)]
      refine ⟨fun w => ?_, fun w => ⟨isB_0, ?_⟩⟩
      · rw [if_neg w] at e1
        have kk := sMem_keep mem hB ev' (vSort_nd so.2.2.2.1) yb (hv u vm) vo.2
        have u100 : ∀ c, c < 6 → 0 ≤ u c ∧ u c ≤ 100 := fun c hc => by have := vo.1 c hc; have := hv u vm c hc; omega
        have ok2 := shKeep_ok so1 (by omega) (vSg_ok (B := B) u100) kk.1
        have kc := shKeep_C s1 (vSg B u)
        have pc := sgLp_C B (s.1.drop (k + 1)) (shKeep s1 (vSg B u))
        rw [e1] at pc
        refine ⟨e3, sh 2, e5, shC (shKeep s1 (vSg B u)) - shC s1, shS (shKeep s1 (vSg B u)) - shS s1, mc - (shC (shKeep s1 (vSg B u)) - shC s1), ms - (shS (shKeep s1 (vSg B u)) - shS s1), by omega, by omega, D1.1, ?_⟩
        refine sp_X1_copy D1 rfl T0 SS S1 (by omega) so1 (by omega) ev' (hv u vm) hB (Nat.le_refl _) (Nat.le_refl _) fun ow2 h2 f2 S2 => ?_
        exact nxt ow2 h2 (shKeep s1 (vSg B u)) _ _ (hE_trans f f2) S2 ok2 kk.2 e1 (by omega) (by omega)
      · rw [if_pos w] at e1
        rw [← e1] at q0
        exact q0 ow1 h1 f S1 so1 rfl
