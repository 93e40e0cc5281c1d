/-! THE TWIN's best one -/
def mN (n a : Nat) (σ : St) (v : Vc) : Prop := ∀ c, c < n → σ.2.1 a c = Int32.ofInt (v c)
/-- only the arrays 29, 35 have changed -/
def mG (σ σ2 : St) : Prop := σ2.1 = σ.1 ∧ σ2.2.2 = σ.2.2 ∧ ∀ j, j ≠ 29 → j ≠ 35 → σ2.2.1 j = σ.2.1 j
theorem mG_refl (σ : St) : mG σ σ := ⟨rfl, rfl, fun _ _ _ => rfl⟩
theorem mG_trans {σ σ2 σ3 : St} (f : mG σ σ2) (g : mG σ2 σ3) : mG σ σ3 := ⟨g.1.trans f.1, g.2.1.trans f.2.1, fun j a b => (g.2.2 j a b).trans (f.2.2 j a b)⟩
theorem mG_35 {σ σ2 : St} (f : mF1 35 σ σ2) : mG σ σ2 := ⟨f.1, f.2.1, fun j _ b => f.2.2 j b⟩
theorem mG_29 {σ σ2 : St} (f : mF1 29 σ σ2) : mG σ σ2 := ⟨f.1, f.2.1, fun j a _ => f.2.2 j a⟩
theorem gI_G {σ σ2 : St} (f : mG σ σ2) (k : Nat) : gI σ2 k = gI σ k := by unfold gI; rw [f.1]
theorem mSys_G {σ σ2 : St} {n R : Nat} {A : Nat → Nat → Int} (f : mG σ σ2) (S : mSys σ n R A) : mSys σ2 n R A := mSys_gen (gI_G f 15) (gI_G f 17) (f.2.2 19 (by omega) (by omega)) S
theorem sp_isBefore {n : Nat} {x bv : Vc} {σ : St} {Q : Int32 → St → Prop} (hn : n ≤ 6) (h17 : gI σ 17 = Int32.ofNat n) (V : mV 35 σ x) (B : mN n 29 σ bv) (xb : ∀ c, c < 6 → (x c).natAbs ≤ 100) (bb : ∀ c, c < 6 → (bv c).natAbs ≤ 100) (q1 : (∃ d, d < n ∧ (∀ i, i < d → x i = bv i) ∧ x d < bv d) → Q 1 σ) (q0 : ¬ (∃ d, d < n ∧ (∀ i, i < d → x i = bv i) ∧ x d < bv d) → Q 0 σ) : wp_isBefore σ Q := by
  have i6 : ∀ c, c < n → vp_in (Int32.ofNat c) 6 := fun c hc => (i_in (by omega)).mpr (by omega)
  refine ⟨n + 1, ?_⟩
  have at31 : ∀ c, c ≤ n → (∀ i, i < c → x i = bv i) → (c < n → x c ≠ bv c) → wp_isBefore_31 Q (Int32.ofNat c) σ := by
    intro c hc pre ne
    unfold wp_isBefore_31 wp_isBefore_58 wp_isBefore_59
    rw [h17, i_le (by omega) (by omega)]
    refine ⟨fun w => ⟨isB_0, q0 ?_⟩, fun w => ⟨i6 c (by omega), i6 c (by omega), ?_⟩⟩
    · rintro ⟨d, d1, d2, d3⟩
      have := pre d (by omega); omega
    · rw [mV_get V (by omega), gA_nat σ 29 (by omega), B c (by omega)]
      have b1 := xb c (by omega); have b2 := bb c (by omega)
      rw [i_leI (by omega) (by omega)]
      refine ⟨fun y => ⟨isB_0, q0 ?_⟩, fun y => ⟨isB_1, q1 ⟨c, by omega, pre, by omega⟩⟩⟩
      rintro ⟨d, d1, d2, d3⟩
      rcases Nat.lt_trichotomy d c with z | z | z
      · have := pre d z; omega
      · subst z; omega
      · exact ne (by omega) (d2 c z)
  have go : ∀ (t c : Nat), c + t = n → (∀ i, i < c → x i = bv i) → wp_isBefore_2 Q (t + 1) (Int32.ofNat c) σ := by
    intro t
    induction t with
    | zero =>
      intro c hc pre
      unfold wp_isBefore_2
      rw [h17, i_le (by omega) (by omega)]
      exact ⟨fun _ => at31 c (by omega) pre fun w => by omega, fun w => by omega⟩
    | succ t ih =>
      intro c hc pre
      have b1 := xb c (by omega); have b2 := bb c (by omega)
      unfold wp_isBefore_2
      rw [h17, i_le (by omega) (by omega), mV_get V (by omega), gA_nat σ 29 (by omega), B c (by omega), i_eqI (by omega) (by omega)]
      refine ⟨fun w => by omega, fun _ => ⟨i6 c (by omega), i6 c (by omega), fun w => at31 c (by omega) pre fun _ => w, fun w x1 e1 => ?_⟩⟩
      rw [e1, i_one]
      refine ih (c + 1) (by omega) fun i hi => ?_
      by_cases z : i = c
      · rw [z]; exact w
      · exact pre i (by omega)
  exact go n 0 (by omega) fun i hi => by omega
/-- the best one among those of smaller size, and those before x -/
def bSz (A : Nat → Nat → Int) (R n bd s : Nat) (u : Vc) : Prop := bP A R n bd u ∧ vSize u < s
def bSx (A : Nat → Nat → Int) (R n bd s : Nat) (x u : Vc) : Prop := bP A R n bd u ∧ (vSize u < s ∨ vSize u = s ∧ vLx u x)
/-- what the twin knows so far -/
def mK (A : Nat → Nat → Int) (n : Nat) (co bv0 : Vc) (σ : St) (E : Vc → Prop) (fo : Bool) (ls : Int) (bv : Vc) : Prop :=
  bO E co fo bv ∧ mN n 29 σ bv ∧ (fo = true → ls = bCo co bv) ∧ (fo = false → bv = bv0)
theorem sp_best_66 {n R s bd : Nat} {A : Nat → Nat → Int} {co bv0 : Vc} {Q : Int32 → St → Prop} {K46 : Int32 → Int32 → Int32 → Int32 → St → Prop} {σ0 : St} (hs : s ≤ bd) (hb : bd ≤ 16) (S0 : mSys σ0 n R A) (hc25 : ∀ c, c < 6 → σ0.2.1 25 c = Int32.ofInt (co c)) (hco : ∀ c, c < 6 → (co c).natAbs ≤ 99)
    (k1 : ∀ σ2 fo ls bv, mG σ0 σ2 → mK A n co bv0 σ2 (bSz A R n bd (s + 1)) fo ls bv → K46 (Int32.ofNat bd) (bI fo) (Int32.ofInt ls) (Int32.ofNat (s + 1)) σ2) : ∀ (N : Nat) (x : Vc) (fo : Bool) (ls : Int) (bv : Vc) (σ : St), 645733984 - tK x < N → mG σ0 σ → mV 35 σ x → tC n false s x → mK A n co bv0 σ (bSx A R n bd s x) fo ls bv → wp_best_66 Q K46 (N + 1) (Int32.ofNat bd) (bI fo) (Int32.ofInt ls) (Int32.ofNat s) 1 σ := by
  intro N
  have hn : n ≤ 6 := S0.2.2.1
  have one : (1 : Int32) = Int32.ofNat 1 := rfl
  have z0 : (0 : Int32) = Int32.ofNat 0 := rfl
  have P100 : ∀ u, bP A R n bd u → ∀ c, c < 6 → 0 ≤ u c ∧ u c ≤ 16 := by
    intro u hu c hc
    have a := hu.1 c hc
    have := qS_term (f := u) (n := 6) hu.1 hc
    have := hu.2.2.1
    omega
  have cb : ∀ y : Vc, (∀ j, j < 6 → 0 ≤ y j ∧ y j ≤ 16) → ∀ c, c ≤ 6 → (qS (fun j => co j * y j) c).natAbs ≤ 1584 * c := by
    intro y hy c
    induction c with
    | zero => intro _; exact Nat.zero_le _
    | succ c ih =>
      intro h'
      have i := ih (by omega)
      have a := hco c (by omega)
      have b := hy c (by omega)
      have p : (co c * y c).natAbs ≤ 99 * 16 := by rw [Int.natAbs_mul]; exact Nat.mul_le_mul a (by omega)
      have e : qS (fun j => co j * y j) (c + 1) = qS (fun j => co j * y j) c + co c * y c := rfl
      rw [e]; omega
  induction N with
  | zero =>
    intro x fo ls bv σ hN _ _ hx
    have := tK_b (vSize_b (Int.le_of_eq hx.2.2) (by omega)); omega
  | succ N ih =>
    intro x fo ls bv σ hN f V hx K
    have S := mSys_G f S0
    have xb := vSize_b (Int.le_of_eq hx.2.2) (by omega)
    have xn : ∀ c, c < 6 → 0 ≤ x c := hx.2.1 rfl
    have x16 : ∀ j, j < 6 → 0 ≤ x j ∧ x j ≤ 16 := fun j hj => by have := xb j hj; have := xn j hj; omega
    have xq : qS x 6 = s := by rw [← vSize_nn xn]; exact hx.2.2
    have cz := bCo_pre (co := co) (x := x) (c := n) hn hx.1
    -- behind x
    have nxt : ∀ (σ1 : St) (fo1 : Bool) (ls1 : Int) (bv1 : Vc), mG σ0 σ1 → mV 35 σ1 x → mK A n co bv0 σ1 (fun u => bP A R n bd u ∧ (vSize u < s ∨ vSize u = s ∧ (vLx u x ∨ u = x))) fo1 ls1 bv1 → wp_best_184 Q K46 (wp_best_66 Q K46 (N + 1)) (Int32.ofNat bd) (bI fo1) (Int32.ofInt ls1) (Int32.ofNat s) σ1 := by
      intro σ1 fo1 ls1 bv1 f1 V1 K1
      have S1 := mSys_G f1 S0
      have done : ∀ σ2, mG σ0 σ2 → mN n 29 σ2 bv1 → (∀ w, tC n false s w → ¬ vLx x w) → wp_best_201 Q K46 (wp_best_66 Q K46 (N + 1)) (Int32.ofNat bd) (bI fo1) (Int32.ofInt ls1) (Int32.ofNat s) σ2 := by
        intro σ2 f2 m2 no
        unfold wp_best_201 wp_best_202 wp_best_66
        refine ⟨fun _ x1 e1 => ?_, fun w => absurd rfl w⟩
        rw [e1, i_one]
        refine k1 σ2 fo1 ls1 bv1 f2 ⟨bO_congr (fun u => ?_) K1.1, m2, K1.2.2.1, K1.2.2.2⟩
        unfold bSz
        constructor
        · rintro ⟨p, b⟩; exact ⟨p, by rcases b with w | w <;> omega⟩
        · rintro ⟨p, b⟩
          refine ⟨p, ?_⟩
          by_cases w : vSize u < s
          · exact .inl w
          · have e : vSize u = s := by omega
            refine .inr ⟨e, ?_⟩
            rcases vLx_tri (u := u) (v := x) (fun c hc => p.2.1 c (by omega)) (fun c hc => hx.1 c (by omega)) with y | y | y
            · exact .inl y
            · exact absurd y (no u ⟨p.2.1, fun _ => p.1, e⟩)
            · exact .inr y
      unfold wp_best_184
      rw [z0, i_le (by omega) (by omega)]
      refine ⟨fun w => done σ1 f1 K1.2.1 fun w' hw' hlt => ?_, fun w => ?_⟩
      · have s0 : s = 0 := by omega
        have za : ∀ y : Vc, vSize y = 0 → ∀ c, c < 6 → y c = 0 := fun y hy c hc => by
          have := qS_term (f := fun i => qab (y i)) (n := 6) (fun j _ => by unfold qab; omega) hc
          have e : qS (fun i => qab (y i)) 6 = 0 := hy
          unfold qab at this e; omega
        have e1 : w' = x := by
          funext c
          by_cases y : c < 6
          · rw [za w' (by rw [hw'.2.2, s0]; rfl) c y, za x (by rw [hx.2.2, s0]; rfl) c y]
          · rw [hw'.1 c (by omega), hx.1 c (by omega)]
        rw [e1] at hlt; exact vLx_irr x hlt
      · refine sp_next (sd := false) hn (by omega) S1.1 V1 hx (fun σ2 f2 V2 no => ?_) fun σ2 y f2 V2 hy lt mn => ?_
        · refine ⟨fun _ => done σ2 (mG_trans f1 (mG_35 f2)) (fun c hc => by rw [f2.2.2 29 (by omega)]; exact K1.2.1 c hc) no, fun w => absurd rfl w⟩
        · refine ⟨fun w => absurd w (by decide), fun _ => ?_⟩
          unfold wp_best_202
          have lk := tK_lt xb (vSize_b (Int.le_of_eq hy.2.2) (by omega)) lt
          refine ih y fo1 ls1 bv1 σ2 (by omega) (mG_trans f1 (mG_35 f2)) V2 hy ⟨bO_congr (fun u => ?_) K1.1, fun c hc => by rw [f2.2.2 29 (by omega)]; exact K1.2.1 c hc, K1.2.2.1, K1.2.2.2⟩
          unfold bSx
          constructor
          · rintro ⟨p, w | ⟨e, w | w⟩⟩
            · exact ⟨p, .inl w⟩
            · exact ⟨p, .inr ⟨e, vLx_trans w lt⟩⟩
            · exact ⟨p, .inr ⟨e, by rw [w]; exact lt⟩⟩
          · rintro ⟨p, w | ⟨e, w⟩⟩
            · exact ⟨p, .inl w⟩
            · refine ⟨p, .inr ⟨e, ?_⟩⟩
              rcases vLx_tri (u := u) (v := x) (fun c hc => p.2.1 c (by omega)) (fun c hc => hx.1 c (by omega)) with z | z | z
              · exact .inl z
              · rcases mn u ⟨p.2.1, fun _ => p.1, e⟩ z with q | q
                · rw [q] at w; exact absurd w (vLx_irr y)
                · exact absurd (vLx_trans w q) (vLx_irr u)
              · exact .inr z
    unfold wp_best_66
    refine ⟨fun w => absurd w (by decide), fun _ => ?_⟩
    refine sp_solves_35 (rt := true) S V (fun c hc => by have := xb c hc; omega) (fun no => ⟨fun _ => ?_, fun w => absurd rfl w⟩) fun yes => ⟨fun w => absurd w (by decide), fun _ => ⟨n + 1, ?_⟩⟩
    · refine nxt σ fo ls bv f V ⟨bO_congr (fun u => ?_) K.1, K.2.1, K.2.2.1, K.2.2.2⟩
      unfold bSx
      constructor
      · rintro ⟨p, w | ⟨e, w⟩⟩
        · exact ⟨p, .inl w⟩
        · exact ⟨p, .inr ⟨e, .inl w⟩⟩
      · rintro ⟨p, w | ⟨e, w | w⟩⟩
        · exact ⟨p, .inl w⟩
        · exact ⟨p, .inr ⟨e, w⟩⟩
        · rw [w] at p; exact absurd p.2.2.2 no
    · have bp : bP A R n bd x := ⟨xn, hx.1, by omega, yes⟩
      have setq : ∀ u, (bP A R n bd u ∧ (vSize u < s ∨ vSize u = s ∧ (vLx u x ∨ u = x))) ↔ bSx A R n bd s x u ∨ u = x := by
        intro u
        unfold bSx
        constructor
        · rintro ⟨p, w | ⟨e, w | w⟩⟩
          · exact .inl ⟨p, .inl w⟩
          · exact .inl ⟨p, .inr ⟨e, w⟩⟩
          · exact .inr w
        · rintro (⟨p, w | ⟨e, w⟩⟩ | w)
          · exact ⟨p, .inl w⟩
          · exact ⟨p, .inr ⟨e, .inl w⟩⟩
          · rw [w]; exact ⟨bp, .inr ⟨hx.2.2, .inr rfl⟩⟩
      have new : (fo = true → bCo co x < bCo co bv ∨ bCo co x = bCo co bv ∧ vLx x bv) → wp_best_147 Q K46 (wp_best_66 Q K46 (N + 1)) (Int32.ofNat bd) (Int32.ofNat s) (Int32.ofInt (bCo co x)) σ := by
        intro less
        have cp : ∀ (t c : Nat) (σ1 : St), c + t = n → mF1 29 σ σ1 → (∀ j, j < c → σ1.2.1 29 j = Int32.ofInt (x j)) → wp_best_150 Q K46 (wp_best_66 Q K46 (N + 1)) (t + 1) (Int32.ofNat bd) (Int32.ofNat s) (Int32.ofInt (bCo co x)) (Int32.ofNat c) σ1 := by
          intro t
          induction t with
          | zero =>
            intro c σ1 hc f1 h1
            unfold wp_best_150
            rw [gI_F1 f1, S.1, i_le (by omega) (by omega)]
            refine ⟨fun _ => ?_, fun w => by omega⟩
            have e1 : (1 : Int32) = bI true := rfl
            rw [e1]
            exact nxt σ1 true (bCo co x) x (mG_trans f (mG_29 f1)) (fun c hc => by rw [f1.2.2 35 (by omega)]; exact V c hc) ⟨bO_new K.1 setq less, fun j hj => h1 j (by omega), fun _ => rfl, fun w => by cases w⟩
          | succ t iht =>
            intro c σ1 hc f1 h1
            unfold wp_best_150
            rw [gI_F1 f1, S.1, i_le (by omega) (by omega)]
            refine ⟨fun w => by omega, fun _ => ⟨(i_in (by omega)).mpr (by omega), (i_in (by omega)).mpr (by omega), fun σ2 e2 x2 ex2 => ?_⟩⟩
            rw [ex2, i_one]
            refine iht (c + 1) σ2 (by omega) (by rw [e2]; exact mF1_trans f1 (mF1_sA 29 σ1 _ _)) fun j hj => ?_
            rw [e2, sA_nat _ _ (by omega)]
            by_cases z : j = c
            · rw [if_pos ⟨rfl, z⟩, gA_F1 f1 (by omega), mV_get V (by omega), z]
            · rw [if_neg (fun w => z w.2)]; exact h1 j (by omega)
        exact ⟨n + 1, cp n 0 σ (by omega) (mF1_refl 29 σ) fun j hj => by omega⟩
      have cx := cb x x16 6 (by omega)
      have cost : ∀ (t c : Nat), c + t = n → wp_best_89 Q K46 (wp_best_66 Q K46 (N + 1)) (t + 1) (Int32.ofNat bd) (bI fo) (Int32.ofInt ls) (Int32.ofNat s) (Int32.ofInt (qS (fun j => co j * x j) c)) (Int32.ofNat c) σ := by
        intro t
        induction t with
        | zero =>
          intro c hc
          have : c = n := by omega
          subst this
          rw [← cz.1]
          unfold wp_best_89
          rw [S.1, i_le (by omega) (by omega)]
          refine ⟨fun _ => ?_, fun w => by omega⟩
          rw [bI_0]
          refine ⟨fun y => new fun z => (by rw [y] at z; cases z), fun y => ?_⟩
          have y : fo = true := by cases fo with
            | true => rfl
            | false => exact absurd rfl y
          have el := K.2.2.1 y
          have ob : bSx A R c bd s x bv ∧ ∀ u, bSx A R c bd s x u → bCo co bv < bCo co u ∨ bCo co bv = bCo co u ∧ (bv = u ∨ vLx bv u) := by
            have := K.1; unfold bO at this; rw [if_pos y] at this; exact this
          have b16 := P100 bv ob.1.1
          have cbv := cb bv b16 6 (by omega)
          have cx' : (bCo co x).natAbs ≤ 9504 := cx
          have cb' : (bCo co bv).natAbs ≤ 9504 := cbv
          rw [el, i_ltI (by omega) (by omega), i_eqI (by omega) (by omega)]
          have old : (bCo co bv < bCo co x ∨ bCo co bv = bCo co x ∧ (bv = x ∨ vLx bv x)) → ∀ σ1, σ1 = σ → wp_best_184 Q K46 (wp_best_66 Q K46 (N + 1)) (Int32.ofNat bd) (bI fo) (Int32.ofInt (bCo co bv)) (Int32.ofNat s) σ1 := by
            intro hh σ1 e1
            subst e1
            have O := K.1
            have K2 := K.2
            subst y
            exact nxt σ1 true (bCo co bv) bv f V ⟨bO_old O setq hh, K2.1, fun _ => rfl, K2.2.2⟩
          refine ⟨fun w => new fun _ => .inl w, fun w => ⟨fun w2 => old (.inl (by omega)) σ rfl, fun w2 => ?_⟩⟩
          refine sp_isBefore hn S.1 V K.2.1 (fun c hc => by have := xb c hc; omega) (fun c hc => by have := b16 c hc; omega) (fun hd => ⟨fun z => absurd z (by decide), fun _ => new fun _ => .inr ⟨w2, ?_⟩⟩) fun hd => ⟨fun _ => old (.inr ⟨w2.symm, ?_⟩) σ rfl, fun z => absurd rfl z⟩
          · obtain ⟨d, d1, d2, d3⟩ := hd
            exact ⟨d, by omega, d2, d3⟩
          · rcases vLx_tri (u := bv) (v := x) (fun c hc => ob.1.1.2.1 c (by omega)) (fun c hc => hx.1 c (by omega)) with q | q | q
            · exact .inr q
            · obtain ⟨d, d1, d2, d3⟩ := q
              refine absurd ⟨d, ?_, d2, d3⟩ hd
              apply Classical.byContradiction
              intro z
              have a := ob.1.1.2.1 d (by omega)
              have b := hx.1 d (by omega)
              omega
            · exact .inl q
        | succ t iht =>
          intro c hc
          unfold wp_best_89
          rw [S.1, i_le (by omega) (by omega)]
          refine ⟨fun w => by omega, fun _ => ⟨(i_in (by omega)).mpr (by omega), (i_in (by omega)).mpr (by omega), fun x3 e3 x4 e4 => ?_⟩⟩
          rw [e3, e4, i_one, mV_get V (by omega), gA_nat σ 25 (by omega), f.2.2 25 (by omega) (by omega), hc25 c (by omega), i_mulI, i_addI]
          exact iht (c + 1) (by omega)
      exact cost n 0 (by omega)
