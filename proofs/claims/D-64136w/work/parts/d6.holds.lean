/-! HOLDS, both sides -/
theorem sp_solves_24 {n R : Nat} {A : Nat → Nat → Int} {x : Vc} {rt : Bool} {Q : Int32 → St → Prop} {σ : St} (S : mSys σ n R A) (V : mV 24 σ x) (hx : ∀ c, c < 6 → (x c).natAbs ≤ 100) (q0 : ¬ gZ A R n u1 rt x → Q 0 σ) (q1 : gZ A R n u1 rt x → Q 1 σ) : wp_solves_24 (if rt = true then 1 else 0) σ Q := by
  have S0 := S
  obtain ⟨s1, s2, s3, s4, s5, s6, s7⟩ := S
  have bd : ∀ r m, m ≤ n → (qS (fun j => A r j * u1 j * x j) m).natAbs ≤ 2000 * m := by
    intro r m
    induction m with
    | zero => intro _; simp [qS]
    | succ m ih =>
      intro hm
      have := ih (by omega)
      have a := (s7 r).1 m (by omega)
      have b := hx m (by omega)
      have c : (A r m * u1 m * x m).natAbs ≤ 2000 := by
        rw [Int.natAbs_mul, Int.natAbs_mul, show (u1 m).natAbs = 1 from rfl, Nat.mul_one]
        exact Nat.le_trans (Nat.mul_le_mul a b) (by decide)
      show (qS (fun j => A r j * u1 j * x j) m + A r m * u1 m * x m).natAbs ≤ _
      omega
  have stop : ∀ (t r : Nat), ¬ gZ A R n u1 rt x → wp_solves_24_5 Q (t + 1) (if rt = true then 1 else 0) 0 (Int32.ofNat r) σ := by
    intro t r hn
    unfold wp_solves_24_5 wp_solves_24_102
    exact ⟨fun _ => ⟨isB_0, q0 hn⟩, fun _ => ⟨fun _ => ⟨isB_0, q0 hn⟩, fun w => absurd rfl w⟩⟩
  have go : ∀ (t r : Nat), r + t = R → (∀ j, j < r → gMd A n u1 rt x j = 0) → wp_solves_24_5 Q (t + 2) (if rt = true then 1 else 0) 1 (Int32.ofNat r) σ := by
    intro t
    induction t with
    | zero =>
      intro r hr hz
      unfold wp_solves_24_5 wp_solves_24_102
      rw [s2, i_le (by omega) (by omega)]
      exact ⟨fun _ => ⟨isB_1, q1 fun j hj => hz j (by omega)⟩, fun w => by omega⟩
    | succ t ih =>
      intro r hr hz
      have num := mSys_num S0 (show r < R by omega)
      -- behind the sum
      have fin : ∀ u : Int, u.natAbs ≤ 200 → (gMd A n u1 rt x r = 0 ↔ qS (fun j => A r j * u1 j * x j) n = u) → wp_solves_24_87 Q (wp_solves_24_5 Q (t + 2)) (if rt = true then 1 else 0) (Int32.ofNat r) (Int32.ofInt (qS (fun j => A r j * u1 j * x j) n)) (Int32.ofInt u) σ := by
        intro u hu he
        have := bd r n (Nat.le_refl _)
        unfold wp_solves_24_87 wp_solves_24_95
        rw [i_eqI (by omega) (by omega)]
        refine ⟨fun w x1 e1 => ?_, fun w x1 e1 => ?_⟩
        · subst e1; rw [i_one]
          exact stop (t + 1) (r + 1) fun z => w (he.mp (z r (by omega)))
        · subst e1; rw [i_one]
          refine ih (r + 1) (by omega) fun j hj => ?_
          by_cases y : j = r
          · rw [y]; exact he.mpr w
          · exact hz j (by omega)
      have sum : ∀ (t2 j : Nat), j + t2 = n → wp_solves_24_24 Q (wp_solves_24_5 Q (t + 2)) (t2 + 1) (if rt = true then 1 else 0) (Int32.ofNat r) (Int32.ofInt (qS (fun j => A r j * u1 j * x j) j)) (Int32.ofNat j) σ := by
        intro t2
        induction t2 with
        | zero =>
          intro j hj
          have : j = n := by omega
          subst this
          unfold wp_solves_24_24
          rw [s1, i_le (by omega) (by omega), i_sev, num.2]
          refine ⟨fun _ => ⟨fun w => ?_, fun w => ⟨(i_in (by omega)).mpr (by omega), ?_⟩⟩, fun w => by omega⟩
          · have hrt : rt = false := (fu_0 rt).mp w
            rw [i_0I]
            refine fin 0 (by decide) ?_
            unfold gMd; rw [hrt]; simp
          · have hrt : rt = true := by cases rt with
              | true => rfl
              | false => exact absurd rfl w
            refine fin (-A r 6) (by have := (s7 r).2; omega) ?_
            unfold gMd; rw [hrt, if_pos rfl]; omega
        | succ t2 ih2 =>
          intro j hj
          unfold wp_solves_24_24
          rw [s1, i_le (by omega) (by omega), i_sev, i_sev]
          refine ⟨fun w => by omega, fun _ => ⟨(i_in (by omega)).mpr (by omega), (i_in (by omega)).mpr (by omega), fun x1 e1 x2 e2 => ?_⟩⟩
          subst e2
          rw [i_one]
          rw [num.1 j (by omega), mV_get V (by omega), i_mulI, i_addI] at e1
          subst e1
          have e3 : qS (fun j => A r j * u1 j * x j) (j + 1) = qS (fun j => A r j * u1 j * x j) j + A r j * x j := by
            show _ + A r j * 1 * x j = _; rw [Int.mul_one]
          rw [← e3]
          exact ih2 (j + 1) (by omega)
      unfold wp_solves_24_5
      rw [s2, i_le (by omega) (by omega)]
      exact ⟨fun w => by omega, fun _ => ⟨fun w => absurd w (by decide), fun _ => ⟨n + 1, sum n 0 (by omega)⟩⟩⟩
  exact ⟨R + 2, go R 0 (by omega) fun j hj => by omega⟩

def allB (P : Nat → Bool) : Nat → Bool
  | 0 => true
  | r + 1 => allB P r && P r
theorem allB_iff (P : Nat → Bool) : ∀ r, allB P r = true ↔ ∀ j, j < r → P j = true := by
  intro r
  induction r with
  | zero => exact ⟨fun _ j hj => by omega, fun _ => rfl⟩
  | succ r ih =>
    show (allB P r && P r) = true ↔ _
    rw [Bool.and_eq_true, ih]
    constructor
    · rintro ⟨a, b⟩ j hj
      by_cases w : j = r
      · rw [w]; exact b
      · exact a j (by omega)
    · intro h; exact ⟨fun j hj => h j (by omega), h r (by omega)⟩
def hS (A : Nat → Nat → Int) (n : Nat) (rt : Bool) (x : Vc) (r : Nat) : Bool := decide (gMd A n u1 rt x r = 0)
theorem hS_all (A : Nat → Nat → Int) (R n : Nat) (rt : Bool) (x : Vc) : allB (hS A n rt x) R = true ↔ gZ A R n u1 rt x := by
  rw [allB_iff]
  exact ⟨fun h r hr => of_decide_eq_true (h r hr), fun h r hr => decide_eq_true (h r hr)⟩
def hPl (x : Vc) : Bool := allB (fun c => decide (0 ≤ x c)) 6
def hVal (A : Nat → Nat → Int) (R n : Nat) (x : Vc) : Int32 := (if allB (hS A n true x) R = true then 1 else 0) + (if allB (hS A n false x) R = true then 2 else 0) + (if hPl x = true then 4 else 0)
theorem bI_t {b : Bool} (h : ¬ bI b = 0) : b = true := by
  cases b with
  | true => rfl
  | false => exact absurd rfl h
theorem sp_isPlain {n : Nat} {x : Vc} {σ : St} {Q : Int32 → St → Prop} (hn : n ≤ 6) (h17 : gI σ 17 = Int32.ofNat n) (V : mV 24 σ x) (xb : ∀ c, c < 6 → (x c).natAbs ≤ 100) (x0 : ∀ c, n ≤ c → x c = 0) (q : Q (bI (hPl x)) σ) : wp_isPlain σ Q := by
  have pl : ∀ c, n ≤ c → c ≤ 6 → allB (fun c => decide (0 ≤ x c)) c = allB (fun c => decide (0 ≤ x c)) n := by
    intro c h1 h2
    induction c with
    | zero => rw [show n = 0 by omega]
    | succ c ih =>
      by_cases w : n = c + 1
      · rw [w]
      · show (allB _ c && decide (0 ≤ x c)) = _
        rw [ih (by omega) (by omega), x0 c (by omega)]; simp
  have go : ∀ (t c : Nat), c + t = n → wp_isPlain_4 Q (t + 1) (bI (allB (fun c => decide (0 ≤ x c)) c)) (Int32.ofNat c) σ := by
    intro t
    induction t with
    | zero =>
      intro c hc
      have : c = n := by omega
      subst this
      unfold wp_isPlain_4
      rw [h17, i_le (by omega) (by omega)]
      refine ⟨fun _ => ⟨bI_B _, ?_⟩, fun w => by omega⟩
      rw [← pl 6 hn (Nat.le_refl _)]; exact q
    | succ t ih =>
      intro c hc
      have xc := xb c (by omega)
      have nx : ∀ u : Int32, u = bI (allB (fun c => decide (0 ≤ x c)) (c + 1)) → wp_isPlain_30 Q (wp_isPlain_4 Q (t + 1)) (Int32.ofNat c) u σ := by
        intro u hu x1 e1
        rw [e1, i_one, hu]; exact ih (c + 1) (by omega)
      have e : allB (fun c => decide (0 ≤ x c)) (c + 1) = (allB (fun c => decide (0 ≤ x c)) c && decide (0 ≤ x c)) := rfl
      unfold wp_isPlain_4 wp_isPlain_29
      rw [h17, i_le (by omega) (by omega), bI_0]
      refine ⟨fun w => by omega, fun _ => ⟨fun y => nx 0 (by rw [e, y]; rfl), fun y => ⟨(i_in (by omega)).mpr (by omega), ?_⟩⟩⟩
      have y : allB (fun c => decide (0 ≤ x c)) c = true := by simpa using y
      rw [mV_get V (by omega), i_0I, i_ltI (by omega) (by decide)]
      exact ⟨fun w => nx 0 (by rw [e, y, decide_eq_false (by omega)]; rfl), fun w => nx 1 (by rw [e, y, decide_eq_true (by omega)]; rfl)⟩
  exact ⟨n + 1, go n 0 (by omega)⟩
theorem sp_holds {n R : Nat} {A : Nat → Nat → Int} {x : Vc} {σ : St} {Q : Int32 → St → Prop} (S : mSys σ n R A) (V : mV 24 σ x) (xb : ∀ c, c < 6 → (x c).natAbs ≤ 100) (x0 : ∀ c, n ≤ c → x c = 0) (un : gI σ 14 = 0 → Q 0 (sI σ 0 1)) (q : gI σ 14 ≠ 0 → Q (hVal A R n x) (sI σ 0 0)) : wp_holds σ Q := by
  have hn := S.2.2.1
  unfold wp_holds wp_holds_13
  refine ⟨fun k σ1 e1 => ⟨fun w => ?_, fun _ => ?_⟩, fun k σ1 e1 => ⟨fun _ => ?_, fun w => ?_⟩⟩
  · rw [e1, gI_sI, if_pos rfl] at w; exact absurd w (by decide)
  · rw [e1]; exact un k
  · have q := q k
    have S1 : mSys σ1 n R A := mSys_gen (by rw [e1]; rfl) (by rw [e1]; rfl) (by rw [e1]; rfl) S
    have V1 : mV 24 σ1 x := fun c hc => by rw [e1]; exact V c hc
    rw [← e1] at q
    have f44 : ∀ u : Int32, u = (if allB (hS A n true x) R = true then 1 else 0) → wp_holds_44 Q u σ1 := by
      intro u hu
      have f61 : ∀ v : Int32, v = (if allB (hS A n false x) R = true then 2 else 0) → wp_holds_61 Q u v σ1 := by
        intro v hv
        unfold wp_holds_61 wp_holds_74 wp_holds_75
        refine sp_isPlain hn S1.1 V1 xb x0 ?_
        rw [bI_0]
        unfold hVal at q
        rw [← hu, ← hv] at q
        refine ⟨fun y => ?_, fun y => ?_⟩
        · rw [if_neg (by rw [y]; simp)] at q; exact q
        · rw [if_pos (by simpa using y)] at q; exact q
      unfold wp_holds_44
      refine sp_solves_24 (rt := false) S1 V1 xb (fun no => ⟨fun _ => f61 0 ?_, fun w => absurd rfl w⟩) fun yes => ⟨fun w => absurd w (by decide), fun _ => f61 2 ?_⟩
      · rw [if_neg fun w => no ((hS_all _ _ _ _ _).mp w)]
      · rw [if_pos ((hS_all _ _ _ _ _).mpr yes)]
    refine sp_solves_24 (rt := true) S1 V1 xb (fun no => ⟨fun _ => f44 0 ?_, fun w => absurd rfl w⟩) fun yes => ⟨fun w => absurd w (by decide), fun _ => f44 1 ?_⟩
    · rw [if_neg fun w => no ((hS_all _ _ _ _ _).mp w)]
    · rw [if_pos ((hS_all _ _ _ _ _).mpr yes)]
  · rw [e1, gI_sI, if_pos rfl] at w; exact absurd (by decide) w
/-- an array of six -/
def xA6o (ow : Nat → Nat) (i : Nat) (h : Hp) (a : Nat) (x : Vc) : Prop := hok h a 20 ∧ ow a = i ∧ hN h a = 6 ∧ ∀ c, c < 6 → hA h a (Int32.ofNat c) = Int32.ofInt (x c)
theorem xA6o_E {I : Nat → Prop} {ow ow2 : Nat → Nat} {h h2 : Hp} {i a : Nat} {x : Vc} (f : hE I ow h ow2 h2) (hi : ¬ I i) (T : xA6o ow i h a x) : xA6o ow2 i h2 a x := by
  obtain ⟨t1, t2, t3, t4⟩ := T
  have e := hok_E f t1
  exact ⟨e.1, e.2.1.trans t2, e.2.2.trans t3, fun c hc => by rw [hA_E f t1 (by rw [t2]; exact hi)]; exact t4 c hc⟩
theorem sp_X1_holds {ev ow : Nat → Nat} {i j : Nat} {h : Hp} {a0 R n vr MC MS : Nat} {rf fd sh : Nat → Nat} {x : Vc} {A : Nat → Nat → Int} {Lt : Nat → Int32} {Q : Int32 → Hp → Prop} {Xr : String → Hp → Prop} (D : xDk ow h a0 rf fd sh) (M : xMo ow i h (rf 2) R n vr A Lt) (T : xA6o ow j h (rf 10) x) (xb : ∀ c, c < 6 → (x c).natAbs ≤ 100) (un : hI h a0 8 = 0 → 1 ≤ MC ∧ 6 ≤ MS ∧ Xr eISE h) (q : hI h a0 8 ≠ 0 → Q (hVal A R n x) h) : wp_X1_holds ev h a0 MC MS Q Xr := by
  obtain ⟨m1, m2, m3, m4, m5, ao, ab, a1, a2, a3, a4, a5, a6, rows, rhs, qr⟩ := xMo_rd M
  obtain ⟨t1, t2, t3, t4⟩ := T
  have r2 := D.2.2.1 2 (by omega) (by omega) (by omega) (by omega) (by omega)
  have r10 := D.2.2.1 10 (by omega) (by omega) (by omega) (by omega) (by omega)
  have bd : ∀ r m, m ≤ n → (qS (fun j => A r j * u1 j * x j) m).natAbs ≤ 2000 * m := by
    intro r m
    induction m with
    | zero => intro _; simp [qS]
    | succ m ih =>
      intro hm
      have := ih (by omega)
      have a := (qr r).1 m (by omega)
      have b := xb m (by omega)
      have c : (A r m * u1 m * x m).natAbs ≤ 2000 := by
        rw [Int.natAbs_mul, Int.natAbs_mul, show (u1 m).natAbs = 1 from rfl, Nat.mul_one]
        exact Nat.le_trans (Nat.mul_le_mul a b) (by decide)
      show (qS (fun j => A r j * u1 j * x j) m + A r m * u1 m * x m).natAbs ≤ _
      omega
  unfold wp_X1_holds wp_X1_needSystem
  refine ⟨MC, MS, 0, 0, by omega, by omega, D.1, D.1, fun k => ⟨R + 1, ?_⟩, fun k => ⟨MC - 1, MS - 6, by have := un k; omega, by have := un k; omega, (un k).2.2⟩⟩
  have q := q k
  have tail : wp_X1_holds_131 ev Q Xr 7 a0 (bI (allB (hS A n true x) R)) (bI (allB (hS A n false x) R)) 1 (rf 10) 6 0 h 0 0 := by
    have go : ∀ (t c : Nat), c + t = 6 → wp_X1_holds_131 ev Q Xr (t + 1) a0 (bI (allB (hS A n true x) R)) (bI (allB (hS A n false x) R)) (bI (allB (fun c => decide (0 ≤ x c)) c)) (rf 10) 6 (Int32.ofNat c) h 0 0 := by
      intro t
      induction t with
      | zero =>
        intro c hc
        have : c = 6 := by omega
        subst this
        unfold wp_X1_holds_131
        refine ⟨fun _ => ?_, fun w => absurd (by decide) w⟩
        have f : ∀ u : Int32, u = (if allB (hS A n true x) R = true then 1 else 0) → wp_X1_holds_173 ev Q Xr a0 (bI (allB (hS A n false x) R)) (bI (hPl x)) u h 0 0 := by
          intro u hu
          have g : ∀ v : Int32, v = (if allB (hS A n false x) R = true then 2 else 0) → wp_X1_holds_182 ev Q Xr a0 (bI (hPl x)) u v h 0 0 := by
            intro v hv
            unfold wp_X1_holds_182 wp_X1_holds_192
            rw [bI_0]
            unfold hVal at q
            rw [← hu, ← hv] at q
            refine ⟨fun y => ?_, fun y => ?_⟩
            · rw [if_neg (by rw [y]; simp)] at q; exact q
            · rw [if_pos (by simpa using y)] at q; exact q
          unfold wp_X1_holds_173
          rw [bI_0]
          exact ⟨fun y => g 0 (by rw [if_neg (by rw [y]; simp)]), fun y => g 2 (by rw [if_pos (by simpa using y)])⟩
        rw [bI_0]
        exact ⟨fun y => f 0 (by rw [if_neg (by rw [y]; simp)]), fun y => f 1 (by rw [if_pos (by simpa using y)])⟩
      | succ t ih =>
        intro c hc
        have xc := xb c (by omega)
        unfold wp_X1_holds_131
        rw [show (6 : Int32) = Int32.ofNat 6 from rfl, i_le (by omega) (by omega)]
        refine ⟨fun w => by omega, fun _ => ⟨t1, (i_in (by omega)).mpr (by omega), fun x3 e3 => ?_⟩⟩
        rw [t4 c (by omega)] at e3
        subst e3
        have nx : ∀ u : Int32, u = bI (decide (0 ≤ x c)) → wp_X1_holds_156 ev Q Xr (wp_X1_holds_131 ev Q Xr (t + 1)) a0 (bI (allB (hS A n true x) R)) (bI (allB (hS A n false x) R)) (rf 10) (Int32.ofNat 6) (Int32.ofNat c) (bI (allB (fun c => decide (0 ≤ x c)) c)) u h 0 0 := by
          intro u hu x1 e1 x2 e2
          rw [e1, e2, hu, bI_and, i_one]
          exact ih (c + 1) (by omega)
        rw [i_0I, i_ltI (by omega) (by decide)]
        exact ⟨fun w => nx _ (by rw [decide_eq_false (by omega)]; rfl), fun w => nx _ (by rw [decide_eq_true (by omega)]; rfl)⟩
    exact go 6 0 rfl
  have main : ∀ (t r : Nat), r + t = R → wp_X1_holds_13 ev Q Xr (t + 1) a0 (bI (allB (hS A n true x) r)) (bI (allB (hS A n false x) r)) 1 (Int32.ofNat r) h 0 0 := by
    intro t
    induction t with
    | zero =>
      intro r hr
      have : r = R := by omega
      subst this
      unfold wp_X1_holds_13
      refine ⟨D.1, rf 2, r2, m1, ?_⟩
      rw [m2, i_le (by omega) (by omega)]
      refine ⟨fun _ => ⟨D.1, rf 10, r10, t1, fun x7 e7 => ⟨7, ?_⟩⟩, fun w => by omega⟩
      rw [t3] at e7
      rw [e7]
      exact tail
    | succ t ih =>
      intro r hr
      obtain ⟨b, g1, g2, g3, g4⟩ := rows r (by omega)
      have sum : ∀ (t2 j : Nat), j + t2 = n → wp_X1_holds_31 ev Q Xr (wp_X1_holds_13 ev Q Xr (t + 1)) (t2 + 1) a0 (bI (allB (hS A n true x) r)) (bI (allB (hS A n false x) r)) 1 (Int32.ofNat r) (Int32.ofInt (qS (fun j => A r j * u1 j * x j) j)) (Int32.ofNat j) h 0 0 := by
        intro t2
        induction t2 with
        | zero =>
          intro j hj
          have : j = n := by omega
          subst this
          have bb := bd r j (Nat.le_refl _)
          have r6 := (qr r).2
          unfold wp_X1_holds_31
          refine ⟨D.1, rf 2, r2, m1, ?_⟩
          rw [m3, i_le (by omega) (by omega)]
          refine ⟨fun _ => ⟨D.1, rf 2, r2, m1, ab, a4, a5, (i_in (by omega)).mpr (by omega), ?_⟩, fun w => by omega⟩
          rw [rhs r (by omega), i_eqI (by omega) (by omega)]
          have et : hS A j true x r = decide (qS (fun j' => A r j' * u1 j' * x j') j = -A r 6) := by
            unfold hS gMd; rw [if_pos rfl]; exact decide_eq_decide.mpr ⟨fun _ => by omega, fun _ => by omega⟩
          have ef : hS A j false x r = decide (qS (fun j' => A r j' * u1 j' * x j') j = 0) := by
            unfold hS gMd; rw [if_neg (by simp)]; exact decide_eq_decide.mpr ⟨fun _ => by omega, fun _ => by omega⟩
          have st : ∀ u : Int32, u = bI (hS A j true x r) → wp_X1_holds_96 ev Q Xr (wp_X1_holds_13 ev Q Xr (t + 1)) a0 (bI (allB (hS A j false x) r)) 1 (Int32.ofNat r) (Int32.ofInt (qS (fun j' => A r j' * u1 j' * x j') j)) (bI (allB (hS A j true x) r)) u h 0 0 := by
            intro u hu x1 e1
            rw [hu, bI_and] at e1
            subst e1
            have nx : ∀ v : Int32, v = bI (hS A j false x r) → wp_X1_holds_109 ev Q Xr (wp_X1_holds_13 ev Q Xr (t + 1)) a0 (bI (allB (hS A j true x) r && hS A j true x r)) 1 (Int32.ofNat r) (bI (allB (hS A j false x) r)) v h 0 0 := by
              intro v hv x1 e1 x2 e2
              rw [hv, bI_and] at e1
              rw [e1, e2, i_one]
              exact ih (r + 1) (by omega)
            rw [i_0I, i_eqI (by omega) (by decide)]
            exact ⟨fun w => nx _ (by rw [ef, decide_eq_false w]; rfl), fun w => nx _ (by rw [ef, decide_eq_true w]; rfl)⟩
          exact ⟨fun w => st _ (by rw [et, decide_eq_false w]; rfl), fun w => st _ (by rw [et, decide_eq_true w]; rfl)⟩
        | succ t2 ih2 =>
          intro j hj
          unfold wp_X1_holds_31
          refine ⟨D.1, rf 2, r2, m1, ?_⟩
          rw [m3, i_le (by omega) (by omega)]
          refine ⟨fun w => by omega, fun _ => ⟨D.1, rf 2, r2, m1, ao, a1, a2, (i_in (by omega)).mpr (by omega), b, g1, g2, (i_in (by omega)).mpr (by omega), D.1, rf 10, r10, t1, (i_in (by omega)).mpr (by omega), fun x23 e23 x24 e24 => ?_⟩⟩
          rw [g4 j (by omega) (by omega), t4 j (by omega), i_mulI, i_addI] at e23
          rw [e23, e24, i_one]
          have e3 : qS (fun j => A r j * u1 j * x j) (j + 1) = qS (fun j => A r j * u1 j * x j) j + A r j * x j := by
            show _ + A r j * 1 * x j = _; rw [Int.mul_one]
          rw [← e3]
          exact ih2 (j + 1) (by omega)
      unfold wp_X1_holds_13
      refine ⟨D.1, rf 2, r2, m1, ?_⟩
      rw [m2, i_le (by omega) (by omega)]
      exact ⟨fun w => by omega, fun _ => ⟨n + 1, sum n 0 (by omega)⟩⟩
  exact main R 0 (by omega)
