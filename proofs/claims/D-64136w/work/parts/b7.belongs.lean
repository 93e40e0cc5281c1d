/-! THE TWIN's lists: solves, isBelow, belongs, put -/
/-- the system in the twin -/
def mSys (σ : St) (n R : Nat) (A : Nat → Nat → Int) : Prop := gI σ 17 = Int32.ofNat n ∧ gI σ 15 = Int32.ofNat R ∧ n ≤ 6 ∧ R ≤ 4 ∧ (∀ r, r < R → ∀ c, c < 7 → A r c = mRf σ n r c) ∧ (∀ r c, R ≤ r → A r c = 0) ∧ ∀ r, qRow n (A r)
theorem mSys_num {σ : St} {n R : Nat} {A : Nat → Nat → Int} (S : mSys σ n R A) {r : Nat} (hr : r < R) : (∀ c, c < n → gA σ 19 (Int32.ofNat (7 * r + c)) = Int32.ofInt (A r c)) ∧ gA σ 19 (Int32.ofNat (7 * r + n)) = Int32.ofInt (-A r 6) := by
  obtain ⟨s1, s2, s3, s4, s5, s6, s7⟩ := S
  refine ⟨fun c hc => ?_, ?_⟩
  · rw [gA_nat σ 19 (by omega), s5 r hr c (by omega)]
    unfold mRf mA; rw [if_pos hc]; exact (i_ofI _).symm
  · rw [gA_nat σ 19 (by omega), s5 r hr 6 (by omega)]
    unfold mRf; rw [if_neg (by omega), if_pos rfl, Int.neg_neg]; exact (i_ofI _).symm
theorem mSys_F1 {a : Nat} {σ σ2 : St} {n R : Nat} {A : Nat → Nat → Int} (f : mF1 a σ σ2) (ha : a ≠ 19) (S : mSys σ n R A) : mSys σ2 n R A := by
  obtain ⟨s1, s2, s3, s4, s5, s6, s7⟩ := S
  refine ⟨by rw [gI_F1 f]; exact s1, by rw [gI_F1 f]; exact s2, s3, s4, fun r hr c hc => ?_, s6, s7⟩
  rw [s5 r hr c hc]
  unfold mRf mA
  rw [f.2.2 19 (Ne.symm ha)]
theorem sp_solves_35 {n R : Nat} {A : Nat → Nat → Int} {x : Vc} {rt : Bool} {Q : Int32 → St → Prop} {σ : St} (S : mSys σ n R A) (V : mV 35 σ x) (hx : ∀ c, c < 6 → (x c).natAbs ≤ 100) (q0 : ¬ gZ A R n u1 rt x → Q 0 σ) (q1 : gZ A R n u1 rt x → Q 1 σ) : wp_solves_35 (if rt = true then 1 else 0) σ Q := by
  have S0 := S
  obtain ⟨s1, s2, s3, s4, s5, s6, s7⟩ := S
  have bd : ∀ r m, m ≤ n → (qS (fun j => A r j * u1 j * x j) m).natAbs ≤ 2000 * m := by
    intro r m
    induction m with
    | zero => intro _; simp [qS]
    | succ m ih =>
      intro hm
      have := ih (by omega)
      have a := (s7 r).1 m (by omega)
      have b := hx m (by omega)
      have c : (A r m * u1 m * x m).natAbs ≤ 2000 := by
        rw [Int.natAbs_mul, Int.natAbs_mul, show (u1 m).natAbs = 1 from rfl, Nat.mul_one]
        exact Nat.le_trans (Nat.mul_le_mul a b) (by decide)
      show (qS (fun j => A r j * u1 j * x j) m + A r m * u1 m * x m).natAbs ≤ _
      omega
  have stop : ∀ (t r : Nat), ¬ gZ A R n u1 rt x → wp_solves_35_5 Q (t + 1) (if rt = true then 1 else 0) 0 (Int32.ofNat r) σ := by
    intro t r hn
    unfold wp_solves_35_5 wp_solves_35_102
    exact ⟨fun _ => ⟨isB_0, q0 hn⟩, fun _ => ⟨fun _ => ⟨isB_0, q0 hn⟩, fun w => absurd rfl w⟩⟩
  have go : ∀ (t r : Nat), r + t = R → (∀ j, j < r → gMd A n u1 rt x j = 0) → wp_solves_35_5 Q (t + 2) (if rt = true then 1 else 0) 1 (Int32.ofNat r) σ := by
    intro t
    induction t with
    | zero =>
      intro r hr hz
      unfold wp_solves_35_5 wp_solves_35_102
      rw [s2, i_le (by omega) (by omega)]
      exact ⟨fun _ => ⟨isB_1, q1 fun j hj => hz j (by omega)⟩, fun w => by omega⟩
    | succ t ih =>
      intro r hr hz
      have num := mSys_num S0 (show r < R by omega)
      -- behind the sum
      have fin : ∀ u : Int, u.natAbs ≤ 200 → (gMd A n u1 rt x r = 0 ↔ qS (fun j => A r j * u1 j * x j) n = u) → wp_solves_35_87 Q (wp_solves_35_5 Q (t + 2)) (if rt = true then 1 else 0) (Int32.ofNat r) (Int32.ofInt (qS (fun j => A r j * u1 j * x j) n)) (Int32.ofInt u) σ := by
        intro u hu he
        have := bd r n (Nat.le_refl _)
        unfold wp_solves_35_87 wp_solves_35_95
        rw [i_eqI (by omega) (by omega)]
        refine ⟨fun w x1 e1 => ?_, fun w x1 e1 => ?_⟩
        · subst e1; rw [i_one]
          exact stop (t + 1) (r + 1) fun z => w (he.mp (z r (by omega)))
        · subst e1; rw [i_one]
          refine ih (r + 1) (by omega) fun j hj => ?_
          by_cases y : j = r
          · rw [y]; exact he.mpr w
          · exact hz j (by omega)
      have sum : ∀ (t2 j : Nat), j + t2 = n → wp_solves_35_24 Q (wp_solves_35_5 Q (t + 2)) (t2 + 1) (if rt = true then 1 else 0) (Int32.ofNat r) (Int32.ofInt (qS (fun j => A r j * u1 j * x j) j)) (Int32.ofNat j) σ := by
        intro t2
        induction t2 with
        | zero =>
          intro j hj
          have : j = n := by omega
          subst this
          unfold wp_solves_35_24
          rw [s1, i_le (by omega) (by omega), i_sev, num.2]
          refine ⟨fun _ => ⟨fun w => ?_, fun w => ⟨(i_in (by omega)).mpr (by omega), ?_⟩⟩, fun w => by omega⟩
          · have hrt : rt = false := (fu_0 rt).mp w
            rw [i_0I]
            refine fin 0 (by decide) ?_
            unfold gMd; rw [hrt]; simp
          · have hrt : rt = true := by cases rt with
              | true => rfl
              | false => exact absurd rfl w
            refine fin (-A r 6) (by have := (s7 r).2; omega) ?_
            unfold gMd; rw [hrt, if_pos rfl]; omega
        | succ t2 ih2 =>
          intro j hj
          unfold wp_solves_35_24
          rw [s1, i_le (by omega) (by omega), i_sev, i_sev]
          refine ⟨fun w => by omega, fun _ => ⟨(i_in (by omega)).mpr (by omega), (i_in (by omega)).mpr (by omega), fun x1 e1 x2 e2 => ?_⟩⟩
          subst e2
          rw [i_one]
          rw [num.1 j (by omega), mV_get V (by omega), i_mulI, i_addI] at e1
          subst e1
          have e3 : qS (fun j => A r j * u1 j * x j) (j + 1) = qS (fun j => A r j * u1 j * x j) j + A r j * x j := by
            show _ + A r j * 1 * x j = _; rw [Int.mul_one]
          rw [← e3]
          exact ih2 (j + 1) (by omega)
      unfold wp_solves_35_5
      rw [s2, i_le (by omega) (by omega)]
      exact ⟨fun w => by omega, fun _ => ⟨fun w => absurd w (by decide), fun _ => ⟨n + 1, sum n 0 (by omega)⟩⟩⟩
  exact ⟨R + 2, go R 0 (by omega) fun j hj => by omega⟩
/-- the vectors of a list in the twin -/
def mLs (σ : St) (n wh : Nat) (L : List Vc) : Prop := σ.2.1 22 wh = Int32.ofNat L.length ∧ ∀ (k : Nat) (v : Vc), L[k]? = some v → ∀ c, c < n → σ.2.1 23 (12000 * wh + 6 * k + c) = Int32.ofInt (v c)
theorem i_tw (a b c : Nat) : 12000 * Int32.ofNat a + 6 * Int32.ofNat b + Int32.ofNat c = Int32.ofNat (12000 * a + 6 * b + c) := by
  rw [show (12000 : Int32) = Int32.ofNat 12000 from rfl, show (6 : Int32) = Int32.ofNat 6 from rfl, i_mul, i_mul, i_add, i_add]
theorem sp_isBelow {n wh k : Nat} {x u : Vc} {L : List Vc} {sg : Int} {Q : Int32 → St → Prop} {σ : St} (hn : n ≤ 6) (hw : wh ≤ 2) (h17 : gI σ 17 = Int32.ofNat n) (V : mV 35 σ x) (M : mLs σ n wh L) (hL : L.length ≤ 2000) (hk : L[k]? = some u) (hx : ∀ c, c < 6 → (x c).natAbs ≤ 100) (hu : ∀ c, c < 6 → (u c).natAbs ≤ 100) (hx0 : ∀ c, n ≤ c → x c = 0) (hu0 : ∀ c, n ≤ c → u c = 0) (hsg : sg = 1 ∨ sg = -1) (q0 : ¬ vCf (fun c => sg * u c) x → Q 0 σ) (q1 : vCf (fun c => sg * u c) x → Q 1 σ) : wp_isBelow (Int32.ofNat wh) (Int32.ofNat k) (Int32.ofInt sg) σ Q := by
  have kl : k < L.length := (List.getElem?_eq_some_iff.mp hk).1
  have stop : ∀ (t c : Nat), ¬ vCf (fun c => sg * u c) x → wp_isBelow_6 Q (t + 1) (Int32.ofNat wh) (Int32.ofNat k) (Int32.ofInt sg) 0 (Int32.ofNat c) σ := by
    intro t c hno
    unfold wp_isBelow_6 wp_isBelow_107
    exact ⟨fun _ => ⟨isB_0, q0 hno⟩, fun _ => ⟨fun _ => ⟨isB_0, q0 hno⟩, fun w => absurd rfl w⟩⟩
  have go : ∀ (t c : Nat), c + t = n → (∀ j, j < c → (x j < 0 → x j ≤ sg * u j ∧ sg * u j ≤ 0) ∧ (0 ≤ x j → 0 ≤ sg * u j ∧ sg * u j ≤ x j)) → wp_isBelow_6 Q (t + 2) (Int32.ofNat wh) (Int32.ofNat k) (Int32.ofInt sg) 1 (Int32.ofNat c) σ := by
    intro t
    induction t with
    | zero =>
      intro c hc hj
      unfold wp_isBelow_6 wp_isBelow_107
      rw [h17, i_le (by omega) (by omega)]
      refine ⟨fun _ => ⟨isB_1, q1 fun j h6 => ?_⟩, fun w => by omega⟩
      by_cases y : j < c
      · exact hj j y
      · show (x j < 0 → x j ≤ sg * u j ∧ sg * u j ≤ 0) ∧ (0 ≤ x j → 0 ≤ sg * u j ∧ sg * u j ≤ x j)
        rw [hx0 j (by omega), hu0 j (by omega), Int.mul_zero]
        omega
    | succ t ih =>
      intro c hc hj
      have bx := hx c (by omega)
      have bu := hu c (by omega)
      have bs : (sg * u c).natAbs ≤ 100 := by rcases hsg with e | e <;> rw [e] <;> omega
      have cell := M.2 k u hk c (by omega)
      have no : (¬ ((x c < 0 → x c ≤ sg * u c ∧ sg * u c ≤ 0) ∧ (0 ≤ x c → 0 ≤ sg * u c ∧ sg * u c ≤ x c))) → wp_isBelow_99 Q (wp_isBelow_6 Q (t + 2)) (Int32.ofNat wh) (Int32.ofNat k) (Int32.ofInt sg) (Int32.ofNat c) 0 σ := by
        intro h
        unfold wp_isBelow_99
        intro x1 e1
        subst e1
        rw [i_one]
        exact stop (t + 1) (c + 1) fun z => h (z c (by omega))
      have yes : ((x c < 0 → x c ≤ sg * u c ∧ sg * u c ≤ 0) ∧ (0 ≤ x c → 0 ≤ sg * u c ∧ sg * u c ≤ x c)) → wp_isBelow_99 Q (wp_isBelow_6 Q (t + 2)) (Int32.ofNat wh) (Int32.ofNat k) (Int32.ofInt sg) (Int32.ofNat c) 1 σ := by
        intro h
        unfold wp_isBelow_99
        intro x1 e1
        subst e1
        rw [i_one]
        refine ih (c + 1) (by omega) fun j hj' => ?_
        by_cases y : j = c
        · rw [y]; exact h
        · exact hj j (by omega)
      unfold wp_isBelow_6 wp_isBelow_98 wp_isBelow_73
      rw [h17, i_le (by omega) (by omega), i_tw]
      refine ⟨fun w => by omega, fun _ => ⟨fun w => absurd w (by decide), fun _ => ⟨(i_in (by omega)).mpr (by omega), fun x1 e1 => ?_⟩⟩⟩
      rw [gA_nat σ 23 (by omega), cell, i_mulI] at e1
      subst e1
      have z0 : (0 : Int).natAbs < 2147483648 := by decide
      rw [mV_get V (by omega), i_0I, i_ltI (by omega) z0, i_ltI z0 (by omega), i_ltI (by omega) (by omega), i_ltI (by omega) z0, i_ltI (by omega) (by omega)]
      have inn : vp_in (Int32.ofNat c) 6 := (i_in (by omega)).mpr (by omega)
      refine ⟨inn, fun a => ⟨fun b => no fun h => by have := h.1 a; omega, fun b => ⟨inn, fun d => no fun h => by have := h.1 a; omega, fun d => yes ⟨fun _ => by omega, fun _ => by omega⟩⟩⟩, fun a => ⟨fun b => no fun h => by have := h.2 (by omega); omega, fun b => ⟨inn, fun d => no fun h => by have := h.2 (by omega); omega, fun d => yes ⟨fun _ => by omega, fun _ => by omega⟩⟩⟩⟩
  exact ⟨n + 2, go n 0 (by omega) fun j hj => by omega⟩
theorem sp_belongs {n R wh : Nat} {A : Nat → Nat → Int} {x : Vc} {L : List Vc} {Q : Int32 → St → Prop} {σ : St} (S : mSys σ n R A) (hw : wh ≤ 2) (V : mV 35 σ x) (M : mLs σ n wh L) (hL : L.length ≤ 2000) (hx : ∀ c, c < 6 → (x c).natAbs ≤ 100) (hx0 : ∀ c, n ≤ c → x c = 0) (hv : ∀ v, v ∈ L → (∀ c, c < 6 → (v c).natAbs ≤ 100) ∧ ∀ c, n ≤ c → v c = 0) (q0 : ¬ tBel wh A R n L x → Q 0 σ) (q1 : tBel wh A R n L x → Q 1 σ) : wp_belongs (Int32.ofNat wh) σ Q := by
  have S0 := S
  obtain ⟨s1, s2, s3, s4, s5, s6, s7⟩ := S
  have one : (1 : Int32) = Int32.ofNat 1 := rfl
  have two : (2 : Int32) = Int32.ofNat 2 := rfl
  have no : (¬ tBel wh A R n L x) → wp_belongs_104 Q σ := fun h => ⟨isB_0, q0 h⟩
  have hs22 : gA σ 22 (Int32.ofNat wh) = Int32.ofNat L.length := by rw [gA_nat σ 22 (by omega)]; exact M.1
  -- the list is looked through
  have lst : ∀ (t k : Nat), k + t = L.length → (∀ j v, j < k → L[j]? = some v → ¬ vCf v x ∧ (wh = 2 → ¬ vCf (vNg v) x)) → ((∀ v, v ∈ L → ¬ vCf v x ∧ (wh = 2 → ¬ vCf (vNg v) x)) → tBel wh A R n L x) → wp_belongs_112 Q (t + 2) (Int32.ofNat wh) 1 (Int32.ofNat k) σ := by
    have stop : ∀ (t k : Nat), ¬ tBel wh A R n L x → wp_belongs_112 Q (t + 1) (Int32.ofNat wh) 0 (Int32.ofNat k) σ := by
      intro t k hno
      unfold wp_belongs_112 wp_belongs_168
      exact ⟨(i_in (by omega)).mpr (by omega), fun _ => ⟨isB_0, q0 hno⟩, fun _ => ⟨fun _ => ⟨isB_0, q0 hno⟩, fun w => absurd rfl w⟩⟩
    intro t
    induction t with
    | zero =>
      intro k hk hj hfin
      unfold wp_belongs_112 wp_belongs_168
      rw [hs22, i_le (by omega) (by omega)]
      refine ⟨(i_in (by omega)).mpr (by omega), fun _ => ⟨isB_1, q1 (hfin fun v hv' => ?_)⟩, fun w => by omega⟩
      obtain ⟨j, hj'⟩ := List.mem_iff_getElem?.mp hv'
      exact hj j v (by have := (List.getElem?_eq_some_iff.mp hj').1; omega) hj'
    | succ t ih =>
      intro k hk hj hfin
      obtain ⟨u, hu⟩ : ∃ u, L[k]? = some u := ⟨_, List.getElem?_eq_getElem (by omega)⟩
      have um := List.mem_of_getElem? hu
      have ub := hv u um
      have e1 : (fun c => (1 : Int) * u c) = u := funext fun c => Int.one_mul _
      have e2 : (fun c => (-1 : Int) * u c) = vNg u := funext fun c => by show (-1 : Int) * u c = -u c; omega
      unfold wp_belongs_112 wp_belongs_159 wp_belongs_155
      rw [hs22, i_le (by omega) (by omega)]
      have yes : (¬ vCf u x ∧ (wh = 2 → ¬ vCf (vNg u) x)) → wp_belongs_160 Q (wp_belongs_112 Q (t + 2)) (Int32.ofNat wh) (Int32.ofNat k) 1 σ := by
        intro h
        unfold wp_belongs_160
        intro x1 e1
        subst e1
        rw [i_one]
        refine ih (k + 1) (by omega) (fun j v hj' hv' => ?_) hfin
        by_cases y : j = k
        · rw [y, hu] at hv'; rw [← Option.some.inj hv']; exact h
        · exact hj j v (by omega) hv'
      have non : (¬ (¬ vCf u x ∧ (wh = 2 → ¬ vCf (vNg u) x))) → wp_belongs_160 Q (wp_belongs_112 Q (t + 2)) (Int32.ofNat wh) (Int32.ofNat k) 0 σ := by
        intro h
        unfold wp_belongs_160
        intro x1 e1
        subst e1
        rw [i_one]
        exact stop (t + 1) (k + 1) fun z => h (z.2.2.2 u um)
      refine ⟨(i_in (by omega)).mpr (by omega), fun w => by omega, fun _ => ⟨fun w => absurd w (by decide), fun _ => ?_⟩⟩
      refine sp_isBelow (sg := 1) (u := u) s3 hw s1 V M hL hu hx ub.1 hx0 ub.2 (.inl rfl) (fun h => ⟨fun w => absurd rfl w, fun _ => ?_⟩) fun h => ⟨fun _ => non fun z => by rw [e1] at h; exact z.1 h, fun w => absurd w (by decide)⟩
      rw [e1] at h
      rw [two, i_lt (by omega) (by omega)]
      refine ⟨fun w => yes ⟨h, fun z => by omega⟩, fun w => ?_⟩
      refine sp_isBelow (sg := -1) (u := u) s3 hw s1 V M hL hu hx ub.1 hx0 ub.2 (.inr rfl) (fun h2 => ⟨fun w => absurd rfl w, fun _ => yes ⟨h, fun _ => by rw [e2] at h2; exact h2⟩⟩) fun h2 => ⟨fun _ => non fun z => by rw [e2] at h2; exact z.2 (by omega) h2, fun w => absurd w (by decide)⟩
  have at98 : ((wh ≠ 1 → vNz x) ∧ (wh = 2 → tPos x)) → wp_belongs_83 Q (Int32.ofNat wh) σ := by
    intro h
    unfold wp_belongs_83
    have both : wp_belongs_98 Q (Int32.ofNat wh) (if decide (wh = 1) = true then 1 else 0) σ := by
      unfold wp_belongs_98
      refine sp_solves_35 S0 V hx (fun hz => ⟨fun w => absurd rfl w, fun _ => no fun z => hz z.2.2.1⟩) fun hz => ⟨fun _ => ⟨L.length + 2, lst L.length 0 (by omega) (fun j v hj => by omega) fun hl => ⟨h.1, h.2, hz, hl⟩⟩, fun w => absurd w (by decide)⟩
    rw [one, i_eq (by omega) (by omega)]
    refine ⟨fun w => ?_, fun w => ?_⟩
    · rw [if_neg (by simpa using w)] at both; exact both
    · rw [if_pos (by simpa using w)] at both; exact both
  have at74 : ∀ b : Int, b.natAbs ≤ 100 → (wh ≠ 1 → vNz x) → ((wh = 2 → tPos x) ↔ (wh = 2 → ¬ b < 0)) → wp_belongs_74 Q (Int32.ofNat wh) (Int32.ofInt b) σ := by
    intro b hb h1 h2
    unfold wp_belongs_74
    rw [two, i_eq (by omega) (by omega), i_0I, i_ltI (by omega) (by decide)]
    refine ⟨fun w => at98 ⟨h1, fun z => absurd z w⟩, fun w => ⟨fun l => no fun z => ?_, fun l => at98 ⟨h1, h2.mpr fun _ => l⟩⟩⟩
    exact h2.mp z.2.1 w l
  have scan : ∀ (k : Nat) (z b : Int), k ≤ n → ((z = 1 ∧ b = 0 ∧ ∀ c, k ≤ c → c < n → x c = 0) ∨ (z = 0 ∧ ∃ d, k ≤ d ∧ d < n ∧ (∀ i, k ≤ i → i < d → x i = 0) ∧ x d ≠ 0 ∧ b = x d)) → wp_belongs_12 Q (k + 1) (Int32.ofNat wh) (Int32.ofInt z) (Int32.ofInt b) (Int32.ofInt ((k : Int) - 1)) σ := by
    intro k
    induction k with
    | zero =>
      intro z b _ hz
      unfold wp_belongs_12
      refine ⟨fun _ => ?_, fun w => absurd (by rw [i_0I, i_ltI (by decide) (by decide)]; decide) w⟩
      rw [one, i_eq (by omega) (by omega)]
      rcases hz with ⟨e, eb, hz⟩ | ⟨e, d, d1, d2, d3, d4, eb⟩
      · have nz : ¬ vNz x := fun ⟨c, hc, hne⟩ => hne (by
          by_cases y : c < n
          · exact hz c (Nat.zero_le _) y
          · exact hx0 c (by omega))
        refine ⟨fun w => at74 b (by rw [eb]; decide) (fun h => absurd w h) ⟨fun _ h => by omega, fun _ h => by omega⟩, fun w => ⟨fun _ => no fun t => nz (t.1 w), fun w2 => ?_⟩⟩
        rw [e] at w2; exact absurd w2 (by decide)
      · have xd := hx d (by omega)
        have pos : tPos x ↔ ¬ b < 0 := by
          constructor
          · rintro ⟨i, i1, i2, i3⟩
            rcases Nat.lt_trichotomy i d with y | y | y
            · have := d3 i (Nat.zero_le _) y; omega
            · subst y; omega
            · exact absurd (i2 d y) d4
          · intro hb; exact ⟨d, by omega, fun i hi => d3 i (Nat.zero_le _) hi, by omega⟩
        have nz : vNz x := ⟨d, by omega, d4⟩
        refine ⟨fun w => at74 b (by omega) (fun _ => nz) ⟨fun h h2 => pos.mp (h h2), fun h h2 => pos.mpr (h h2)⟩, fun w => ⟨fun w2 => ?_, fun _ => at74 b (by omega) (fun _ => nz) ⟨fun h h2 => pos.mp (h h2), fun h h2 => pos.mpr (h h2)⟩⟩⟩
        rw [e] at w2; exact absurd rfl w2
    | succ c ih =>
      intro z b hk hz
      have xc := hx c (by omega)
      have ic : Int32.ofInt (((c + 1 : Nat) : Int) - 1) = Int32.ofNat c := by rw [i_ofN]; congr 1; omega
      have nxt : ∀ (z2 b2 : Int), ((z2 = 1 ∧ b2 = 0 ∧ ∀ i, c ≤ i → i < n → x i = 0) ∨ (z2 = 0 ∧ ∃ d, c ≤ d ∧ d < n ∧ (∀ i, c ≤ i → i < d → x i = 0) ∧ x d ≠ 0 ∧ b2 = x d)) → wp_belongs_58 Q (wp_belongs_12 Q (c + 1)) (Int32.ofNat wh) (Int32.ofInt z2) (Int32.ofNat c) (Int32.ofInt b2) σ := by
        intro z2 b2 h
        unfold wp_belongs_58
        intro x1 e1
        rw [i_ofN c, show (-1 : Int32) = Int32.ofInt (-1) from rfl, i_addI] at e1
        subst e1
        exact ih z2 b2 (by omega) h
      have at36 : ∀ z2 : Int, (x c = 0 → z2 = z) → (x c ≠ 0 → z2 = 0) → wp_belongs_36 Q (wp_belongs_12 Q (c + 1)) (Int32.ofNat wh) (Int32.ofInt b) (Int32.ofNat c) (Int32.ofInt z2) σ := by
        intro z2 h1 h2
        unfold wp_belongs_36
        rw [mV_get V (by omega), i_0I, i_eqI (by omega) (by decide)]
        refine ⟨(i_in (by omega)).mpr (by omega), fun w => nxt z2 b ?_, fun w => ⟨(i_in (by omega)).mpr (by omega), nxt z2 (x c) (.inr ⟨h2 w, c, Nat.le_refl _, by omega, fun i i1 i2 => by omega, w, rfl⟩)⟩⟩
        rw [h1 w]
        rcases hz with ⟨e, eb, hz⟩ | ⟨e, d, d1, d2, d3, d4, eb⟩
        · refine .inl ⟨e, eb, fun i i1 i2 => ?_⟩
          by_cases y : i = c
          · rw [y]; exact w
          · exact hz i (by omega) i2
        · refine .inr ⟨e, d, by omega, d2, fun i i1 i2 => ?_, d4, eb⟩
          by_cases y : i = c
          · rw [y]; exact w
          · exact d3 i (by omega) i2
      have zz : z = 0 ∨ z = 1 := by
        rcases hz with ⟨e, _⟩ | ⟨e, _⟩
        · exact .inr e
        · exact .inl e
      unfold wp_belongs_12 wp_belongs_35
      rw [ic]
      refine ⟨fun w => absurd w (i_nneg (by omega)), fun _ => ⟨fun w => ?_, fun w => ⟨(i_in (by omega)).mpr (by omega), ?_, ?_⟩⟩⟩
      · have z0 : z = 0 := by
          rcases zz with e | e
          · exact e
          · rw [e] at w; exact absurd w (by decide)
        exact at36 0 (fun _ => z0.symm) fun _ => rfl
      · rw [mV_get V (by omega), i_0I, i_eqI (by omega) (by decide)]
        exact fun w2 => at36 0 (fun h => absurd h w2) fun _ => rfl
      · rw [mV_get V (by omega), i_0I, i_eqI (by omega) (by decide)]
        intro w2
        have z1 : z = 1 := by
          rcases zz with e | e
          · rw [e] at w; exact absurd rfl w
          · exact e
        exact at36 1 (fun _ => z1.symm) fun h => absurd w2 h
  unfold wp_belongs
  intro x1 e1
  refine ⟨n + 1, ?_⟩
  rw [s1, i_ofN n, show (1 : Int32) = Int32.ofInt 1 from rfl, i_subI] at e1
  subst e1
  exact scan n 1 0 (Nat.le_refl _) (.inl ⟨rfl, rfl, fun c h1 h2 => by omega⟩)
