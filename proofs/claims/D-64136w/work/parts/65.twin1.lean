/-! THE TWIN's solver: rows of the basis by ghost numbers V j (4 + c) (place j = st + i); what its small loops do -/
/-- basis row i holds what V (st + i) has in columns, mod 2^64 -/
def mB (σ : St) (n k st : Nat) (V : Nat → Nat → Int) : Prop := ∀ i c, i < k → c < n → σ.2.2 30 (6 * i + c) = Int64.ofInt (V (st + i) (4 + c))
/-- all but the basis -/
def mFr (σ σ2 : St) : Prop := σ2.1 = σ.1 ∧ σ2.2.1 = σ.2.1 ∧ ∀ j, j ≠ 30 → σ2.2.2 j = σ.2.2 j
theorem mFr_refl (σ : St) : mFr σ σ := ⟨rfl, rfl, fun _ _ => rfl⟩
theorem mFr_trans {σ σ2 σ3 : St} (h : mFr σ σ2) (g : mFr σ2 σ3) : mFr σ σ3 := ⟨g.1.trans h.1, g.2.1.trans h.2.1, fun j hj => (g.2.2 j hj).trans (h.2.2 j hj)⟩
theorem mFr_sL (σ : St) (i : Int32) (x : Int64) : mFr σ (sL σ 30 i x) := ⟨rfl, rfl, fun j hj => by simp [sL, hj]⟩
theorem gI_Fr {σ σ2 : St} (h : mFr σ σ2) (k : Nat) : gI σ2 k = gI σ k := by unfold gI; rw [h.1]
theorem gA_Fr {σ σ2 : St} (h : mFr σ σ2) (k : Nat) (i : Int32) : gA σ2 k i = gA σ k i := by unfold gA; rw [h.2.1]
theorem gL_nat (σ : St) (k : Nat) {i : Nat} (h : i < 2147483648) : gL σ k (Int32.ofNat i) = σ.2.2 k i := by unfold gL; rw [i_cl h]
theorem sL_nat (σ : St) (k : Nat) {i : Nat} (h : i < 2147483648) (x : Int64) (j c : Nat) : (sL σ k (Int32.ofNat i) x).2.2 j c = if j = k ∧ c = i then x else σ.2.2 j c := by
  unfold sL
  rw [i_cl h]
  by_cases e : j = k
  · subst e; simp [vp_updL]
  · simp [e]
/-- lose: row i less m times row j -/
theorem sp_lose_3 {n i j : Nat} {m : Int64} {Q : St → Prop} (hn : n ≤ 6) (hi : i < 6) (hj : j < 6) (hij : i ≠ j) : ∀ (d c : Nat) (σ : St), c + d = n → gI σ 17 = Int32.ofNat n → (∀ σ2, mFr σ σ2 → (∀ e, σ2.2.2 30 e = if 6 * i + c ≤ e ∧ e < 6 * i + n then σ.2.2 30 e - m * σ.2.2 30 (6 * j + (e - 6 * i)) else σ.2.2 30 e) → Q σ2) → wp_lose_3 Q (d + 1) (Int32.ofNat i) (Int32.ofNat j) m (Int32.ofNat c) σ := by
  intro d
  induction d with
  | zero =>
    intro c σ hc h17 k
    unfold wp_lose_3
    rw [h17, i_le (by omega) (by omega)]
    refine ⟨fun _ => k σ (mFr_refl σ) fun e => ?_, fun h => absurd (by omega) h⟩
    rw [if_neg (by omega)]
  | succ d ih =>
    intro c σ hc h17 k
    unfold wp_lose_3
    rw [h17, i_le (by omega) (by omega)]
    refine ⟨fun h => by omega, fun _ => ⟨?_, ?_, ?_, ?_⟩⟩
    · rw [i_six, i_in (by omega)]; omega
    · rw [i_six, i_in (by omega)]; omega
    · rw [i_six, i_in (by omega)]; omega
    intro σ1 e1 x2 e2
    subst e2
    rw [i_one]
    have fr : mFr σ σ1 := by rw [e1]; exact mFr_sL _ _ _
    refine ih (c + 1) σ1 (by omega) (by rw [gI_Fr fr]; exact h17) fun σ2 f2 h2 => k σ2 (mFr_trans fr f2) fun e => ?_
    rw [h2]
    rw [i_six, i_six, gL_nat _ _ (by omega), gL_nat _ _ (by omega)] at e1
    have r : ∀ a, σ1.2.2 30 a = if a = 6 * i + c then σ.2.2 30 (6 * i + c) - m * σ.2.2 30 (6 * j + c) else σ.2.2 30 a := fun a => by
      rw [e1, sL_nat _ _ (by omega)]; simp
    by_cases h1 : e = 6 * i + c
    · subst h1
      rw [if_neg (by omega), if_pos (by omega), r, if_pos rfl, show 6 * i + c - 6 * i = c by omega]
    · by_cases h3 : 6 * i + (c + 1) ≤ e ∧ e < 6 * i + n
      · rw [if_pos h3, if_pos (by omega), r, r, if_neg h1, if_neg (by omega)]
      · rw [if_neg h3, if_neg (by omega), r, if_neg h1]
theorem sp_lose_raw {n i j : Nat} {m : Int64} {Q : St → Prop} {σ : St} (hn : n ≤ 6) (hi : i < 6) (hj : j < 6) (hij : i ≠ j) (h17 : gI σ 17 = Int32.ofNat n) (k : ∀ σ2, mFr σ σ2 → (∀ e, σ2.2.2 30 e = if 6 * i ≤ e ∧ e < 6 * i + n then σ.2.2 30 e - m * σ.2.2 30 (6 * j + (e - 6 * i)) else σ.2.2 30 e) → Q σ2) : wp_lose (Int32.ofNat i) (Int32.ofNat j) m σ Q :=
  ⟨n + 1, sp_lose_3 hn hi hj hij n 0 σ (by omega) h17 k⟩
/-- row j loses m times row f -/
def qSub (f : Nat) (m : Int) (p : Nat) (V : Nat → Nat → Int) : Nat → Nat → Int := fun j c => if j = p then V j c - m * V f c else V j c
theorem sp_lose {n k st i j : Nat} {V : Nat → Nat → Int} {m : Int} {Q : St → Prop} {σ : St} (hn : n ≤ 6) (hk : k ≤ 6) (hi : i < k) (hj : j < k) (hij : i ≠ j) (h17 : gI σ 17 = Int32.ofNat n) (hB : mB σ n k st V) (q : ∀ σ2, mFr σ σ2 → mB σ2 n k st (qSub (st + j) m (st + i) V) → Q σ2) : wp_lose (Int32.ofNat i) (Int32.ofNat j) (Int64.ofInt m) σ Q := by
  refine sp_lose_raw hn (by omega) (by omega) hij h17 fun σ2 fr h2 => q σ2 fr ?_
  intro a c ha hc
  rw [h2]
  unfold qSub
  by_cases e : a = i
  · subst e
    rw [if_pos (by omega), if_pos rfl, hB a c ha hc, show 6 * a + c - 6 * a = c by omega, hB j c hj hc, l_mul, l_sub]
  · rw [if_neg (by omega), if_neg (by omega), hB a c ha hc]
theorem sp_turn_2 {n i : Nat} {Q : St → Prop} (hn : n ≤ 6) (hi : i < 6) : ∀ (d c : Nat) (σ : St), c + d = n → gI σ 17 = Int32.ofNat n → (∀ σ2, mFr σ σ2 → (∀ e, σ2.2.2 30 e = if 6 * i + c ≤ e ∧ e < 6 * i + n then -σ.2.2 30 e else σ.2.2 30 e) → Q σ2) → wp_turn_2 Q (d + 1) (Int32.ofNat i) (Int32.ofNat c) σ := by
  intro d
  induction d with
  | zero =>
    intro c σ hc h17 k
    unfold wp_turn_2
    rw [h17, i_le (by omega) (by omega)]
    exact ⟨fun _ => k σ (mFr_refl σ) fun e => by rw [if_neg (by omega)], fun h => absurd (by omega) h⟩
  | succ d ih =>
    intro c σ hc h17 k
    unfold wp_turn_2
    rw [h17, i_le (by omega) (by omega)]
    refine ⟨fun h => by omega, fun _ => ⟨?_, ?_, ?_⟩⟩
    · rw [i_six, i_in (by omega)]; omega
    · rw [i_six, i_in (by omega)]; omega
    intro σ1 e1 x2 e2
    subst e2
    rw [i_one]
    have fr : mFr σ σ1 := by rw [e1]; exact mFr_sL _ _ _
    refine ih (c + 1) σ1 (by omega) (by rw [gI_Fr fr]; exact h17) fun σ2 f2 h2 => k σ2 (mFr_trans fr f2) fun e => ?_
    rw [h2]
    rw [i_six, gL_nat _ _ (by omega)] at e1
    have r : ∀ a, σ1.2.2 30 a = if a = 6 * i + c then -σ.2.2 30 (6 * i + c) else σ.2.2 30 a := fun a => by
      rw [e1, sL_nat _ _ (by omega)]; simp
    by_cases h1 : e = 6 * i + c
    · subst h1; rw [if_neg (by omega), if_pos (by omega), r, if_pos rfl]
    · by_cases h3 : 6 * i + (c + 1) ≤ e ∧ e < 6 * i + n
      · rw [if_pos h3, if_pos (by omega), r, if_neg h1]
      · rw [if_neg h3, if_neg (by omega), r, if_neg h1]
def qNeg (p : Nat) (V : Nat → Nat → Int) : Nat → Nat → Int := fun j c => if j = p then -V j c else V j c
theorem sp_turn {n k st i : Nat} {V : Nat → Nat → Int} {Q : St → Prop} {σ : St} (hn : n ≤ 6) (hk : k ≤ 6) (hi : i < k) (h17 : gI σ 17 = Int32.ofNat n) (hB : mB σ n k st V) (q : ∀ σ2, mFr σ σ2 → mB σ2 n k st (qNeg (st + i) V) → Q σ2) : wp_turn (Int32.ofNat i) σ Q := by
  refine ⟨n + 1, sp_turn_2 hn (by omega) n 0 σ (by omega) h17 fun σ2 fr h2 => q σ2 fr ?_⟩
  intro a c ha hc
  rw [h2]
  unfold qNeg
  by_cases e : a = i
  · subst e; rw [if_pos (by omega), if_pos rfl, hB a c ha hc, l_neg]
  · rw [if_neg (by omega), if_neg (by omega), hB a c ha hc]
theorem sp_exchange_2 {n i j : Nat} {Q : St → Prop} (hn : n ≤ 6) (hi : i < 6) (hj : j < 6) : ∀ (d c : Nat) (σ : St), c + d = n → gI σ 17 = Int32.ofNat n → (∀ σ2, mFr σ σ2 → (∀ a e, a < 6 → e < 6 → σ2.2.2 30 (6 * a + e) = if c ≤ e ∧ e < n then σ.2.2 30 (6 * qw i j a + e) else σ.2.2 30 (6 * a + e)) → Q σ2) → wp_exchange_2 Q (d + 1) (Int32.ofNat i) (Int32.ofNat j) (Int32.ofNat c) σ := by
  intro d
  induction d with
  | zero =>
    intro c σ hc h17 k
    unfold wp_exchange_2
    rw [h17, i_le (by omega) (by omega)]
    exact ⟨fun _ => k σ (mFr_refl σ) fun a e _ _ => by rw [if_neg (by omega)], fun h => absurd (by omega) h⟩
  | succ d ih =>
    intro c σ hc h17 k
    unfold wp_exchange_2
    rw [h17, i_le (by omega) (by omega)]
    refine ⟨fun h => by omega, fun _ => ⟨?_, fun y1 ey => ⟨?_, ?_, ?_⟩⟩⟩
    · rw [i_six, i_in (by omega)]; omega
    · rw [i_six, i_in (by omega)]; omega
    · rw [i_six, i_in (by omega)]; omega
    intro s1 e1
    refine ⟨by rw [i_six, i_in (by omega)]; omega, fun s2 e2 x4 e4 => ?_⟩
    subst e4
    rw [i_one]
    have f1 : mFr σ s1 := by rw [e1]; exact mFr_sL _ _ _
    have fr : mFr σ s2 := mFr_trans f1 (by rw [e2]; exact mFr_sL _ _ _)
    refine ih (c + 1) s2 (by omega) (by rw [gI_Fr fr]; exact h17) fun σ2 f2 h2 => k σ2 (mFr_trans fr f2) fun a e ha he => ?_
    rw [h2 a e ha he]
    rw [i_six, gL_nat _ _ (by omega)] at ey
    rw [i_six, i_six, gL_nat _ _ (by omega)] at e1
    rw [i_six] at e2
    have r1 : ∀ a, s1.2.2 30 a = if a = 6 * i + c then σ.2.2 30 (6 * j + c) else σ.2.2 30 a := fun a => by
      rw [e1, sL_nat _ _ (by omega)]; simp
    have r : ∀ a, s2.2.2 30 a = if a = 6 * j + c then y1 else if a = 6 * i + c then σ.2.2 30 (6 * j + c) else σ.2.2 30 a := fun a => by
      rw [e2, sL_nat _ _ (by omega), r1]; simp
    have rj : qw i j a < 6 := by unfold qw; split <;> (try split) <;> omega
    by_cases h1 : e = c
    · subst h1
      rw [if_neg (by omega), if_pos (by omega), r, ey]
      unfold qw
      by_cases x1 : a = i
      · rw [if_pos x1]; subst x1
        by_cases x2 : a = j
        · subst x2; rw [if_pos rfl]
        · rw [if_neg (by omega), if_pos rfl]
      · rw [if_neg x1]
        by_cases x2 : a = j
        · rw [if_pos x2]; subst x2; rw [if_pos rfl]
        · rw [if_neg x2, if_neg (by omega), if_neg (by omega)]
    · by_cases h3 : c + 1 ≤ e ∧ e < n
      · rw [if_pos h3, if_pos (by omega), r, if_neg (by omega), if_neg (by omega)]
      · rw [if_neg h3, if_neg (by omega), r, if_neg (by omega), if_neg (by omega)]
def qEx (f p : Nat) (V : Nat → Nat → Int) : Nat → Nat → Int := fun j => V (qw f p j)
theorem qw_sh (st i j a : Nat) : st + qw i j a = qw (st + i) (st + j) (st + a) := by
  unfold qw
  by_cases x1 : a = i
  · rw [if_pos x1, if_pos (show st + a = st + i by omega)]
  · rw [if_neg x1, if_neg (show ¬ st + a = st + i by omega)]
    by_cases x2 : a = j
    · rw [if_pos x2, if_pos (show st + a = st + j by omega)]
    · rw [if_neg x2, if_neg (show ¬ st + a = st + j by omega)]
theorem sp_exchange {n k st i j : Nat} {V : Nat → Nat → Int} {Q : St → Prop} {σ : St} (hn : n ≤ 6) (hk : k ≤ 6) (hi : i < k) (hj : j < k) (h17 : gI σ 17 = Int32.ofNat n) (hB : mB σ n k st V) (q : ∀ σ2, mFr σ σ2 → mB σ2 n k st (qEx (st + i) (st + j) V) → Q σ2) : wp_exchange (Int32.ofNat i) (Int32.ofNat j) σ Q := by
  refine ⟨n + 1, sp_exchange_2 hn (by omega) (by omega) n 0 σ (by omega) h17 fun σ2 fr h2 => q σ2 fr ?_⟩
  intro a c ha hc
  rw [h2 a c (by omega) (by omega), if_pos (by omega), hB _ c (qw_lt hi hj ha) hc]
  unfold qEx
  rw [qw_sh]
/-- the row's numbers -/
def mA (σ : St) (r c : Nat) : Int := (σ.2.1 19 (7 * r + c)).toInt
theorem gA_nat (σ : St) (k : Nat) {i : Nat} (h : i < 2147483648) : gA σ k (Int32.ofNat i) = σ.2.1 k i := by unfold gA; rw [i_cl h]
theorem sp_dot_30_6 {n r i : Nat} {Q : Int64 → St → Prop} {σ : St} {v : Nat → Int} (hn : n ≤ 6) (hr : r < 4) (hi : i < 6) (h17 : gI σ 17 = Int32.ofNat n) (hB : ∀ c, c < n → σ.2.2 30 (6 * i + c) = Int64.ofInt (v c)) (k : Q (Int64.ofInt (qS (fun c => mA σ r c * v c) n)) σ) : ∀ (d c : Nat), c + d = n → wp_dot_30_6 Q (d + 1) (Int32.ofNat r) (Int32.ofNat (6 * i)) (Int64.ofInt (qS (fun c => mA σ r c * v c) c)) (Int32.ofNat c) σ := by
  intro d
  induction d with
  | zero =>
    intro c hc
    unfold wp_dot_30_6
    rw [h17, i_le (by omega) (by omega)]
    have : c = n := by omega
    subst this
    exact ⟨fun _ => k, fun h => absurd (Nat.le_refl _) h⟩
  | succ d ih =>
    intro c hc
    unfold wp_dot_30_6
    rw [h17, i_le (by omega) (by omega)]
    refine ⟨fun h => by omega, fun _ => ⟨?_, ?_, ?_⟩⟩
    · rw [i_sev, i_in (by omega)]; omega
    · rw [i_add, i_in (by omega)]; omega
    intro y1 e1 x2 e2
    subst e2
    rw [i_one]
    rw [i_sev, gA_nat _ _ (by omega), i_add, gL_nat _ _ (by omega), hB c (by omega), l_i2l, l_mul, l_add] at e1
    subst e1
    exact ih (c + 1) (by omega)
theorem sp_dot_30 {n r i : Nat} {Q : Int64 → St → Prop} {σ : St} {v : Nat → Int} (hn : n ≤ 6) (hr : r < 4) (hi : i < 6) (h17 : gI σ 17 = Int32.ofNat n) (hB : ∀ c, c < n → σ.2.2 30 (6 * i + c) = Int64.ofInt (v c)) (k : Q (Int64.ofInt (qS (fun c => mA σ r c * v c) n)) σ) : wp_dot_30 (Int32.ofNat r) (Int32.ofNat (6 * i)) σ Q :=
  ⟨n + 1, sp_dot_30_6 hn hr hi h17 hB k n 0 (by omega)⟩
theorem sp_dot_32_6 {n r : Nat} {Q : Int64 → St → Prop} {σ : St} {v : Nat → Int} (hn : n ≤ 6) (hr : r < 4) (h17 : gI σ 17 = Int32.ofNat n) (hB : ∀ c, c < n → σ.2.2 32 c = Int64.ofInt (v c)) (k : Q (Int64.ofInt (qS (fun c => mA σ r c * v c) n)) σ) : ∀ (d c : Nat), c + d = n → wp_dot_32_6 Q (d + 1) (Int32.ofNat r) (Int32.ofNat 0) (Int64.ofInt (qS (fun c => mA σ r c * v c) c)) (Int32.ofNat c) σ := by
  intro d
  induction d with
  | zero =>
    intro c hc
    unfold wp_dot_32_6
    rw [h17, i_le (by omega) (by omega)]
    have : c = n := by omega
    subst this
    exact ⟨fun _ => k, fun h => absurd (Nat.le_refl _) h⟩
  | succ d ih =>
    intro c hc
    unfold wp_dot_32_6
    rw [h17, i_le (by omega) (by omega)]
    refine ⟨fun h => by omega, fun _ => ⟨?_, ?_, ?_⟩⟩
    · rw [i_sev, i_in (by omega)]; omega
    · rw [i_add, i_in (by omega)]; omega
    intro y1 e1 x2 e2
    subst e2
    rw [i_one]
    rw [i_sev, gA_nat _ _ (by omega), i_add, gL_nat _ _ (by omega), Nat.zero_add, hB c (by omega), l_i2l, l_mul, l_add] at e1
    subst e1
    exact ih (c + 1) (by omega)
theorem sp_dot_32 {n r : Nat} {Q : Int64 → St → Prop} {σ : St} {v : Nat → Int} (hn : n ≤ 6) (hr : r < 4) (h17 : gI σ 17 = Int32.ofNat n) (hB : ∀ c, c < n → σ.2.2 32 c = Int64.ofInt (v c)) (k : Q (Int64.ofInt (qS (fun c => mA σ r c * v c) n)) σ) : wp_dot_32 (Int32.ofNat r) 0 σ Q :=
  ⟨n + 1, sp_dot_32_6 hn hr h17 hB k n 0 (by omega)⟩
theorem sp_size {z : Int} {Q : Int64 → St → Prop} {σ : St} (hz : z.natAbs < 2 ^ 63) (k : Q (Int64.ofInt z.natAbs) σ) : wp_size (Int64.ofInt z) σ Q := by
  unfold wp_size wp_size_12
  have z0 : (0 : Int64) = Int64.ofInt 0 := rfl
  rw [lg_cmp_ge, z0, l_le (by decide) hz]
  constructor
  · intro h; rwa [show z = (z.natAbs : Int) by omega]
  · intro h; rw [l_neg]; rwa [show -z = (z.natAbs : Int) by omega]
