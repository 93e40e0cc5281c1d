/-! the twin's gather; reductions above a lead -/
theorem sp_gather {n k st f c : Nat} {V : Nat → Nat → Int} {Qr : Int32 → St → Prop} {σ : St} (hn : n ≤ 6) (hk : k ≤ 6) (hf : f < k) (hc : c < n) (h17 : gI σ 17 = Int32.ofNat n) (h31 : gI σ 31 = Int32.ofNat k) (hB : mB σ n k st V) (hX : ∀ j, f ≤ j → j < k → (V (st + j) (4 + c)).natAbs < 2 ^ 63) (q0 : (∀ j, f ≤ j → j < k → V (st + j) (4 + c) = 0) → Qr 0 σ) (q1 : ∀ σ2 V2, mFr σ σ2 → mB σ2 n k st V2 → qGath (st + f) (st + k) (4 + c) V V2 → 0 < V2 (st + f) (4 + c) → Qr 1 σ2) : wp_gather (Int32.ofNat f) (Int32.ofNat c) σ Qr := by
  unfold wp_gather
  by_cases w : ∃ j, f ≤ j ∧ j < k ∧ V (st + j) (4 + c) ≠ 0
  · obtain ⟨j, j1, j2, j3⟩ := w
    exact ⟨_, sp_gather_2 hn hk hf hc h17 h31 q1 ((V (st + j) (4 + c)).natAbs + 3) (V (st + j) (4 + c)).natAbs 0 V σ qRs_0 (mFr_refl σ) hB hX ⟨j, j1, j2, j3, Nat.le_refl _⟩ (.inl (Nat.le_refl _))⟩
  · have hz : ∀ j, f ≤ j → j < k → V (st + j) (4 + c) = 0 := fun j j1 j2 => Classical.byContradiction fun z => w ⟨j, j1, j2, z⟩
    refine ⟨1, ?_⟩
    unfold wp_gather_2
    refine ⟨fun h => absurd h (by decide), fun _ => ⟨(k - f) + 1, ?_⟩⟩
    exact sp_gather_15 hn hk hf hc h17 h31 hB hX (fun _ => q0 hz) (fun p cnt p1 p2 p3 => absurd (hz p p1 p2) p3) (k - f) f _ _ (by omega) (Nat.le_refl _) (.inl ⟨rfl, rfl, fun j j1 j2 => by omega⟩)
/-- the floor, as the twin computes it -/
theorem q_floor_neg {v l : Int} (hl : 0 < l) (hv : v < 0) : -((-v + l - 1).tdiv l) = v / l := by
  have e : (-v + l - 1).tdiv l = (-v + l - 1) / l := Int.tdiv_eq_ediv_of_nonneg (by omega)
  rw [e]
  have d1 := Int.emod_add_mul_ediv v l
  have r1 := Int.emod_nonneg v (show l ≠ 0 by omega)
  have r2 := Int.emod_lt_of_pos v hl
  have d2 := Int.emod_add_mul_ediv (-v + l - 1) l
  have s1 := Int.emod_nonneg (-v + l - 1) (show l ≠ 0 by omega)
  have s2 := Int.emod_lt_of_pos (-v + l - 1) hl
  generalize v / l = a at *
  generalize (-v + l - 1) / l = b at *
  generalize v % l = r at *
  generalize (-v + l - 1) % l = s at *
  -- l (a + b) = l - 1 - r - s
  have k : l * (a + b) = l - 1 - r - s := by rw [Int.mul_add]; omega
  have k1 : l * (a + b) < l * 1 := by omega
  have k2 : l * (-1) < l * (a + b) := by omega
  have := Int.lt_of_mul_lt_mul_left k1 (by omega)
  have := Int.lt_of_mul_lt_mul_left k2 (by omega)
  omega
theorem q_floor {v l : Int} (hl : 0 < l) : 0 ≤ v - v / l * l ∧ v - v / l * l < l := by
  have d1 := Int.emod_add_mul_ediv v l
  have r1 := Int.emod_nonneg v (show l ≠ 0 by omega)
  have r2 := Int.emod_lt_of_pos v hl
  rw [Int.mul_comm] at d1
  omega
/-- floors of the rows z .. by the row z + s, in column c -/
def mFl (z s c : Nat) (V : Nat → Nat → Int) : Nat → Int := fun l => V (z + l) c / V (z + s) c
theorem qRed_s {z s i : Nat} {q : Nat → Int} {V : Nat → Nat → Int} {U : Nat → Nat → Int} (hU : ∀ j, U j = if z ≤ j ∧ j < z + i then qRed z s q V j else V j) (hi : i < s) : (fun j => qSub (z + s) (q i) (z + i) U j) = fun j => if z ≤ j ∧ j < z + (i + 1) then qRed z s q V j else V j := by
  funext j
  funext c
  unfold qSub
  by_cases e : j = z + i
  · subst e
    rw [if_pos rfl, if_pos (by omega), hU, hU, if_neg (by omega), if_neg (by omega), qRed_l hi]
  · rw [if_neg e, hU]
    by_cases w : z ≤ j ∧ j < z + i
    · rw [if_pos w, if_pos (by omega)]
    · rw [if_neg w, if_neg (by omega)]
theorem sp_order_31 {n k st s c : Nat} {V : Nat → Nat → Int} {Qr : St → Prop} {K4 : Int32 → Int32 → St → Prop} {σ0 : St} (hn : n ≤ 6) (hk : k ≤ 6) (hs : s < k) (hc : c < n) (h17 : gI σ0 17 = Int32.ofNat n) (hp : 0 < V (st + s) (4 + c)) (hX : ∀ j, j ≤ s → (V (st + j) (4 + c)).natAbs + (V (st + s) (4 + c)).natAbs < 2 ^ 63) (q : ∀ σ2, mFr σ0 σ2 → mB σ2 n k st (qRed st s (mFl st s (4 + c) V) V) → K4 (Int32.ofNat (s + 1)) (Int32.ofNat (c + 1)) σ2) : ∀ (d i : Nat) (σ : St) (U : Nat → Nat → Int), i + d = s → mFr σ0 σ → mB σ n k st U → (∀ j, U j = if st ≤ j ∧ j < st + i then qRed st s (mFl st s (4 + c) V) V j else V j) → wp_order_31 Qr K4 (d + 1) (Int32.ofNat s) (Int32.ofNat c) (Int32.ofNat i) σ := by
  intro d
  induction d with
  | zero =>
    intro i σ U hi fr hB hU
    have : i = s := by omega
    subst this
    unfold wp_order_31
    rw [i_le (by omega) (by omega)]
    refine ⟨fun _ x1 e1 => ?_, fun h => absurd (Nat.le_refl _) h⟩
    subst e1
    unfold wp_order_104
    intro x2 e2
    subst e2
    rw [i_one, i_one]
    have : U = qRed st i (mFl st i (4 + c) V) V := by
      funext j
      rw [hU]
      by_cases w : st ≤ j ∧ j < st + i
      · rw [if_pos w]
      · rw [if_neg w, qRed_ge (by omega)]
    exact q σ fr (this ▸ hB)
  | succ d ih =>
    intro i σ U hi fr hB hU
    unfold wp_order_31
    rw [i_le (by omega) (by omega)]
    refine ⟨fun h => by omega, fun _ => ⟨by rw [i_six, i_in (by omega)]; omega, fun y2 e2 => ⟨by rw [i_six, i_in (by omega)]; omega, fun y3 e3 => ?_⟩⟩⟩
    rw [i_six, gL_nat _ _ (by omega), hB i c (by omega) hc, hU, if_neg (by omega)] at e2
    rw [i_six, gL_nat _ _ (by omega), hB s c (by omega) hc, hU, if_neg (by omega)] at e3
    subst e2; subst e3
    have xi := hX i (by omega)
    have xs := hX s (Nat.le_refl _)
    have l0 : (0 : Int64) = Int64.ofInt 0 := rfl
    have l1 : (1 : Int64) = Int64.ofInt 1 := rfl
    have ne : ¬ Int64.ofInt (V (st + s) (4 + c)) = 0 := by
      intro h; rw [l0, l_eq (by omega) (by decide)] at h; omega
    have go : wp_order_92 Qr K4 (wp_order_31 Qr K4 (d + 1)) (Int32.ofNat s) (Int32.ofNat c) (Int32.ofNat i) (Int32.ofNat i) (Int32.ofNat s) (Int64.ofInt (V (st + i) (4 + c) / V (st + s) (4 + c))) σ := by
      unfold wp_order_92
      refine sp_lose hn hk (show i < k by omega) hs (by omega) (by rw [gI_Fr fr]; exact h17) hB fun σ2 f2 hB2 x2 ex => ?_
      subst ex
      rw [i_one]
      refine ih (i + 1) σ2 _ (by omega) (mFr_trans fr f2) hB2 fun j => ?_
      have := congrFun (qRed_s (q := mFl st s (4 + c) V) hU (show i < s by omega)) j
      exact this
    rw [lg_cmp_lt, l0, l_lt (by omega) (by decide)]
    constructor
    · intro h
      refine ⟨ne, ?_⟩
      rw [l_neg, l_add, l1, l_sub, l_div (by omega) (by omega), l_neg, q_floor_neg hp h]
      exact go
    · intro h
      refine ⟨ne, ?_⟩
      rw [l_div (by omega) (by omega), Int.tdiv_eq_ediv_of_nonneg (by omega)]
      exact go
