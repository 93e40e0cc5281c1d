/-! TYPE, both sides -/
def chV (p : Int64) (k : Nat) : Int64 := (p >>> ((8 * Int32.ofNat k).toInt64 &&& 63)) &&& 255
/-- a sign that may stand in a text -/
def chOk (p : Int64) (k : Nat) : Bool := decide (32 ≤ (chV p k).toInt ∧ (chV p k).toInt ≤ 126)
/-- the text behind n signs more -/
def txAp (tx : Nat → Int) (len : Nat) (p : Int64) (n : Nat) : Nat → Int := fun j => if len ≤ j ∧ j < len + n then (chV p (len + n - 1 - j)).toInt else tx j
theorem i_byte2 {a : Int} (h0 : 32 ≤ a) (h1 : a ≤ 126) : vp_nar .byte ((Int32.ofInt a).toInt8.toInt32) = Int32.ofInt a := by
  have key : ∀ n : Nat, n ≤ 126 → vp_nar .byte ((Int32.ofInt (n : Int)).toInt8.toInt32) = Int32.ofInt (n : Int) := by decide +kernel
  have := key a.toNat (by omega)
  rwa [show ((a.toNat : Nat) : Int) = a by omega] at this
theorem l_toI (x : Int64) (h0 : 0 ≤ x.toInt) (h1 : x.toInt < 2147483648) : x.toInt32 = Int32.ofInt x.toInt := by
  apply Int32.toInt_inj.mp
  rw [i_int (by omega), Int64.toInt_toInt32]
  rw [Int.bmod_eq_of_le (by omega) (by omega)]
def xScn (ow : Nat → Nat) (h : Hp) (s len : Nat) (tx : Nat → Int) : Prop :=
  hok h s 1 ∧ ow s = 2 ∧ hI h s 1 = Int32.ofNat len ∧ len ≤ 300 ∧ ∃ t, hR h s 0 = some t ∧ hok h t 21 ∧ ow t = 2 ∧ hN h t = 300 ∧ ∀ j, j < len → hA h t (Int32.ofNat j) = Int32.ofInt (tx j)
def mTx (σ : St) (len : Nat) (tx : Nat → Int) : Prop := gI σ 2 = Int32.ofNat len ∧ ∀ j, j < len → σ.2.1 1 j = Int32.ofInt (tx j)
def tyOk (len : Nat) (p : Int64) (n : Nat) : Prop := 1 ≤ n ∧ n ≤ 8 ∧ len + n ≤ 300 ∧ ∀ k, k < n → chOk p k = true
theorem chOk_iff (p : Int64) (k : Nat) : chOk p k = true ↔ 32 ≤ (chV p k).toInt ∧ (chV p k).toInt ≤ 126 := decide_eq_true_iff
theorem txAp_s {tx : Nat → Int} {len n c : Nat} {p : Int64} {j : Nat} (hc : c < n) : (if j = len + c then (chV p (n - 1 - c)).toInt else (fun j => if len ≤ j ∧ j < len + c then (chV p (len + n - 1 - j)).toInt else tx j) j) = (fun j => if len ≤ j ∧ j < len + (c + 1) then (chV p (len + n - 1 - j)).toInt else tx j) j := by
  by_cases z : j = len + c
  · rw [if_pos z]
    show _ = if len ≤ j ∧ j < len + (c + 1) then _ else _
    rw [if_pos ⟨by omega, by omega⟩, z]
    rw [show len + n - 1 - (len + c) = n - 1 - c by omega]
  · rw [if_neg z]
    show (if len ≤ j ∧ j < len + c then _ else _) = if len ≤ j ∧ j < len + (c + 1) then _ else _
    by_cases y : len ≤ j ∧ j < len + c
    · rw [if_pos y, if_pos ⟨y.1, by omega⟩]
    · rw [if_neg y, if_neg (by omega)]
def txMid (tx : Nat → Int) (len : Nat) (p : Int64) (n c : Nat) : Nat → Int := fun j => if len ≤ j ∧ j < len + c then (chV p (len + n - 1 - j)).toInt else tx j
theorem txMid_s {tx : Nat → Int} {len n c : Nat} {p : Int64} {j : Nat} (hc : c < n) : (if j = len + c then (chV p (n - 1 - c)).toInt else txMid tx len p n c j) = txMid tx len p n (c + 1) j := txAp_s hc
theorem sp_type {len : Nat} {tx : Nat → Int} {p1 : Int64} {p3 : Int32} {σ : St} {Q : Int32 → St → Prop} (T : mTx σ len tx) (hl : len ≤ 300) (no : (∀ n, p3 = Int32.ofNat n → ¬ tyOk len p1 n) → Q (-1) (sI σ 0 0)) (q : ∀ n σ2, p3 = Int32.ofNat n → tyOk len p1 n → (∀ k, k ≠ 0 → k ≠ 2 → gI σ2 k = gI σ k) → gI σ2 0 = 0 → σ2.2.2 = σ.2.2 → (∀ j, j ≠ 1 → σ2.2.1 j = σ.2.1 j) → mTx σ2 (len + n) (txAp tx len p1 n) → Q (Int32.ofNat (len + n)) σ2) : wp_type p1 p3 σ Q := by
  unfold wp_type wp_type_32
  intro σ1 e1
  rw [← e1] at no
  have I1 : ∀ k, k ≠ 0 → gI σ1 k = gI σ k := fun k hk => by rw [e1, gI_sI, if_neg hk]
  have bad : (∀ n, p3 = Int32.ofNat n → ¬ tyOk len p1 n) → wp_type_33 Q p1 p3 0 σ1 := by
    intro hn
    unfold wp_type_33
    refine ⟨1, ?_⟩
    unfold wp_type_38 wp_type_93
    exact ⟨fun _ => ⟨fun z => absurd rfl z, fun _ => no hn⟩, fun z => absurd rfl z⟩
  have one : (1 : Int32) = Int32.ofNat 1 := rfl
  have eight : (8 : Int32) = Int32.ofNat 8 := rfl
  have lim : (300 : Int32) = Int32.ofNat 300 := rfl
  by_cases neg : p3 < 0
  · have nf : ∀ n, p3 = Int32.ofNat n → ¬ tyOk len p1 n := by
      rintro n rfl ⟨h1, h2, _⟩
      exact i_nneg (by omega) neg
    have lt1 : p3 < 1 := by
      rw [Int32.lt_iff_toInt_lt] at neg ⊢
      have : (0 : Int32).toInt = 0 := rfl
      have : (1 : Int32).toInt = 1 := rfl
      omega
    exact ⟨fun _ => bad nf, fun z => absurd lt1 z⟩
  obtain ⟨n, nb, rfl⟩ := i_ex neg
  have un : ∀ n', Int32.ofNat n = Int32.ofNat n' → tyOk len p1 n' → n' = n := fun n' e ok => ((i_eq nb (by have := ok.2.1; omega)).mp e).symm
  have bad' : ¬ tyOk len p1 n → wp_type_33 Q p1 (Int32.ofNat n) 0 σ1 := fun hn => bad fun n' e ok => hn (by have := un n' e ok; subst this; exact ok)
  rw [one, eight, i_lt nb (by omega), i_lt (by omega) nb]
  refine ⟨fun z => bad' fun ok => by have := ok.1; omega, fun z1 => ⟨fun z => bad' fun ok => by have := ok.2.1; omega, fun z2 => ?_⟩⟩
  rw [I1 2 (by omega), T.1, i_add, lim, i_lt (by omega) (by omega)]
  refine ⟨fun z => bad' fun ok => by have := ok.2.2.1; omega, fun z3 => ?_⟩
  unfold wp_type_33
  refine ⟨n + 2, ?_⟩
  have stop : ∀ (t k : Nat), ¬ tyOk len p1 n → wp_type_38 Q (t + 1) p1 (Int32.ofNat n) 0 (Int32.ofNat k) σ1 := by
    intro t k hn
    unfold wp_type_38 wp_type_93
    exact ⟨fun _ => ⟨fun z => absurd rfl z, fun _ => no fun n' e ok => hn (by have := un n' e ok; subst this; exact ok)⟩, fun z => absurd rfl z⟩
  have put : tyOk len p1 n → ∀ (t c : Nat) (σ2 : St), c + t = n → (∀ k, k ≠ 2 → gI σ2 k = gI σ1 k) → gI σ2 2 = Int32.ofNat (len + c) → σ2.2.2 = σ.2.2 → (∀ j, j ≠ 1 → σ2.2.1 j = σ.2.1 j) → (∀ j, j < len + c → σ2.2.1 1 j = Int32.ofInt (txMid tx len p1 n c j)) → wp_type_105 Q (t + 1) p1 (Int32.ofNat t - 1) σ2 := by
    intro ok t
    induction t with
    | zero =>
      intro c σ2 hc hi h2 hl2 ha hj
      have : c = n := by omega
      subst this
      unfold wp_type_105
      refine ⟨fun _ => ?_, fun z => absurd (by decide +kernel) z⟩
      rw [h2]
      refine q c σ2 rfl ok (fun k k0 k2 => by rw [hi k k2, I1 k k0]) (by rw [hi 0 (by omega), e1, gI_sI, if_pos rfl]) hl2 ha ⟨h2, hj⟩
    | succ t ih =>
      intro c σ2 hc hi h2 hl2 ha hj
      have okc := (chOk_iff p1 t).mp (ok.2.2.2 t (by omega))
      have et : Int32.ofNat (t + 1) - 1 = Int32.ofNat t := i_sub (a := t + 1) (b := 1) (by omega)
      have et2 : Int32.ofNat t + (-1) = Int32.ofNat t - 1 := (Int32.sub_eq_add_neg _ _).symm
      unfold wp_type_105
      rw [et, h2]
      refine ⟨fun z => absurd z (i_nneg (by omega)), fun _ => ⟨(i_in (by omega)).mpr (by omega), fun σ3 e3 σ4 e4 x3 ex => ?_⟩⟩
      rw [ex, et2]
      have ch : (((p1 >>> ((8 * Int32.ofNat t).toInt64 &&& 63)) &&& 255)).toInt32 = Int32.ofInt (chV p1 t).toInt := l_toI (chV p1 t) (by omega) (by omega)
      rw [ch] at e3
      have g3 : gI σ3 2 = Int32.ofNat (len + c) := by rw [e3]; exact h2
      rw [g3, i_one] at e4
      refine ih (c + 1) σ4 (by omega) (fun k hk => ?_) ?_ ?_ (fun j hj1 => ?_) fun j hj1 => ?_
      · rw [e4, gI_sI, if_neg hk, e3]; exact hi k hk
      · rw [e4, gI_sI, if_pos rfl]; rfl
      · rw [e4, e3]; exact hl2
      · rw [e4, e3]; show (if j = 1 then _ else σ2.2.1 j) = _
        rw [if_neg hj1]; exact ha j hj1
      · rw [← txMid_s (by omega), e4]
        show σ3.2.1 1 j = _
        rw [e3, sA_nat _ _ (by omega)]
        by_cases z : j = len + c
        · rw [if_pos ⟨rfl, z⟩, if_pos z, show n - 1 - c = t by omega]
        · rw [if_neg (fun w => z w.2), if_neg z]; exact hj j (by omega)
  have go : ∀ (t k : Nat), k + t = n → (∀ k', k' < k → chOk p1 k' = true) → wp_type_38 Q (t + 2) p1 (Int32.ofNat n) 1 (Int32.ofNat k) σ1 := by
    intro t
    induction t with
    | zero =>
      intro k hk all
      unfold wp_type_38 wp_type_93
      rw [i_le nb (by omega)]
      refine ⟨fun z => absurd z (by decide), fun _ => ⟨fun _ => ⟨fun _ x1 ex => ⟨n + 1, ?_⟩, fun z => absurd z (by decide)⟩, fun z => by omega⟩⟩
      rw [ex]
      exact put ⟨by omega, by omega, by omega, fun k' h' => all k' (by omega)⟩ n 0 σ1 (by omega) (fun k _ => rfl) (by rw [I1 2 (by omega)]; exact T.1) (by rw [e1]; rfl) (fun j _ => by rw [e1]; rfl) fun j hj => by
        unfold txMid; rw [if_neg (by omega), e1]; exact T.2 j (by omega)
    | succ t ih =>
      intro k hk all
      have c32 : (32 : Int64).toInt = 32 := rfl
      have c126 : (126 : Int64).toInt = 126 := rfl
      unfold wp_type_38 wp_type_84 wp_type_85
      rw [i_le nb (by omega)]
      refine ⟨fun z => absurd z (by decide), fun _ => ⟨fun z => by omega, fun _ y1 ey => ?_⟩⟩
      have ey : y1 = chV p1 k := ey
      rw [lg_cmp_lt, lg_cmp_gt, Int64.lt_iff_toInt_lt, Int64.lt_iff_toInt_lt, ey, c32, c126]
      have nb' : ¬ (32 ≤ (chV p1 k).toInt ∧ (chV p1 k).toInt ≤ 126) → ∀ x1 : Int32, x1 = Int32.ofNat k + 1 → wp_type_38 Q (t + 2) p1 (Int32.ofNat n) 0 x1 σ1 := by
        intro hn x1 ex
        rw [ex, i_one]
        exact stop (t + 1) (k + 1) fun ok => hn ((chOk_iff p1 k).mp (ok.2.2.2 k (by omega)))
      refine ⟨fun w => nb' (by omega), fun w => ⟨fun w2 => nb' (by omega), fun w2 x1 ex => ?_⟩⟩
      rw [ex, i_one]
      refine ih (k + 1) (by omega) fun k' h' => ?_
      by_cases z : k' = k
      · rw [z]; exact (chOk_iff p1 k).mpr ⟨by omega, by omega⟩
      · exact all k' (by omega)
  exact go n 0 (by omega) fun k' h' => by omega
