/-! INTS out of Lean's integers -/
theorem i_ofN (n : Nat) : Int32.ofNat n = Int32.ofInt (n : Int) := (Int32.ofInt_eq_ofNat).symm
theorem i_ofI (x : Int32) : Int32.ofInt x.toInt = x := Int32.ofInt_toInt x
theorem i_int {a : Int} (h : a.natAbs < 2147483648) : (Int32.ofInt a).toInt = a := by
  refine Int32.toInt_ofInt_of_le ?_ ?_ <;> simp [Int32.minValue, Int32.toInt] <;> omega
theorem i_ltI {a b : Int} (ha : a.natAbs < 2147483648) (hb : b.natAbs < 2147483648) : Int32.ofInt a < Int32.ofInt b ↔ a < b := by
  rw [Int32.lt_iff_toInt_lt, i_int ha, i_int hb]
theorem i_leI {a b : Int} (ha : a.natAbs < 2147483648) (hb : b.natAbs < 2147483648) : Int32.ofInt a ≤ Int32.ofInt b ↔ a ≤ b := by
  rw [Int32.le_iff_toInt_le, i_int ha, i_int hb]
theorem i_eqI {a b : Int} (ha : a.natAbs < 2147483648) (hb : b.natAbs < 2147483648) : Int32.ofInt a = Int32.ofInt b ↔ a = b := by
  constructor
  · intro h; have := congrArg Int32.toInt h; rwa [i_int ha, i_int hb] at this
  · intro h; rw [h]
theorem i_addI (a b : Int) : Int32.ofInt a + Int32.ofInt b = Int32.ofInt (a + b) := (Int32.ofInt_add a b).symm
theorem i_mulI (a b : Int) : Int32.ofInt a * Int32.ofInt b = Int32.ofInt (a * b) := (Int32.ofInt_mul a b).symm
theorem i_negI (a : Int) : -Int32.ofInt a = Int32.ofInt (-a) := (Int32.ofInt_neg a).symm
theorem i_subI (a b : Int) : Int32.ofInt a - Int32.ofInt b = Int32.ofInt (a - b) := by
  rw [Int32.sub_eq_add_neg, Int.sub_eq_add_neg, Int32.ofInt_add, Int32.ofInt_neg]
theorem i_0I : (0 : Int32) = Int32.ofInt 0 := rfl
theorem i_byte {a : Int} (h : a.natAbs ≤ 100) : vp_nar .byte ((Int32.ofInt a).toInt8.toInt32) = Int32.ofInt a := by
  have key : ∀ n : Nat, n ≤ 200 → vp_nar .byte ((Int32.ofInt ((n : Int) - 100)).toInt8.toInt32) = Int32.ofInt ((n : Int) - 100) := by decide +kernel
  have := key (a + 100).toNat (by omega)
  rwa [show (((a + 100).toNat : Nat) : Int) - 100 = a by omega] at this
/-! VECTORS -/
def vSize (v : Nat → Int) : Int := qS (fun c => qab (v c)) 6
def lexB (u v : Nat → Int) : Nat → Nat → Bool
  | 0, _ => false
  | t + 1, c => if u c = v c then lexB u v t (c + 1) else decide (u c < v c)
/-- smaller first, then by columns -/
abbrev vLt (u v : Nat → Int) : Prop := vSize u < vSize v ∨ vSize u = vSize v ∧ lexB u v 6 0 = true
def vOk (v : Nat → Int) : Prop := (∀ c, c < 6 → (v c).natAbs ≤ 100) ∧ ∀ c, 6 ≤ c → v c = 0
theorem vSize_le {v : Nat → Int} (h : vOk v) : 0 ≤ vSize v ∧ vSize v ≤ 600 := by
  have a := fun c (hc : c < 6) => h.1 c hc
  have a0 := a 0 (by omega); have a1 := a 1 (by omega); have a2 := a 2 (by omega); have a3 := a 3 (by omega); have a4 := a 4 (by omega); have a5 := a 5 (by omega)
  unfold vSize qab
  simp only [qS]
  omega
/-- a vector's cells -/
def xVc (h : Hp) (a b : Nat) (v : Nat → Int) : Prop := hI h a 1 = Int32.ofInt (vSize v) ∧ (∀ c, c < 6 → hA h b (Int32.ofNat c) = Int32.ofInt (v c)) ∧ vOk v
def xVec (ow : Nat → Nat) (i : Nat) (h : Hp) (a : Nat) (v : Nat → Int) : Prop := hok h a 10 ∧ ow a = i ∧ ∃ b, hR h a 0 = some b ∧ hok h b 21 ∧ ow b = i ∧ hN h b = 6 ∧ xVc h a b v
theorem sp_X11_against {ev ow : Nat → Nat} {i j a b : Nat} {u v : Nat → Int} {h : Hp} {Q : Int32 → Hp → Prop} (U : xVec ow i h a u) (V : xVec ow j h b v) (q : ∀ r : Int32, (r < 0 ↔ vLt u v) → Q r h) : wp_X11_against ev h a b Q := by
  obtain ⟨u1, _, ub, u2, u3, _, u4, u5, u6, u7⟩ := U
  obtain ⟨v1, _, vb, v2, v3, _, v4, v5, v6, v7⟩ := V
  have su := vSize_le u7
  have sv := vSize_le v7
  have six : (6 : Int32) = Int32.ofNat 6 := rfl
  unfold wp_X11_against wp_X11_against_2
  rw [u5, v5, i_eqI (by omega) (by omega), i_subI]
  refine ⟨v1, u1, u1, v1, fun e => ⟨7, ?_⟩, fun e => ⟨u1, v1, q _ ?_⟩⟩
  · have go : ∀ (t c : Nat), c + t = 6 → (lexB u v t c = lexB u v 6 0) → wp_X11_against_2_23 ev Q (t + 1) a b (Int32.ofNat c) h := by
      intro t
      induction t with
      | zero =>
        intro c hc hl
        unfold wp_X11_against_2_23 wp_X11_against_2_50 wp_X11_against_2_73
        rw [six, i_le (by omega) (by omega), i_eq (by omega) (by omega)]
        refine ⟨fun _ => ⟨fun w => by omega, fun _ => q 0 ?_⟩, fun w => by omega⟩
        have : lexB u v 6 0 = false := by rw [← hl]; rfl
        constructor
        · intro w; exact absurd w (by decide)
        · rintro (w | w)
          · omega
          · rw [this] at w; exact absurd w.2 (by decide)
      | succ t ih =>
        intro c hc hl
        have cu := u6 c (by omega)
        have cv := v6 c (by omega)
        have bu := u7.1 c (by omega)
        have bv := v7.1 c (by omega)
        unfold wp_X11_against_2_23
        rw [six, i_le (by omega) (by omega)]
        refine ⟨fun w => by omega, fun _ => ⟨u1, ub, u2, u3, vin u4 (by omega) (by omega), v1, vb, v2, v3, vin v4 (by omega) (by omega), fun w => ?_, fun w x9 e9 => ?_⟩⟩
        · rw [cu, cv, i_eqI (by omega) (by omega)] at w
          unfold wp_X11_against_2_50 wp_X11_against_2_73
          rw [six, i_eq (by omega) (by omega)]
          refine ⟨fun _ => ⟨u1, ub, u2, u3, vin u4 (by omega) (by omega), v1, vb, v2, v3, vin v4 (by omega) (by omega), ?_⟩, fun w => by omega⟩
          rw [cu, cv, i_subI]
          refine q _ ?_
          have hd : lexB u v 6 0 = decide (u c < v c) := by rw [← hl]; unfold lexB; rw [if_neg w]
          rw [i_0I, i_ltI (by omega) (by decide)]
          constructor
          · intro x; exact .inr ⟨e, by rw [hd]; simpa using (by omega : u c < v c)⟩
          · rintro (x | x)
            · omega
            · have := x.2; rw [hd] at this; simp at this; omega
        · rw [cu, cv, i_eqI (by omega) (by omega)] at w
          subst e9
          rw [i_one]
          refine ih (c + 1) (by omega) ?_
          rw [← hl]
          show _ = if u c = v c then lexB u v t (c + 1) else _
          rw [if_pos w]
    exact go 6 0 rfl rfl
  · rw [i_0I, i_ltI (by omega) (by decide)]
    constructor
    · intro w; exact .inl (by omega)
    · rintro (w | w)
      · omega
      · exact absurd w.1 e
theorem sp_X12_isBefore {ev ow : Nat → Nat} {i j a b : Nat} {u v : Nat → Int} {h : Hp} {Q : Int32 → Hp → Prop} (U : xVec ow i h a u) (V : xVec ow j h b v) (q0 : ¬ vLt u v → Q 0 h) (q1 : vLt u v → Q 1 h) : wp_X12_isBefore ev h a b Q := by
  unfold wp_X12_isBefore wp_X12_isBefore_15
  refine ⟨U.1, sp_X11_against U V fun r hr => ⟨fun w => ⟨isB_0, q0 fun y => ?_⟩, fun w => ⟨isB_1, q1 (hr.mp ?_)⟩⟩⟩
  · have := hr.mpr y
    rw [Int32.le_iff_toInt_le] at w; rw [Int32.lt_iff_toInt_lt] at this; omega
  · rw [Int32.le_iff_toInt_le] at w; rw [Int32.lt_iff_toInt_lt]; omega
/-- below in each column -/
abbrev vBe (v x : Nat → Int) : Prop := v 0 ≤ x 0 ∧ v 1 ≤ x 1 ∧ v 2 ≤ x 2 ∧ v 3 ≤ x 3 ∧ v 4 ≤ x 4 ∧ v 5 ≤ x 5
theorem vBe_iff {v x : Nat → Int} : vBe v x ↔ ∀ c, c < 6 → v c ≤ x c := by
  constructor
  · rintro ⟨h0, h1, h2, h3, h4, h5⟩ c hc
    have : c = 0 ∨ c = 1 ∨ c = 2 ∨ c = 3 ∨ c = 4 ∨ c = 5 := by omega
    rcases this with rfl | rfl | rfl | rfl | rfl | rfl <;> assumption
  · intro h; exact ⟨h 0 (by omega), h 1 (by omega), h 2 (by omega), h 3 (by omega), h 4 (by omega), h 5 (by omega)⟩
/-- an array of six ints -/
def xA6 (h : Hp) (p : Nat) (x : Nat → Int) : Prop := hok h p 20 ∧ hN h p = 6 ∧ ∀ c, c < 6 → hA h p (Int32.ofNat c) = Int32.ofInt (x c) ∧ (x c).natAbs < 1000000000
theorem sp_X11_isIn {ev ow : Nat → Nat} {i a p : Nat} {v x : Nat → Int} {h : Hp} {Q : Int32 → Hp → Prop} (V : xVec ow i h a v) (X : xA6 h p x) (q0 : ¬ vBe v x → Q 0 h) (q1 : vBe v x → Q 1 h) : wp_X11_isIn ev h a p Q := by
  obtain ⟨v1, _, vb, v2, v3, _, v4, v5, v6, v7⟩ := V
  obtain ⟨x1, x2, x3⟩ := X
  have six : (6 : Int32) = Int32.ofNat 6 := rfl
  unfold wp_X11_isIn
  refine ⟨8, ?_⟩
  have stop : ∀ (t c : Nat), ¬ vBe v x → wp_X11_isIn_4 ev Q (t + 1) a p 0 (Int32.ofNat c) h := by
    intro t c hn
    unfold wp_X11_isIn_4 wp_X11_isIn_38
    exact ⟨fun _ => ⟨isB_0, q0 hn⟩, fun _ => ⟨fun _ => ⟨isB_0, q0 hn⟩, fun w => absurd rfl w⟩⟩
  have go : ∀ (t c : Nat), c + t = 6 → (∀ y, y < c → v y ≤ x y) → wp_X11_isIn_4 ev Q (t + 2) a p 1 (Int32.ofNat c) h := by
    intro t
    induction t with
    | zero =>
      intro c hc hl
      unfold wp_X11_isIn_4 wp_X11_isIn_38
      rw [six, i_le (by omega) (by omega)]
      exact ⟨fun _ => ⟨isB_1, q1 (vBe_iff.mpr fun y hy => hl y (by omega))⟩, fun w => by omega⟩
    | succ t ih =>
      intro c hc hl
      have bx := x3 c (by omega)
      have bv := v7.1 c (by omega)
      unfold wp_X11_isIn_4 wp_X11_isIn_31
      rw [six, i_le (by omega) (by omega)]
      refine ⟨fun w => by omega, fun _ => ⟨fun w => absurd w (by decide), fun _ => ⟨v1, vb, v2, v3, vin v4 (by omega) (by omega), x1, vin x2 (by omega) (by omega), fun w x1 e1 => ?_, fun w x1 e1 => ?_⟩⟩⟩ <;> rw [v6 c (by omega), bx.1, i_ltI (by omega) (by omega)] at w
      · subst e1
        rw [i_one]
        exact stop (t + 1) (c + 1) fun y => by have := vBe_iff.mp y c (by omega); omega
      · subst e1
        rw [i_one]
        exact ih (c + 1) (by omega) fun y hy => by
          by_cases z : y = c
          · rw [z]; omega
          · exact hl y (by omega)
  exact go 6 0 rfl fun y hy => by omega
