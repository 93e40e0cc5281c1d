/-! NUMBERS of the machine out of plain ones -/
theorem i_nat {n : Nat} (h : n < 2147483648) : (Int32.ofNat n).toInt = n := Int32.toInt_ofNat_of_lt (by omega)
theorem i_le {a b : Nat} (ha : a < 2147483648) (hb : b < 2147483648) : Int32.ofNat a ≤ Int32.ofNat b ↔ a ≤ b := by
  rw [Int32.le_iff_toInt_le, i_nat ha, i_nat hb]; omega
theorem i_lt {a b : Nat} (ha : a < 2147483648) (hb : b < 2147483648) : Int32.ofNat a < Int32.ofNat b ↔ a < b := by
  rw [Int32.lt_iff_toInt_lt, i_nat ha, i_nat hb]; omega
theorem i_eq {a b : Nat} (ha : a < 2147483648) (hb : b < 2147483648) : Int32.ofNat a = Int32.ofNat b ↔ a = b := by
  constructor
  · intro h; have := congrArg Int32.toInt h; rw [i_nat ha, i_nat hb] at this; omega
  · intro h; rw [h]
theorem i_cl {n : Nat} (h : n < 2147483648) : (Int32.ofNat n).toNatClampNeg = n := by
  unfold Int32.toNatClampNeg; rw [i_nat h]; omega
theorem i_in {a n : Nat} (ha : a < 2147483648) : vp_in (Int32.ofNat a) n ↔ a < n := by
  unfold vp_in
  rw [i_cl ha]
  have : ¬ Int32.ofNat a < 0 := by rw [Int32.lt_iff_toInt_lt, i_nat ha]; simp
  constructor
  · intro h; omega
  · intro h k; rcases k with k | k
    · exact this k
    · omega
theorem i_add (a b : Nat) : Int32.ofNat a + Int32.ofNat b = Int32.ofNat (a + b) := (Int32.ofNat_add a b).symm
theorem i_mul (a b : Nat) : Int32.ofNat a * Int32.ofNat b = Int32.ofNat (a * b) := (Int32.ofNat_mul a b).symm
theorem i_one (a : Nat) : Int32.ofNat a + 1 = Int32.ofNat (a + 1) := i_add a 1
theorem i_six (a c : Nat) : 6 * Int32.ofNat a + Int32.ofNat c = Int32.ofNat (6 * a + c) := by
  rw [← i_add, ← i_mul]; rfl
theorem i_sev (a c : Nat) : 7 * Int32.ofNat a + Int32.ofNat c = Int32.ofNat (7 * a + c) := by
  rw [← i_add, ← i_mul]; rfl
theorem i_0 : (0 : Int32) = Int32.ofNat 0 := rfl
/-! longs -/
theorem l_add (a b : Int) : Int64.ofInt a + Int64.ofInt b = Int64.ofInt (a + b) := (Int64.ofInt_add a b).symm
theorem l_sub (a b : Int) : Int64.ofInt a - Int64.ofInt b = Int64.ofInt (a - b) := by
  rw [Int64.sub_eq_add_neg, Int.sub_eq_add_neg, Int64.ofInt_add, Int64.ofInt_neg]
theorem l_mul (a b : Int) : Int64.ofInt a * Int64.ofInt b = Int64.ofInt (a * b) := (Int64.ofInt_mul a b).symm
theorem l_neg (a : Int) : -Int64.ofInt a = Int64.ofInt (-a) := (Int64.ofInt_neg a).symm
theorem l_int {a : Int} (h : a.natAbs < 2 ^ 63) : (Int64.ofInt a).toInt = a := by
  refine Int64.toInt_ofInt_of_le ?_ ?_ <;> simp [Int64.minValue, Int64.toInt] <;> omega
theorem l_le {a b : Int} (ha : a.natAbs < 2 ^ 63) (hb : b.natAbs < 2 ^ 63) : Int64.ofInt a ≤ Int64.ofInt b ↔ a ≤ b := by
  rw [Int64.le_iff_toInt_le, l_int ha, l_int hb]
theorem l_lt {a b : Int} (ha : a.natAbs < 2 ^ 63) (hb : b.natAbs < 2 ^ 63) : Int64.ofInt a < Int64.ofInt b ↔ a < b := by
  rw [Int64.lt_iff_toInt_lt, l_int ha, l_int hb]
theorem l_eq {a b : Int} (ha : a.natAbs < 2 ^ 63) (hb : b.natAbs < 2 ^ 63) : Int64.ofInt a = Int64.ofInt b ↔ a = b := by
  constructor
  · intro h; have := congrArg Int64.toInt h; rwa [l_int ha, l_int hb] at this
  · intro h; rw [h]
theorem l_ofI (x : Int64) : Int64.ofInt x.toInt = x := Int64.ofInt_toInt x
/-- truncated division -/
theorem l_div {a b : Int} (ha : a.natAbs < 2 ^ 63) (hb : b.natAbs < 2 ^ 63) : Int64.ofInt a / Int64.ofInt b = Int64.ofInt (a.tdiv b) := by
  rw [← Int64.toInt_inj, Int64.toInt_div, l_int ha, l_int hb, Int64.toInt_ofInt]
theorem l_i2l (x : Int32) : x.toInt64 = Int64.ofInt x.toInt := by
  rw [← l_ofI x.toInt64, Int32.toInt_toInt64]
