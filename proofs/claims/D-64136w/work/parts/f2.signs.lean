/-! READING: signs of the text, the component's scanner looks -/
def tCh (tx : Nat → Int) (len i : Nat) : Int := if i < len then tx i else -1
def tDg (tx : Nat → Int) (len i : Nat) : Bool := decide (48 ≤ tCh tx len i ∧ tCh tx len i ≤ 57)
theorem tDg_iff (tx : Nat → Int) (len i : Nat) : tDg tx len i = true ↔ 48 ≤ tCh tx len i ∧ tCh tx len i ≤ 57 := decide_eq_true_iff
/-- a text's signs are printable -/
def tFine (tx : Nat → Int) (len : Nat) : Prop := ∀ j, j < len → 32 ≤ tx j ∧ tx j ≤ 126
theorem tCh_b {tx : Nat → Int} {len : Nat} (F : tFine tx len) (i : Nat) : -1 ≤ tCh tx len i ∧ tCh tx len i ≤ 126 := by
  unfold tCh
  by_cases w : i < len
  · rw [if_pos w]; have := F i w; omega
  · rw [if_neg w]; omega
theorem xScn_uI {ow : Nat → Nat} {h : Hp} {s len : Nat} {tx : Nat → Int} (T : xScn ow h s len tx) {k : Nat} (hk : k ≠ 1) (x : Int32) : xScn ow (uI h s k x) s len tx := by
  obtain ⟨s1, s2, s3, s4, t, s5, s6, s7, s8, s9⟩ := T
  exact ⟨s1, s2, by rw [hI_uI, if_neg (fun w => hk w.2.symm)]; exact s3, s4, t, s5, s6, s7, s8, s9⟩
theorem xScn_uR {ow : Nat → Nat} {h : Hp} {s len : Nat} {tx : Nat → Int} (T : xScn ow h s len tx) {k : Nat} (hk : k ≠ 0) (x : Option Nat) : xScn ow (uR h s k x) s len tx := by
  obtain ⟨s1, s2, s3, s4, t, s5, s6, s7, s8, s9⟩ := T
  exact ⟨s1, s2, s3, s4, t, by rw [hR_uR, if_neg (fun w => hk w.2.symm)]; exact s5, s6, s7, s8, s9⟩
theorem sp_X2_at {ev ow : Nat → Nat} {h : Hp} {s len i : Nat} {tx : Nat → Int} {Q : Int32 → Hp → Prop} (T : xScn ow h s len tx) (hi : i < 1000) (q : Q (Int32.ofInt (tCh tx len i)) h) : wp_X2_at ev h s (Int32.ofNat i) Q := by
  obtain ⟨s1, s2, s3, s4, t, s5, s6, s7, s8, s9⟩ := T
  unfold wp_X2_at wp_X2_at_18
  unfold tCh at q
  rw [s3, i_le (by omega) (by omega)]
  refine ⟨s1, fun w => by rw [if_neg (by omega)] at q; exact q, fun w => ⟨s1, t, s5, s6, by rw [s8]; exact (i_in (by omega)).mpr (by omega), ?_⟩⟩
  rw [if_pos (by omega)] at q
  rw [s9 i (by omega)]; exact q
theorem sp_X2_isDigit {ev ow : Nat → Nat} {h : Hp} {s len i : Nat} {tx : Nat → Int} {Q : Int32 → Hp → Prop} (T : xScn ow h s len tx) (F : tFine tx len) (hi : i < 1000) (q : Q (bI (tDg tx len i)) h) : wp_X2_isDigit ev h s (Int32.ofNat i) Q := by
  have b := tCh_b F i
  have s1 := T.1
  have c48 : (48 : Int32) = Int32.ofInt 48 := rfl
  have c57 : (57 : Int32) = Int32.ofInt 57 := rfl
  have no : ¬ (48 ≤ tCh tx len i ∧ tCh tx len i ≤ 57) → Q 0 h := fun hn => by
    rw [show tDg tx len i = false from decide_eq_false hn] at q; exact q
  unfold wp_X2_isDigit wp_X2_isDigit_24 wp_X2_isDigit_25
  refine ⟨s1, sp_X2_at T hi ?_⟩
  rw [c48, i_ltI (by omega) (by decide)]
  refine ⟨fun w => ⟨isB_0, no (by omega)⟩, fun w => ⟨s1, sp_X2_at T hi ?_⟩⟩
  rw [c57, i_ltI (by decide) (by omega)]
  refine ⟨fun w2 => ⟨isB_0, no (by omega)⟩, fun w2 => ⟨isB_1, ?_⟩⟩
  rw [(tDg_iff tx len i).mpr ⟨by omega, by omega⟩] at q; exact q
/-- a run of digits: where it ends, what it makes -/
def tRun (tx : Nat → Int) (len : Nat) : Nat → Nat → Int → Nat × Int
  | 0, i, v => (i, v)
  | f + 1, i, v => if tDg tx len i = true then tRun tx len f (i + 1) (10 * v + tCh tx len i - 48) else (i, v)
theorem tRun_b (tx : Nat → Int) (len : Nat) : ∀ (f i : Nat) (v : Int), i ≤ len → i ≤ (tRun tx len f i v).1 ∧ (tRun tx len f i v).1 ≤ len := by
  intro f
  induction f with
  | zero => intro i v h; exact ⟨Nat.le_refl _, h⟩
  | succ f ih =>
    intro i v h
    unfold tRun
    by_cases w : tDg tx len i = true
    · rw [if_pos w]
      have : i < len := by
        apply Classical.byContradiction
        intro y
        have := (tDg_iff tx len i).mp w
        unfold tCh at this
        rw [if_neg y] at this; omega
      have := ih (i + 1) (10 * v + tCh tx len i - 48) (by omega)
      omega
    · rw [if_neg w]; exact ⟨Nat.le_refl _, h⟩
