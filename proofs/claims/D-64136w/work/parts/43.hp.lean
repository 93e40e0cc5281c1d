/-! PLAIN: reading the typed heap behind a write -/
theorem L_uI (h : Hp) (a : Nat) (k : Nat) (x : Int32) : (uI h a k x).1 = h.1 := rfl
theorem hok_uI (h : Hp) (a : Nat) (k : Nat) (x : Int32) (c n : Nat) : hok (uI h a k x) c n ↔ hok h c n := Iff.rfl
theorem hN_uI (h : Hp) (a : Nat) (k : Nat) (x : Int32) (c : Nat) : hN (uI h a k x) c = hN h c := rfl
theorem hR_uI (h : Hp) (a : Nat) (k : Nat) (x : Int32) (c j : Nat) : hR (uI h a k x) c j = hR h c j := rfl
theorem hA_uI (h : Hp) (a : Nat) (k : Nat) (x : Int32) (c : Nat) (j : Int32) : hA (uI h a k x) c j = hA h c j := rfl
theorem hJ_uI (h : Hp) (a : Nat) (k : Nat) (x : Int32) (c : Nat) (j : Int32) : hJ (uI h a k x) c j = hJ h c j := rfl
theorem hO_uI (h : Hp) (a : Nat) (k : Nat) (x : Int32) (c : Nat) (j : Int32) : hO (uI h a k x) c j = hO h c j := rfl
theorem L_uR (h : Hp) (a : Nat) (k : Nat) (x : Option Nat) : (uR h a k x).1 = h.1 := rfl
theorem hok_uR (h : Hp) (a : Nat) (k : Nat) (x : Option Nat) (c n : Nat) : hok (uR h a k x) c n ↔ hok h c n := Iff.rfl
theorem hN_uR (h : Hp) (a : Nat) (k : Nat) (x : Option Nat) (c : Nat) : hN (uR h a k x) c = hN h c := rfl
theorem hI_uR (h : Hp) (a : Nat) (k : Nat) (x : Option Nat) (c j : Nat) : hI (uR h a k x) c j = hI h c j := rfl
theorem hA_uR (h : Hp) (a : Nat) (k : Nat) (x : Option Nat) (c : Nat) (j : Int32) : hA (uR h a k x) c j = hA h c j := rfl
theorem hJ_uR (h : Hp) (a : Nat) (k : Nat) (x : Option Nat) (c : Nat) (j : Int32) : hJ (uR h a k x) c j = hJ h c j := rfl
theorem hO_uR (h : Hp) (a : Nat) (k : Nat) (x : Option Nat) (c : Nat) (j : Int32) : hO (uR h a k x) c j = hO h c j := rfl
theorem L_uAf (h : Hp) (a : Nat) (g : Nat → Int32) : (uAf h a g).1 = h.1 := rfl
theorem hok_uAf (h : Hp) (a : Nat) (g : Nat → Int32) (c n : Nat) : hok (uAf h a g) c n ↔ hok h c n := Iff.rfl
theorem hN_uAf (h : Hp) (a : Nat) (g : Nat → Int32) (c : Nat) : hN (uAf h a g) c = hN h c := rfl
theorem hI_uAf (h : Hp) (a : Nat) (g : Nat → Int32) (c j : Nat) : hI (uAf h a g) c j = hI h c j := rfl
theorem hR_uAf (h : Hp) (a : Nat) (g : Nat → Int32) (c j : Nat) : hR (uAf h a g) c j = hR h c j := rfl
theorem hJ_uAf (h : Hp) (a : Nat) (g : Nat → Int32) (c : Nat) (j : Int32) : hJ (uAf h a g) c j = hJ h c j := rfl
theorem hO_uAf (h : Hp) (a : Nat) (g : Nat → Int32) (c : Nat) (j : Int32) : hO (uAf h a g) c j = hO h c j := rfl
theorem L_uJf (h : Hp) (a : Nat) (g : Nat → Int64) : (uJf h a g).1 = h.1 := rfl
theorem hok_uJf (h : Hp) (a : Nat) (g : Nat → Int64) (c n : Nat) : hok (uJf h a g) c n ↔ hok h c n := Iff.rfl
theorem hN_uJf (h : Hp) (a : Nat) (g : Nat → Int64) (c : Nat) : hN (uJf h a g) c = hN h c := rfl
theorem hI_uJf (h : Hp) (a : Nat) (g : Nat → Int64) (c j : Nat) : hI (uJf h a g) c j = hI h c j := rfl
theorem hR_uJf (h : Hp) (a : Nat) (g : Nat → Int64) (c j : Nat) : hR (uJf h a g) c j = hR h c j := rfl
theorem hA_uJf (h : Hp) (a : Nat) (g : Nat → Int64) (c : Nat) (j : Int32) : hA (uJf h a g) c j = hA h c j := rfl
theorem hO_uJf (h : Hp) (a : Nat) (g : Nat → Int64) (c : Nat) (j : Int32) : hO (uJf h a g) c j = hO h c j := rfl
theorem L_uOf (h : Hp) (a : Nat) (g : Nat → Option Nat) : (uOf h a g).1 = h.1 := rfl
theorem hok_uOf (h : Hp) (a : Nat) (g : Nat → Option Nat) (c n : Nat) : hok (uOf h a g) c n ↔ hok h c n := Iff.rfl
theorem hN_uOf (h : Hp) (a : Nat) (g : Nat → Option Nat) (c : Nat) : hN (uOf h a g) c = hN h c := rfl
theorem hI_uOf (h : Hp) (a : Nat) (g : Nat → Option Nat) (c j : Nat) : hI (uOf h a g) c j = hI h c j := rfl
theorem hR_uOf (h : Hp) (a : Nat) (g : Nat → Option Nat) (c j : Nat) : hR (uOf h a g) c j = hR h c j := rfl
theorem hA_uOf (h : Hp) (a : Nat) (g : Nat → Option Nat) (c : Nat) (j : Int32) : hA (uOf h a g) c j = hA h c j := rfl
theorem hJ_uOf (h : Hp) (a : Nat) (g : Nat → Option Nat) (c : Nat) (j : Int32) : hJ (uOf h a g) c j = hJ h c j := rfl
theorem L_uA (h : Hp) (a : Nat) (i x : Int32) : (uA h a i x).1 = h.1 := rfl
theorem hok_uA (h : Hp) (a : Nat) (i x : Int32) (c n : Nat) : hok (uA h a i x) c n ↔ hok h c n := Iff.rfl
theorem hN_uA (h : Hp) (a : Nat) (i x : Int32) (c : Nat) : hN (uA h a i x) c = hN h c := rfl
theorem hI_uA (h : Hp) (a : Nat) (i x : Int32) (c j : Nat) : hI (uA h a i x) c j = hI h c j := rfl
theorem hR_uA (h : Hp) (a : Nat) (i x : Int32) (c j : Nat) : hR (uA h a i x) c j = hR h c j := rfl
theorem hJ_uA (h : Hp) (a : Nat) (i x : Int32) (c : Nat) (j : Int32) : hJ (uA h a i x) c j = hJ h c j := rfl
theorem hO_uA (h : Hp) (a : Nat) (i x : Int32) (c : Nat) (j : Int32) : hO (uA h a i x) c j = hO h c j := rfl
theorem L_uJ (h : Hp) (a : Nat) (i : Int32) (x : Int64) : (uJ h a i x).1 = h.1 := rfl
theorem hok_uJ (h : Hp) (a : Nat) (i : Int32) (x : Int64) (c n : Nat) : hok (uJ h a i x) c n ↔ hok h c n := Iff.rfl
theorem hN_uJ (h : Hp) (a : Nat) (i : Int32) (x : Int64) (c : Nat) : hN (uJ h a i x) c = hN h c := rfl
theorem hI_uJ (h : Hp) (a : Nat) (i : Int32) (x : Int64) (c j : Nat) : hI (uJ h a i x) c j = hI h c j := rfl
theorem hR_uJ (h : Hp) (a : Nat) (i : Int32) (x : Int64) (c j : Nat) : hR (uJ h a i x) c j = hR h c j := rfl
theorem hA_uJ (h : Hp) (a : Nat) (i : Int32) (x : Int64) (c : Nat) (j : Int32) : hA (uJ h a i x) c j = hA h c j := rfl
theorem hO_uJ (h : Hp) (a : Nat) (i : Int32) (x : Int64) (c : Nat) (j : Int32) : hO (uJ h a i x) c j = hO h c j := rfl
theorem L_uO (h : Hp) (a : Nat) (i : Int32) (x : Option Nat) : (uO h a i x).1 = h.1 := rfl
theorem hok_uO (h : Hp) (a : Nat) (i : Int32) (x : Option Nat) (c n : Nat) : hok (uO h a i x) c n ↔ hok h c n := Iff.rfl
theorem hN_uO (h : Hp) (a : Nat) (i : Int32) (x : Option Nat) (c : Nat) : hN (uO h a i x) c = hN h c := rfl
theorem hI_uO (h : Hp) (a : Nat) (i : Int32) (x : Option Nat) (c j : Nat) : hI (uO h a i x) c j = hI h c j := rfl
theorem hR_uO (h : Hp) (a : Nat) (i : Int32) (x : Option Nat) (c j : Nat) : hR (uO h a i x) c j = hR h c j := rfl
theorem hA_uO (h : Hp) (a : Nat) (i : Int32) (x : Option Nat) (c : Nat) (j : Int32) : hA (uO h a i x) c j = hA h c j := rfl
theorem hJ_uO (h : Hp) (a : Nat) (i : Int32) (x : Option Nat) (c : Nat) (j : Int32) : hJ (uO h a i x) c j = hJ h c j := rfl
theorem hI_uI (h : Hp) (a k : Nat) (x : Int32) (c j : Nat) : hI (uI h a k x) c j = if c = a ∧ j = k then x else hI h c j := by
  by_cases h1 : c = a <;> by_cases h2 : j = k <;> simp [hI, uI, va_up, h1, h2]
theorem hR_uR (h : Hp) (a k : Nat) (x : Option Nat) (c j : Nat) : hR (uR h a k x) c j = if c = a ∧ j = k then x else hR h c j := by
  by_cases h1 : c = a <;> by_cases h2 : j = k <;> simp [hR, uR, va_up, h1, h2]
theorem hA_uAf (h : Hp) (a : Nat) (w : Nat → Int32) (c : Nat) (j : Int32) : hA (uAf h a w) c j = if c = a then w j.toNatClampNeg else hA h c j := by
  by_cases h1 : c = a <;> simp [hA, uAf, va_up, h1]
theorem hJ_uJf (h : Hp) (a : Nat) (w : Nat → Int64) (c : Nat) (j : Int32) : hJ (uJf h a w) c j = if c = a then w j.toNatClampNeg else hJ h c j := by
  by_cases h1 : c = a <;> simp [hJ, uJf, va_up, h1]
theorem hO_uOf (h : Hp) (a : Nat) (w : Nat → Option Nat) (c : Nat) (j : Int32) : hO (uOf h a w) c j = if c = a then w j.toNatClampNeg else hO h c j := by
  by_cases h1 : c = a <;> simp [hO, uOf, va_up, h1]
theorem hA_uA (h : Hp) (a : Nat) (i x : Int32) (c : Nat) (j : Int32) : hA (uA h a i x) c j = if c = a ∧ j.toNatClampNeg = i.toNatClampNeg then x else hA h c j := by
  by_cases h1 : c = a <;> by_cases h2 : j.toNatClampNeg = i.toNatClampNeg <;> simp [hA, uA, uAf, va_up, upd, h1, h2]
theorem hJ_uJ (h : Hp) (a : Nat) (i : Int32) (x : Int64) (c : Nat) (j : Int32) : hJ (uJ h a i x) c j = if c = a ∧ j.toNatClampNeg = i.toNatClampNeg then x else hJ h c j := by
  by_cases h1 : c = a <;> by_cases h2 : j.toNatClampNeg = i.toNatClampNeg <;> simp [hJ, uJ, uJf, va_up, vp_updL, h1, h2]
theorem hO_uO (h : Hp) (a : Nat) (i : Int32) (x : Option Nat) (c : Nat) (j : Int32) : hO (uO h a i x) c j = if c = a ∧ j.toNatClampNeg = i.toNatClampNeg then x else hO h c j := by
  by_cases h1 : c = a <;> by_cases h2 : j.toNatClampNeg = i.toNatClampNeg <;> simp [hO, uO, uOf, va_up, h1, h2]
theorem hok_nO2 (h : Hp) (q k c n : Nat) (hq : q ∉ h.1) : hok (nO h q k) c n ↔ (c = q ∧ n = k) ∨ hok h c n := by
  by_cases h1 : c = q
  · subst h1
    constructor
    · intro z; exact Or.inl ⟨rfl, by have := z.2; simpa [nO, va_up] using this.symm⟩
    · rintro (⟨-, z⟩ | z)
      · subst z; exact hok_nO
      · exact absurd z.1 hq
  · simp [hok, nO, va_up, h1]
theorem hok_nA2 (h : Hp) (q k m c n : Nat) (hq : q ∉ h.1) : hok (nA h q k m) c n ↔ (c = q ∧ n = k) ∨ hok h c n := by
  by_cases h1 : c = q
  · subst h1
    constructor
    · intro z; exact Or.inl ⟨rfl, by have := z.2; simpa [nA, va_up] using this.symm⟩
    · rintro (⟨-, z⟩ | z)
      · subst z; exact hok_nA
      · exact absurd z.1 hq
  · simp [hok, nA, va_up, h1]
theorem L_nO (h : Hp) (q k : Nat) : (nO h q k).1 = h.1 ++ [q] := rfl
theorem L_nA (h : Hp) (q k m : Nat) : (nA h q k m).1 = h.1 ++ [q] := rfl
theorem hN_nO (h : Hp) (q k c : Nat) : hN (nO h q k) c = hN h c := rfl
theorem hN_nA (h : Hp) (q k m c : Nat) : hN (nA h q k m) c = if c = q then m else hN h c := rfl
theorem hI_nO (h : Hp) (q k c j : Nat) : hI (nO h q k) c j = if c = q then 0 else hI h c j := by
  by_cases h1 : c = q <;> simp [hI, nO, va_up, h1]
theorem hR_nO (h : Hp) (q k c j : Nat) : hR (nO h q k) c j = if c = q then none else hR h c j := by
  by_cases h1 : c = q <;> simp [hR, nO, va_up, h1]
theorem hA_nO (h : Hp) (q k c : Nat) (j : Int32) : hA (nO h q k) c j = hA h c j := rfl
theorem hJ_nO (h : Hp) (q k c : Nat) (j : Int32) : hJ (nO h q k) c j = hJ h c j := rfl
theorem hO_nO (h : Hp) (q k c : Nat) (j : Int32) : hO (nO h q k) c j = hO h c j := rfl
theorem hI_nA (h : Hp) (q k m c j : Nat) : hI (nA h q k m) c j = hI h c j := rfl
theorem hR_nA (h : Hp) (q k m c j : Nat) : hR (nA h q k m) c j = hR h c j := rfl
theorem hA_nA (h : Hp) (q k m c : Nat) (j : Int32) : hA (nA h q k m) c j = if c = q then 0 else hA h c j := by
  by_cases h1 : c = q <;> simp [hA, nA, va_up, h1]
theorem hJ_nA (h : Hp) (q k m c : Nat) (j : Int32) : hJ (nA h q k m) c j = if c = q then 0 else hJ h c j := by
  by_cases h1 : c = q <;> simp [hJ, nA, va_up, h1]
theorem hO_nA (h : Hp) (q k m c : Nat) (j : Int32) : hO (nA h q k m) c j = if c = q then none else hO h c j := by
  by_cases h1 : c = q <;> simp [hO, nA, va_up, h1]
/-- two cells of different kinds are two cells -/
theorem hok_ne {h : Hp} {a b n m : Nat} (ha : hok h a n) (hb : hok h b m) (hnm : n ≠ m) : a ≠ b := fun e => hnm (by rw [← ha.2, ← hb.2, e])
theorem hok_fresh {h : Hp} {a q n : Nat} (ha : hok h a n) (hq : q ∉ h.1) : a ≠ q := fun e => hq (e ▸ ha.1)
