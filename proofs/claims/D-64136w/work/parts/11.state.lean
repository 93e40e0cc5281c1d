/-! STATES as functions: scalars, int arrays, long arrays, each by a number -/
abbrev St : Type := (Nat → Int32) × (Nat → Nat → Int32) × (Nat → Nat → Int64)
def gI (σ : St) (k : Nat) : Int32 := σ.1 k
def gA (σ : St) (k : Nat) (i : Int32) : Int32 := σ.2.1 k i.toNatClampNeg
def gL (σ : St) (k : Nat) (i : Int32) : Int64 := σ.2.2 k i.toNatClampNeg
def sI (σ : St) (k : Nat) (x : Int32) : St := (fun j => if j = k then x else σ.1 j, σ.2.1, σ.2.2)
def sA (σ : St) (k : Nat) (i x : Int32) : St := (σ.1, fun j => if j = k then upd (σ.2.1 k) i.toNatClampNeg x else σ.2.1 j, σ.2.2)
def sL (σ : St) (k : Nat) (i : Int32) (x : Int64) : St := (σ.1, σ.2.1, fun j => if j = k then vp_updL (σ.2.2 k) i.toNatClampNeg x else σ.2.2 j)
/-- a boolean -/
def isB (x : Int32) : Prop := x = 0 ∨ x = 1
theorem isB_0 : isB 0 := Or.inl rfl
theorem isB_1 : isB 1 := Or.inr rfl
theorem isB_n {x : Int32} (h : isB x) : narrow .boolean (.int x) = .int x := by
  rcases h with rfl | rfl <;> decide +kernel
theorem isB_f {x : Int32} (h : isB x) : fits .boolean (.int x) = true := by
  rcases h with rfl | rfl <;> decide +kernel
theorem isB_v {x : Int32} (h : isB x) : vp_nar .boolean x = x := by
  rcases h with rfl | rfl <;> decide +kernel
