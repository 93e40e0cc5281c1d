/-! THE COMPONENT'S STATE: a typed heap. L (addresses), kind, length, int fields, reference fields, int cells, long cells, reference cells -/
set_option maxRecDepth 100000
abbrev Hp : Type := List Nat × (Nat → Nat) × (Nat → Nat) × (Nat → Nat → Int32) × (Nat → Nat → Option Nat) × (Nat → Nat → Int32) × (Nat → Nat → Int64) × (Nat → Nat → Option Nat)
def hok (h : Hp) (a n : Nat) : Prop := a ∈ h.1 ∧ h.2.1 a = n
def hN (h : Hp) (a : Nat) : Nat := h.2.2.1 a
def hI (h : Hp) (a k : Nat) : Int32 := h.2.2.2.1 a k
def hR (h : Hp) (a k : Nat) : Option Nat := h.2.2.2.2.1 a k
def hA (h : Hp) (a : Nat) (i : Int32) : Int32 := h.2.2.2.2.2.1 a i.toNatClampNeg
def hJ (h : Hp) (a : Nat) (i : Int32) : Int64 := h.2.2.2.2.2.2.1 a i.toNatClampNeg
def hO (h : Hp) (a : Nat) (i : Int32) : Option Nat := h.2.2.2.2.2.2.2 a i.toNatClampNeg
def uI (h : Hp) (a k : Nat) (x : Int32) : Hp := (h.1, h.2.1, h.2.2.1, va_up h.2.2.2.1 a (va_up (h.2.2.2.1 a) k x), h.2.2.2.2)
def uR (h : Hp) (a k : Nat) (x : Option Nat) : Hp := (h.1, h.2.1, h.2.2.1, h.2.2.2.1, va_up h.2.2.2.2.1 a (va_up (h.2.2.2.2.1 a) k x), h.2.2.2.2.2)
/-- all cells of an int array at once -/
def uAf (h : Hp) (a : Nat) (f : Nat → Int32) : Hp := (h.1, h.2.1, h.2.2.1, h.2.2.2.1, h.2.2.2.2.1, va_up h.2.2.2.2.2.1 a f, h.2.2.2.2.2.2)
def uJf (h : Hp) (a : Nat) (f : Nat → Int64) : Hp := (h.1, h.2.1, h.2.2.1, h.2.2.2.1, h.2.2.2.2.1, h.2.2.2.2.2.1, va_up h.2.2.2.2.2.2.1 a f, h.2.2.2.2.2.2.2)
def uOf (h : Hp) (a : Nat) (f : Nat → Option Nat) : Hp := (h.1, h.2.1, h.2.2.1, h.2.2.2.1, h.2.2.2.2.1, h.2.2.2.2.2.1, h.2.2.2.2.2.2.1, va_up h.2.2.2.2.2.2.2 a f)
def uA (h : Hp) (a : Nat) (i x : Int32) : Hp := uAf h a (upd (h.2.2.2.2.2.1 a) i.toNatClampNeg x)
def uJ (h : Hp) (a : Nat) (i : Int32) (x : Int64) : Hp := uJf h a (vp_updL (h.2.2.2.2.2.2.1 a) i.toNatClampNeg x)
def uO (h : Hp) (a : Nat) (i : Int32) (x : Option Nat) : Hp := uOf h a (va_up (h.2.2.2.2.2.2.2 a) i.toNatClampNeg x)
/-- a new object of class ci; a new array of kind kd and length n -/
def nO (h : Hp) (q ci : Nat) : Hp := (h.1 ++ [q], va_up h.2.1 q ci, h.2.2.1, va_up h.2.2.2.1 q (fun _ => 0), va_up h.2.2.2.2.1 q (fun _ => none), h.2.2.2.2.2)
def nA (h : Hp) (q kd n : Nat) : Hp := (h.1 ++ [q], va_up h.2.1 q kd, va_up h.2.2.1 q n, h.2.2.2.1, h.2.2.2.2.1, va_up h.2.2.2.2.2.1 q (fun _ => 0), va_up h.2.2.2.2.2.2.1 q (fun _ => 0), va_up h.2.2.2.2.2.2.2 q (fun _ => none))
/-- which fields of a class are references -/
def tX : Nat → List Bool
  | 0 => [true, true, true, true, true, true, true, true, false, false, true, true, false, false, true, true]
  | 1 => [true, false, false, true, false, false]
  | 2 => [true, true, true, false, true, false, true, false, false, false]
  | 3 => [false, false, false, true, true, true]
  | 4 => [true, true, false, false, false]
  | 5 => [true, true, true, true, true, false, false, true, true, true, false]
  | 6 => [true, true]
  | 7 => [true, true, true, true, false, false]
  | 8 => [true, false]
  | 9 => [false, true, false, false, true, true, true, false, true, false, false, false, true, true, false, false, false, false, true, true, true, true, true, true, true, true, false, true, false, true, true, false, true, false, true, true]
  | 10 => [true, false]
  | 11 => [false, true, false]
  | _ => []
def fW (I : Nat → Int32) (R : Nat → Option Nat) (ts : List Bool) : List Value := (List.range ts.length).map (fun k => if ts.getD k false = true then va_rf (R k) else .int (I k))
def fV (h : Hp) (a : Nat) (ts : List Bool) : List Value := fW (h.2.2.2.1 a) (h.2.2.2.2.1 a) ts
/-- a cell by its kind, length, fields, cells -/
def cellAt (dA : Nat → ClassId) (kd ln : Nat) (I : Nat → Int32) (R : Nat → Option Nat) (A : Nat → Int32) (J : Nat → Int64) (O : Nat → Option Nat) : va_E :=
  if kd < 20 then .inr (kd, fW I R (tX kd)) else .inl (dA (kd - 20), ln, if kd < 23 then .inl A else if kd = 23 then .inr (.inl J) else .inr (.inr (.inr (.inr O))))
def cellOf (dA : Nat → ClassId) (h : Hp) (a : Nat) : va_E := cellAt dA (h.2.1 a) (h.2.2.1 a) (h.2.2.2.1 a) (h.2.2.2.2.1 a) (h.2.2.2.2.2.1 a) (h.2.2.2.2.2.2.1 a) (h.2.2.2.2.2.2.2 a)
def wsX (dA : Nat → ClassId) (h : Hp) : va_W := va_pl h.1 (cellOf dA h)
def tyX (dA : Nat → ClassId) : List (ClassId × FieldType) := [(dA 0, .int), (dA 1, .byte), (dA 2, .boolean), (dA 3, .long), (dA 4, .array .int), (dA 5, .array .long), (dA 6, .object "java/lang/Object"), (dA 7, .object "LeastSolutions$Found")]
theorem fV_I {h : Hp} {a k : Nat} {ts : List Bool} (ht : ts[k]? = some false) : (fV h a ts)[k]? = some (.int (hI h a k)) := by
  obtain ⟨hk, e⟩ := List.getElem?_eq_some_iff.mp ht
  simp [fV, fW, hI, hR, List.getElem?_range, hk, List.getD, e]
theorem fV_R {h : Hp} {a k : Nat} {ts : List Bool} (ht : ts[k]? = some true) : (fV h a ts)[k]? = some (va_rf (hR h a k)) := by
  obtain ⟨hk, e⟩ := List.getElem?_eq_some_iff.mp ht
  simp [fV, fW, hI, hR, List.getElem?_range, hk, List.getD, e]
theorem fV_len {h : Hp} {a : Nat} {ts : List Bool} : (fV h a ts).length = ts.length := by simp [fV, fW]
theorem fV_uI {h : Hp} {a k : Nat} {x : Int32} {ts : List Bool} (ht : ts[k]? = some false) : (fV h a ts).set k (.int x) = fV (uI h a k x) a ts := by
  have hk := (List.getElem?_eq_some_iff.mp ht).1
  refine List.ext_getElem? fun j => ?_
  rw [List.getElem?_set]
  by_cases e : k = j
  · subst e
    rw [if_pos rfl, if_pos (by rw [fV_len]; exact hk), fV_I ht]
    simp [hI, uI, va_up]
  · rw [if_neg e]
    by_cases hj : j < ts.length
    · simp [fV, fW, List.getElem?_range, hj, hI, hR, uI, va_up, Ne.symm e]
    · rw [List.getElem?_eq_none (by rw [fV_len]; omega), List.getElem?_eq_none (by rw [fV_len]; omega)]
theorem fV_uR {h : Hp} {a k : Nat} {x : Option Nat} {ts : List Bool} (ht : ts[k]? = some true) : (fV h a ts).set k (va_rf x) = fV (uR h a k x) a ts := by
  have hk := (List.getElem?_eq_some_iff.mp ht).1
  refine List.ext_getElem? fun j => ?_
  rw [List.getElem?_set]
  by_cases e : k = j
  · subst e
    rw [if_pos rfl, if_pos (by rw [fV_len]; exact hk), fV_R ht]
    simp [hR, uR, va_up]
  · rw [if_neg e]
    by_cases hj : j < ts.length
    · simp [fV, fW, List.getElem?_range, hj, hI, hR, uR, va_up, Ne.symm e]
    · rw [List.getElem?_eq_none (by rw [fV_len]; omega), List.getElem?_eq_none (by rw [fV_len]; omega)]
theorem cell_obj {dA : Nat → ClassId} {h : Hp} {a n : Nat} (ha : hok h a n) (hn : n < 20) : cellOf dA h a = .inr (n, fV h a (tX n)) := by
  unfold cellOf cellAt; rw [ha.2, if_pos hn]; rfl
theorem cell_A {dA : Nat → ClassId} {h : Hp} {a n : Nat} (ha : hok h a (20 + n)) (hn : n < 3) : cellOf dA h a = .inl (dA n, hN h a, .inl (h.2.2.2.2.2.1 a)) := by
  unfold cellOf cellAt; rw [ha.2, if_neg (by omega), if_pos (by omega), Nat.add_sub_cancel_left]; rfl
theorem cell_J {dA : Nat → ClassId} {h : Hp} {a : Nat} (ha : hok h a 23) : cellOf dA h a = .inl (dA 3, hN h a, .inr (.inl (h.2.2.2.2.2.2.1 a))) := by
  unfold cellOf cellAt; rw [ha.2]; rfl
theorem cell_O {dA : Nat → ClassId} {h : Hp} {a n : Nat} (ha : hok h a (20 + n)) (hn : 4 ≤ n) : cellOf dA h a = .inl (dA n, hN h a, .inr (.inr (.inr (.inr (h.2.2.2.2.2.2.2 a))))) := by
  unfold cellOf cellAt; rw [ha.2, if_neg (by omega), if_neg (by omega), if_neg (by omega), Nat.add_sub_cancel_left]; rfl
theorem wsX_get {dA : Nat → ClassId} {h : Hp} {a : Nat} (ha : a ∈ h.1) : ∃ k : Nat, (wsX dA h)[k]? = some (a, cellOf dA h a) := by
  obtain ⟨k, hk⟩ := va_pl_get (X := []) (f := cellOf dA h) ha
  exact ⟨k, hk⟩
/-- an update of the cell at a alone, at its place -/
theorem wsX_set {dA : Nat → ClassId} {A : Nat → Prop} {h h2 : Hp} {a k : Nat} {e : va_E} (hD : va_D A (wsX dA h)) (ha : a ∈ h.1) (hk : (wsX dA h)[k]? = some (a, cellOf dA h a)) (h1 : h2.1 = h.1) (he : cellOf dA h2 a = e) (ho : ∀ b, b ≠ a → cellOf dA h2 b = cellOf dA h b) : (wsX dA h).set k (a, e) = wsX dA h2 := by
  have z := va_pl_set (X := []) (f := cellOf dA h) (e := e) hD ha hk
  refine z.trans ?_
  show va_pl h.1 _ = va_pl h2.1 _
  rw [h1]
  refine va_pl_congr fun b => ?_
  unfold va_up
  by_cases q : b = a
  · subst q; rw [if_pos rfl]; exact he.symm
  · rw [if_neg q]; exact (ho b q).symm
theorem cellOf_ne_uI {dA : Nat → ClassId} {h : Hp} {a k : Nat} {x : Int32} (b : Nat) (hb : b ≠ a) : cellOf dA (uI h a k x) b = cellOf dA h b := by
  simp only [cellOf, uI, va_up, if_neg hb]
theorem cellOf_ne_uR {dA : Nat → ClassId} {h : Hp} {a k : Nat} {x : Option Nat} (b : Nat) (hb : b ≠ a) : cellOf dA (uR h a k x) b = cellOf dA h b := by
  simp only [cellOf, uR, va_up, if_neg hb]
theorem cellOf_ne_uAf {dA : Nat → ClassId} {h : Hp} {a : Nat} {f : Nat → Int32} (b : Nat) (hb : b ≠ a) : cellOf dA (uAf h a f) b = cellOf dA h b := by
  simp only [cellOf, uAf, va_up, if_neg hb]
theorem cellOf_ne_uJf {dA : Nat → ClassId} {h : Hp} {a : Nat} {f : Nat → Int64} (b : Nat) (hb : b ≠ a) : cellOf dA (uJf h a f) b = cellOf dA h b := by
  simp only [cellOf, uJf, va_up, if_neg hb]
theorem cellOf_ne_uOf {dA : Nat → ClassId} {h : Hp} {a : Nat} {f : Nat → Option Nat} (b : Nat) (hb : b ≠ a) : cellOf dA (uOf h a f) b = cellOf dA h b := by
  simp only [cellOf, uOf, va_up, if_neg hb]
theorem cellOf_ne_nO {dA : Nat → ClassId} {h : Hp} {q ci : Nat} (b : Nat) (hb : b ≠ q) : cellOf dA (nO h q ci) b = cellOf dA h b := by
  simp only [cellOf, nO, va_up, if_neg hb]
theorem cellOf_ne_nA {dA : Nat → ClassId} {h : Hp} {q kd n : Nat} (b : Nat) (hb : b ≠ q) : cellOf dA (nA h q kd n) b = cellOf dA h b := by
  simp only [cellOf, nA, va_up, if_neg hb]
theorem wsX_push {dA : Nat → ClassId} {h h2 : Hp} {q : Nat} {e : va_E} (hq : q ∉ h.1) (h1 : h2.1 = h.1 ++ [q]) (he : cellOf dA h2 q = e) (ho : ∀ b, b ≠ q → cellOf dA h2 b = cellOf dA h b) : wsX dA h ++ [(q, e)] = wsX dA h2 := by
  refine (va_pl_push (f := cellOf dA h) (e := e) hq).trans ?_
  show va_pl (h.1 ++ [q]) _ = va_pl h2.1 _
  rw [h1]
  refine va_pl_congr fun b => ?_
  unfold va_up
  by_cases z : b = q
  · subst z; rw [if_pos rfl]; exact he.symm
  · rw [if_neg z]; exact (ho b z).symm
theorem hok_nO {h : Hp} {q ci : Nat} : hok (nO h q ci) q ci := ⟨List.mem_append_right _ List.mem_cons_self, by simp [nO, va_up]⟩
theorem hok_nA {h : Hp} {q kd n : Nat} : hok (nA h q kd n) q kd := ⟨List.mem_append_right _ List.mem_cons_self, by simp [nA, va_up]⟩
