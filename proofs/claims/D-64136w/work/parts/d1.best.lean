/-! THE BEST ONE: plain -/
def bP (A : Nat → Nat → Int) (R n bd : Nat) (v : Vc) : Prop := (∀ c, c < 6 → 0 ≤ v c) ∧ (∀ c, n ≤ c → v c = 0) ∧ qS v 6 ≤ bd ∧ gZ A R n u1 true v
def bCo (co v : Vc) : Int := qS (fun c => co c * v c) 6
/-- the best one of a set: cheapest, and of these the first -/
def bIs (E : Vc → Prop) (co v : Vc) : Prop := E v ∧ ∀ u, E u → bCo co v < bCo co u ∨ bCo co v = bCo co u ∧ (v = u ∨ vLx v u)
def bO (E : Vc → Prop) (co : Vc) (fo : Bool) (bv : Vc) : Prop := if fo = true then bIs E co bv else ∀ u, ¬ E u
theorem bO_congr {E F : Vc → Prop} {co bv : Vc} {fo : Bool} (h : ∀ u, E u ↔ F u) (o : bO E co fo bv) : bO F co fo bv := by
  unfold bO at o ⊢
  split
  · rename_i y
    rw [if_pos y] at o
    exact ⟨(h bv).mp o.1, fun u hu => o.2 u ((h u).mpr hu)⟩
  · rename_i y
    rw [if_neg y] at o
    exact fun u hu => o u ((h u).mpr hu)
theorem bIs_eq {E : Vc → Prop} {co v w : Vc} (h : bIs E co v) (g : bIs E co w) : v = w := by
  rcases h.2 w g.1 with a | ⟨a, a2⟩
  · rcases g.2 v h.1 with b | ⟨b, _⟩
    · omega
    · omega
  · rcases a2 with a2 | a2
    · exact a2
    · rcases g.2 v h.1 with b | ⟨_, b | b⟩
      · omega
      · exact b.symm
      · exact absurd (vLx_trans a2 b) (vLx_irr v)
theorem bO_eq {E : Vc → Prop} {co v w : Vc} {f g : Bool} (h : bO E co f v) (k : bO E co g w) : f = g ∧ (f = true → v = w) := by
  unfold bO at h k
  cases f <;> cases g <;> simp at h k ⊢
  · exact h w k.1
  · exact k v h.1
  · exact bIs_eq h k
/-- one more -/
theorem bO_new {E F : Vc → Prop} {co bv x : Vc} {fo : Bool} (o : bO E co fo bv) (h : ∀ u, F u ↔ E u ∨ u = x) (b : fo = true → bCo co x < bCo co bv ∨ bCo co x = bCo co bv ∧ vLx x bv) : bO F co true x := by
  unfold bO at o ⊢
  rw [if_pos rfl]
  refine ⟨(h x).mpr (.inr rfl), fun u hu => ?_⟩
  rcases (h u).mp hu with w | w
  · by_cases y : fo = true
    · rw [if_pos y] at o
      have c := o.2 u w
      rcases b y with d | ⟨d1, d2⟩
      · left; rcases c with c | c <;> omega
      · rcases c with c | ⟨c, c2⟩
        · left; omega
        · right
          refine ⟨by omega, .inr ?_⟩
          rcases c2 with c2 | c2
          · rw [← c2]; exact d2
          · exact vLx_trans d2 c2
    · rw [if_neg y] at o; exact absurd w (o u)
  · right; rw [w]; exact ⟨rfl, .inl rfl⟩
theorem bO_old {E F : Vc → Prop} {co bv x : Vc} (o : bO E co true bv) (h : ∀ u, F u ↔ E u ∨ u = x) (b : bCo co bv < bCo co x ∨ bCo co bv = bCo co x ∧ (bv = x ∨ vLx bv x)) : bO F co true bv := by
  unfold bO at o ⊢
  rw [if_pos rfl] at o ⊢
  refine ⟨(h bv).mpr (.inl o.1), fun u hu => ?_⟩
  rcases (h u).mp hu with w | w
  · exact o.2 u w
  · rw [w]; exact b
/-- before a prefix; with it -/
def bBf (c : Nat) (x u : Vc) : Prop := ∃ d, d < c ∧ (∀ i, i < d → u i = x i) ∧ u d < x d
def bPr (c : Nat) (x u : Vc) : Prop := ∀ i, i < c → u i = x i
def bSt (x : Vc) (c : Nat) (v : Int) : Vc := fun j => if j = c then v else x j
theorem bSt_c (x : Vc) (c : Nat) (v : Int) : bSt x c v c = v := if_pos rfl
theorem bSt_ne (x : Vc) {c j : Nat} (v : Int) (h : j ≠ c) : bSt x c v j = x j := if_neg h
theorem bBf_st {x u : Vc} {c : Nat} {v : Int} : bBf (c + 1) (bSt x c v) u ↔ bBf c x u ∨ bPr c x u ∧ u c < v := by
  constructor
  · rintro ⟨d, d1, d2, d3⟩
    have e : ∀ i, i < d → u i = x i := fun i hi => by rw [d2 i hi, bSt_ne x v (by omega)]
    by_cases w : d = c
    · subst w
      rw [bSt_c] at d3
      exact .inr ⟨e, d3⟩
    · rw [bSt_ne x v w] at d3
      exact .inl ⟨d, by omega, e, d3⟩
  · rintro (⟨d, d1, d2, d3⟩ | ⟨p, l⟩)
    · exact ⟨d, by omega, fun i hi => by rw [bSt_ne x v (by omega)]; exact d2 i hi, by rw [bSt_ne x v (by omega)]; exact d3⟩
    · exact ⟨c, by omega, fun i hi => by rw [bSt_ne x v (by omega)]; exact p i hi, by rw [bSt_c]; exact l⟩
theorem bPr_st {x u : Vc} {c : Nat} {v : Int} : bPr (c + 1) (bSt x c v) u ↔ bPr c x u ∧ u c = v := by
  constructor
  · intro h
    exact ⟨fun i hi => by rw [h i (by omega), bSt_ne x v (by omega)], by rw [h c (by omega), bSt_c]⟩
  · rintro ⟨h, e⟩ i hi
    by_cases w : i = c
    · rw [w, bSt_c, e]
    · rw [bSt_ne x v w]; exact h i (by omega)
theorem bBf_lx {x u : Vc} {c : Nat} (hc : c ≤ 6) (h : bBf c x u) : vLx u x := by
  obtain ⟨d, d1, d2, d3⟩ := h
  exact ⟨d, by omega, d2, d3⟩
theorem qS_split (f : Nat → Int) : ∀ (t c : Nat), qS f (c + t) = qS f c + qS (fun j => f (c + j)) t := by
  intro t
  induction t with
  | zero => intro c; simp [qS]
  | succ t ih =>
    intro c
    show qS f (c + t) + f (c + t) = _
    rw [ih]; show _ = _ + (qS _ t + f (c + t)); omega
/-- what columns from one on can make of a row -/
def bLo (a : Nat → Int) (c : Nat) : Nat → Int
  | 0 => 0
  | t + 1 => min (bLo a c t) (a (c + t))
def bHi (a : Nat → Int) (c : Nat) : Nat → Int
  | 0 => 0
  | t + 1 => max (bHi a c t) (a (c + t))
theorem bLo_le (a : Nat → Int) (c : Nat) : ∀ t, bLo a c t ≤ 0 ∧ ∀ j, j < t → bLo a c t ≤ a (c + j) := by
  intro t
  induction t with
  | zero => exact ⟨Int.le_refl _, fun j hj => by omega⟩
  | succ t ih =>
    have e : bLo a c (t + 1) = min (bLo a c t) (a (c + t)) := rfl
    refine ⟨by omega, fun j hj => ?_⟩
    by_cases w : j = t
    · subst w; omega
    · have := ih.2 j (by omega); omega
theorem bHi_ge (a : Nat → Int) (c : Nat) : ∀ t, 0 ≤ bHi a c t ∧ ∀ j, j < t → a (c + j) ≤ bHi a c t := by
  intro t
  induction t with
  | zero => exact ⟨Int.le_refl _, fun j hj => by omega⟩
  | succ t ih =>
    have e : bHi a c (t + 1) = max (bHi a c t) (a (c + t)) := rfl
    refine ⟨by omega, fun j hj => ?_⟩
    by_cases w : j = t
    · subst w; omega
    · have := ih.2 j (by omega); omega
theorem bLo_bd {a : Nat → Int} {c t : Nat} (h : ∀ j, j < t → (a (c + j)).natAbs ≤ 20) : (bLo a c t).natAbs ≤ 20 ∧ (bHi a c t).natAbs ≤ 20 := by
  induction t with
  | zero => exact ⟨Nat.zero_le _, Nat.zero_le _⟩
  | succ t ih =>
    have i := ih fun j hj => h j (by omega)
    have k := h t (by omega)
    have e : bLo a c (t + 1) = min (bLo a c t) (a (c + t)) := rfl
    have e2 : bHi a c (t + 1) = max (bHi a c t) (a (c + t)) := rfl
    omega
/-- what is left of a row behind a prefix -/
def bLf (A : Nat → Nat → Int) (r : Nat) (x : Vc) (c : Nat) : Int := -A r 6 - qS (fun j => A r j * x j) c
def bCan (A : Nat → Nat → Int) (n : Nat) (r : Nat) (x : Vc) (c : Nat) (sz : Int) : Prop := bLo (A r) c (n - c) * sz ≤ bLf A r x c ∧ bLf A r x c ≤ bHi (A r) c (n - c) * sz
theorem bMd (A : Nat → Nat → Int) (n r : Nat) (u : Vc) : gMd A n u1 true u r = 0 ↔ bLf A r u n = 0 := by
  unfold gMd bLf
  have : qS (fun j => A r j * u1 j * u j) n = qS (fun j => A r j * u j) n := qS_congr fun j _ => by show A r j * 1 * u j = _; rw [Int.mul_one]
  rw [this, if_pos rfl]; omega
theorem bCan_of {A : Nat → Nat → Int} {R n bd c : Nat} {x u : Vc} {sz : Int} (hn : n ≤ 6) (hc : c ≤ n) (hu : bP A R n bd u) (p : bPr c x u) (hs : qS x c + sz = bd) : ∀ r, r < R → bCan A n r x c sz := by
  intro r hr
  obtain ⟨u0, u2, u3, u4⟩ := hu
  have z := (bMd A n r u).mp (u4 r hr)
  have e1 : qS (fun j => A r j * u j) n = qS (fun j => A r j * u j) c + qS (fun j => A r (c + j) * u (c + j)) (n - c) := by
    have := qS_split (fun j => A r j * u j) (n - c) c
    rw [show c + (n - c) = n by omega] at this; exact this
  have e2 : qS (fun j => A r j * u j) c = qS (fun j => A r j * x j) c := qS_congr fun j hj => by rw [p j hj]
  have e3 : qS u 6 = qS x c + qS (fun j => u (c + j)) (6 - c) := by
    have := qS_split u (6 - c) c
    rw [show c + (6 - c) = 6 by omega] at this
    rw [this, qS_congr fun j hj => p j hj]
  have e4 : qS (fun j => u (c + j)) (6 - c) = qS (fun j => u (c + j)) (n - c) + qS (fun j => u (c + (n - c) + j)) (6 - n) := by
    have := qS_split (fun j => u (c + j)) (6 - n) (n - c)
    rw [show n - c + (6 - n) = 6 - c by omega] at this
    rw [this]; congr 1; exact qS_congr fun j _ => by rw [show c + (n - c) + j = c + (n - c + j) by omega]
  have e5 : qS (fun j => u (c + (n - c) + j)) (6 - n) = 0 := qS_zero fun j _ => u2 _ (by omega)
  have le : qS (fun j => u (c + j)) (n - c) ≤ sz := by omega
  have nn : 0 ≤ qS (fun j => u (c + j)) (n - c) := qS_nonneg fun j hj => u0 _ (by omega)
  have lo := bLo_le (A r) c (n - c)
  have hi := bHi_ge (A r) c (n - c)
  have a1 : bLo (A r) c (n - c) * qS (fun j => u (c + j)) (n - c) ≤ qS (fun j => A r (c + j) * u (c + j)) (n - c) := by
    rw [← qS_mul]; exact qS_le fun j hj => Int.mul_le_mul_of_nonneg_right (lo.2 j hj) (u0 _ (by omega))
  have a2 : qS (fun j => A r (c + j) * u (c + j)) (n - c) ≤ bHi (A r) c (n - c) * qS (fun j => u (c + j)) (n - c) := by
    rw [← qS_mul]; exact qS_le fun j hj => Int.mul_le_mul_of_nonneg_right (hi.2 j hj) (u0 _ (by omega))
  have a3 : bLo (A r) c (n - c) * sz ≤ bLo (A r) c (n - c) * qS (fun j => u (c + j)) (n - c) := Int.mul_le_mul_of_nonpos_left lo.1 le
  have a4 : bHi (A r) c (n - c) * qS (fun j => u (c + j)) (n - c) ≤ bHi (A r) c (n - c) * sz := Int.mul_le_mul_of_nonneg_left le hi.1
  unfold bLf at z
  unfold bCan bLf
  omega
