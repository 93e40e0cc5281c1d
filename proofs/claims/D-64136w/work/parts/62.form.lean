/-! THE ONE FORM of a basis: leads farther and farther behind, above them less than they are -/
def qHN (n k : Nat) (cN : Nat → Nat) (w : Nat → Nat → Int) : Prop :=
  (∀ i, i < k → cN i < n ∧ 0 < w i (cN i) ∧ ∀ c, c < cN i → w i c = 0) ∧
  (∀ i j, i < j → j < k → cN i < cN j) ∧
  (∀ h i, h < i → i < k → 0 ≤ w h (cN i) ∧ w h (cN i) < w i (cN i))
theorem qKB_HN {n ρ k : Nat} {a : Nat → Nat → Int} {b cN : Nat → Nat} {w : Nat → Nat → Int} (h : qKB n ρ k a b cN w) : qHN n k cN w := ⟨h.2.1, h.2.2.1, h.2.2.2.1⟩
/-- v is made of the vectors w -/
def qSpan (k : Nat) (w : Nat → Nat → Int) (v : Nat → Int) : Prop := ∃ t : Nat → Int, ∀ c, c < 7 → v c = qS (fun l => t l * w l c) k
theorem qHN_lead {n k : Nat} {cN : Nat → Nat} {w : Nat → Nat → Int} (h : qHN n k cN w) (hn : n ≤ 7) {t v : Nat → Int} (hv : ∀ c, c < 7 → v c = qS (fun l => t l * w l c) k) {i : Nat} (hi : i < k) (h0 : ∀ l, l < i → v (cN l) = 0) : (∀ l, l < i → t l = 0) ∧ v (cN i) = t i * w i (cN i) := by
  have val : ∀ j, j < k → (∀ l, l < j → t l = 0) → v (cN j) = t j * w j (cN j) := by
    intro j hj hz
    rw [hv _ (by have := (h.1 j hj).1; omega)]
    have : qS (fun l => t l * w l (cN j)) k = qS (qU (fun _ => 0) j (t j * w j (cN j))) k := qS_congr fun l hl => by
      unfold qU
      rcases Nat.lt_trichotomy l j with c | c | c
      · rw [if_neg (by omega), hz l c]; simp
      · subst c; rw [if_pos rfl]
      · rw [if_neg (by omega), (h.1 l hl).2.2 _ (h.2.1 j l c hl)]; simp
    rw [this, qS_upd hj, qS_zero (fun _ _ => rfl)]; omega
  have z : ∀ l, l < i → t l = 0 := by
    intro l
    induction l using Nat.strongRecOn with
    | ind l ih =>
      intro hl
      have e := val l (by omega) (fun m hm => ih m hm (by omega))
      rw [h0 l hl] at e
      have p := (h.1 l (by omega)).2.1
      rcases Int.mul_eq_zero.mp e.symm with c | c
      · exact c
      · omega
  exact ⟨z, val i hi z⟩
/-- what is 0 at all leads is 0 -/
theorem qHN_zero {n k : Nat} {cN : Nat → Nat} {w : Nat → Nat → Int} (h : qHN n k cN w) (hn : n ≤ 7) {v : Nat → Int} (hv : qSpan k w v) (h0 : ∀ l, l < k → v (cN l) = 0) : ∀ c, c < 7 → v c = 0 := by
  obtain ⟨t, ht⟩ := hv
  intro c hc
  rw [ht c hc]
  refine qS_zero fun l hl => ?_
  have a := qHN_lead h hn ht hl (fun m hm => h0 m (by omega))
  have e := a.2
  rw [h0 l hl] at e
  have p := (h.1 l hl).2.1
  rcases Int.mul_eq_zero.mp e.symm with c | c
  · rw [c]; simp
  · omega
theorem qSpan_sub {k : Nat} {w : Nat → Nat → Int} {u v : Nat → Int} (hu : qSpan k w u) (hv : qSpan k w v) : qSpan k w (fun c => u c - v c) := by
  obtain ⟨t, ht⟩ := hu
  obtain ⟨s, hs⟩ := hv
  refine ⟨fun l => t l - s l, fun c hc => ?_⟩
  show u c - v c = qS (fun l => (t l - s l) * w l c) k
  rw [ht c hc, hs c hc, ← qS_sub]; exact qS_congr fun l _ => by rw [Int.sub_mul]
theorem qSpan_self {k : Nat} {w : Nat → Nat → Int} {i : Nat} (hi : i < k) : qSpan k w (w i) :=
  ⟨fun l => if l = i then 1 else 0, fun c _ => by rw [qS_unit (fun l => w l c) hi]; omega⟩
theorem qHN_uniq {n k : Nat} {cN : Nat → Nat} {w u : Nat → Nat → Int} (h : qHN n k cN w) (g : qHN n k cN u) (hn : n ≤ 7) (hw : ∀ i, i < k → qSpan k w (u i)) (hu : ∀ i, i < k → qSpan k u (w i)) : ∀ i, i < k → ∀ c, c < 7 → u i c = w i c := by
  -- the leads
  have ld : ∀ i, i < k → u i (cN i) = w i (cN i) := by
    intro i hi
    obtain ⟨t, ht⟩ := hw i hi
    obtain ⟨s, hs⟩ := hu i hi
    have a := (qHN_lead h hn ht hi (fun l hl => (g.1 i hi).2.2 _ (g.2.1 l i hl hi))).2
    have b := (qHN_lead g hn hs hi (fun l hl => (h.1 i hi).2.2 _ (h.2.1 l i hl hi))).2
    have p := (h.1 i hi).2.1
    have q := (g.1 i hi).2.1
    have t1 : 0 < t i := by
      rcases Int.lt_or_le 0 (t i) with c | c
      · exact c
      · have := Int.mul_nonpos_of_nonpos_of_nonneg c (Int.le_of_lt p); omega
    have s1 : 0 < s i := by
      rcases Int.lt_or_le 0 (s i) with c | c
      · exact c
      · have := Int.mul_nonpos_of_nonpos_of_nonneg c (Int.le_of_lt q); omega
    have x1 : w i (cN i) ≤ u i (cN i) := by
      rw [a]; have := Int.mul_le_mul_of_nonneg_right (show (1 : Int) ≤ t i by omega) (Int.le_of_lt p); omega
    have x2 : u i (cN i) ≤ w i (cN i) := by
      rw [b]; have := Int.mul_le_mul_of_nonneg_right (show (1 : Int) ≤ s i by omega) (Int.le_of_lt q); omega
    omega
  intro i hi
  have sp := qSpan_sub (hw i hi) (qSpan_self (w := w) hi)
  have z : ∀ l, l < k → u i (cN l) - w i (cN l) = 0 := by
    intro l
    induction l using Nat.strongRecOn with
    | ind l ih =>
      intro hl
      rcases Nat.lt_trichotomy l i with c | c | c
      · rw [(g.1 i hi).2.2 _ (g.2.1 l i c hi), (h.1 i hi).2.2 _ (h.2.1 l i c hi)]; rfl
      · subst c; rw [ld l hl]; omega
      · obtain ⟨t, ht⟩ := sp
        have a := (qHN_lead h hn (v := fun c => u i c - w i c) ht hl (fun m hm => ih m hm (by omega))).2
        have a : u i (cN l) - w i (cN l) = t l * w l (cN l) := a
        have r1 := h.2.2 i l c hl
        have r2 := g.2.2 i l c hl
        rw [ld l hl] at r2
        have p := (h.1 l hl).2.1
        have t0 : t l = 0 := by
          rcases Int.lt_trichotomy (t l) 0 with d | d | d
          · have := Int.mul_le_mul_of_nonneg_right (show t l ≤ -1 by omega) (Int.le_of_lt p); omega
          · exact d
          · have := Int.mul_le_mul_of_nonneg_right (show (1 : Int) ≤ t l by omega) (Int.le_of_lt p); omega
        rw [a, t0]; simp
  intro c hc
  have := qHN_zero h hn sp z c hc
  have : u i c - w i c = 0 := this
  omega
/-- rows in steps make up all that is 0 with x -/
theorem qLS_span {R z : Nat} {x : Nat → Int} {W V : Nat → Nat → Int} (h : qLS R R z x W V) (hx : x R ≠ 0) : ∀ d, d ≤ R → ∀ t : Nat → Int, qDot x t R = 0 → (∀ i, i < R - d → t i = 0) → ∃ k : Nat → Int, ∀ i, i ≤ R → t i = qS (fun l => k l * V (z + l) (16 + i)) R := by
  intro d
  induction d with
  | zero =>
    intro _ t h0 hz
    refine ⟨fun _ => 0, fun i hi => ?_⟩
    rw [qS_zero (fun _ _ => by simp)]
    by_cases c : i < R
    · exact hz i (by omega)
    · have : i = R := by omega
      subst this
      unfold qDot at h0
      rw [qS, qS_zero (fun j hj => by rw [hz j (by omega)]; simp)] at h0
      rw [Int.zero_add] at h0
      rcases Int.mul_eq_zero.mp h0 with c | c
      · exact c
      · exact absurd c hx
  | succ d ih =>
    intro hd t h0 hz
    generalize hl : R - (d + 1) = l at hz
    have lR : l < R := by omega
    obtain ⟨k, hk⟩ := h.2.2.2.2.1 l lR t h0 hz
    have row : qDot x (fun i => V (z + l) (16 + i)) R = 0 := h.2.2.1 (z + l) (by omega) (by omega)
    obtain ⟨k2, hk2⟩ := ih (by omega) (fun i => t i + (-k) * V (z + l) (16 + i)) (by rw [qDot_add, qDot_mul, row, h0]; simp) (fun i hi => by
      show t i + -k * V (z + l) (16 + i) = 0
      by_cases c : i < l
      · rw [hz i c, (h.1 l lR).1 i c]; simp
      · have : i = l := by omega
        subst this; rw [hk]; grind)
    refine ⟨fun m => k2 m + (if m = l then k else 0), fun i hi => ?_⟩
    have e := hk2 i hi
    have e : t i + -k * V (z + l) (16 + i) = qS (fun l => k2 l * V (z + l) (16 + i)) R := e
    have s : qS (fun m => (k2 m + (if m = l then k else 0)) * V (z + m) (16 + i)) R = qS (fun m => k2 m * V (z + m) (16 + i) + (if m = l then k else 0) * V (z + m) (16 + i)) R := qS_congr fun m _ => Int.add_mul _ _ _
    rw [s, qS_add, qS_unit (fun m => V (z + m) (16 + i)) lR, ← e]; grind
