/-! PAIRS of two later rows on the basis -/
theorem qPi_skip {k i m : Nat} {p u : Nat → Nat} (h1 : ∀ l, l < k → 1 ≤ p l) (h2 : ∀ l, l < k → l ≠ i → u l + 1 ≤ p l) (h3 : i < k → u i ≤ p i) (hm : m < k) : qS (fun l => if l = m then 0 else (u l : Int)) k * p m ≤ qPi p k := by
  have s := qPi_sum (p := qUN p m 1) (u := fun l => if l = m then 0 else u l) (c0 := if i = m then k else i) k (fun l hl => by unfold qUN; split <;> first | omega | exact h1 l hl) (fun l hl ne => by
    unfold qUN
    by_cases e : l = m
    · rw [if_pos e, if_pos e]; omega
    · rw [if_neg e, if_neg e]
      by_cases w : i = m
      · exact h2 l hl (by omega)
      · rw [if_neg w] at ne; exact h2 l hl ne) (fun c => by
    by_cases w : i = m
    · rw [if_pos w] at c; omega
    · rw [if_neg w, if_neg w]; unfold qUN; rw [if_neg w]; exact h3 (by rw [if_neg w] at c; exact c))
  have e : qS (fun l => if l = m then 0 else (u l : Int)) k = qS (fun l => ((if l = m then 0 else u l : Nat) : Int)) k := qS_congr fun l _ => by by_cases x : l = m <;> simp [x]
  have a : qS (fun l => if l = m then 0 else (u l : Int)) k ≤ qPi (qUN p m 1) k := by
    rw [e]
    by_cases w : i = m
    · have := s.2 (by rw [if_pos w]; exact Nat.le_refl _); omega
    · by_cases w2 : i < k
      · exact s.1 (by rw [if_neg w]; exact w2)
      · have := s.2 (by rw [if_neg w]; omega); omega
  have b := qPi_upd (p := p) (x := 1) hm
  have c := Int.mul_le_mul_of_nonneg_right a (show (0 : Int) ≤ (p m : Int) by omega)
  have d : ((qPi (qUN p m 1) k : Nat) : Int) * (p m : Int) = ((qPi p k * 1 : Nat) : Int) := by rw [← b]; simp
  omega
theorem qKB_D {n ρ k : Nat} {a : Nat → Nat → Int} {b cN : Nat → Nat} {w : Nat → Nat → Int} (h : qKB n ρ k a b cN w) (hρ : ρ ≤ 2) (ha : ∀ i, i < ρ → qRow n (a i)) {f g : Nat → Int} (hf : qRow n f) (hg : qRow n g) {i j : Nat} (hi : i < k) (hj : j < k) {T : Nat} (hT : qS (fun m => qab (w j (cN m)) * qS (fun l => if l = m then 0 else qab (w i (cN l))) k) k ≤ (T * (qDe ρ a b).natAbs : Nat)) : (qF f (w i) * qF g (w j) - qF f (w j) * qF g (w i)).natAbs ≤ T * (qMt (ρ + 1) * 20) := by
  have d : qDe ρ a b ≠ 0 := h.2.2.2.2.2.2.2.2.1 ρ (by omega)
  have cc := fun (v : Nat) (hv : v < k) (r : Nat → Int) => qKB_circ h (by omega : ρ ≤ 3) (v := w v) (fun c h1 _ => h.2.2.2.2.1 v c hv h1) (fun i hi => h.2.2.2.2.2.2.2.1 i v hi hv) r
  -- both sums in one
  have e : qDe ρ a b * qDe ρ a b * (qF f (w i) * qF g (w j) - qF f (w j) * qF g (w i)) = qS (fun m => qS (fun l => (qE ρ a b f (cN l) * qE ρ a b g (cN m) - qE ρ a b g (cN l) * qE ρ a b f (cN m)) * (w i (cN l) * w j (cN m))) k) k := by
    have e1 : qDe ρ a b * qDe ρ a b * (qF f (w i) * qF g (w j) - qF f (w j) * qF g (w i)) = (qDe ρ a b * qF g (w j)) * (qDe ρ a b * qF f (w i)) - (qDe ρ a b * qF f (w j)) * (qDe ρ a b * qF g (w i)) := by grind
    rw [e1, cc i hi, cc i hi, cc j hj, cc j hj]
    have prod : ∀ (A B : Nat → Int), qS A k * qS B k = qS (fun m => qS (fun l => A m * B l) k) k := by
      intro A B
      rw [Int.mul_comm, ← qS_mul]
      exact qS_congr fun m _ => by rw [qS_mul, Int.mul_comm]
    rw [prod, prod, ← qS_sub]
    exact qS_congr fun m _ => by rw [← qS_sub]; exact qS_congr fun l _ => by grind
  have bd : ∀ l m, l < k → m < k → (qE ρ a b f (cN l) * qE ρ a b g (cN m) - qE ρ a b g (cN l) * qE ρ a b f (cN m)).natAbs ≤ (qDe ρ a b).natAbs * (qMt (ρ + 1) * 20) := by
    intro l m hl hm
    rw [qE_pair hρ, Int.natAbs_mul]
    refine Nat.mul_le_mul_left _ (qE_le (by omega) ?_ ?_ ?_ ?_)
    · intro x y hx hy
      have rx : qRow n (if x = ρ then f else a x) := by split <;> first | exact hf | exact ha x (by omega)
      have cy : (if y = ρ then cN l else b y) < n := by split <;> first | exact (h.2.1 l hl).1 | exact h.2.2.2.2.2.1 y (by omega)
      exact rx.1 _ cy
    · intro y hy
      have cy : (if y = ρ then cN l else b y) < n := by split <;> first | exact (h.2.1 l hl).1 | exact h.2.2.2.2.2.1 y (by omega)
      exact hg.1 _ cy
    · intro x hx
      have rx : qRow n (if x = ρ then f else a x) := by split <;> first | exact hf | exact ha x (by omega)
      exact rx.1 _ (h.2.1 m hm).1
    · exact hg.1 _ (h.2.1 m hm).1
  have m1 : qab (qDe ρ a b * qDe ρ a b * (qF f (w i) * qF g (w j) - qF f (w j) * qF g (w i))) ≤ ((qDe ρ a b).natAbs * (qMt (ρ + 1) * 20) : Nat) * qS (fun m => qab (w j (cN m)) * qS (fun l => if l = m then 0 else qab (w i (cN l))) k) k := by
    rw [e]
    refine Int.le_trans (qS_ab _ k) ?_
    rw [← qS_mul]
    refine qS_le fun m hm => ?_
    refine Int.le_trans (qS_ab _ k) ?_
    rw [← Int.mul_assoc, ← qS_mul]
    refine qS_le fun l hl => ?_
    by_cases lm : l = m
    · subst lm
      rw [if_pos rfl, Int.mul_comm (qE ρ a b f (cN l)), Int.sub_self]; simp [qab]
    · rw [if_neg lm, qab_mul, qab_mul]
      have := bd l m hl hm
      have t : qab (qE ρ a b f (cN l) * qE ρ a b g (cN m) - qE ρ a b g (cN l) * qE ρ a b f (cN m)) ≤ ((qDe ρ a b).natAbs * (qMt (ρ + 1) * 20) : Nat) := by unfold qab; omega
      have z := Int.mul_le_mul_of_nonneg_right t (Int.mul_nonneg (qab_nn (w i (cN l))) (qab_nn (w j (cN m))))
      refine Int.le_trans z ?_
      rw [Int.mul_assoc, Int.mul_comm (qab (w j (cN m)))]; exact Int.le_refl _
  have m2 : ((qDe ρ a b).natAbs * (qMt (ρ + 1) * 20) : Nat) * qS (fun m => qab (w j (cN m)) * qS (fun l => if l = m then 0 else qab (w i (cN l))) k) k ≤ (((qDe ρ a b).natAbs * (qMt (ρ + 1) * 20) : Nat) : Int) * (T * (qDe ρ a b).natAbs : Nat) := Int.mul_le_mul_of_nonneg_left hT (by omega)
  have m3 : (qDe ρ a b * qDe ρ a b * (qF f (w i) * qF g (w j) - qF f (w j) * qF g (w i))).natAbs ≤ (qDe ρ a b).natAbs * (qMt (ρ + 1) * 20) * (T * (qDe ρ a b).natAbs) := by
    have c0 : (((qDe ρ a b).natAbs * (qMt (ρ + 1) * 20) : Nat) : Int) * (T * (qDe ρ a b).natAbs : Nat) = (((qDe ρ a b).natAbs * (qMt (ρ + 1) * 20) * (T * (qDe ρ a b).natAbs) : Nat) : Int) := (Int.natCast_mul _ _).symm
    have m12 := Int.le_trans m1 m2
    rw [c0] at m12
    unfold qab at m12
    exact Int.ofNat_le.mp m12
  rw [Int.natAbs_mul, Int.natAbs_mul] at m3
  have e2 : (qDe ρ a b).natAbs * (qMt (ρ + 1) * 20) * (T * (qDe ρ a b).natAbs) = (qDe ρ a b).natAbs * (qDe ρ a b).natAbs * (T * (qMt (ρ + 1) * 20)) := by grind
  rw [e2] at m3
  exact q_div (Nat.mul_pos (by omega) (by omega)) m3
theorem qKB_pair {n ρ k : Nat} {a : Nat → Nat → Int} {b cN : Nat → Nat} {w : Nat → Nat → Int} (h : qKB n ρ k a b cN w) (hρ : ρ ≤ 2) (ha : ∀ i, i < ρ → qRow n (a i)) {f g : Nat → Int} (hf : qRow n f) (hg : qRow n g) {i j : Nat} (hi : i < k) (hj : j < k) : (qF f (w i) * qF g (w j) - qF f (w j) * qF g (w i)).natAbs ≤ k * (qMt (ρ + 1) * 20) := by
  refine qKB_D h hρ ha hf hg hi hj ?_
  have c := qS_cap (f := fun m => qab (w j (cN m)) * qS (fun l => if l = m then 0 else qab (w i (cN l))) k) (B := (qDe ρ a b).natAbs) (n := k) (fun m hm => by
    have s := qPi_skip (p := fun l => (w l (cN l)).natAbs) (u := fun l => (w i (cN l)).natAbs) (i := i) (m := m) (k := k) (fun l hl => by have := (h.2.1 l hl).2.1; omega) (fun l hl ne => by
      rcases Nat.lt_trichotomy l i with c | c | c
      · have := (h.2.1 i hi).2.2 (cN l) (h.2.2.1 l i c hi)
        have := (h.2.1 l hl).2.1
        omega
      · exact absurd c ne
      · have := h.2.2.2.1 i l c hl; omega) (fun _ => Nat.le_refl _) hm
    have e : qS (fun l => if l = m then 0 else qab (w i (cN l))) k = qS (fun l => if l = m then 0 else ((w i (cN l)).natAbs : Int)) k := rfl
    rw [← e] at s
    have v : qab (w j (cN m)) ≤ ((w m (cN m)).natAbs : Int) := by
      unfold qab
      rcases Nat.lt_trichotomy m j with c | c | c
      · have := (h.2.1 j hj).2.2 (cN m) (h.2.2.1 m j c hj); omega
      · subst c; exact Int.le_refl _
      · have := h.2.2.2.1 j m c hm; omega
    have nn : 0 ≤ qS (fun l => if l = m then 0 else qab (w i (cN l))) k := qS_nonneg fun l _ => by split <;> first | exact Int.le_refl _ | exact qab_nn _
    have y := Int.mul_le_mul_of_nonneg_right v nn
    have p := h.2.2.2.2.2.2.2.2.2
    rw [Int.mul_comm] at s
    show qab (w j (cN m)) * qS (fun l => if l = m then 0 else qab (w i (cN l))) k ≤ _
    omega)
  have : ((k * (qDe ρ a b).natAbs : Nat) : Int) = (k : Int) * (qDe ρ a b).natAbs := by simp
  omega
/-- no row yet: unit vectors -/
theorem qKB_pair0 {n k : Nat} {a : Nat → Nat → Int} {b cN : Nat → Nat} {w : Nat → Nat → Int} (h : qKB n 0 k a b cN w) {f g : Nat → Int} (hf : qRow n f) (hg : qRow n g) {i j : Nat} (hi : i < k) (hj : j < k) : (qF f (w i) * qF g (w j) - qF f (w j) * qF g (w i)).natAbs ≤ 800 := by
  have := qKB_D h (by omega) (fun i hi => by omega) hf hg hi hj (T := 1) (by
    have s1 := qKB_sum h hi
    have s2 := qKB_sum h hj
    have d : qDe 0 a b = 1 := rfl
    rw [d] at s1 s2 ⊢
    have m : qS (fun m => qab (w j (cN m)) * qS (fun l => if l = m then 0 else qab (w i (cN l))) k) k ≤ qS (fun m => qab (w j (cN m)) * 1) k := by
      refine qS_le fun m hm => Int.mul_le_mul_of_nonneg_left ?_ (qab_nn _)
      refine Int.le_trans (qS_le fun l hl => ?_) s1
      split
      · exact qab_nn _
      · exact Int.le_refl _
    have e : qS (fun m => qab (w j (cN m)) * 1) k = qS (fun m => qab (w j (cN m))) k := qS_congr fun _ _ => Int.mul_one _
    omega)
  exact this
