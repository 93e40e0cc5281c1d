/-! THE CHAIN of greatest common divisors: vectors that are 0 with x, in steps -/
theorem q_bez (n : Nat) : ∀ (a b : Int), a.natAbs ≤ n → b ≠ 0 → ∃ g u v : Int, 0 < g ∧ u * a + v * b = g ∧ g ∣ a ∧ g ∣ b := by
  induction n with
  | zero =>
    intro a b h hb
    have : a = 0 := by omega
    subst this
    rcases Int.lt_or_gt_of_ne hb with c | c
    · exact ⟨-b, 0, -1, by omega, by omega, ⟨0, by omega⟩, ⟨-1, by omega⟩⟩
    · exact ⟨b, 0, 1, by omega, by omega, ⟨0, by omega⟩, ⟨1, by omega⟩⟩
  | succ n ih =>
    intro a b h hb
    by_cases ha : a = 0
    · exact ih a b (by omega) hb
    have d := Int.emod_add_mul_ediv b a
    have l := Int.emod_lt_of_pos b (b := a.natAbs) (by omega)
    have l2 := Int.emod_nonneg b ha
    have e : b % a = b % (a.natAbs : Int) := by rcases Int.natAbs_eq a with w | w <;> rw [w] <;> simp
    obtain ⟨g, u, v, h1, h2, h3, h4⟩ := ih (b % a) a (by omega) ha
    refine ⟨g, v - u * (b / a), u, h1, ?_, h4, ?_⟩
    · have : b = b % a + a * (b / a) := by omega
      generalize b % a = r at *
      generalize b / a = k at *
      subst this; grind
    · rw [← d]; exact Int.dvd_add h3 (Int.dvd_trans h4 (Int.dvd_mul_right _ _))
def qDot (x y : Nat → Int) (n : Nat) : Int := qS (fun i => y i * x i) (n + 1)
theorem qDot_add (x y z : Nat → Int) (n : Nat) : qDot x (fun i => y i + z i) n = qDot x y n + qDot x z n := by
  unfold qDot; rw [← qS_add]; exact qS_congr fun j _ => Int.add_mul _ _ _
theorem qDot_mul (x y : Nat → Int) (k : Int) (n : Nat) : qDot x (fun i => k * y i) n = k * qDot x y n := by
  unfold qDot; rw [← qS_mul]; exact qS_congr fun j _ => Int.mul_assoc _ _ _
theorem qDot_unit (x : Nat → Int) {i n : Nat} (h : i ≤ n) (k : Int) : qDot x (fun j => if j = i then k else 0) n = k * x i := by
  unfold qDot
  have : (fun j => (if j = i then k else 0) * x j) = qU (fun _ => 0) i (k * x i) := by
    funext j; unfold qU; by_cases e : j = i
    · subst e; simp
    · simp [e]
  rw [this, qS_upd (by omega), qS_zero (fun _ _ => rfl)]; omega
/-- g i divides all from i on, and is made of them; y i is 0 with x, begins at i with g (i+1) / g i -/
theorem q_chain (x : Nat → Int) (n : Nat) (hx : x n ≠ 0) : ∀ d, d ≤ n → ∃ g : Nat → Int, (∀ i, n - d ≤ i → i ≤ n → 0 < g i ∧ ∃ z : Nat → Int, (∀ j, j < i → z j = 0) ∧ (∀ j, n < j → z j = 0) ∧ qDot x z n = g i) ∧ g n = qab (x n) ∧ ∀ i, n - d ≤ i → i < n → ∃ y : Nat → Int, (∀ j, j < i → y j = 0) ∧ (∀ j, n < j → y j = 0) ∧ y i * g i = g (i + 1) ∧ qDot x y n = 0 := by
  intro d
  induction d with
  | zero =>
    intro _
    refine ⟨fun _ => qab (x n), ?_, rfl, fun i h1 h2 => by omega⟩
    intro i h1 h2
    have : i = n := by omega
    subst this
    refine ⟨by show 0 < qab (x i); unfold qab; omega, fun j => if j = i then (if 0 ≤ x i then 1 else -1) else 0, fun j hj => if_neg (by omega), fun j hj => if_neg (by omega), ?_⟩
    rw [qDot_unit x (Nat.le_refl _)]
    show _ = qab (x i); unfold qab; split <;> omega
  | succ d ih =>
    intro hd
    obtain ⟨g, g1, g2, g3⟩ := ih (by omega)
    generalize hi : n - (d + 1) = i
    have i1 : i + 1 = n - d := by omega
    obtain ⟨p1, z, z1, z2, z3⟩ := g1 (i + 1) (by omega) (by omega)
    obtain ⟨γ, u, v, b1, b2, b3, b4⟩ := q_bez _ (x i) (g (i + 1)) (Nat.le_refl _) (by omega)
    obtain ⟨k, hk⟩ := b3
    obtain ⟨w, hw⟩ := b4
    refine ⟨qU g i γ, ?_, ?_, ?_⟩
    · intro j j1 j2
      by_cases e : j = i
      · subst e
        simp only [qU, if_pos]
        refine ⟨b1, fun h => (if h = j then u else 0) + v * z h, fun h hh => ?_, fun h hh => ?_, ?_⟩
        · show (if h = j then u else 0) + v * z h = 0; rw [if_neg (by omega), z1 h (by omega)]; simp
        · show (if h = j then u else 0) + v * z h = 0; rw [if_neg (by omega), z2 h (by omega)]; simp
        · rw [qDot_add, qDot_mul, qDot_unit x (by omega), z3]; exact b2
      · simp only [qU, if_neg e]
        exact g1 j (by omega) j2
    · simp only [qU]; rw [if_neg (by omega)]; exact g2
    · intro j j1 j2
      by_cases e : j = i
      · subst e
        refine ⟨fun h => (if h = j then w else 0) + (-k) * z h, fun h hh => ?_, fun h hh => ?_, ?_, ?_⟩
        · show (if h = j then w else 0) + -k * z h = 0; rw [if_neg (by omega), z1 h (by omega)]; simp
        · show (if h = j then w else 0) + -k * z h = 0; rw [if_neg (by omega), z2 h (by omega)]; simp
        · simp only [qU, if_pos]; rw [if_neg (by omega), z1 j (by omega), hw]; grind
        · rw [qDot_add, qDot_mul, qDot_unit x (by omega), z3, hk, hw]; grind
      · simp only [qU, if_neg e]; rw [if_neg (by omega)]
        exact g3 j (by omega) j2
/-- the steps: c l, vectors y l; products -/
theorem q_steps (x : Nat → Int) (n : Nat) (hx : x n ≠ 0) : ∃ (c : Nat → Nat) (y : Nat → Nat → Int), (∀ l, l < n → 0 < c l ∧ y l l = c l ∧ (∀ j, j < l → y l j = 0) ∧ (∀ j, n < j → y l j = 0) ∧ qDot x (y l) n = 0) ∧ (∀ l, l < n → c l ≤ (x n).natAbs) ∧ (∀ l h, l < h → h < n → c l * c h ≤ (x n).natAbs) ∧ (∀ l, l + 3 = n → c l * c (l + 1) * c (l + 2) ≤ (x n).natAbs) := by
  obtain ⟨g, g1, g2, g3⟩ := q_chain x n hx n (Nat.le_refl _)
  have ch : ∃ y : Nat → Nat → Int, ∀ l, l < n → (∀ j, j < l → y l j = 0) ∧ (∀ j, n < j → y l j = 0) ∧ y l l * g l = g (l + 1) ∧ qDot x (y l) n = 0 := by
    have : ∀ l, ∃ y : Nat → Int, l < n → (∀ j, j < l → y j = 0) ∧ (∀ j, n < j → y j = 0) ∧ y l * g l = g (l + 1) ∧ qDot x y n = 0 := by
      intro l
      by_cases h : l < n
      · obtain ⟨y, hy⟩ := g3 l (by omega) h
        exact ⟨y, fun _ => hy⟩
      · exact ⟨fun _ => 0, fun k => absurd k h⟩
    exact ⟨fun l => (this l).choose, fun l hl => (this l).choose_spec hl⟩
  obtain ⟨y, hy⟩ := ch
  have gp : ∀ i, i ≤ n → 0 < g i := fun i hi => (g1 i (by omega) hi).1
  have yp : ∀ l, l < n → 0 < y l l := by
    intro l hl
    have a := (hy l hl).2.2.1
    have b := gp l (by omega)
    have c := gp (l + 1) (by omega)
    rcases Int.lt_or_le 0 (y l l) with k | k
    · exact k
    · have := Int.mul_le_mul_of_nonneg_right k (Int.le_of_lt b); omega
  have cN : ∀ l, l < n → ((y l l).natAbs : Int) = y l l := fun l hl => by have := yp l hl; omega
  have st : ∀ l, l < n → (y l l).natAbs * (g l).natAbs = (g (l + 1)).natAbs := fun l hl => by rw [← Int.natAbs_mul, (hy l hl).2.2.1]
  have mono : ∀ d i, i + d ≤ n → (g i).natAbs ≤ (g (i + d)).natAbs := by
    intro d
    induction d with
    | zero => intro i _; exact Nat.le_refl _
    | succ d ih =>
      intro i hi
      refine Nat.le_trans (ih i (by omega)) ?_
      have a := st (i + d) (by omega)
      have b := yp (i + d) (by omega)
      rw [show i + (d + 1) = i + d + 1 by omega, ← a]
      exact Nat.le_mul_of_pos_left _ (by omega)
  have gn : (g n).natAbs = (x n).natAbs := by rw [g2]; unfold qab; omega
  have pos : ∀ i, i ≤ n → 0 < (g i).natAbs := fun i hi => by have := gp i hi; omega
  refine ⟨fun l => (y l l).natAbs, y, fun l hl => ⟨?_, (cN l hl).symm, (hy l hl).1, (hy l hl).2.1, (hy l hl).2.2.2⟩, ?_, ?_, ?_⟩
  · have := yp l hl; show 0 < (y l l).natAbs; omega
  · intro l hl
    show (y l l).natAbs ≤ _
    have a := st l hl
    have b := mono (n - (l + 1)) (l + 1) (by omega)
    rw [show l + 1 + (n - (l + 1)) = n by omega, gn] at b
    have c := Nat.le_mul_of_pos_right (y l l).natAbs (pos l (by omega))
    omega
  · intro l h lh hn
    show (y l l).natAbs * (y h h).natAbs ≤ _
    have a := st l (by omega)
    have b := st h hn
    have c := mono (h - (l + 1)) (l + 1) (by omega)
    rw [show l + 1 + (h - (l + 1)) = h by omega] at c
    have d := mono (n - (h + 1)) (h + 1) (by omega)
    rw [show h + 1 + (n - (h + 1)) = n by omega, gn] at d
    have e := Nat.le_mul_of_pos_right (y l l).natAbs (pos l (by omega))
    have f : (y l l).natAbs ≤ (g h).natAbs := by omega
    have k := Nat.mul_le_mul_right (y h h).natAbs f
    rw [Nat.mul_comm (g h).natAbs] at k
    omega
  · intro l hl
    show (y l l).natAbs * (y (l + 1) (l + 1)).natAbs * (y (l + 2) (l + 2)).natAbs ≤ _
    have a := st l (by omega)
    have b := st (l + 1) (by omega)
    have c := st (l + 2) (by omega)
    rw [show l + 2 + 1 = n by omega, gn] at c
    rw [show l + 1 + 1 = l + 2 by omega] at b
    rw [← b, ← a] at c
    have e := pos l (by omega)
    have : (y (l + 2) (l + 2)).natAbs * ((y (l + 1) (l + 1)).natAbs * ((y l l).natAbs * (g l).natAbs)) = (y l l).natAbs * (y (l + 1) (l + 1)).natAbs * (y (l + 2) (l + 2)).natAbs * (g l).natAbs := by grind
    rw [this] at c
    have := Nat.le_mul_of_pos_right ((y l l).natAbs * (y (l + 1) (l + 1)).natAbs * (y (l + 2) (l + 2)).natAbs) e
    omega
