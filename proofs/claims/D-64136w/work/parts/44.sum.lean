/-! PLAIN: sums -/
def qS (f : Nat → Int) : Nat → Int
  | 0 => 0
  | n + 1 => qS f n + f n
theorem qS_congr {f g : Nat → Int} {n : Nat} (h : ∀ j, j < n → f j = g j) : qS f n = qS g n := by
  induction n with
  | zero => rfl
  | succ n ih => simp only [qS]; rw [ih (fun j hj => h j (by omega)), h n (by omega)]
theorem qS_add (f g : Nat → Int) (n : Nat) : qS (fun j => f j + g j) n = qS f n + qS g n := by
  induction n with
  | zero => rfl
  | succ n ih => simp only [qS, ih]; omega
theorem qS_sub (f g : Nat → Int) (n : Nat) : qS (fun j => f j - g j) n = qS f n - qS g n := by
  induction n with
  | zero => rfl
  | succ n ih => simp only [qS, ih]; omega
theorem qS_mul (k : Int) (f : Nat → Int) (n : Nat) : qS (fun j => k * f j) n = k * qS f n := by
  induction n with
  | zero => simp [qS]
  | succ n ih => simp only [qS, ih, Int.mul_add]
theorem qS_zero {f : Nat → Int} {n : Nat} (h : ∀ j, j < n → f j = 0) : qS f n = 0 := by
  induction n with
  | zero => rfl
  | succ n ih => simp only [qS]; rw [ih (fun j hj => h j (by omega)), h n (by omega)]; rfl
theorem qS_le {f g : Nat → Int} {n : Nat} (h : ∀ j, j < n → f j ≤ g j) : qS f n ≤ qS g n := by
  induction n with
  | zero => exact Int.le_refl _
  | succ n ih => simp only [qS]; have := ih (fun j hj => h j (by omega)); have := h n (by omega); omega
theorem qS_nonneg {f : Nat → Int} {n : Nat} (h : ∀ j, j < n → 0 ≤ f j) : 0 ≤ qS f n := by
  have := qS_le (f := fun _ => 0) h
  rwa [qS_zero (f := fun _ => 0) (fun _ _ => rfl)] at this
theorem qS_cap {f : Nat → Int} {B : Int} {n : Nat} (h : ∀ j, j < n → f j ≤ B) : qS f n ≤ n * B := by
  induction n with
  | zero => simp [qS]
  | succ n ih =>
    simp only [qS]; have a := ih (fun j hj => h j (by omega)); have b := h n (by omega)
    have c : ((n + 1 : Nat) : Int) * B = n * B + B := by rw [Int.natCast_add, Int.add_mul]; simp
    omega
theorem qS_term {f : Nat → Int} {n : Nat} (h : ∀ j, j < n → 0 ≤ f j) {i : Nat} (hi : i < n) : f i ≤ qS f n := by
  induction n with
  | zero => omega
  | succ n ih =>
    simp only [qS]
    by_cases e : i = n
    · subst e; have := qS_nonneg (f := f) (n := i) (fun j hj => h j (by omega)); omega
    · have := ih (fun j hj => h j (by omega)) (by omega); have := h n (by omega); omega
theorem qS_head (f : Nat → Int) (n : Nat) : qS f (n + 1) = f 0 + qS (fun i => f (i + 1)) n := by
  induction n with
  | zero => simp [qS]
  | succ n ih => rw [qS, ih]; simp only [qS]; omega
def qab (z : Int) : Int := (z.natAbs : Int)
theorem qS_ab (f : Nat → Int) (n : Nat) : qab (qS f n) ≤ qS (fun j => qab (f j)) n := by
  induction n with
  | zero => simp [qS, qab]
  | succ n ih => simp only [qS]; unfold qab at *; omega
theorem qab_mul (a b : Int) : qab (a * b) = qab a * qab b := by unfold qab; rw [Int.natAbs_mul]; exact Int.natCast_mul _ _
theorem qab_nn (a : Int) : 0 ≤ qab a := by unfold qab; omega
def qU (f : Nat → Int) (a : Nat) (x : Int) : Nat → Int := fun j => if j = a then x else f j
theorem qS_updge {f : Nat → Int} {a n : Nat} {x : Int} (h : n ≤ a) : qS (qU f a x) n = qS f n :=
  qS_congr fun j hj => by unfold qU; rw [if_neg (by omega)]
theorem qS_upd {f : Nat → Int} {a n : Nat} {x : Int} (h : a < n) : qS (qU f a x) n = qS f n + x - f a := by
  induction n with
  | zero => omega
  | succ n ih =>
    simp only [qS]
    by_cases e : a = n
    · subst e; rw [qS_updge (Nat.le_refl a)]; simp only [qU, if_pos]; omega
    · rw [ih (by omega)]; simp only [qU]; rw [if_neg (by omega)]; omega
def qw (a b j : Nat) : Nat := if j = a then b else if j = b then a else j
theorem qS_swp (g : Nat → Int) {a b n : Nat} (ha : a < n) (hb : b < n) : qS (fun j => g (qw a b j)) n = qS g n := by
  by_cases e : a = b
  · subst e; refine qS_congr fun j _ => ?_; unfold qw; by_cases h : j = a <;> simp [h]
  have : (fun j => g (qw a b j)) = qU (qU g a (g b)) b (g a) := by
    funext j; unfold qU qw
    by_cases h1 : j = a
    · subst h1; simp [e]
    · by_cases h2 : j = b
      · subst h2; simp [h1]
      · simp [h1, h2]
  rw [this, qS_upd hb, qS_upd ha]
  simp only [qU]; rw [if_neg (by omega)]; omega
theorem qw_lt {a b j n : Nat} (ha : a < n) (hb : b < n) (hj : j < n) : qw a b j < n := by unfold qw; split <;> (try split) <;> omega
theorem qw_qw (a b j : Nat) : qw a b (qw a b j) = j := by
  unfold qw; by_cases h1 : j = a
  · subst h1; by_cases h : b = j <;> simp [h]
  · by_cases h2 : j = b
    · subst h2; simp [h1]
    · simp [h1, h2]
/-! cubes -/
theorem q_pow3_mono {a b : Nat} (h : a ≤ b) : a ^ 3 ≤ b ^ 3 := Nat.pow_le_pow_left h 3
theorem q_pow3_inv {a b : Nat} (h : a ^ 3 ≤ b ^ 3) : a ≤ b := by
  rcases Nat.lt_or_ge b a with c | c
  · have := Nat.pow_lt_pow_left c (n := 3) (by omega); omega
  · exact c
theorem q_cub {A A2 τ P P0 D n : Nat} (h1 : 2 * A2 ≤ A) (h2 : A ^ 3 ≤ D * P0) (h3 : A2 ≤ n * τ * P) (h4 : τ ^ 3 * P0 ^ 2 ≤ D) (hn : n ≤ 4) (hP0 : 0 < P0) : A2 ^ 3 ≤ D * P := by
  have a1 : 8 * A2 ^ 3 ≤ D * P0 := by have := q_pow3_mono h1; have e : (2 * A2) ^ 3 = 8 * A2 ^ 3 := by grind
                                      omega
  have a2 : A2 ^ 3 ≤ 64 * (τ ^ 3 * P ^ 3) := by
    have := q_pow3_mono h3
    have e : (n * τ * P) ^ 3 = n ^ 3 * (τ ^ 3 * P ^ 3) := by grind
    have : n ^ 3 ≤ 4 ^ 3 := q_pow3_mono hn
    have := Nat.mul_le_mul_right (τ ^ 3 * P ^ 3) this
    omega
  have a3 : A2 ^ 3 * P0 ^ 2 ≤ 64 * (D * P ^ 3) := by
    have b1 := Nat.mul_le_mul_right (P0 ^ 2) a2
    have b2 := Nat.mul_le_mul_right (64 * P ^ 3) h4
    have e1 : 64 * (τ ^ 3 * P ^ 3) * P0 ^ 2 = τ ^ 3 * P0 ^ 2 * (64 * P ^ 3) := by grind
    have e2 : D * (64 * P ^ 3) = 64 * (D * P ^ 3) := by grind
    omega
  have a4 := Nat.mul_le_mul a1 a1
  have a5 := Nat.mul_le_mul a4 a3
  have e3 : 8 * A2 ^ 3 * (8 * A2 ^ 3) * (A2 ^ 3 * P0 ^ 2) = (A2 ^ 3) ^ 3 * (64 * P0 ^ 2) := by grind
  have e4 : D * P0 * (D * P0) * (64 * (D * P ^ 3)) = (D * P) ^ 3 * (64 * P0 ^ 2) := by grind
  rw [e3, e4] at a5
  exact q_pow3_inv (Nat.le_of_mul_le_mul_right a5 (Nat.mul_pos (by omega) (Nat.pow_pos hP0)))
theorem q_tri {B T P P0 C : Nat} (hP : P ≤ P0) (h1 : T ≤ 2 * B) (h2 : 2 * (T * P) ≤ B * (P + P0)) (h4 : B ^ 3 * P0 ^ 2 ≤ C) : T ^ 3 * P ^ 2 ≤ C := by
  by_cases c : 3 * P ≤ P0
  · have a := Nat.mul_le_mul (q_pow3_mono h1) (Nat.pow_le_pow_left c 2)
    have e : T ^ 3 * (3 * P) ^ 2 = 9 * (T ^ 3 * P ^ 2) := by grind
    have e1 : (2 * B) ^ 3 * P0 ^ 2 = 8 * (B ^ 3 * P0 ^ 2) := by grind
    have a := Nat.mul_le_mul (q_pow3_mono h1) (Nat.pow_le_pow_left c 2)
    omega
  · rcases Nat.eq_zero_or_pos P with z | z
    · subst z; omega
    have a := q_pow3_mono h2
    have e : (2 * (T * P)) ^ 3 = 8 * P * (T ^ 3 * P ^ 2) := by grind
    have e1 : (B * (P + P0)) ^ 3 = B ^ 3 * (P + P0) ^ 3 := by grind
    have k : (P + P0) ^ 3 ≤ 8 * P * P0 ^ 2 := by
      obtain ⟨d, rfl⟩ := Nat.exists_eq_add_of_le hP
      have hd : d ≤ 2 * P := by omega
      have b1 : d ^ 3 ≤ 2 * P * d ^ 2 := by have := Nat.mul_le_mul_right (d ^ 2) hd; have e : d * d ^ 2 = d ^ 3 := by grind
                                            omega
      have e2 : (P + (P + d)) ^ 3 = 8 * P ^ 3 + 12 * (P ^ 2 * d) + 6 * (P * d ^ 2) + d ^ 3 := by grind
      have e3 : 8 * P * (P + d) ^ 2 = 8 * P ^ 3 + 16 * (P ^ 2 * d) + 8 * (P * d ^ 2) := by grind
      have e4 : 2 * P * d ^ 2 = 2 * (P * d ^ 2) := by grind
      omega
    have f := Nat.mul_le_mul_left (B ^ 3) k
    have e5 : B ^ 3 * (8 * P * P0 ^ 2) = 8 * P * (B ^ 3 * P0 ^ 2) := by grind
    have g := Nat.mul_le_mul_left (8 * P) h4
    rw [e, e1] at a
    exact Nat.le_of_mul_le_mul_left (by omega : 8 * P * (T ^ 3 * P ^ 2) ≤ 8 * P * C) (by omega)
