/-! CIRCUITS: on what is 0 with rho rows, each row is made of the columns that aren't dropped; products of leads -/
def qF (f v : Nat → Int) : Int := qS (fun c => f c * v c) 7
theorem qE_circ {a : Nat → Nat → Int} {b : Nat → Nat} {v : Nat → Int} : ∀ ρ, ρ ≤ 3 → (∀ i, i < ρ → qF (a i) v = 0) → (∀ i, i < ρ → qDe i a b ≠ 0) → ∀ f, qDe ρ a b * qF f v = qS (fun c => qE ρ a b f c * v c) 7 := by
  intro ρ
  induction ρ with
  | zero => intro _ _ _ f; simp only [qDe, qE, qF, Int.one_mul]
  | succ ρ ih =>
    intro h h0 hd f
    have i1 := ih (by omega) (fun i hi => h0 i (by omega)) (fun i hi => hd i (by omega))
    have A := i1 (a ρ)
    rw [h0 ρ (by omega), Int.mul_zero] at A
    have d := hd ρ (by omega)
    have e : qDe ρ a b * qS (fun c => qE (ρ + 1) a b f c * v c) 7 = qDe ρ a b * (qDe (ρ + 1) a b * qF f v) := by
      rw [← qS_mul]
      have : qS (fun c => qDe ρ a b * (qE (ρ + 1) a b f c * v c)) 7 = qS (fun c => qDe (ρ + 1) a b * (qE ρ a b f c * v c) - qE ρ a b f (b ρ) * (qE ρ a b (a ρ) c * v c)) 7 := qS_congr fun c _ => by
        have := qE_rec (show ρ ≤ 2 by omega) a b f c
        rw [← Int.mul_assoc, this]; grind
      rw [this, qS_sub, qS_mul, qS_mul, ← A, ← i1 f]; grind
    exact (Int.eq_of_mul_eq_mul_left d e).symm
def qPi (p : Nat → Nat) : Nat → Nat
  | 0 => 1
  | n + 1 => qPi p n * p n
theorem qPi_pos {p : Nat → Nat} {n : Nat} (h : ∀ c, c < n → 1 ≤ p c) : 1 ≤ qPi p n := by
  induction n with
  | zero => exact Nat.le_refl _
  | succ n ih => exact Nat.mul_pos (ih (fun c hc => h c (by omega))) (h n (by omega))
theorem qPi_congr {p q : Nat → Nat} {n : Nat} (h : ∀ c, c < n → p c = q c) : qPi p n = qPi q n := by
  induction n with
  | zero => rfl
  | succ n ih => simp only [qPi]; rw [ih (fun c hc => h c (by omega)), h n (by omega)]
theorem qPi_mono {p q : Nat → Nat} {n : Nat} (h : ∀ c, c < n → p c ≤ q c) : qPi p n ≤ qPi q n := by
  induction n with
  | zero => exact Nat.le_refl _
  | succ n ih => exact Nat.mul_le_mul (ih (fun c hc => h c (by omega))) (h n (by omega))
def qUN (p : Nat → Nat) (a x : Nat) : Nat → Nat := fun c => if c = a then x else p c
theorem qPi_upd {p : Nat → Nat} {a x n : Nat} (h : a < n) : qPi (qUN p a x) n * p a = qPi p n * x := by
  induction n with
  | zero => omega
  | succ n ih =>
    simp only [qPi]
    by_cases e : a = n
    · subst e
      have : qPi (qUN p a x) a = qPi p a := qPi_congr fun c hc => by unfold qUN; rw [if_neg (by omega)]
      rw [this]; simp only [qUN, if_pos]; grind
    · have : qUN p a x n = p n := by unfold qUN; rw [if_neg (by omega)]
      rw [this]
      have := ih (by omega)
      calc qPi (qUN p a x) n * p n * p a = (qPi (qUN p a x) n * p a) * p n := by grind
        _ = qPi p n * p n * x := by rw [this]; grind
/-- one lead, all others less than theirs: the sum is at most the product -/
theorem qPi_sum {p u : Nat → Nat} {c0 : Nat} : ∀ n, (∀ c, c < n → 1 ≤ p c) → (∀ c, c < n → c ≠ c0 → u c + 1 ≤ p c) → (c0 < n → u c0 ≤ p c0) → (c0 < n → qS (fun c => (u c : Int)) n ≤ qPi p n) ∧ (n ≤ c0 → qS (fun c => (u c : Int)) n + 1 ≤ qPi p n) := by
  intro n
  induction n with
  | zero => intro _ _ _; exact ⟨fun h => by omega, fun _ => by simp [qS, qPi]⟩
  | succ n ih =>
    intro h1 h2 h3
    obtain ⟨a, b⟩ := ih (fun c hc => h1 c (by omega)) (fun c hc => h2 c (by omega)) (fun k => h3 (by omega))
    have q := qPi_pos (p := p) (n := n) (fun c hc => h1 c (by omega))
    have pn := h1 n (by omega)
    simp only [qS, qPi]
    obtain ⟨d, hd⟩ := Nat.exists_eq_add_of_le q
    obtain ⟨e, he⟩ := Nat.exists_eq_add_of_le pn
    have m : qPi p n * p n = 1 + d + e + d * e := by rw [hd, he]; grind
    have z : 0 ≤ ((d * e : Nat) : Int) := by omega
    constructor
    · intro k
      by_cases c : c0 < n
      · have := a c; have := h2 n (by omega) (by omega); omega
      · have : c0 = n := by omega
        subst this
        have := b (Nat.le_refl _); have := h3 (by omega); omega
    · intro k
      have := b (by omega); have := h2 n (by omega) (by omega); omega
/-- the product of all steps of the chain -/
theorem q_stepsP (x : Nat → Int) (n : Nat) (hx : x n ≠ 0) : ∃ (c : Nat → Nat) (y : Nat → Nat → Int), (∀ l, l < n → 0 < c l ∧ y l l = c l ∧ (∀ j, j < l → y l j = 0) ∧ qDot x (y l) n = 0) ∧ qPi c n ≤ (x n).natAbs := by
  obtain ⟨g, g1, g2, g3⟩ := q_chain x n hx n (Nat.le_refl _)
  have ch : ∀ l, ∃ y : Nat → Int, l < n → (∀ j, j < l → y j = 0) ∧ y l * g l = g (l + 1) ∧ qDot x y n = 0 := by
    intro l
    by_cases h : l < n
    · obtain ⟨y, hy⟩ := g3 l (by omega) h
      exact ⟨y, fun _ => ⟨hy.1, hy.2.2.1, hy.2.2.2⟩⟩
    · exact ⟨fun _ => 0, fun k => absurd k h⟩
  obtain ⟨y, hy⟩ : ∃ y : Nat → Nat → Int, ∀ l, l < n → (∀ j, j < l → y l j = 0) ∧ y l l * g l = g (l + 1) ∧ qDot x (y l) n = 0 := ⟨fun l => (ch l).choose, fun l => (ch l).choose_spec⟩
  have gp : ∀ i, i ≤ n → 0 < g i := fun i hi => (g1 i (by omega) hi).1
  have yp : ∀ l, l < n → 0 < y l l := by
    intro l hl
    have a := (hy l hl).2.1
    have b := gp l (by omega)
    have c := gp (l + 1) (by omega)
    rcases Int.lt_or_le 0 (y l l) with k | k
    · exact k
    · have := Int.mul_le_mul_of_nonneg_right k (Int.le_of_lt b); omega
  refine ⟨fun l => (y l l).natAbs, y, fun l hl => ⟨?_, ?_, (hy l hl).1, (hy l hl).2.2⟩, ?_⟩
  · have := yp l hl; show 0 < (y l l).natAbs; omega
  · have := yp l hl; show y l l = ((y l l).natAbs : Int); omega
  have key : ∀ i, i ≤ n → qPi (fun l => (y l l).natAbs) i * (g 0).natAbs = (g i).natAbs := by
    intro i
    induction i with
    | zero => intro _; simp [qPi]
    | succ i ih =>
      intro hi
      have a := ih (by omega)
      have b := (hy i (by omega)).2.1
      simp only [qPi]
      rw [← b, Int.natAbs_mul, ← a]; grind
  have e := key n (Nat.le_refl _)
  have gn : (g n).natAbs = (x n).natAbs := by rw [g2]; unfold qab; omega
  rw [← gn, ← e]
  exact Nat.le_mul_of_pos_right _ (by have := gp 0 (by omega); omega)
/-- all leads of a stage: their product -/
theorem qLS_prod {R z : Nat} {x : Nat → Int} {W V : Nat → Nat → Int} (h : qLS R R z x W V) (hx : x R ≠ 0) : qPi (fun l => (V (z + l) (16 + l)).natAbs) R ≤ (x R).natAbs := by
  obtain ⟨c, y, h1, h2⟩ := q_stepsP x R hx
  refine Nat.le_trans (qPi_mono fun l hl => ?_) h2
  obtain ⟨c0, e0, z0, d0⟩ := h1 l hl
  obtain ⟨k, hk⟩ := h.2.2.2.2.1 l hl (y l) d0 z0
  rw [e0] at hk
  have n := congrArg Int.natAbs hk
  rw [Int.natAbs_mul, Int.natAbs_natCast] at n
  rw [n] at c0 ⊢
  exact Nat.le_mul_of_pos_left _ (Nat.pos_of_mul_pos_right c0)
