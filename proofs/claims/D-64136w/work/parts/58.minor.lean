/-! MINORS: rho rows a, rho columns b, one more row f and one more column l -/
def qd2 (a b c d : Int) : Int := a * d - b * c
def qd3 (a b c d e f g h i : Int) : Int := c * qd2 d e g h - f * qd2 a b g h + i * qd2 a b d e
def qd4 (a b c d e f g h i j k l m n o p : Int) : Int := p * qd3 a b c e f g i j k - l * qd3 a b c e f g m n o + h * qd3 a b c i j k m n o - d * qd3 e f g i j k m n o
def qE (ρ : Nat) (a : Nat → Nat → Int) (b : Nat → Nat) (f : Nat → Int) (l : Nat) : Int :=
  match ρ with
  | 0 => f l
  | 1 => qd2 (a 0 (b 0)) (a 0 l) (f (b 0)) (f l)
  | 2 => qd3 (a 0 (b 0)) (a 0 (b 1)) (a 0 l) (a 1 (b 0)) (a 1 (b 1)) (a 1 l) (f (b 0)) (f (b 1)) (f l)
  | _ => qd4 (a 0 (b 0)) (a 0 (b 1)) (a 0 (b 2)) (a 0 l) (a 1 (b 0)) (a 1 (b 1)) (a 1 (b 2)) (a 1 l) (a 2 (b 0)) (a 2 (b 1)) (a 2 (b 2)) (a 2 l) (f (b 0)) (f (b 1)) (f (b 2)) (f l)
def qDe (ρ : Nat) (a : Nat → Nat → Int) (b : Nat → Nat) : Int :=
  match ρ with
  | 0 => 1
  | n + 1 => qE n a b (a n) (b n)
theorem qE_rec {ρ : Nat} (h : ρ ≤ 2) (a : Nat → Nat → Int) (b : Nat → Nat) (f : Nat → Int) (l : Nat) : qDe ρ a b * qE (ρ + 1) a b f l = qDe (ρ + 1) a b * qE ρ a b f l - qE ρ a b f (b ρ) * qE ρ a b (a ρ) l := by
  have : ρ = 0 ∨ ρ = 1 ∨ ρ = 2 := by omega
  rcases this with rfl | rfl | rfl <;> simp only [qDe, qE, qd4, qd3, qd2] <;> grind
/-- the same with any row g and column k in the place of the next ones -/
theorem qE_pair {ρ : Nat} (h : ρ ≤ 2) (a : Nat → Nat → Int) (b : Nat → Nat) (f g : Nat → Int) (k l : Nat) : qE ρ a b g k * qE ρ a b f l - qE ρ a b f k * qE ρ a b g l = qDe ρ a b * qE (ρ + 1) (fun i => if i = ρ then g else a i) (fun i => if i = ρ then k else b i) f l := by
  have : ρ = 0 ∨ ρ = 1 ∨ ρ = 2 := by omega
  rcases this with rfl | rfl | rfl <;> simp [qDe, qE, qd4, qd3, qd2] <;> grind
theorem qE_self {ρ : Nat} (h : ρ ≤ 3) (a : Nat → Nat → Int) (b : Nat → Nat) (f : Nat → Int) {i : Nat} (hi : i < ρ) : qE ρ a b f (b i) = 0 := by
  have : (ρ = 1 ∧ i = 0) ∨ (ρ = 2 ∧ i = 0) ∨ (ρ = 2 ∧ i = 1) ∨ (ρ = 3 ∧ i = 0) ∨ (ρ = 3 ∧ i = 1) ∨ (ρ = 3 ∧ i = 2) := by omega
  rcases this with ⟨rfl, rfl⟩ | ⟨rfl, rfl⟩ | ⟨rfl, rfl⟩ | ⟨rfl, rfl⟩ | ⟨rfl, rfl⟩ | ⟨rfl, rfl⟩ <;> simp only [qE, qd4, qd3, qd2] <;> grind
def qMt (ρ : Nat) : Nat := match ρ with | 0 => 1 | 1 => 40 | 2 => 2400 | _ => 192000
theorem qd2_le {a b c d : Int} {A L : Nat} (ha : a.natAbs ≤ A) (hb : b.natAbs ≤ L) (hc : c.natAbs ≤ A) (hd : d.natAbs ≤ L) : (qd2 a b c d).natAbs ≤ 2 * (A * L) := by
  have h1 := q_abs_mul_le ha hd
  have h2 := q_abs_mul_le hb hc
  rw [Nat.mul_comm L] at h2
  unfold qd2; omega
theorem qd3_le {a b c d e f g h i : Int} {L : Nat} (ha : a.natAbs ≤ 20) (hb : b.natAbs ≤ 20) (hc : c.natAbs ≤ L) (hd : d.natAbs ≤ 20) (he : e.natAbs ≤ 20) (hf : f.natAbs ≤ L) (hg : g.natAbs ≤ 20) (hh : h.natAbs ≤ 20) (hi : i.natAbs ≤ L) : (qd3 a b c d e f g h i).natAbs ≤ 2400 * L := by
  have h1 := q_abs_mul_le hc (qd2_le hd he hg hh)
  have h2 := q_abs_mul_le hf (qd2_le ha hb hg hh)
  have h3 := q_abs_mul_le hi (qd2_le ha hb hd he)
  unfold qd3; omega
theorem qd4_le {a b c d e f g h i j k l m n o p : Int} {L : Nat} (ha : a.natAbs ≤ 20) (hb : b.natAbs ≤ 20) (hc : c.natAbs ≤ 20) (hd : d.natAbs ≤ L) (he : e.natAbs ≤ 20) (hf : f.natAbs ≤ 20) (hg : g.natAbs ≤ 20) (hh : h.natAbs ≤ L) (hi : i.natAbs ≤ 20) (hj : j.natAbs ≤ 20) (hk : k.natAbs ≤ 20) (hl : l.natAbs ≤ L) (hm : m.natAbs ≤ 20) (hn : n.natAbs ≤ 20) (ho : o.natAbs ≤ 20) (hp : p.natAbs ≤ L) : (qd4 a b c d e f g h i j k l m n o p).natAbs ≤ 192000 * L := by
  have h1 := q_abs_mul_le hp (qd3_le ha hb hc he hf hg hi hj hk)
  have h2 := q_abs_mul_le hl (qd3_le ha hb hc he hf hg hm hn ho)
  have h3 := q_abs_mul_le hh (qd3_le ha hb hc hi hj hk hm hn ho)
  have h4 := q_abs_mul_le hd (qd3_le he hf hg hi hj hk hm hn ho)
  unfold qd4; omega
theorem qE_le {ρ : Nat} (h : ρ ≤ 3) {a : Nat → Nat → Int} {b : Nat → Nat} {f : Nat → Int} {l L : Nat} (ha : ∀ i j, i < ρ → j < ρ → (a i (b j)).natAbs ≤ 20) (hf : ∀ j, j < ρ → (f (b j)).natAbs ≤ 20) (hl : ∀ i, i < ρ → (a i l).natAbs ≤ L) (hfl : (f l).natAbs ≤ L) : (qE ρ a b f l).natAbs ≤ qMt ρ * L := by
  have : ρ = 0 ∨ ρ = 1 ∨ ρ = 2 ∨ ρ = 3 := by omega
  rcases this with rfl | rfl | rfl | rfl
  · simp only [qE, qMt]; omega
  · have := qd2_le (ha 0 0 (by omega) (by omega)) (hl 0 (by omega)) (hf 0 (by omega)) hfl
    simp only [qE, qMt]; omega
  · exact qd3_le (ha 0 0 (by omega) (by omega)) (ha 0 1 (by omega) (by omega)) (hl 0 (by omega)) (ha 1 0 (by omega) (by omega)) (ha 1 1 (by omega) (by omega)) (hl 1 (by omega)) (hf 0 (by omega)) (hf 1 (by omega)) hfl
  · exact qd4_le (ha 0 0 (by omega) (by omega)) (ha 0 1 (by omega) (by omega)) (ha 0 2 (by omega) (by omega)) (hl 0 (by omega)) (ha 1 0 (by omega) (by omega)) (ha 1 1 (by omega) (by omega)) (ha 1 2 (by omega) (by omega)) (hl 1 (by omega)) (ha 2 0 (by omega) (by omega)) (ha 2 1 (by omega) (by omega)) (ha 2 2 (by omega) (by omega)) (hl 2 (by omega)) (hf 0 (by omega)) (hf 1 (by omega)) (hf 2 (by omega)) hfl
