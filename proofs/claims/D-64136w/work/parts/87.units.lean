/-! no row yet: the unit vectors -/
theorem qKB_0 {n : Nat} (hn : n ≤ 6) (a : Nat → Nat → Int) (b : Nat → Nat) : qKB n 0 n a b (fun i => i) (fun i c => if i = c ∧ i < n then 1 else 0) := by
  refine ⟨⟨by omega, hn, by omega⟩, fun i hi => ⟨hi, ?_, fun c hc => ?_⟩, fun i j h _ => h, fun g i h hi => ?_, fun i c hi hc => ?_, fun i hi => by omega, fun c hc => .inl ⟨c, hc, rfl⟩, fun i j hi => by omega, fun i hi => ?_, ?_⟩
  · show (0 : Int) < if i = i ∧ i < n then 1 else 0
    rw [if_pos ⟨rfl, hi⟩]; decide
  · have hc : c < i := hc
    show (if i = c ∧ i < n then (1 : Int) else 0) = 0
    rw [if_neg (by omega)]
  · show (0 : Int) ≤ (if g = i ∧ g < n then 1 else 0) ∧ (if g = i ∧ g < n then (1 : Int) else 0) < if i = i ∧ i < n then 1 else 0
    rw [if_neg (by omega), if_pos ⟨rfl, hi⟩]; decide
  · show (if i = c ∧ i < n then (1 : Int) else 0) = 0
    rw [if_neg (by omega)]
  · have : i = 0 := by omega
    subst this; simp [qDe]
  · have key : ∀ k, k ≤ n → qPi (fun _ => 1) k = 1 := by
      intro k
      induction k with
      | zero => intro _; rfl
      | succ k ih => intro hk; simp only [qPi]; rw [ih (by omega)]
    have e : qPi (fun i => ((fun i c => if i = c ∧ i < n then (1 : Int) else 0) i ((fun i => i) i)).natAbs) n = qPi (fun _ => 1) n := qPi_congr fun c hc => by
      show (if c = c ∧ c < n then (1 : Int) else 0).natAbs = 1
      rw [if_pos ⟨rfl, hc⟩]; rfl
    rw [e, key n (Nat.le_refl _)]
    exact Nat.le_refl _
theorem qSpan_0 {n : Nat} (hn : n ≤ 6) {v : Nat → Int} (hv : ∀ c, n ≤ c → c < 7 → v c = 0) : qSpan n (fun i c => if i = c ∧ i < n then 1 else 0) v := by
  refine ⟨v, fun c hc => ?_⟩
  by_cases h : c < n
  · have : qS (fun l => v l * (if l = c ∧ l < n then 1 else 0)) n = qS (fun l => v l * (if l = c then 1 else 0)) n := qS_congr fun l hl => by
      by_cases z : l = c
      · rw [if_pos ⟨z, hl⟩, if_pos z]
      · rw [if_neg (by omega), if_neg z]
    rw [this, qS_unit2 v h]; omega
  · rw [hv c (by omega) hc, qS_zero]
    intro l hl
    show v l * (if l = c ∧ l < n then 1 else 0) = 0
    rw [if_neg (by omega)]; simp
