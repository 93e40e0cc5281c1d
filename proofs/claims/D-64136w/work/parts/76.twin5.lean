/-! the twin's order, over any account of the leads -/
theorem sp_order_4 {n kk z : Nat} {Q : St → Prop} {σ0 : St} {P : Nat → Nat → (Nat → Nat → Int) → Prop} (hn : n ≤ 6) (hk : kk ≤ 6) (h17 : gI σ0 17 = Int32.ofNat n) (h31 : gI σ0 31 = Int32.ofNat kk) (fit : ∀ s c V, s < kk → c < n → P s c V → ∀ j, z + s ≤ j → j < z + kk → (V j (4 + c)).natAbs < 2 ^ 63) (no : ∀ s c V, s < kk → c < n → P s c V → (∀ j, z + s ≤ j → j < z + kk → V j (4 + c) = 0) → P s (c + 1) V) (yes : ∀ s c V V2, s < kk → c < n → P s c V → qGath (z + s) (z + kk) (4 + c) V V2 → 0 < V2 (z + s) (4 + c) → (∀ l, l ≤ s → (V2 (z + l) (4 + c)).natAbs + (V2 (z + s) (4 + c)).natAbs < 2 ^ 63) ∧ P (s + 1) (c + 1) (qRed z s (mFl z s (4 + c) V2) V2)) (fin : ∀ σ2 V2 s c, mFr σ0 σ2 → mB σ2 n kk z V2 → P s c V2 → s ≤ kk → (n ≤ c ∨ s = kk) → Q σ2) : ∀ (d c s : Nat) (V : Nat → Nat → Int) (σ : St), c + d = n → s ≤ kk → mFr σ0 σ → mB σ n kk z V → P s c V → wp_order_4 Q (d + 1) (Int32.ofNat s) (Int32.ofNat c) σ := by
  intro d
  induction d with
  | zero =>
    intro c s V σ hc hs fr hB hP
    unfold wp_order_4
    rw [gI_Fr fr, h17, i_le (by omega) (by omega)]
    exact ⟨fun _ => fin σ V s c fr hB hP hs (.inl (by omega)), fun h => absurd (by omega) h⟩
  | succ d ih =>
    intro c s V σ hc hs fr hB hP
    unfold wp_order_4
    rw [gI_Fr fr, gI_Fr fr, h17, h31, i_le (by omega) (by omega), i_le (by omega) (by omega)]
    refine ⟨fun h => by omega, fun _ => ⟨fun h => fin σ V s c fr hB hP hs (.inr (by omega)), fun h => ?_⟩⟩
    have sk : s < kk := by omega
    refine sp_gather hn hk sk (by omega) (by rw [gI_Fr fr]; exact h17) (by rw [gI_Fr fr]; exact h31) hB (fun j j1 j2 => fit s c V sk (by omega) hP (z + j) (by omega) (by omega)) (fun hz => ?_) (fun σ2 V2 f2 hB2 g pos => ?_)
    · refine ⟨fun _ => ?_, fun h => absurd rfl h⟩
      unfold wp_order_104
      intro x1 e1
      subst e1
      rw [i_one]
      refine ih (c + 1) s V σ (by omega) hs fr hB (no s c V sk (by omega) hP fun j j1 j2 => ?_)
      have := hz (j - z) (by omega) (by omega)
      rwa [show z + (j - z) = j by omega] at this
    · refine ⟨fun h => absurd h (by decide), fun _ => ?_⟩
      obtain ⟨b, p2⟩ := yes s c V V2 sk (by omega) hP g pos
      have fr2 := mFr_trans fr f2
      refine ⟨s + 1, sp_order_31 hn hk sk (by omega) (by rw [gI_Fr fr2]; exact h17) pos b (fun σ3 f3 hB3 => ?_) s 0 σ2 V2 (by omega) (mFr_refl _) hB2 fun j => ?_⟩
      · exact ih (c + 1) (s + 1) _ σ3 (by omega) (by omega) (mFr_trans fr2 f3) hB3 p2
      · rw [if_neg (by omega)]
