/-! THE TWIN'S WHOLE SOLUTIONS: row by row -/
/-- a row as a functional: its A, and less its B for the homogenizer -/
def mRf (σ : St) (n s : Nat) : Nat → Int := fun c => if c < n then mA σ s c else if c = 6 then -(σ.2.1 19 (7 * s + n)).toInt else 0
def mWk (σ : St) (n r ρ k : Nat) (A : Nat → Nat → Int) (cN : Nat → Nat) (w : Nat → Nat → Int) : Prop :=
  gI σ 31 = Int32.ofNat k ∧ (∀ i c, i < k → c < n → σ.2.2 30 (6 * i + c) = Int64.ofInt (w i c)) ∧
  (qSol n r A ∧ gI σ 33 = 1 ∧ (ρ ≤ 3 → ∃ v : Nat → Int, v 6 = 1 ∧ qAll n r A v ∧ mO σ n v ∧ ∀ i, i < k → (v (cN i)).natAbs < (w i (cN i)).natAbs) ∨ ¬ qSol n r A ∧ gI σ 33 = 0)
def mWh (σ : St) (n r : Nat) (A : Nat → Nat → Int) : Prop := ∃ (ρ k : Nat) (a : Nat → Nat → Int) (b cN : Nat → Nat) (w : Nat → Nat → Int), qInv n r ρ k A a b cN w ∧ mWk σ n r ρ k A cN w
theorem qInv_lead {n r ρ k : Nat} {A a : Nat → Nat → Int} {b cN : Nat → Nat} {w : Nat → Nat → Int} (h : qInv n r ρ k A a b cN w) (hA : ∀ s, s < r → qRow n (A s)) (hρ : ρ ≤ 4) : ∀ i, i < k → (w i (cN i)).natAbs ≤ 3840000 := by
  intro i hi
  have p := qKB_p h.1 hi
  have ar : ∀ i, i < ρ → qRow n (a i) := fun i hi => by obtain ⟨s, h1, h2⟩ := h.2.2.1 i hi; rw [h2]; exact hA s h1
  rcases Nat.eq_zero_or_pos ρ with e | e
  · subst e; have : qDe 0 a b = 1 := rfl
    rw [this] at p; omega
  · obtain ⟨m, rfl⟩ : ∃ m, ρ = m + 1 := ⟨ρ - 1, by omega⟩
    have := qDe_le h.1 (by omega) ar
    have hm : qMt m ≤ 192000 := by
      have : m = 0 ∨ m = 1 ∨ m = 2 ∨ m = 3 := by omega
      rcases this with rfl | rfl | rfl | rfl <;> decide
    omega
/-- behind order: the solution is shortened -/
theorem sp_wh_short {n r ρ k z : Nat} {A a : Nat → Nat → Int} {b cN : Nat → Nat} {w V : Nat → Nat → Int} {Q : St → Prop} {σ : St} (hn : n ≤ 6) (h : qInv n r ρ k A a b cN w) (hA : ∀ s, s < r → qRow n (A s)) (h17 : gI σ 17 = Int32.ofNat n) (h31 : gI σ 31 = Int32.ofNat k) (hB : mB σ n k z V) (hV : ∀ i, i < k → ∀ c, c < n → V (z + i) (4 + c) = w i c) (hF : qSol n r A ∧ gI σ 33 = 1 ∧ (ρ ≤ 3 → ∃ (v : Nat → Int) (E : Nat), v 6 = 1 ∧ qAll n r A v ∧ mO σ n v ∧ (∀ i, i < k → (v (cN i)).natAbs ≤ E) ∧ ∀ i, i < k → 2 ^ k * (E * (w i (cN i)).natAbs) < 2 ^ 63) ∨ ¬ qSol n r A ∧ gI σ 33 = 0) (q : ∀ σ2, mFs σ σ2 → mWh σ2 n r A → Q σ2) : wp_shorten σ Q := by
  have hk : k ≤ 6 := by have := h.1.1.1; omega
  have hρ : ρ ≤ 4 := h.1.1.2.2
  have hN := qKB_HN h.1
  have lead := qInv_lead h hA hρ
  unfold wp_shorten
  have run : ∀ (v0 : Nat → Int) (E : Nat), mO σ n v0 → (∀ σ2 v, mFo σ σ2 → mO σ2 n v → ((∀ i, i < k → (v0 (cN i)).natAbs ≤ E) → (∀ i, i < k → 2 ^ k * (E * (w i (cN i)).natAbs) < 2 ^ 63) → (∃ t : Nat → Int, ∀ c, c < n → v c = v0 c - qS (fun l => t l * w l c) k) ∧ ∀ i, i < k → (v (cN i)).natAbs < (w i (cN i)).natAbs) → Q σ2) → ∃ n2, wp_shorten_2 Q n2 0 σ := by
    intro v0 E hO qq
    refine ⟨k + 1, sp_shorten_2 (v0 := v0) (E := E) hn hk h17 h31 hB hV hN (fun i hi => by have := lead i hi; omega) qq k 0 σ v0 (by omega) (mFo_refl σ) hO fun b1 b2 => ⟨⟨fun _ => 0, fun c _ => by simp [qS]⟩, fun l hl => by omega, fun l _ hl => ?_⟩⟩
    have p := (hN.1 l hl).2.1
    have : 1 ≤ (w l (cN l)).natAbs := by omega
    have := Nat.mul_le_mul (b1 l hl) this
    rw [Nat.pow_zero, Nat.one_mul]; omega
  have cells : ∀ σ2, mFo σ σ2 → ∀ i c, i < k → c < n → σ2.2.2 30 (6 * i + c) = Int64.ofInt (w i c) := by
    intro σ2 f i c hi hc
    rw [f.2.2 30 (by decide), hB i c hi hc, hV i hi c hc]
  have give : ∀ σ2, mFo σ σ2 → (qSol n r A ∧ gI σ2 33 = 1 ∧ (ρ ≤ 3 → ∃ v : Nat → Int, v 6 = 1 ∧ qAll n r A v ∧ mO σ2 n v ∧ ∀ i, i < k → (v (cN i)).natAbs < (w i (cN i)).natAbs) ∨ ¬ qSol n r A ∧ gI σ2 33 = 0) → Q σ2 := by
    intro σ2 f hh
    exact q σ2 (mFo_s f) ⟨ρ, k, a, b, cN, w, h, by rw [gI_Fo f]; exact h31, cells σ2 f, hh⟩
  rcases hF with ⟨sol, h33, hv⟩ | ⟨no, h33⟩
  · by_cases r3 : ρ ≤ 3
    · obtain ⟨v0, E, h6, hal, hO, e1, e2⟩ := hv r3
      refine run v0 E hO fun σ2 v f hO2 res => give σ2 f (.inl ⟨sol, by rw [gI_Fo f]; exact h33, fun _ => ?_⟩)
      obtain ⟨⟨t, ht⟩, hl⟩ := res e1 e2
      refine ⟨fun c => if c < n then v c else v0 c, ?_, ⟨fun c c1 c2 => ?_, fun s hs => ?_⟩, fun c hc => ?_, fun i hi => ?_⟩
      · show (if 6 < n then v 6 else v0 6) = 1
        rw [if_neg (by omega)]; exact h6
      · show (if c < n then v c else v0 c) = 0
        rw [if_neg (by omega)]; exact hal.1 c c1 c2
      · have sp : qSpan k w (fun c => v0 c - (if c < n then v c else v0 c)) := ⟨t, fun c hc => by
          show v0 c - (if c < n then v c else v0 c) = _
          by_cases y : c < n
          · rw [if_pos y, ht c y]; omega
          · rw [if_neg y, qS_zero (fun l hl => by rw [h.1.2.2.2.2.1 l c hl (by omega)]; simp)]; omega⟩
        have z := (qSpan_all sp h.2.2.2.1).2 s hs
        have e : qF (A s) (fun c => v0 c - (if c < n then v c else v0 c)) = qF (A s) v0 - qF (A s) (fun c => if c < n then v c else v0 c) := by
          unfold qF; rw [← qS_sub]; exact qS_congr fun c _ => by grind
        rw [e, hal.2 s hs] at z; omega
      · show _ = Int64.ofInt (if c < n then v c else v0 c)
        rw [if_pos hc]; exact hO2 c hc
      · show (if cN i < n then v (cN i) else v0 (cN i)).natAbs < _
        rw [if_pos (hN.1 i hi).1]; exact hl i hi
    · exact run _ 0 (mO_any σ n) fun σ2 v f _ _ => give σ2 f (.inl ⟨sol, by rw [gI_Fo f]; exact h33, fun h => absurd h r3⟩)
  · exact run _ 0 (mO_any σ n) fun σ2 v f _ _ => give σ2 f (.inr ⟨no, by rw [gI_Fo f]; exact h33⟩)
/-- the vectors of a row's stage: the row's value at place r, the vector, unit coordinates -/
def qVs (w : Nat → Nat → Int) (x : Nat → Int) (r : Nat) : Nat → Nat → Int := fun i c => if c < 4 then (if c = r then x i else 0) else if c < 11 then w i (c - 4) else if i + 16 = c then 1 else 0
theorem qVs_w (w : Nat → Nat → Int) (x : Nat → Int) (r i : Nat) {col : Nat} (h : col < 7) : qVs w x r i (4 + col) = w i col := by
  unfold qVs; rw [if_neg (by omega), if_pos (by omega), show 4 + col - 4 = col by omega]
theorem qVs_r (w : Nat → Nat → Int) (x : Nat → Int) {r : Nat} (i : Nat) (h : r < 4) : qVs w x r i r = x i := by
  unfold qVs; rw [if_pos h, if_pos rfl]
theorem qVs_u (w : Nat → Nat → Int) (x : Nat → Int) (r i l : Nat) : qVs w x r i (16 + l) = if i = l then 1 else 0 := by
  unfold qVs; rw [if_neg (by omega), if_neg (by omega)]
  by_cases e : i = l
  · rw [if_pos e, if_pos (by omega)]
  · rw [if_neg e, if_neg (by omega)]
/-- what the bounds say of E -/
theorem q_E {ρ k : Nat} (h2 : ρ ≤ 2) (hk : ρ + k ≤ 6) {p : Nat} (hp : p ≤ qMt ρ * 20) (hk1 : 0 < k) : 2 ^ (k - 1) * ((qMt ρ * 220 + qMt ρ * 220 * (qMt ρ * 20 + 2 * (k * (qMt (ρ + 1) * 20)))) * p) < 2 ^ 63 := by
  have hr : ρ = 0 ∨ ρ = 1 ∨ ρ = 2 := by omega
  rcases hr with rfl | rfl | rfl
  · have : k ≤ 6 := by omega
    have a : 2 ^ (k - 1) ≤ 2 ^ 5 := Nat.pow_le_pow_right (by decide) (by omega)
    have b : qMt 0 * 220 + qMt 0 * 220 * (qMt 0 * 20 + 2 * (k * (qMt (0 + 1) * 20))) ≤ 1 * 220 + 1 * 220 * (20 + 2 * (6 * (40 * 20))) := by
      simp only [qMt]; omega
    have c : p ≤ 20 := by simpa only [qMt] using hp
    exact Nat.lt_of_le_of_lt (Nat.mul_le_mul a (Nat.mul_le_mul b c)) (by decide)
  · have : k ≤ 5 := by omega
    have a : 2 ^ (k - 1) ≤ 2 ^ 4 := Nat.pow_le_pow_right (by decide) (by omega)
    have b : qMt 1 * 220 + qMt 1 * 220 * (qMt 1 * 20 + 2 * (k * (qMt (1 + 1) * 20))) ≤ 40 * 220 + 40 * 220 * (40 * 20 + 2 * (5 * (2400 * 20))) := by
      simp only [qMt]; omega
    have c : p ≤ 800 := by simpa only [qMt] using hp
    exact Nat.lt_of_le_of_lt (Nat.mul_le_mul a (Nat.mul_le_mul b c)) (by decide)
  · have : k ≤ 4 := by omega
    have a : 2 ^ (k - 1) ≤ 2 ^ 3 := Nat.pow_le_pow_right (by decide) (by omega)
    have b : qMt 2 * 220 + qMt 2 * 220 * (qMt 2 * 20 + 2 * (k * (qMt (2 + 1) * 20))) ≤ 2400 * 220 + 2400 * 220 * (2400 * 20 + 2 * (4 * (192000 * 20))) := by
      simp only [qMt]; omega
    have c : p ≤ 48000 := by simpa only [qMt] using hp
    exact Nat.lt_of_le_of_lt (Nat.mul_le_mul a (Nat.mul_le_mul b c)) (by decide)
