/-! THE TWO SOLVERS AGREE -/
theorem q_mono {p : Nat → Nat} {k : Nat} (h : ∀ i j, i < j → j < k → p i < p j) {i j : Nat} (hi : i < k) (hj : j < k) : p i ≤ p j → i ≤ j := by
  intro w
  apply Classical.byContradiction
  intro y
  have := h j i (by omega) hi
  omega
theorem q_mono2 {p : Nat → Nat} {k : Nat} (h : ∀ i j, i < j → j < k → p i < p j) {i j : Nat} (hij : i ≤ j) (hj : j < k) : p i ≤ p j := by
  rcases Nat.lt_or_eq_of_le hij with w | w
  · exact Nat.le_of_lt (h i j w hj)
  · rw [w]; exact Nat.le_refl _
theorem q_seq {p q : Nat → Nat} {k l : Nat} (hp : ∀ i j, i < j → j < k → p i < p j) (hq : ∀ i j, i < j → j < l → q i < q j) (a : ∀ i, i < k → ∃ j, j < l ∧ p i = q j) (b : ∀ j, j < l → ∃ i, i < k ∧ q j = p i) : k = l ∧ ∀ i, i < k → p i = q i := by
  have eq : ∀ N i, i < N → i < k → i < l → p i = q i := by
    intro N
    induction N with
    | zero => intro i hi; omega
    | succ N ih =>
      intro i hi ik il
      obtain ⟨j, j1, j2⟩ := a i ik
      obtain ⟨m, m1, m2⟩ := b i il
      have ji : i ≤ j := Classical.byContradiction fun w => by
        have := ih j (by omega) (by omega) j1
        have := hp j i (by omega) ik
        omega
      have mi : i ≤ m := Classical.byContradiction fun w => by
        have := ih m (by omega) m1 (by omega)
        have := hq m i (by omega) il
        omega
      have := q_mono2 hq ji j1
      have := q_mono2 hp mi m1
      omega
  have kl : k = l := by
    rcases Nat.lt_trichotomy k l with w | w | w
    · obtain ⟨m, m1, m2⟩ := b k w
      have := eq (m + 1) m (by omega) m1 (by omega)
      have := hq m k m1 w
      omega
    · exact w
    · obtain ⟨m, m1, m2⟩ := a l w
      have := eq (m + 1) m (by omega) (by omega) m1
      have := hp m l m1 w
      omega
  exact ⟨kl, fun i hi => eq (i + 1) i (by omega) hi (by omega)⟩
/-- the first number of a vector of the span stands at a lead -/
theorem qHN_first {n k : Nat} {cN : Nat → Nat} {w : Nat → Nat → Int} (h : qHN n k cN w) (hn : n ≤ 7) {v : Nat → Int} (hv : qSpan k w v) {c : Nat} (hc : c < 7) (h0 : ∀ x, x < c → v x = 0) (hne : v c ≠ 0) : ∃ i, i < k ∧ c = cN i := by
  apply Classical.byContradiction
  intro no
  obtain ⟨t, ht⟩ := hv
  have z : ∀ i, i < k → v (cN i) = 0 ∨ c < cN i := by
    intro i hi
    rcases Nat.lt_trichotomy (cN i) c with w | w | w
    · exact .inl (h0 _ w)
    · exact absurd ⟨i, hi, w.symm⟩ no
    · exact .inr w
  -- coefficients of leads below c vanish, the others are 0 at c
  have t0 : ∀ N i, i < N → i < k → cN i < c → t i = 0 := by
    intro N
    induction N with
    | zero => intro i hi; omega
    | succ N ih =>
      intro i hi ik ic
      have L := qHN_lead h hn ht ik (fun l hl => by
        rcases z l (by omega) with w | w
        · exact w
        · have := h.2.1 l i hl ik; omega)
      rw [h0 _ ic] at L
      rcases Int.mul_eq_zero.mp L.2.symm with w | w
      · exact w
      · have := (h.1 i ik).2.1; omega
  apply hne
  rw [ht c hc]
  refine qS_zero fun i hi => ?_
  rcases Nat.lt_trichotomy (cN i) c with w | w | w
  · rw [t0 (i + 1) i (by omega) hi w]; simp
  · exact absurd ⟨i, hi, w.symm⟩ no
  · rw [(h.1 i hi).2.2 c w]; simp
theorem qInv_same {n r ρ k ρ2 k2 : Nat} {A a a2 : Nat → Nat → Int} {b cN b2 cN2 : Nat → Nat} {w w2 : Nat → Nat → Int} (h : qInv n r ρ k A a b cN w) (g : qInv n r ρ2 k2 A a2 b2 cN2 w2) : k = k2 ∧ ∀ i, i < k → ∀ c, c < 7 → w2 i c = w i c := by
  have hn : n ≤ 6 := h.1.1.2.1
  have H := qKB_HN h.1
  have G := qKB_HN g.1
  have s1 : ∀ i, i < k2 → qSpan k w (w2 i) := fun i hi => h.2.2.2.2 _ (qInv_6 g hi) (g.2.2.2.1 i hi)
  have s2 : ∀ i, i < k → qSpan k2 w2 (w i) := fun i hi => g.2.2.2.2 _ (qInv_6 h hi) (h.2.2.2.1 i hi)
  obtain ⟨e, ec⟩ := q_seq H.2.1 G.2.1 (fun i hi => by
    obtain ⟨l1, l2, l3⟩ := H.1 i hi
    exact qHN_first G (by omega) (s2 i hi) (by omega) l3 (by omega)) (fun i hi => by
    obtain ⟨l1, l2, l3⟩ := G.1 i hi
    exact qHN_first H (by omega) (s1 i hi) (by omega) l3 (by omega))
  subst e
  refine ⟨rfl, qHN_uniq (n := n) (cN := cN) H ⟨fun i hi => ?_, H.2.1, fun x i hx hi => ?_⟩ (by omega) s1 s2⟩
  · rw [ec i hi]; exact G.1 i hi
  · rw [ec i hi]; exact G.2.2 x i hx hi
/-- what the law reads of the solvers -/
def qWit (n R : Nat) (A : Nat → Nat → Int) (k : Nat) (w : Nat → Nat → Int) : Prop := ∃ (ρ : Nat) (a : Nat → Nat → Int) (b cN : Nat → Nat), qInv n R ρ k A a b cN w
theorem mWh_out {σ : St} {n R : Nat} {A : Nat → Nat → Int} (h : mWh σ n R A) : ∃ k w, qWit n R A k w ∧ k ≤ 6 ∧ n ≤ 6 ∧ gI σ 31 = Int32.ofNat k ∧ (∀ i c, i < k → c < n → gL σ 30 (Int32.ofNat (6 * i + c)) = Int64.ofInt (w i c)) ∧ (qSol n R A ∧ gI σ 33 = 1 ∨ ¬ qSol n R A ∧ gI σ 33 = 0) := by
  obtain ⟨ρ, k, a, b, cN, w, inv, h31, hc, hF⟩ := h
  have e := inv.1.1
  refine ⟨k, w, ⟨ρ, a, b, cN, inv⟩, by omega, by omega, h31, fun i c hi hcn => by rw [gL_nat _ _ (by omega)]; exact hc i c hi hcn, ?_⟩
  rcases hF with ⟨s, e, _⟩ | h
  · exact .inl ⟨s, e⟩
  · exact .inr h
/-- the component's lattice, solved -/
def xSol (D : Nat → Prop) (h : Hp) (a0 o e n R : Nat) (A : Nat → Nat → Int) : Prop := ∃ k z w, qWit n R A k w ∧ z + k = n ∧ n ≤ 6 ∧ xLs D h a0 o e ∧ hI h a0 2 = Int32.ofNat n ∧ hI h a0 3 = Int32.ofNat z ∧ (∀ i c, i < k → c < 6 → ∃ b, hO h o (Int32.ofNat (z + i)) = some b ∧ hok h b 23 ∧ hN h b = 10 ∧ hJ h b (Int32.ofNat (4 + c)) = Int64.ofInt (w i c)) ∧ (qSol n R A ∧ hI h a0 4 = 1 ∨ ¬ qSol n R A ∧ hI h a0 4 = 0)
theorem xWh_out {D : Nat → Prop} {h : Hp} {a0 o e n R : Nat} {A : Nat → Nat → Int} (W : xWh D h a0 o e n R A) : xSol D h a0 o e n R A := by
  obtain ⟨ρ, k, z, a, b, cN, w, V, yy, inv, hz, L, hV, lin, S, hv⟩ := W
  have L0 := L
  obtain ⟨d, ⟨l1, l2, l3, l4, l5, l6, l7, l8, l9⟩, mm, de, inj, cells⟩ := L
  refine ⟨k, z, w, ⟨ρ, a, b, cN, inv⟩, hz, l9, xL_s L0, l8, S.1, fun i c hi hc => ?_, S.2.2⟩
  obtain ⟨o1, o2, o3, o4⟩ := mm (z + i) (by omega)
  exact ⟨d (z + i), o1, o2, o3, by rw [cells (z + i) (4 + c) (by omega) (by omega), hV i hi c (by omega)]⟩
theorem qWit_same {n R k k2 : Nat} {A w w2} (h : qWit n R A k w) (g : qWit n R A k2 w2) : k = k2 ∧ ∀ i, i < k → ∀ c, c < 7 → w2 i c = w i c := by
  obtain ⟨ρ, a, b, cN, h⟩ := h
  obtain ⟨ρ2, a2, b2, cN2, g⟩ := g
  exact qInv_same h g
/-- dimension, kernelAt -/
theorem sp_X5_dimension {ev : Nat → Nat} {h : Hp} {a0 z k n : Nat} {Q : Int32 → Hp → Prop} (ha : hok h a0 4) (h2 : hI h a0 2 = Int32.ofNat n) (h3 : hI h a0 3 = Int32.ofNat z) (hz : z + k = n) (q : Q (Int32.ofNat k) h) : wp_X5_dimension ev h a0 Q := by
  refine ⟨ha, ha, ?_⟩
  have : Int32.ofNat n - Int32.ofNat z = Int32.ofNat k := by
    rw [← hz, ← i_add]
    rw [Int32.sub_eq_add_neg, Int32.add_comm (Int32.ofNat z), Int32.add_assoc, Int32.add_right_neg, Int32.add_zero]
  rw [h2, h3, this]; exact q
theorem sp_X5_kernelAt {ev : Nat → Nat} {D : Nat → Prop} {h : Hp} {a0 o e z i c b : Nat} {x : Int64} {Q : Int64 → Hp → Prop} (L : xLs D h a0 o e) (h3 : hI h a0 3 = Int32.ofNat z) (hi : z + i < 6) (hc : c < 6) (h4 : hO h o (Int32.ofNat (z + i)) = some b) (h5 : hok h b 23) (h6 : hN h b = 10) (h7 : hJ h b (Int32.ofNat (4 + c)) = x) (q : Q x h) : wp_X5_kernelAt ev h a0 (Int32.ofNat i) (Int32.ofNat c) Q := by
  obtain ⟨d, ⟨l1, l2, l3, l4, l5, l6, l7⟩, mm, de, inj⟩ := L
  have four : (4 : Int32) + Int32.ofNat c = Int32.ofNat (4 + c) := i_add 4 c
  unfold wp_X5_kernelAt
  rw [h3, i_add, four]
  exact ⟨l1, o, l2, l1, l3, vin l4 hi (by omega), b, h4, h5, vin h6 (by omega) (by omega), by rw [h7]; exact q⟩
