/-! ROWS ONE BY ONE: what stands behind r of them -/
/-- a vector of n columns, and what the rows so far make of it -/
def qAll (n r : Nat) (A : Nat → Nat → Int) (v : Nat → Int) : Prop := (∀ c, n ≤ c → c < 6 → v c = 0) ∧ ∀ s, s < r → qF (A s) v = 0
def qSol (n r : Nat) (A : Nat → Nat → Int) : Prop := ∃ v : Nat → Int, v 6 = 1 ∧ qAll n r A v
def qInv (n r ρ k : Nat) (A a : Nat → Nat → Int) (b cN : Nat → Nat) (w : Nat → Nat → Int) : Prop :=
  qKB n ρ k a b cN w ∧ ρ ≤ r ∧ (∀ i, i < ρ → ∃ s, s < r ∧ a i = A s) ∧ (∀ i, i < k → qAll n r A (w i)) ∧ ∀ v : Nat → Int, v 6 = 0 → qAll n r A v → qSpan k w v
theorem qInv_6 {n r ρ k : Nat} {A a : Nat → Nat → Int} {b cN : Nat → Nat} {w : Nat → Nat → Int} (h : qInv n r ρ k A a b cN w) {i : Nat} (hi : i < k) : w i 6 = 0 := h.1.2.2.2.2.1 i 6 hi (by have := h.1.1.2.1; omega)
theorem qInv_row {n r ρ k : Nat} {A a : Nat → Nat → Int} {b cN : Nat → Nat} {w : Nat → Nat → Int} (h : qInv n r ρ k A a b cN w) (hA : ∀ s, s ≤ r → qRow n (A s)) : ∀ i, i < ρ → qRow n (a i) := by
  intro i hi; obtain ⟨s, h1, h2⟩ := h.2.2.1 i hi; rw [h2]; exact hA s (by omega)
theorem qInv_0 {n : Nat} (hn : n ≤ 6) (A a : Nat → Nat → Int) (b : Nat → Nat) : qInv n 0 0 n A a b (fun i => i) (fun i c => if i = c ∧ i < n then 1 else 0) := by
  refine ⟨qKB_0 hn a b, Nat.le_refl _, fun i hi => by omega, fun i hi => ⟨fun c h1 h2 => if_neg (by omega), fun s hs => by omega⟩, fun v h6 hv => qSpan_0 hn fun c h1 h2 => ?_⟩
  by_cases e : c = 6
  · rw [e]; exact h6
  · exact hv.1 c h1 (by omega)
theorem qInv_idle {n r ρ k : Nat} {A a : Nat → Nat → Int} {b cN : Nat → Nat} {w : Nat → Nat → Int} (h : qInv n r ρ k A a b cN w) (hz : ∀ i, i < k → qF (A r) (w i) = 0) : qInv n (r + 1) ρ k A a b cN w := by
  obtain ⟨h1, h2, h3, h4, h5⟩ := h
  refine ⟨h1, by omega, fun i hi => ?_, fun i hi => ⟨(h4 i hi).1, fun s hs => ?_⟩, fun v h6 hv => h5 v h6 ⟨hv.1, fun s hs => hv.2 s (by omega)⟩⟩
  · obtain ⟨s, s1, s2⟩ := h3 i hi; exact ⟨s, by omega, s2⟩
  · by_cases e : s = r
    · rw [e]; exact hz i hi
    · exact (h4 i hi).2 s (by omega)
theorem qSpan_F {k : Nat} {w : Nat → Nat → Int} {v row : Nat → Int} (h : qSpan k w v) (hz : ∀ i, i < k → qF row (w i) = 0) : qF row v = 0 := by
  obtain ⟨t, ht⟩ := h
  rw [qF_lin ht]; exact qS_zero fun i hi => by rw [hz i hi]; simp
theorem qSpan_all {n r k : Nat} {A : Nat → Nat → Int} {w : Nat → Nat → Int} {v : Nat → Int} (h : qSpan k w v) (hw : ∀ i, i < k → qAll n r A (w i)) : qAll n r A v := by
  refine ⟨fun c h1 h2 => ?_, fun s hs => qSpan_F h fun i hi => (hw i hi).2 s hs⟩
  obtain ⟨t, ht⟩ := h
  rw [ht c (by omega)]; exact qS_zero fun i hi => by rw [(hw i hi).1 c h1 h2]; simp
theorem qInv_step {n r ρ k : Nat} {A a : Nat → Nat → Int} {b cN b2 cN2 : Nat → Nat} {w w2 : Nat → Nat → Int} (h : qInv n r ρ k A a b cN w) (kb : qKB n (ρ + 1) (k - 1) (qNx ρ a (A r)) b2 cN2 w2) (sp : ∀ v, qSpan k w v → qF (A r) v = 0 → qSpan (k - 1) w2 v) (ms : ∀ i, i < k - 1 → qSpan k w (w2 i)) : qInv n (r + 1) (ρ + 1) (k - 1) A (qNx ρ a (A r)) b2 cN2 w2 := by
  obtain ⟨h1, h2, h3, h4, h5⟩ := h
  have hr : ∀ i, i < k - 1 → qF (A r) (w2 i) = 0 := by
    intro i hi
    have := kb.2.2.2.2.2.2.2.1 ρ i (by omega) hi
    simpa only [qNx, if_pos] using this
  refine ⟨kb, by omega, fun i hi => ?_, fun i hi => ?_, fun v h6 hv => sp v (h5 v h6 ⟨hv.1, fun s hs => hv.2 s (by omega)⟩) (hv.2 r (by omega))⟩
  · unfold qNx
    by_cases e : i = ρ
    · exact ⟨r, by omega, if_pos e⟩
    · obtain ⟨s, s1, s2⟩ := h3 i (by omega); exact ⟨s, by omega, by rw [if_neg e]; exact s2⟩
  · have q := qSpan_all (ms i hi) h4
    refine ⟨q.1, fun s hs => ?_⟩
    by_cases e : s = r
    · rw [e]; exact hr i hi
    · exact q.2 s (by omega)
/-- what the leads leave is made of what was there -/
theorem qLd_span {n ρ k R z s c : Nat} {cN : Nat → Nat} {w V : Nat → Nat → Int} {row : Nat → Int} (hR : R < k) (hp : qLd n ρ k R z cN w row s c V) (hs : s = k - 1) : ∀ i, i < k - 1 → qSpan k w (qVw z V i) := by
  intro i hi
  rcases hp with ⟨s1, p⟩ | ⟨s1, s2, p⟩
  · omega
  · by_cases e : i < R
    · obtain ⟨t, ht⟩ := p.2.2.2.2.1 i e
      exact ⟨t, fun col hc => by unfold qVw; rw [if_pos hc]; exact ht col hc⟩
    · obtain ⟨t, ht⟩ := qSpan_self (w := w) (show i + 1 < k by omega)
      exact ⟨t, fun col hc => by unfold qVw; rw [if_pos hc, p.2.2.2.2.2.2.1 i (by omega) (by omega) col hc]; exact ht col hc⟩
/-- two solutions differ by the kernel -/
theorem qInv_dif {n r ρ k : Nat} {A a : Nat → Nat → Int} {b cN : Nat → Nat} {w : Nat → Nat → Int} (h : qInv n r ρ k A a b cN w) {v v2 : Nat → Int} (h6 : v 6 = 1) (hv : qAll n r A v) (h62 : v2 6 = 1) (hv2 : qAll n r A v2) : qSpan k w (fun c => v2 c - v c) := by
  refine h.2.2.2.2 _ (by show v2 6 - v 6 = 0; omega) ⟨fun c h1 h2 => by show v2 c - v c = 0; rw [hv.1 c h1 h2, hv2.1 c h1 h2]; rfl, fun s hs => ?_⟩
  have : qF (A s) (fun c => v2 c - v c) = qF (A s) v2 - qF (A s) v := by
    unfold qF; rw [← qS_sub]; exact qS_congr fun c _ => by grind
  rw [this, hv.2 s hs, hv2.2 s hs]; rfl
theorem qSol_idle {n r ρ k : Nat} {A a : Nat → Nat → Int} {b cN : Nat → Nat} {w : Nat → Nat → Int} (h : qInv n r ρ k A a b cN w) (hz : ∀ i, i < k → qF (A r) (w i) = 0) {v : Nat → Int} (h6 : v 6 = 1) (hv : qAll n r A v) : (qF (A r) v = 0 → qAll n (r + 1) A v) ∧ (qSol n (r + 1) A → qF (A r) v = 0) := by
  constructor
  · intro e
    refine ⟨hv.1, fun s hs => ?_⟩
    by_cases e2 : s = r
    · rw [e2]; exact e
    · exact hv.2 s (by omega)
  · intro ⟨v2, h62, hv2⟩
    exact q_solve0 hz ⟨v2, qInv_dif h h6 hv h62 ⟨hv2.1, fun s hs => hv2.2 s (by omega)⟩, hv2.2 r (by omega)⟩
theorem qSol_le {n r : Nat} {A : Nat → Nat → Int} (h : qSol n (r + 1) A) : qSol n r A := by
  obtain ⟨v, h6, h1, h2⟩ := h; exact ⟨v, h6, h1, fun s hs => h2 s (by omega)⟩
/-- the pivot's row -/
theorem q_pivrow {st k r : Nat} {w V V2 : Nat → Nat → Int} {row : Nat → Int} (g : qGath st (st + k) r V V2) (hV : ∀ i, i < k → ∀ col, col < 7 → V (st + i) (4 + col) = w i col) (hr : ∀ i, i < k → V (st + i) r = qF row (w i)) : ∀ j, st ≤ j → j < st + k → V2 j r = qF row (fun c => V2 j (4 + c)) := by
  intro j h1 h2
  have := qGath_lin g (fun i => if i = 7 then -1 else row i) (fun i => if i = 7 then r else 4 + i) 8 (fun j j1 j2 => ?_) j h1 h2
  · simp only [qS] at this
    simp only [qF, qS]
    simp at this
    grind
  · obtain ⟨i, rfl⟩ := Nat.exists_eq_add_of_le j1
    have a := hr i (by omega)
    have b := hV i (by omega)
    simp only [qF, qS] at a
    simp only [qS]
    simp
    rw [b 0 (by omega), b 1 (by omega), b 2 (by omega), b 3 (by omega), b 4 (by omega), b 5 (by omega), b 6 (by omega), a]
    grind
theorem qSol_step {n r ρ k st rr : Nat} {A a : Nat → Nat → Int} {b cN : Nat → Nat} {w V V2 : Nat → Nat → Int} (h : qInv n r ρ k A a b cN w) (g : qGath st (st + k) rr V V2) (hV : ∀ i, i < k → ∀ col, col < 7 → V (st + i) (4 + col) = w i col) (hr : ∀ i, i < k → V (st + i) rr = qF (A r) (w i)) (hU : ∀ i l, i < k → l < k → V (st + i) (16 + l) = if i = l then 1 else 0) (p0 : V2 st rr ≠ 0) {v : Nat → Int} (h6 : v 6 = 1) (hv : qAll n r A v) : (V2 st rr ∣ qF (A r) v → (v 6 + (-qF (A r) v).tdiv (V2 st rr) * V2 st (4 + 6) = 1 ∧ qAll n (r + 1) A (fun c => v c + (-qF (A r) v).tdiv (V2 st rr) * V2 st (4 + c)))) ∧ (qSol n (r + 1) A → V2 st rr ∣ qF (A r) v) := by
  have hk : 0 < k := by
    obtain ⟨n, W, _, _, s, _⟩ := g
    obtain ⟨p, _, _, p1, p2, _⟩ := s 0 (by omega)
    omega
  have md := q_made g hV hU st (Nat.le_refl _) (by omega)
  have sp : qSpan k w (fun c => V2 st (4 + c)) := ⟨_, md⟩
  have al := qSpan_all sp h.2.2.2.1
  have pr := q_pivrow (row := A r) g hV hr st (Nat.le_refl _) (by omega)
  constructor
  · intro dv
    have z6 : V2 st (4 + 6) = 0 := by
      rw [md 6 (by omega)]; exact qS_zero fun i hi => by rw [qInv_6 h hi]; simp
    refine ⟨by rw [z6, h6]; simp, fun c h1 h2 => ?_, fun s hs => ?_⟩
    · show v c + _ * V2 st (4 + c) = 0
      have : V2 st (4 + c) = 0 := al.1 c h1 h2
      rw [hv.1 c h1 h2, this]; simp
    · have e : qF (A s) (fun c => v c + (-qF (A r) v).tdiv (V2 st rr) * V2 st (4 + c)) = qF (A s) v + (-qF (A r) v).tdiv (V2 st rr) * qF (A s) (fun c => V2 st (4 + c)) := by
        unfold qF; rw [← qS_mul, ← qS_add]; exact qS_congr fun c _ => by grind
      rw [e]
      by_cases e2 : s = r
      · rw [e2, ← pr]
        have := Int.tdiv_mul_cancel (Int.dvd_neg.mpr dv)
        omega
      · rw [hv.2 s (by omega), al.2 s (by omega)]; simp
  · intro ⟨v2, h62, hv2⟩
    exact q_solve g hr ⟨v2, qInv_dif h h6 hv h62 ⟨hv2.1, fun s hs => hv2.2 s (by omega)⟩, hv2.2 r (by omega)⟩
/-- a reduced solution's numbers -/
theorem qInv_col {n r ρ k : Nat} {A a : Nat → Nat → Int} {b cN : Nat → Nat} {w : Nat → Nat → Int} (h : qInv n r ρ k A a b cN w) (hA : ∀ s, s ≤ r → qRow n (A s)) (hρ : ρ ≤ 3) {v f : Nat → Int} (hf : qRow n f) (h6 : v 6 = 1) (hv : qAll n r A v) (hr : ∀ i, i < k → (v (cN i)).natAbs < (w i (cN i)).natAbs) : (qF f v).natAbs ≤ qMt ρ * 220 := by
  refine qKB_one h.1 hρ (qInv_row h hA) hf h6 hv.1 (fun i hi => ?_) hr
  obtain ⟨s, s1, s2⟩ := h.2.2.1 i hi
  rw [s2]; exact hv.2 s s1
