/-! WHAT THE LISTS HOLD: signed -/
theorem gZ_sg {A : Nat → Nat → Int} {R n B : Nat} {x : Vc} (hn : n ≤ 6) : gZ A R n (sgB B) false x ↔ gZ A R n u1 false (vSg B x) := by
  have e : ∀ r, gMd A n (sgB B) false x r = gMd A n u1 false (vSg B x) r := by
    intro r
    unfold gMd
    congr 1
    refine qS_congr fun j hj => ?_
    unfold vSg sgB
    rw [if_pos (show j < 6 by omega)]
    split <;> grind
  exact ⟨fun h r hr => by rw [← e]; exact h r hr, fun h r hr => by rw [e]; exact h r hr⟩
def vAb (u : Vc) : Vc := fun c => if c < 6 then qab (u c) else 0
theorem vAb_l (u : Vc) {c : Nat} (h : c < 6) : vAb u c = qab (u c) := if_pos h
theorem vAb_0 {u : Vc} {c : Nat} (h : u c = 0) : vAb u c = 0 := by unfold vAb; rw [h]; split <;> rfl
theorem vAb_nn (u : Vc) {c : Nat} (h : c < 6) : 0 ≤ vAb u c := by rw [vAb_l u h]; unfold qab; omega
theorem vAb_ne {u : Vc} {c : Nat} (h : c < 6) (w : u c ≠ 0) : vAb u c ≠ 0 := by rw [vAb_l u h]; unfold qab; omega
theorem vSg_z {B : Nat} {x : Vc} {c : Nat} (h : x c = 0) : vSg B x c = 0 := by
  unfold vSg
  rw [h]
  split
  · split <;> rfl
  · rfl
/-- a vector conformal to a signed one comes of a vector below it -/
theorem vCf_sg {B n : Nat} {u x : Vc} (hn : n ≤ 6) (hx : ∀ c, c < 6 → 0 ≤ x c) (hu : ∀ c, n ≤ c → u c = 0) (h : vCf u (vSg B x)) : u = vSg B (vAb u) ∧ vBe (vAb u) x := by
  have key : ∀ c, c < 6 → u c = (if B.testBit c = true then -qab (u c) else qab (u c)) ∧ qab (u c) ≤ x c := by
    intro c hc
    have a := h c hc
    have p := hx c hc
    unfold vSg at a
    rw [if_pos hc] at a
    unfold qab
    by_cases w : B.testBit c = true
    · rw [if_pos w] at a ⊢
      by_cases z : -x c < 0
      · have := a.1 z; omega
      · have := a.2 (by omega); omega
    · rw [if_neg w] at a ⊢
      have := a.2 p; omega
  refine ⟨funext fun c => ?_, vBe_iff.mpr fun c hc => ?_⟩
  · unfold vSg
    by_cases w : c < 6
    · rw [if_pos w, vAb_l u w]; exact (key c w).1
    · rw [if_neg w]; exact hu c (by omega)
  · rw [vAb_l u hc]; exact (key c hc).2
theorem vSg_ab {B : Nat} {x : Vc} (hx : ∀ c, c < 6 → 0 ≤ x c) : ∀ c, c < 6 → x c = qab (vSg B x c) := by
  intro c hc
  have := hx c hc
  unfold vSg qab
  rw [if_pos hc]
  split <;> omega
theorem sg_min {A : Nat → Nat → Int} {R n B : Nat} {x : Vc} (hn : n ≤ 6) (h : gMin A R n (sgB B) false x) : tSl 2 A R n (vSg B x) ∧ ∀ u, tSl 2 A R n u → vCf u (vSg B x) → u = vSg B x := by
  obtain ⟨⟨p1, p2, p3, p4⟩, hm⟩ := h
  have nz : vNz (vSg B x) := by
    obtain ⟨c, hc, ne⟩ := p4 rfl
    refine ⟨c, hc, fun z => ne ?_⟩
    have := vSg_ab (B := B) p1 c hc
    rw [z] at this; exact this
  refine ⟨⟨fun c hc => vSg_z (p2 c hc), fun _ => nz, (gZ_sg hn).mp p3⟩, fun u hu hc => ?_⟩
  · obtain ⟨e1, e2⟩ := vCf_sg hn p1 hu.1 hc
    have gy : gP A R n (sgB B) false (vAb u) := by
      refine ⟨fun c hc => vAb_nn u hc, fun c hc => vAb_0 (hu.1 c hc), (gZ_sg hn).mpr (by rw [← e1]; exact hu.2.2), fun _ => ?_⟩
      obtain ⟨c, hc, ne⟩ := hu.2.1 (by decide)
      exact ⟨c, hc, vAb_ne hc ne⟩
    have e3 := hm _ gy e2
    rw [e3] at e1
    exact e1
theorem sg_to {A : Nat → Nat → Int} {R n B : Nat} {x : Vc} (hn : n ≤ 6) (h : gMin A R n (sgB B) false x) (b : vBl B x) : tMem 2 A R n (vSg B x) := by
  obtain ⟨m1, m2⟩ := sg_min hn h
  refine ⟨m1, fun w => by omega, fun _ => ?_, m2⟩
  have b := (vBlB_iff B x 6 0 true).mp b
  rcases tPos_or (m1.2.1 (by decide)) with p | p
  · exact p
  · obtain ⟨d, d1, d2, d3⟩ := p
    have z : ∀ i, i < d → x i = 0 := by
      intro i hi
      rw [vSg_ab (B := B) h.1.1 i (by omega)]
      have := d2 i hi
      unfold vNg at this
      rw [show vSg B x i = 0 by omega]; rfl
    unfold vNg at d3
    have bt : B.testBit d = true := by
      apply Classical.byContradiction
      intro w
      have := h.1.1 d d1
      unfold vSg at d3
      rw [if_pos d1, if_neg w] at d3
      omega
    rcases (b d (Nat.zero_le _) (by omega) bt).2 with w | ⟨k, _, k2, k3⟩
    · cases w
    · exact absurd (z k k2) k3
theorem bits_ex (v : Vc) : ∀ k, ∃ B, B < 2 ^ k ∧ ∀ c, c < k → (B.testBit c = true ↔ v c < 0) := by
  intro k
  induction k with
  | zero => exact ⟨0, by decide, fun c hc => by omega⟩
  | succ k ih =>
    obtain ⟨B, h1, h2⟩ := ih
    have e : 2 ^ (k + 1) = 2 * 2 ^ k := by rw [Nat.pow_succ]; omega
    by_cases w : v k < 0
    · refine ⟨2 ^ k + B, by omega, fun c hc => ?_⟩
      by_cases z : c = k
      · subst z
        rw [Nat.testBit_two_pow_add_eq, Nat.testBit_lt_two_pow h1]
        exact ⟨fun _ => w, fun _ => rfl⟩
      · rw [Nat.testBit_two_pow_add_gt (by omega)]; exact h2 c (by omega)
    · refine ⟨B, by omega, fun c hc => ?_⟩
      by_cases z : c = k
      · subst z
        rw [Nat.testBit_lt_two_pow h1]
        exact ⟨fun h => (by cases h), fun h => absurd h w⟩
      · exact h2 c (by omega)
theorem sg_of {A : Nat → Nat → Int} {R n : Nat} {v : Vc} (hn : n ≤ 6) (h : tMem 2 A R n v) : ∃ B x, B < 2 ^ n ∧ v = vSg B x ∧ vBl B x ∧ gMin A R n (sgB B) false x := by
  obtain ⟨⟨s1, s2, s3⟩, _, hp, hm⟩ := h
  obtain ⟨B, b1, b2⟩ := bits_ex v n
  have bn : ∀ c, n ≤ c → B.testBit c = false := fun c hc => Nat.testBit_lt_two_pow (Nat.lt_of_lt_of_le b1 (Nat.pow_le_pow_right (by decide) hc))
  have ev : v = vSg B (vAb v) := by
    funext c
    unfold vSg
    by_cases w : c < 6
    · rw [if_pos w, vAb_l v w]
      by_cases z : c < n
      · have := b2 c z
        by_cases y : B.testBit c = true
        · rw [if_pos y]; have := this.mp y; unfold qab; omega
        · rw [if_neg y]; have : ¬ v c < 0 := fun l => y (this.mpr l); unfold qab; omega
      · rw [s1 c (by omega)]; split <;> rfl
    · rw [if_neg w]; exact s1 c (by omega)
  refine ⟨B, _, b1, ev, (vBlB_iff B _ 6 0 true).mpr fun i _ i2 hb => ?_, ⟨fun c hc => vAb_nn v hc, fun c hc => vAb_0 (s1 c hc), (gZ_sg hn).mpr (by rw [← ev]; exact s3), fun _ => ?_⟩, fun y hy hb => ?_⟩
  · have i6 : i < 6 := by omega
    have il : i < n := by
      apply Classical.byContradiction
      intro w
      rw [bn i (by omega)] at hb; cases hb
    have vi := (b2 i il).mp hb
    refine ⟨vAb_ne i6 (by omega), .inr ?_⟩
    · obtain ⟨d, d1, d2, d3⟩ := hp rfl
      refine ⟨d, Nat.zero_le _, ?_, ?_⟩
      · rcases Nat.lt_trichotomy d i with w | w | w
        · exact w
        · subst w; omega
        · have := d2 i w; omega
      · exact vAb_ne d1 (by omega)
  · obtain ⟨c, hc, ne⟩ := s2 (by decide)
    exact ⟨c, hc, vAb_ne hc ne⟩
  · have key : tSl 2 A R n (vSg B y) := by
      refine ⟨fun c hc => vSg_z (hy.2.1 c hc), fun _ => ?_, (gZ_sg hn).mp hy.2.2.1⟩
      · obtain ⟨c, hc, ne⟩ := hy.2.2.2 rfl
        refine ⟨c, hc, fun z => ne ?_⟩
        rw [vSg_ab (B := B) hy.1 c hc, z]; rfl
    have cf : vCf (vSg B y) v := by
      intro c hc
      have a := hy.1 c hc
      have b := vBe_iff.mp hb c hc
      rw [vAb_l v hc] at b
      unfold vSg
      rw [if_pos hc]
      by_cases z : c < n
      · have w := b2 c z
        by_cases t : B.testBit c = true
        · rw [if_pos t]
          have := w.mp t
          unfold qab at b
          exact ⟨fun _ => by omega, fun _ => by omega⟩
        · rw [if_neg t]
          have : ¬ v c < 0 := fun l => t (w.mpr l)
          unfold qab at b
          exact ⟨fun _ => by omega, fun _ => by omega⟩
      · rw [hy.2.1 c (by omega), s1 c (by omega)]
        rw [show (if B.testBit c = true then -(0 : Int) else 0) = 0 by split <;> rfl]
        exact ⟨fun _ => by omega, fun _ => by omega⟩
    have e := hm _ key cf
    funext c
    by_cases w : c < 6
    · rw [vAb_l v w, vSg_ab (B := B) hy.1 c w, e]
    · rw [hy.2.1 c (by omega)]; exact (if_neg w).symm
