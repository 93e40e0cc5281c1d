/-! GATHERS: rows of a matrix V (place, coordinate); swap, sign, reductions -/
def qSw (f p : Nat) (s : Int) (V : Nat → Nat → Int) : Nat → Nat → Int := fun j c => if j = f then s * V p c else V (qw f p j) c
def qRV (f m : Nat) (q : Nat → Int) (V : Nat → Nat → Int) : Nat → Nat → Int := fun j c => qRd f m q (fun i => V i c) j
def qRnd (fst : Prop) (f m c : Nat) (V V2 : Nat → Nat → Int) : Prop :=
  ∃ (p : Nat) (s : Int) (q : Nat → Int), f ≤ p ∧ p < m ∧ (s = 1 ∨ s = -1) ∧ V p c ≠ 0 ∧ (∀ j, f ≤ j → j < m → V j c ≠ 0 → (V p c).natAbs ≤ (V j c).natAbs) ∧ V2 = qRV f m q (qSw f p s V) ∧ ∀ j, f < j → j < m → (V2 j c).natAbs < (V p c).natAbs ∧ (¬ fst → qG (V2 j c) (qSw f p s V j c))
def qGath (f m c : Nat) (V V2 : Nat → Nat → Int) : Prop :=
  ∃ (n : Nat) (W : Nat → Nat → Nat → Int), W 0 = V ∧ W (n + 1) = V2 ∧ (∀ i, i ≤ n → qRnd (i = 0) f m c (W i) (W (i + 1))) ∧ ∀ j, f < j → j < m → V2 j c = 0
theorem qGath_ind {f m c : Nat} {V V2 : Nat → Nat → Int} {Pr : (Nat → Nat → Int) → Prop} (h : qGath f m c V V2) (a : ∀ U, qRnd True f m c V U → Pr U) (b : ∀ U U2, (U f c ≠ 0) → (∀ j, f < j → j < m → (U j c).natAbs < (U f c).natAbs) → Pr U → qRnd False f m c U U2 → Pr U2) : Pr V2 ∧ V2 f c ≠ 0 ∧ f < m := by
  obtain ⟨n, W, w0, wn, st, hz⟩ := h
  have key : ∀ i, i ≤ n → Pr (W (i + 1)) ∧ (W (i + 1) f c ≠ 0) ∧ (∀ j, f < j → j < m → (W (i + 1) j c).natAbs < (W (i + 1) f c).natAbs) := by
    have piv : ∀ i, i ≤ n → (W (i + 1) f c ≠ 0) ∧ (∀ j, f < j → j < m → (W (i + 1) j c).natAbs < (W (i + 1) f c).natAbs) := by
      intro i hi
      obtain ⟨p, s, q, p1, p2, hs, hp, hm, e, hr⟩ := st i hi
      have ef : (W (i + 1) f c).natAbs = (W i p c).natAbs := by
        rw [e]; unfold qRV; rw [qRd_f]; unfold qSw; rw [if_pos rfl]
        rcases hs with rfl | rfl <;> omega
      refine ⟨by omega, fun j j1 j2 => ?_⟩
      have := (hr j j1 j2).1; omega
    intro i
    induction i with
    | zero => intro hi; refine ⟨a _ ?_, piv 0 hi⟩; have := st 0 hi; rw [w0] at this; simpa using this
    | succ i ih =>
      intro hi
      obtain ⟨x, y, z⟩ := ih (by omega)
      refine ⟨b _ _ y z x ?_, piv _ hi⟩
      have := st (i + 1) hi
      simpa using this
  have l := key n (Nat.le_refl _)
  rw [wn] at l
  obtain ⟨p, s, q, p1, p2, _⟩ := st 0 (by omega)
  exact ⟨l.1, l.2.1, by omega⟩
theorem qRnd_lt {fst : Prop} {f m c : Nat} {V V2 : Nat → Nat → Int} (h : qRnd fst f m c V V2) {j : Nat} (hj : j < f ∨ m ≤ j) : V2 j = V j := by
  obtain ⟨p, s, q, p1, p2, hs, hp, hm, e, hr⟩ := h
  funext d
  rw [e]; unfold qRV qRd; rw [if_neg (by omega)]; show qSw f p s V j d = V j d; unfold qSw; rw [if_neg (by omega)]; unfold qw; rw [if_neg (by omega), if_neg (by omega)]
theorem qGath_lt {f m c : Nat} {V V2 : Nat → Nat → Int} (h : qGath f m c V V2) {j : Nat} (hj : j < f ∨ m ≤ j) : V2 j = V j :=
  (qGath_ind (Pr := fun U => U j = V j) h (fun _ u => qRnd_lt u hj) (fun _ _ _ _ e u => (qRnd_lt u hj).trans e)).1
/-- what holds of the swapped -/
theorem qSw_at {f p : Nat} {s : Int} {V : Nat → Nat → Int} (hs : s = 1 ∨ s = -1) (j c : Nat) : (qSw f p s V j c).natAbs = (V (qw f p j) c).natAbs := by
  unfold qSw qw
  by_cases e : j = f
  · rw [if_pos e, if_pos e]; rcases hs with rfl | rfl <;> omega
  · rw [if_neg e]
theorem qw_rg {f p m j : Nat} (p1 : f ≤ p) (p2 : p < m) (j1 : f ≤ j) (j2 : j < m) : f ≤ qw f p j ∧ qw f p j < m := by
  unfold qw; split
  · omega
  · split <;> omega
/-! pairs -/
theorem qM_Sw {f p : Nat} {s : Int} {V : Nat → Nat → Int} (hs : s = 1 ∨ s = -1) (c d i j : Nat) : (qM (fun i => qSw f p s V i c) (fun i => qSw f p s V i d) i j).natAbs = (qM (fun i => V i c) (fun i => V i d) (qw f p i) (qw f p j)).natAbs := by
  have key : ∀ k, ∃ u : Int, (u = 1 ∨ u = -1) ∧ (∀ c, qSw f p s V k c = u * V (qw f p k) c) ∧ (k = f → u = s) ∧ (k ≠ f → u = 1) := by
    intro k
    by_cases e : k = f
    · exact ⟨s, hs, fun c => by unfold qSw qw; rw [if_pos e, if_pos e], fun _ => rfl, fun h => absurd e h⟩
    · exact ⟨1, .inl rfl, fun c => by unfold qSw; rw [if_neg e]; omega, fun h => absurd h e, fun _ => rfl⟩
  obtain ⟨u, hu, eu, _⟩ := key i
  obtain ⟨v, hv, ev, _⟩ := key j
  have : qM (fun i => qSw f p s V i c) (fun i => qSw f p s V i d) i j = (u * v) * qM (fun i => V i c) (fun i => V i d) (qw f p i) (qw f p j) := by
    unfold qM; simp only [eu, ev]; grind
  rw [this, Int.natAbs_mul]
  have : (u * v).natAbs = 1 := by rcases hu with rfl | rfl <;> rcases hv with rfl | rfl <;> rfl
  rw [this, Nat.one_mul]
def qPr (f m c d : Nat) (V : Nat → Nat → Int) (D : Nat) : Prop := ∀ i j, f ≤ i → i < m → f ≤ j → j < m → (qM (fun i => V i c) (fun i => V i d) i j).natAbs ≤ D
theorem qPr_Sw {f m c d p : Nat} {s : Int} {V : Nat → Nat → Int} {D : Nat} (p1 : f ≤ p) (p2 : p < m) (hs : s = 1 ∨ s = -1) (h : qPr f m c d V D) : qPr f m c d (qSw f p s V) D := by
  intro i j i1 i2 j1 j2
  rw [qM_Sw hs]
  exact h _ _ (qw_rg p1 p2 i1 i2).1 (qw_rg p1 p2 i1 i2).2 (qw_rg p1 p2 j1 j2).1 (qw_rg p1 p2 j1 j2).2
theorem qPr_F {f m c d : Nat} {V V2 : Nat → Nat → Int} {D : Nat} (h : qRnd True f m c V V2) (hM : qPr f m c d V D) : qPr f m c d V2 (2 * D) := by
  obtain ⟨p, s, q, p1, p2, hs, hp, hm, e, hr⟩ := h
  have ef : (qSw f p s V f c).natAbs = (V p c).natAbs := by rw [qSw_at hs]; unfold qw; rw [if_pos rfl]
  have := qM_F (f := f) (m := m) (q := q) (x := fun i => qSw f p s V i c) (a := fun i => qSw f p s V i d) (D := D) (by show qSw f p s V f c ≠ 0; omega) (fun j j1 j2 => by
    have := (hr j j1 j2).1; rw [e] at this; show (qRV f m q (qSw f p s V) j c).natAbs < (qSw f p s V f c).natAbs; omega) (qPr_Sw p1 p2 hs hM)
  rw [e]; exact this
theorem qPr_G {f m c d : Nat} {V V2 : Nat → Nat → Int} {D : Nat} (h : qRnd False f m c V V2) (hM : qPr f m c d V D) : qPr f m c d V2 D := by
  obtain ⟨p, s, q, p1, p2, hs, hp, hm, e, hr⟩ := h
  have ef : (qSw f p s V f c).natAbs = (V p c).natAbs := by rw [qSw_at hs]; unfold qw; rw [if_pos rfl]
  have := qM_G (f := f) (m := m) (q := q) (x := fun i => qSw f p s V i c) (a := fun i => qSw f p s V i d) (D := D) (by show qSw f p s V f c ≠ 0; omega) (fun j j1 j2 => by
    have := (hr j j1 j2).1; rw [e] at this; show (qRV f m q (qSw f p s V) j c).natAbs < (qSw f p s V f c).natAbs; omega) (fun j j1 j2 => by
    have := (hr j j1 j2).2 (by simp); rw [e] at this; exact this) (qPr_Sw p1 p2 hs hM)
  rw [e]; exact this
theorem qGath_pr {f m c d : Nat} {V V2 : Nat → Nat → Int} {D : Nat} (h : qGath f m c V V2) (hM : qPr f m c d V D) : qPr f m c d V2 (2 * D) :=
  (qGath_ind (Pr := fun U => qPr f m c d U (2 * D)) h (fun _ u => qPr_F u hM) (fun _ _ _ _ e u => qPr_G u e)).1
theorem q_piv {P Q P0 W D a b : Nat} (hQ : Q < P) (hP : P ≤ P0) (h1 : P * b ≤ D + Q * a) (h2 : a * P0 ≤ W * P + D * (P0 - P)) : b * P0 ≤ W * Q + D * (P0 - Q) := by
  obtain ⟨d, rfl⟩ := Nat.exists_eq_add_of_lt hQ
  obtain ⟨e, rfl⟩ := Nat.exists_eq_add_of_le hP
  have e1 : Q + d + 1 + e - (Q + d + 1) = e := by omega
  have e2 : Q + d + 1 + e - Q = d + 1 + e := by omega
  rw [e1] at h2; rw [e2]
  refine q_div (P := Q + d + 1) (by omega) ?_
  have a1 := Nat.mul_le_mul_right (Q + d + 1 + e) h1
  have a2 := Nat.mul_le_mul_left Q h2
  have b1 : (Q + d + 1) * b * (Q + d + 1 + e) = (Q + d + 1) * (b * (Q + d + 1 + e)) := by grind
  have b2 : (D + Q * a) * (Q + d + 1 + e) = D * (Q + d + 1 + e) + Q * (a * (Q + d + 1 + e)) := by grind
  have b3 : (Q + d + 1) * (W * Q + D * (d + 1 + e)) = Q * (W * (Q + d + 1) + D * e) + D * (Q + d + 1 + e) + D * (d * (Q + d + 1 + e)) := by grind
  rw [b1, b2] at a1; rw [b3]
  have : 0 ≤ D * (d * (Q + d + 1 + e)) := Nat.zero_le _
  omega
theorem qGath_a {f m c d : Nat} {V V2 : Nat → Nat → Int} {D W : Nat} (h : qGath f m c V V2) (hM : qPr f m c d V D) (hW : ∀ j, f ≤ j → j < m → (V j d).natAbs ≤ W) : (∀ j, f < j → j < m → (V2 j d).natAbs ≤ 2 * D) ∧ ((V2 f d).natAbs ≤ W ∨ (V2 f d).natAbs ≤ 2 * D) := by
  have hz : ∀ j, f < j → j < m → V2 j c = 0 := by obtain ⟨n, W, _, _, _, hz⟩ := h; exact hz
  have k := qGath_ind (Pr := fun U => qPr f m c d U (2 * D) ∧ ∃ P0 : Nat, 0 < P0 ∧ (U f c).natAbs ≤ P0 ∧ (U f d).natAbs * P0 ≤ W * (U f c).natAbs + 2 * D * (P0 - (U f c).natAbs)) h (fun U u => by
      refine ⟨qPr_F u hM, (U f c).natAbs, ?_⟩
      obtain ⟨p, s, q, p1, p2, hs, hp, hm, e, hr⟩ := u
      have e1 : ∀ c, (U f c).natAbs = (V p c).natAbs := fun c => by rw [e]; unfold qRV; rw [qRd_f]; rw [qSw_at hs]; unfold qw; rw [if_pos rfl]
      have := hW p p1 p2
      rw [e1, e1]
      refine ⟨by omega, Nat.le_refl _, ?_⟩
      rw [Nat.sub_self, Nat.mul_zero, Nat.add_zero]; exact Nat.mul_le_mul_right _ this) (fun U U2 hU hl e u => by
      obtain ⟨pr, P0, P1, P2, P3⟩ := e
      refine ⟨qPr_G u pr, P0, P1, ?_⟩
      obtain ⟨p, s, q, p1, p2, hs, hp, hm, e, hr⟩ := u
      have e1 : ∀ c, (U2 f c).natAbs = (U p c).natAbs := fun c => by rw [e]; unfold qRV; rw [qRd_f]; rw [qSw_at hs]; unfold qw; rw [if_pos rfl]
      rw [e1, e1]
      by_cases x : p = f
      · subst x; exact ⟨P2, P3⟩
      have lt := hl p (by omega) p2
      refine ⟨by omega, q_piv lt P2 ?_ P3⟩
      have a := pr f p (Nat.le_refl _) (by omega) p1 p2
      have b : qM (fun i => U i c) (fun i => U i d) f p + U p c * U f d = U f c * U p d := by simp only [qM]; omega
      have b1 := Int.natAbs_mul (U p c) (U f d)
      have b2 := Int.natAbs_mul (U f c) (U p d)
      rw [← b1, ← b2]; omega)
  obtain ⟨⟨pr, P0, P1, P2, P3⟩, hf, fm⟩ := k
  constructor
  · intro j j1 j2
    have a := pr f j (Nat.le_refl _) fm (by omega) j2
    have b : qM (fun i => V2 i c) (fun i => V2 i d) f j = V2 f c * V2 j d := by simp only [qM, hz j j1 j2]; omega
    rw [b, Int.natAbs_mul] at a
    have : 1 * (V2 j d).natAbs ≤ (V2 f c).natAbs * (V2 j d).natAbs := Nat.mul_le_mul_right _ (by omega)
    omega
  · rcases Nat.le_total W (2 * D) with w | w
    · right
      refine q_div P1 ?_
      have a := Nat.mul_le_mul_right (V2 f c).natAbs w
      have b : 2 * D * (V2 f c).natAbs + 2 * D * (P0 - (V2 f c).natAbs) = P0 * (2 * D) := by rw [← Nat.mul_add, Nat.mul_comm]; congr 1; omega
      rw [Nat.mul_comm] at P3; omega
    · left
      refine q_div P1 ?_
      have a := Nat.mul_le_mul_right (P0 - (V2 f c).natAbs) w
      have b : W * (V2 f c).natAbs + W * (P0 - (V2 f c).natAbs) = P0 * W := by rw [← Nat.mul_add, Nat.mul_comm]; congr 1; omega
      rw [Nat.mul_comm] at P3; omega
