/-! GATHERS: places that are 0 stay out; a column that is a multiple of another; a gather that has nothing to do -/
theorem qRnd_shrink {fst : Prop} {f m m2 c : Nat} {V V2 : Nat → Nat → Int} (h : qRnd fst f m c V V2) (h1 : m2 ≤ m) (h2 : f < m2) (hz : ∀ j, m2 ≤ j → j < m → V j c = 0) : qRnd fst f m2 c V V2 ∧ ∀ j, m2 ≤ j → j < m → V2 j = V j := by
  obtain ⟨p, s, q, p1, p2, hs, hp, hm, e1, hr⟩ := h
  have p3 : p < m2 := by
    rcases Nat.lt_or_ge p m2 with l | l
    · exact l
    · exact absurd (hz p l p2) hp
  have sw : ∀ j, m2 ≤ j → qSw f p s V j = V j := fun j hj => by
    funext d; unfold qSw; rw [if_neg (by omega)]; unfold qw; rw [if_neg (by omega), if_neg (by omega)]
  have q0 : ∀ j, m2 ≤ j → j < m → q j = 0 := by
    intro j j1 j2
    have a := (hr j (by omega) j2).1
    have e : V2 j c = qSw f p s V j c - q j * qSw f p s V f c := by rw [e1]; unfold qRV; rw [qRd_j (by omega) j2]
    rw [e, sw j j1, hz j j1 j2] at a
    have ef : (qSw f p s V f c).natAbs = (V p c).natAbs := by rw [qSw_at hs]; unfold qw; rw [if_pos rfl]
    rcases Nat.eq_zero_or_pos (q j).natAbs with z | z
    · omega
    · have := Nat.mul_le_mul_right (qSw f p s V f c).natAbs z
      rw [← Int.natAbs_mul] at this
      omega
  have e2 : V2 = qRV f m2 q (qSw f p s V) := by
    rw [e1]; funext j d; unfold qRV qRd
    by_cases w : f < j ∧ j < m
    · rw [if_pos w]
      by_cases w2 : j < m2
      · rw [if_pos ⟨w.1, w2⟩]
      · rw [if_neg (by omega), q0 j (by omega) w.2]; simp
    · rw [if_neg w, if_neg (by omega)]
  refine ⟨⟨p, s, q, p1, p3, hs, hp, fun j j1 j2 hj => hm j j1 (by omega) hj, e2, fun j j1 j2 => hr j j1 (by omega)⟩, fun j j1 j2 => ?_⟩
  rw [e2]; funext d; unfold qRV qRd; rw [if_neg (by omega)]; exact congrFun (sw j j1) d
theorem qGath_shrink {f m m2 c : Nat} {V V2 : Nat → Nat → Int} (h : qGath f m c V V2) (h1 : m2 ≤ m) (h2 : f < m2) (hz : ∀ j, m2 ≤ j → j < m → V j c = 0) : qGath f m2 c V V2 ∧ ∀ j, m2 ≤ j → j < m → V2 j = V j := by
  obtain ⟨n, W, w0, wn, st, z⟩ := h
  have k : ∀ i, i ≤ n + 1 → (∀ j, m2 ≤ j → j < m → W i j = V j) := by
    intro i
    induction i with
    | zero => intro _ j _ _; rw [w0]
    | succ i ih =>
      intro hi j j1 j2
      have a := ih (by omega)
      have b := (qRnd_shrink (st i (by omega)) h1 h2 (fun j j1 j2 => by rw [a j j1 j2]; exact hz j j1 j2)).2 j j1 j2
      rw [b, a j j1 j2]
  refine ⟨⟨n, W, w0, wn, fun i hi => (qRnd_shrink (st i hi) h1 h2 (fun j j1 j2 => by rw [k i (by omega) j j1 j2]; exact hz j j1 j2)).1, fun j j1 j2 => z j j1 (by omega)⟩, fun j j1 j2 => by rw [← wn]; exact k (n + 1) (Nat.le_refl _) j j1 j2⟩
theorem qG_scale {y x p : Int} (hp : 0 < p) (h : qG (p * y) (p * x)) : qG y x := by
  obtain ⟨s, l⟩ := h
  constructor
  · have pos : ∀ a : Int, 0 ≤ p * a → 0 ≤ a := fun a ha => by
      rcases Int.lt_or_le a 0 with c | c
      · have := Int.mul_neg_of_pos_of_neg hp c; omega
      · exact c
    have neg : ∀ a : Int, p * a ≤ 0 → a ≤ 0 := fun a ha => by
      rcases Int.lt_or_le 0 a with c | c
      · have := Int.mul_pos hp c; omega
      · exact c
    rcases s with ⟨a, b⟩ | ⟨a, b⟩
    · exact .inl ⟨pos _ a, pos _ b⟩
    · exact .inr ⟨neg _ a, neg _ b⟩
  · rw [Int.natAbs_mul, Int.natAbs_mul, Nat.mul_left_comm] at l
    exact Nat.le_of_mul_le_mul_left l (by omega)
/-- in the range, column c is p times column d -/
theorem qRnd_scale {fst : Prop} {f m c d : Nat} {V V2 : Nat → Nat → Int} {p : Int} (hp : 0 < p) (h : qRnd fst f m c V V2) (hc : ∀ j, f ≤ j → j < m → V j c = p * V j d) : qRnd fst f m d V V2 ∧ ∀ j, f ≤ j → j < m → V2 j c = p * V2 j d := by
  obtain ⟨r, s, q, p1, p2, hs, h0, hm, e1, hr⟩ := h
  have sw : ∀ j, f ≤ j → j < m → qSw f r s V j c = p * qSw f r s V j d := by
    intro j j1 j2
    obtain ⟨u, hu, eu⟩ := qSw_u (f := f) (p := r) hs V j
    have w := qw_rg p1 p2 j1 j2
    rw [eu, eu, hc _ w.1 w.2]; grind
  have v2 : ∀ j, f ≤ j → j < m → V2 j c = p * V2 j d := by
    intro j j1 j2
    rw [e1]; unfold qRV
    by_cases x : j = f
    · subst x; rw [qRd_f, qRd_f]; exact sw j j1 j2
    · rw [qRd_j (by omega) j2, qRd_j (by omega) j2, sw j j1 j2, sw f (Nat.le_refl _) (by omega)]; grind
  refine ⟨⟨r, s, q, p1, p2, hs, ?_, ?_, e1, ?_⟩, v2⟩
  · intro z; rw [hc r p1 p2, z] at h0; simp at h0
  · intro j j1 j2 hj
    have := hm j j1 j2 (by rw [hc j j1 j2]; exact Int.mul_ne_zero (by omega) hj)
    rw [hc j j1 j2, hc r p1 p2, Int.natAbs_mul, Int.natAbs_mul] at this
    exact Nat.le_of_mul_le_mul_left this (by omega)
  · intro j j1 j2
    obtain ⟨a, b⟩ := hr j j1 j2
    rw [v2 j (by omega) j2, hc r p1 p2, Int.natAbs_mul, Int.natAbs_mul] at a
    refine ⟨Nat.lt_of_mul_lt_mul_left a, fun k => ?_⟩
    have := b k
    rw [v2 j (by omega) j2, sw j (by omega) j2] at this
    exact qG_scale hp this
theorem qGath_scale {f m c d : Nat} {V V2 : Nat → Nat → Int} {p : Int} (hp : 0 < p) (h : qGath f m c V V2) (hc : ∀ j, f ≤ j → j < m → V j c = p * V j d) : qGath f m d V V2 ∧ ∀ j, f ≤ j → j < m → V2 j c = p * V2 j d := by
  obtain ⟨n, W, w0, wn, st, z⟩ := h
  have k : ∀ i, i ≤ n + 1 → (∀ j, f ≤ j → j < m → W i j c = p * W i j d) := by
    intro i
    induction i with
    | zero => intro _; rw [w0]; exact hc
    | succ i ih => intro hi; exact (qRnd_scale hp (st i (by omega)) (ih (by omega))).2
  have l := k (n + 1) (Nat.le_refl _)
  rw [wn] at l
  refine ⟨⟨n, W, w0, wn, fun i hi => (qRnd_scale hp (st i hi) (k i (by omega))).1, fun j j1 j2 => ?_⟩, l⟩
  have a := z j j1 j2
  rw [l j (by omega) j2] at a
  rcases Int.mul_eq_zero.mp a with x | x
  · omega
  · exact x
/-- only the first has something: nothing happens -/
theorem qGath_idle {f m c : Nat} {V V2 : Nat → Nat → Int} (h : qGath f m c V V2) (h0 : 0 < V f c) (hz : ∀ j, f < j → j < m → V j c = 0) (h2 : 0 < V2 f c) : V2 = V := by
  have key : ∀ (fst : Prop) (U U2 : Nat → Nat → Int), qRnd fst f m c U U2 → (∃ s : Int, (s = 1 ∨ s = -1) ∧ U = fun j d => if j = f then s * V f d else V j d) → ∃ s : Int, (s = 1 ∨ s = -1) ∧ U2 = fun j d => if j = f then s * V f d else V j d := by
    intro fst U U2 r ⟨s0, hs0, eU⟩
    obtain ⟨p, s, q, p1, p2, hs, hp, hm, e1, hr⟩ := r
    have pf : p = f := by
      refine Classical.byContradiction fun w => hp ?_
      rw [eU]; show (if p = f then s0 * V f c else V p c) = 0
      rw [if_neg w]; exact hz p (by omega) p2
    subst pf
    have sw : qSw p p s U = fun j d => if j = p then (s * s0) * V p d else V j d := by
      funext j d; unfold qSw
      by_cases w : j = p
      · rw [if_pos w, if_pos w, eU]; show s * (if p = p then s0 * V p d else V p d) = _; rw [if_pos rfl, Int.mul_assoc]
      · rw [if_neg w, if_neg w, eU]; unfold qw; rw [if_neg w, if_neg w]; show (if j = p then _ else V j d) = _; rw [if_neg w]
    refine ⟨s * s0, by rcases hs with rfl | rfl <;> rcases hs0 with rfl | rfl <;> simp, ?_⟩
    rw [e1]; funext j d; unfold qRV
    by_cases w : j = p
    · subst w; rw [qRd_f, sw]
    · by_cases w2 : p < j ∧ j < m
      · rw [qRd_j w2.1 w2.2]
        have a := (hr j w2.1 w2.2).1
        have e : U2 j c = qSw p p s U j c - q j * qSw p p s U p c := by rw [e1]; unfold qRV; rw [qRd_j w2.1 w2.2]
        have x1 : qSw p p s U j c = 0 := by rw [sw]; show (if j = p then _ else V j c) = 0; rw [if_neg w]; exact hz j w2.1 w2.2
        have ef : (qSw p p s U p c).natAbs = (U p c).natAbs := by rw [qSw_at hs]; unfold qw; rw [if_pos rfl]
        rw [e, x1] at a
        have q0 : q j = 0 := by
          rcases Nat.eq_zero_or_pos (q j).natAbs with z | z
          · omega
          · have := Nat.mul_le_mul_right (qSw p p s U p c).natAbs z
            rw [← Int.natAbs_mul] at this
            omega
        rw [q0, sw]; simp
      · have : qRd p m q (fun i => qSw p p s U i d) j = qSw p p s U j d := by unfold qRd; rw [if_neg w2]
        rw [this, sw]
  obtain ⟨s, hs, e⟩ := (qGath_ind (Pr := fun U => ∃ s : Int, (s = 1 ∨ s = -1) ∧ U = fun j d => if j = f then s * V f d else V j d) h (fun U r => key _ _ _ r ⟨1, .inl rfl, by funext j d; by_cases w : j = f <;> simp [w]⟩) (fun U U2 _ _ ih r => key _ _ _ r ih)).1
  rcases hs with rfl | rfl
  · rw [e]; funext j d; by_cases w : j = f <;> simp [w]
  · rw [e] at h2
    have h2 : 0 < (if f = f then -1 * V f c else V f c) := h2
    rw [if_pos rfl] at h2; omega
