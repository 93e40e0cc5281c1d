/-! triples through a gather -/
theorem qSw_u {f p : Nat} {s : Int} (hs : s = 1 ∨ s = -1) (V : Nat → Nat → Int) (k : Nat) : ∃ u : Int, (u = 1 ∨ u = -1) ∧ ∀ c, qSw f p s V k c = u * V (qw f p k) c := by
  by_cases e : k = f
  · exact ⟨s, hs, fun c => by unfold qSw qw; rw [if_pos e, if_pos e]⟩
  · exact ⟨1, .inl rfl, fun c => by unfold qSw; rw [if_neg e]; omega⟩
def qTr (f m c d e : Nat) (V : Nat → Nat → Int) (p : Nat → Prop) : Prop := ∀ i j l, f ≤ i → i < m → f ≤ j → j < m → f ≤ l → l < m → p (qT (fun i => V i c) (fun i => V i d) (fun i => V i e) i j l).natAbs
theorem qTr_Sw {f m c d e p : Nat} {s : Int} {V : Nat → Nat → Int} {P : Nat → Prop} (p1 : f ≤ p) (p2 : p < m) (hs : s = 1 ∨ s = -1) (h : qTr f m c d e V P) : qTr f m c d e (qSw f p s V) P := by
  intro i j l i1 i2 j1 j2 l1 l2
  obtain ⟨u, hu, eu⟩ := qSw_u (f := f) (p := p) hs V i
  obtain ⟨v, hv, ev⟩ := qSw_u (f := f) (p := p) hs V j
  obtain ⟨w, hw, ew⟩ := qSw_u (f := f) (p := p) hs V l
  have : qT (fun i => qSw f p s V i c) (fun i => qSw f p s V i d) (fun i => qSw f p s V i e) i j l = (u * v * w) * qT (fun i => V i c) (fun i => V i d) (fun i => V i e) (qw f p i) (qw f p j) (qw f p l) := by
    unfold qT; simp only [eu, ev, ew]; grind
  rw [this, Int.natAbs_mul]
  have : (u * v * w).natAbs = 1 := by rcases hu with rfl | rfl <;> rcases hv with rfl | rfl <;> rcases hw with rfl | rfl <;> rfl
  rw [this, Nat.one_mul]
  exact h _ _ _ (qw_rg p1 p2 i1 i2).1 (qw_rg p1 p2 i1 i2).2 (qw_rg p1 p2 j1 j2).1 (qw_rg p1 p2 j1 j2).2 (qw_rg p1 p2 l1 l2).1 (qw_rg p1 p2 l1 l2).2
theorem qGath_tr {f m c d e : Nat} {V V2 : Nat → Nat → Int} {D X : Nat} (h : qGath f m c V V2) (hX : ∀ j, f ≤ j → j < m → (V j c).natAbs ≤ X) (hT : qTr f m c d e V (· ≤ D)) : ∀ i j, f < i → i < m → f < j → j < m → (V2 i d * V2 j e - V2 j d * V2 i e).natAbs ^ 3 ≤ (3 * D) ^ 3 * X ^ 2 := by
  have hz : ∀ j, f < j → j < m → V2 j c = 0 := by obtain ⟨n, W, _, _, _, hz⟩ := h; exact hz
  have k := qGath_ind (Pr := fun U => qTr f m c d e U (fun T => T ^ 3 * (U f c).natAbs ^ 2 ≤ (3 * D) ^ 3 * X ^ 2)) h (fun U u => by
      obtain ⟨p, s, q, p1, p2, hs, hp, hm, e1, hr⟩ := u
      have ef : (qSw f p s V f c).natAbs = (V p c).natAbs := by rw [qSw_at hs]; unfold qw; rw [if_pos rfl]
      have ef2 : (U f c).natAbs = (V p c).natAbs := by rw [e1]; unfold qRV; rw [qRd_f]; exact ef
      have := qT_F (f := f) (m := m) (q := q) (x := fun i => qSw f p s V i c) (a := fun i => qSw f p s V i d) (b := fun i => qSw f p s V i e) (D := D) (by show qSw f p s V f c ≠ 0; omega) (fun j j1 j2 => by
        have := (hr j j1 j2).1; rw [e1] at this; show (qRV f m q (qSw f p s V) j c).natAbs < (qSw f p s V f c).natAbs; omega) (qTr_Sw p1 p2 hs hT)
      intro i j l i1 i2 j1 j2 l1 l2
      have t := this i j l i1 i2 j1 j2 l1 l2
      rw [ef2]
      refine Nat.mul_le_mul (q_pow3_mono ?_) (Nat.pow_le_pow_left (hX p p1 p2) 2)
      rw [e1]; exact t) (fun U U2 hU hl ih u => by
      obtain ⟨p, s, q, p1, p2, hs, hp, hm, e1, hr⟩ := u
      have ef : (qSw f p s U f c).natAbs = (U p c).natAbs := by rw [qSw_at hs]; unfold qw; rw [if_pos rfl]
      have ef2 : (U2 f c).natAbs = (qSw f p s U f c).natAbs := by rw [e1]; unfold qRV; rw [qRd_f]
      have hle : ∀ j, f ≤ j → j < m → (qSw f p s U j c).natAbs ≤ (U f c).natAbs := fun j j1 j2 => by
        rw [qSw_at hs]
        have := qw_rg p1 p2 j1 j2
        by_cases z : qw f p j = f
        · rw [z]; exact Nat.le_refl _
        · exact Nat.le_of_lt (hl _ (by omega) this.2)
      have := qT_G (f := f) (m := m) (q := q) (x := fun i => qSw f p s U i c) (a := fun i => qSw f p s U i d) (b := fun i => qSw f p s U i e) (C := (3 * D) ^ 3 * X ^ 2) (P0 := (U f c).natAbs) (by show qSw f p s U f c ≠ 0; omega) hle (fun j j1 j2 => by
        have := (hr j j1 j2).1; rw [e1] at this; show (qRV f m q (qSw f p s U) j c).natAbs < (qSw f p s U f c).natAbs; rw [ef]; exact this) (fun j j1 j2 => by
        have := (hr j j1 j2).2 (by simp); rw [e1] at this; exact this) (qTr_Sw p1 p2 hs ih)
      intro i j l i1 i2 j1 j2 l1 l2
      rw [ef2]; rw [e1]; exact this i j l i1 i2 j1 j2 l1 l2)
  obtain ⟨tr, hf, fm⟩ := k
  intro i j i1 i2 j1 j2
  have t := tr f i j (Nat.le_refl _) fm (Nat.le_of_lt i1) i2 (Nat.le_of_lt j1) j2
  have b : qT (fun i => V2 i c) (fun i => V2 i d) (fun i => V2 i e) f i j = V2 f c * (V2 i d * V2 j e - V2 j d * V2 i e) := by simp only [qT, hz j j1 j2, hz i i1 i2]; grind
  rw [b, Int.natAbs_mul] at t
  have one : 1 ≤ (V2 f c).natAbs := by clear t; omega
  refine Nat.le_trans ?_ t
  have e1 : ((V2 f c).natAbs * (V2 i d * V2 j e - V2 j d * V2 i e).natAbs) ^ 3 * (V2 f c).natAbs ^ 2 = (V2 i d * V2 j e - V2 j d * V2 i e).natAbs ^ 3 * (V2 f c).natAbs ^ 5 := by clear t; grind
  rw [e1]
  exact Nat.le_mul_of_pos_right _ (Nat.pow_pos one)
/-! covectors through a gather -/
def qSt (f p : Nat) (s : Int) (t : Nat → Int) : Nat → Int := fun j => if j = f then s * t p else t (qw f p j)
theorem qSt_mul {f p : Nat} {s : Int} (hs : s = 1 ∨ s = -1) (t : Nat → Int) (V : Nat → Nat → Int) (j c : Nat) : qSt f p s t j * qSw f p s V j c = t (qw f p j) * V (qw f p j) c := by
  unfold qSt qSw
  by_cases e : j = f
  · rw [if_pos e, if_pos e]; unfold qw; rw [if_pos e]; rcases hs with rfl | rfl <;> grind
  · rw [if_neg e, if_neg e]
theorem qSt_at {f p : Nat} {s : Int} {t : Nat → Int} (hs : s = 1 ∨ s = -1) (j : Nat) : (qSt f p s t j).natAbs = (t (qw f p j)).natAbs := by
  unfold qSt qw
  by_cases e : j = f
  · rw [if_pos e, if_pos e]; rcases hs with rfl | rfl <;> omega
  · rw [if_neg e]
theorem qSt_sum {f p m : Nat} {s : Int} (p1 : f ≤ p) (p2 : p < m) (hs : s = 1 ∨ s = -1) (t : Nat → Int) (V : Nat → Nat → Int) (c : Nat) : qR (fun j => qSt f p s t j * qSw f p s V j c) f m = qR (fun j => t j * V j c) f m := by
  have : qR (fun j => qSt f p s t j * qSw f p s V j c) f m = qR (fun j => (fun j => t j * V j c) (qw f p j)) f m := qR_congr fun j _ _ => qSt_mul hs t V j c
  rw [this, qR_swp (fun j => t j * V j c) p1 p2]
/-- u, U come from t, V: alike outside, and all sums -/
def qCo (f m : Nat) (t : Nat → Int) (V : Nat → Nat → Int) (u : Nat → Int) (U : Nat → Nat → Int) : Prop := (∀ j, j < f ∨ m ≤ j → u j = t j) ∧ ∀ d, qR (fun j => u j * U j d) f m = qR (fun j => t j * V j d) f m
theorem qCo_refl {f m : Nat} {t : Nat → Int} {V : Nat → Nat → Int} : qCo f m t V t V := ⟨fun _ _ => rfl, fun _ => rfl⟩
theorem qCo_trans {f m : Nat} {t u v : Nat → Int} {V U W : Nat → Nat → Int} (h : qCo f m t V u U) (k : qCo f m u U v W) : qCo f m t V v W := ⟨fun j hj => (k.1 j hj).trans (h.1 j hj), fun d => (k.2 d).trans (h.2 d)⟩
theorem qCo_step {f m p : Nat} {s : Int} {q t : Nat → Int} {V : Nat → Nat → Int} (p1 : f ≤ p) (p2 : p < m) (hs : s = 1 ∨ s = -1) : qCo f m t V (qRt f m q (qSt f p s t)) (qRV f m q (qSw f p s V)) := by
  constructor
  · intro j hj
    rw [qRt_j (by omega)]; unfold qSt; rw [if_neg (by omega)]; unfold qw; rw [if_neg (by omega), if_neg (by omega)]
  · intro d
    have := qRt_sum (f := f) (m := m) (q := q) (t := qSt f p s t) (a := fun j => qSw f p s V j d) (by omega)
    refine Eq.trans this (qSt_sum p1 p2 hs t V d)
theorem q_maxr (g : Nat → Nat) {f m : Nat} (h : f < m) : ∃ k, f ≤ k ∧ k < m ∧ ∀ j, f ≤ j → j < m → g j ≤ g k := by
  induction m with
  | zero => omega
  | succ m ih =>
    by_cases e : f = m
    · subst e; exact ⟨f, Nat.le_refl _, by omega, fun j _ _ => by have : j = f := by omega
                                                                  subst this; exact Nat.le_refl _⟩
    · obtain ⟨k, k1, k2, k3⟩ := ih (by omega)
      rcases Nat.le_total (g k) (g m) with l | l
      · refine ⟨m, by omega, by omega, fun j j1 j2 => ?_⟩
        by_cases x : j = m
        · subst x; exact Nat.le_refl _
        · exact Nat.le_trans (k3 j j1 (by omega)) l
      · refine ⟨k, k1, by omega, fun j j1 j2 => ?_⟩
        by_cases x : j = m
        · subst x; exact l
        · exact k3 j j1 (by omega)
theorem qMs_Sw {f p m : Nat} {s : Int} (p1 : f ≤ p) (p2 : p < m) (hs : s = 1 ∨ s = -1) (t : Nat → Int) (V : Nat → Nat → Int) (c : Nat) : qMs (fun j => qSw f p s V j c) (qSt f p s t) f m = qMs (fun j => V j c) t f m := by
  unfold qMs
  have : qR (fun j => qab (qSw f p s V j c * qSt f p s t j)) f m = qR (fun j => (fun j => qab (V j c * t j)) (qw f p j)) f m := qR_congr fun j _ _ => by
    rw [Int.mul_comm, qSt_mul hs t V j c, Int.mul_comm]
  rw [this, qR_swp (fun j => qab (V j c * t j)) p1 p2]
theorem q_newt {P w A D : Nat} (hP : 0 < P) (h1 : 2 * (P * w) ≤ A) (h2 : A ^ 3 ≤ D * P) : (2 * w) ^ 3 * P ^ 2 ≤ D := by
  have a := Nat.le_trans (q_pow3_mono h1) h2
  have e : (2 * (P * w)) ^ 3 = P * ((2 * w) ^ 3 * P ^ 2) := by clear a h2; grind
  rw [e, Nat.mul_comm D] at a
  exact q_div hP a
theorem qGath_co {f m c : Nat} {V V2 : Nat → Nat → Int} {t : Nat → Int} {B X : Nat} (h : qGath f m c V V2) (h0 : qR (fun j => t j * V j c) f m = 0) (hX : ∀ j, f ≤ j → j < m → (V j c).natAbs ≤ X) (hB : ∀ j, f ≤ j → j < m → (t j).natAbs ≤ B) (hn : m - f - 1 ≤ 4) : ∃ u, qCo f m t V u V2 ∧ ∀ j, f ≤ j → j < m → (2 * (u j).natAbs) ^ 3 ≤ (2 * ((m - f - 1) * B)) ^ 3 * X ^ 2 := by
  generalize hD : (2 * ((m - f - 1) * B)) ^ 3 * X ^ 2 = D
  have k := qGath_ind (Pr := fun U => ∃ u, qCo f m t V u U ∧ (∀ j, f ≤ j → j < m → (2 * (u j).natAbs) ^ 3 * (U f c).natAbs ^ 2 ≤ D) ∧ (qMs (fun j => U j c) u f m).toNat ^ 3 ≤ D * (U f c).natAbs) h (fun U z => by
      obtain ⟨p, s, q, p1, p2, hs, hp, hm, e1, hr⟩ := z
      have ef : (qSw f p s V f c).natAbs = (V p c).natAbs := by rw [qSw_at hs]; unfold qw; rw [if_pos rfl]
      have ef2 : (U f c).natAbs = (V p c).natAbs := by rw [e1]; unfold qRV; rw [qRd_f]; exact ef
      have fm : f < m := by omega
      have z0 : qR (fun j => qSw f p s V j c * qSt f p s t j) f m = 0 := by
        rw [← h0, ← qSt_sum p1 p2 hs t V c]; exact qR_congr fun j _ _ => Int.mul_comm _ _
      have b1 : ∀ j, f < j → j < m → (qSt f p s t j).natAbs ≤ B := fun j j1 j2 => by
        rw [qSt_at hs]; have := qw_rg p1 p2 (Nat.le_of_lt j1) j2; exact hB _ this.1 this.2
      have cap := qMs_cap (q := q) (x := fun j => qSw f p s V j c) (t := qSt f p s t) (B := B) fm z0 (fun j j1 j2 => by
        have := (hr j j1 j2).1; rw [e1] at this; show (qRV f m q (qSw f p s V) j c).natAbs < (qSw f p s V f c).natAbs; omega) b1
      have nw := qMs_new (q := q) (x := fun j => qSw f p s V j c) (t := qSt f p s t) fm z0
      have cap : qMs (fun j => U j c) (qRt f m q (qSt f p s t)) f m ≤ 2 * ((m - f - 1 : Nat) * (((V p c).natAbs * B : Nat) : Int)) := by rw [e1]; rw [← ef]; exact cap
      have nw : 2 * qab (qSw f p s V f c * qRt f m q (qSt f p s t) f) ≤ qMs (fun j => U j c) (qRt f m q (qSt f p s t)) f m := by rw [e1]; exact nw
      have c0 : ((m - f - 1 : Nat) : Int) * (((V p c).natAbs * B : Nat) : Int) = (((m - f - 1) * ((V p c).natAbs * B) : Nat) : Int) := by simp
      rw [c0] at cap
      have cap2 : (qMs (fun j => U j c) (qRt f m q (qSt f p s t)) f m).toNat ≤ 2 * ((m - f - 1) * B) * (V p c).natAbs := by
        have : 2 * ((m - f - 1) * ((V p c).natAbs * B)) = 2 * ((m - f - 1) * B) * (V p c).natAbs := by clear hD; grind
        clear hD; omega
      have pX := hX p p1 p2
      have cap3 : (qMs (fun j => U j c) (qRt f m q (qSt f p s t)) f m).toNat ^ 3 ≤ D * (V p c).natAbs := by
        refine Nat.le_trans (q_pow3_mono cap2) ?_
        have : (2 * ((m - f - 1) * B) * (V p c).natAbs) ^ 3 = (2 * ((m - f - 1) * B)) ^ 3 * (V p c).natAbs ^ 2 * (V p c).natAbs := by clear hD; grind
        rw [this, ← hD]
        exact Nat.mul_le_mul_right _ (Nat.mul_le_mul_left _ (Nat.pow_le_pow_left pX 2))
      refine ⟨qRt f m q (qSt f p s t), e1 ▸ qCo_step p1 p2 hs, ?_, by rw [ef2]; exact cap3⟩
      intro j j1 j2
      rw [ef2]
      by_cases x : j = f
      · subst x
        refine q_newt (by clear hD cap3; omega) ?_ cap3
        have a := qab_mul (qSw j p s V j c) (qRt j m q (qSt j p s t) j)
        unfold qab at a nw
        have : ((qSw j p s V j c).natAbs : Int) * ((qRt j m q (qSt j p s t) j).natAbs : Int) = (((qSw j p s V j c).natAbs * (qRt j m q (qSt j p s t) j).natAbs : Nat) : Int) := by simp
        rw [ef] at this a
        clear hD cap3; omega
      · rw [qRt_j x, ← hD]
        refine Nat.mul_le_mul (q_pow3_mono ?_) (Nat.pow_le_pow_left pX 2)
        have := b1 j (by clear hD cap3; omega) j2
        have : 1 * B ≤ (m - f - 1) * B := Nat.mul_le_mul_right _ (by clear hD cap3; omega)
        clear hD cap3; omega) (fun U U2 hU hl ih z => by
      obtain ⟨u, co, ht, hA⟩ := ih
      obtain ⟨p, s, q, p1, p2, hs, hp, hm, e1, hr⟩ := z
      have fm : f < m := by omega
      have ef : (qSw f p s U f c).natAbs = (U p c).natAbs := by rw [qSw_at hs]; unfold qw; rw [if_pos rfl]
      have ef2 : (U2 f c).natAbs = (U p c).natAbs := by rw [e1]; unfold qRV; rw [qRd_f]; exact ef
      have hpU : (U p c).natAbs ≤ (U f c).natAbs := by
        by_cases x : p = f
        · rw [x]; exact Nat.le_refl _
        · have y : f < p := by clear hA ht hD; omega
          exact Nat.le_of_lt (hl p y p2)
      have z0 : qR (fun j => qSw f p s U j c * qSt f p s u j) f m = 0 := by
        rw [← h0, ← co.2 c, ← qSt_sum p1 p2 hs u U c]; exact qR_congr fun j _ _ => Int.mul_comm _ _
      obtain ⟨kk, k1, k2, k3⟩ := q_maxr (fun j => (u j).natAbs) fm
      have b1 : ∀ j, f < j → j < m → (qSt f p s u j).natAbs ≤ (u kk).natAbs := fun j j1 j2 => by
        rw [qSt_at hs]; have := qw_rg p1 p2 (Nat.le_of_lt j1) j2; exact k3 _ this.1 this.2
      have cap := qMs_cap (q := q) (x := fun j => qSw f p s U j c) (t := qSt f p s u) (B := (u kk).natAbs) fm z0 (fun j j1 j2 => by
        have := (hr j j1 j2).1; rw [e1] at this; show (qRV f m q (qSw f p s U) j c).natAbs < (qSw f p s U f c).natAbs; rw [ef]; exact this) b1
      have nw := qMs_new (q := q) (x := fun j => qSw f p s U j c) (t := qSt f p s u) fm z0
      have hf := qMs_G (q := q) (x := fun j => qSw f p s U j c) (t := qSt f p s u) fm z0 (fun j j1 j2 => by
        have := (hr j j1 j2).2 (by simp); rw [e1] at this; exact this)
      rw [qMs_Sw p1 p2 hs] at hf
      have hf : 2 * qMs (fun j => U2 j c) (qRt f m q (qSt f p s u)) f m ≤ qMs (fun j => U j c) u f m := by rw [e1]; exact hf
      have cap : qMs (fun j => U2 j c) (qRt f m q (qSt f p s u)) f m ≤ 2 * ((m - f - 1 : Nat) * (((U p c).natAbs * (u kk).natAbs : Nat) : Int)) := by rw [e1]; rw [← ef]; exact cap
      have nw : 2 * qab (qSw f p s U f c * qRt f m q (qSt f p s u) f) ≤ qMs (fun j => U2 j c) (qRt f m q (qSt f p s u)) f m := by rw [e1]; exact nw
      have c0 : ((m - f - 1 : Nat) : Int) * (((U p c).natAbs * (u kk).natAbs : Nat) : Int) = (((m - f - 1) * ((U p c).natAbs * (u kk).natAbs) : Nat) : Int) := by simp
      rw [c0] at cap
      have n1 := qMs_nn (fun j => U2 j c) (qRt f m q (qSt f p s u)) f m
      have n2 := qMs_nn (fun j => U j c) u f m
      have cap2 : (qMs (fun j => U2 j c) (qRt f m q (qSt f p s u)) f m).toNat ≤ (m - f - 1) * (2 * (u kk).natAbs) * (U p c).natAbs := by
        have : 2 * ((m - f - 1) * ((U p c).natAbs * (u kk).natAbs)) = (m - f - 1) * (2 * (u kk).natAbs) * (U p c).natAbs := by clear hD ht hA; grind
        clear hD ht hA; omega
      have hf2 : 2 * (qMs (fun j => U2 j c) (qRt f m q (qSt f p s u)) f m).toNat ≤ (qMs (fun j => U j c) u f m).toNat := by clear hD ht hA; omega
      have hPU : 0 < (U f c).natAbs := by clear hD ht hA; omega
      have hPp : 0 < (U p c).natAbs := by clear hD ht hA; omega
      have cap3 := q_cub hf2 hA cap2 (ht kk k1 k2) hn hPU
      refine ⟨qRt f m q (qSt f p s u), qCo_trans co (e1 ▸ qCo_step p1 p2 hs), ?_, by rw [ef2]; exact cap3⟩
      intro j j1 j2
      rw [ef2]
      by_cases x : j = f
      · subst x
        refine q_newt hPp ?_ cap3
        have a := qab_mul (qSw j p s U j c) (qRt j m q (qSt j p s u) j)
        unfold qab at a nw
        have : ((qSw j p s U j c).natAbs : Int) * ((qRt j m q (qSt j p s u) j).natAbs : Int) = (((qSw j p s U j c).natAbs * (qRt j m q (qSt j p s u) j).natAbs : Nat) : Int) := by simp
        rw [ef] at this a
        clear hD cap3 ht hA; omega
      · rw [qRt_j x, qSt_at hs]
        have r := qw_rg p1 p2 j1 j2
        exact Nat.le_trans (Nat.mul_le_mul_left _ (Nat.pow_le_pow_left hpU 2)) (ht _ r.1 r.2))
  obtain ⟨⟨u, co, ht, hA⟩, hf, fm⟩ := k
  refine ⟨u, co, fun j j1 j2 => Nat.le_trans ?_ (ht j j1 j2)⟩
  have hf : 0 < (V2 f c).natAbs := by clear ht hA hD; omega
  exact Nat.le_mul_of_pos_right _ (Nat.pow_pos hf)
/-- L4 through a gather -/
theorem qGath_mj {f m c : Nat} {V V2 : Nat → Nat → Int} {t : Nat → Int} {B S : Nat} (h : qGath f m c V V2) (hB : ∀ j, f ≤ j → j < m → (t j).natAbs ≤ B) (hS : qR (fun j => qab (V j c) * qab (t j)) f m ≤ S) : ∃ u, qCo f m t V u V2 ∧ ∀ j, f < j → j < m → (u j).natAbs ≤ B ∨ (u j).natAbs ≤ 3 * S := by
  have hz : ∀ j, f < j → j < m → V2 j c = 0 := by obtain ⟨n, W, _, _, _, hz⟩ := h; exact hz
  have tm : ∀ (τ : Nat → Int) (U : Nat → Nat → Int) (S : Int), (∀ j, f ≤ j → j < m → 0 ≤ τ j) → qR (fun j => qab (U j c) * τ j) f m ≤ S → ∀ j, f ≤ j → j < m → U j c ≠ 0 → τ j ≤ S := by
    intro τ U S h0 hs j j1 j2 x
    have a := qS_term (f := fun i => qab (U (f + i) c) * τ (f + i)) (n := m - f) (fun i hi => Int.mul_nonneg (qab_nn _) (h0 _ (by omega) (by omega))) (i := j - f) (by omega)
    rw [show f + (j - f) = j by omega] at a
    have b : 1 * τ j ≤ qab (U j c) * τ j := Int.mul_le_mul_of_nonneg_right (by unfold qab; omega) (h0 j j1 j2)
    have c : qS (fun i => qab (U (f + i) c) * τ (f + i)) (m - f) ≤ S := hs
    omega
  have k := qGath_ind (Pr := fun U => ∃ u τ : Nat → Int, qCo f m t V u U ∧ (∀ j, f ≤ j → j < m → qab (u j) ≤ τ j) ∧ qR (fun j => qab (U j c) * τ j) f m ≤ 3 * (S : Int) ∧ ∀ j, f ≤ j → j < m → U j c = 0 → τ j ≤ B ∨ τ j ≤ 3 * (S : Int)) h (fun U z => by
      obtain ⟨p, s, q, p1, p2, hs, hp, hm, e1, hr⟩ := z
      have fm : f < m := by omega
      have ef : (qSw f p s V f c).natAbs = (V p c).natAbs := by rw [qSw_at hs]; unfold qw; rw [if_pos rfl]
      have s1 : qR (fun j => qab (qSw f p s V j c) * qab (qSt f p s t j)) f m ≤ S := by
        have : qR (fun j => qab (qSw f p s V j c) * qab (qSt f p s t j)) f m = qR (fun j => (fun j => qab (V j c) * qab (t j)) (qw f p j)) f m := qR_congr fun j _ _ => by
          unfold qab; rw [qSw_at hs, qSt_at hs]
        rw [this, qR_swp (fun j => qab (V j c) * qab (t j)) p1 p2]; exact hS
      have F : ∀ j, f < j → j < m → (qRd f m q (fun i => qSw f p s V i c) j).natAbs < (qSw f p s V f c).natAbs := fun j j1 j2 => by
        have := (hr j j1 j2).1; rw [e1] at this; show (qRV f m q (qSw f p s V) j c).natAbs < (qSw f p s V f c).natAbs; rw [ef]; exact this
      obtain ⟨m1, m2⟩ := qMj_F (q := q) (x := fun j => qSw f p s V j c) (t := qSt f p s t) (τ := fun j => qab (qSt f p s t j)) fm (fun j j1 j2 hj => by
        show (qSw f p s V f c).natAbs ≤ (qSw f p s V j c).natAbs
        have hj : qSw f p s V j c ≠ 0 := hj
        have e := qSw_at (f := f) (p := p) (V := V) hs j c
        rw [ef, e]; have r := qw_rg p1 p2 j1 j2; exact hm _ r.1 r.2 (by omega)) F (fun j _ _ => Int.le_refl _)
      refine ⟨qRt f m q (qSt f p s t), qRt f m (fun j => qab (q j)) (fun j => qab (qSt f p s t j)), e1 ▸ qCo_step p1 p2 hs, m1, ?_, ?_⟩
      · rw [e1]; refine Int.le_trans m2 ?_; omega
      · intro j j1 j2 x
        have y : j ≠ f := by
          intro e; subst e
          have : U j c = qSw j p s V j c := by rw [e1]; unfold qRV; rw [qRd_f]
          omega
        rw [qRt_j y]
        by_cases w : qSw f p s V j c = 0
        · left
          have r := qw_rg p1 p2 j1 j2
          have := hB _ r.1 r.2
          show qab (qSt f p s t j) ≤ B
          unfold qab; rw [qSt_at hs]; omega
        · right
          have := tm (fun j => qab (qSt f p s t j)) (qSw f p s V) S (fun _ _ _ => qab_nn _) s1 j j1 j2 w
          have : qab (qSt f p s t j) ≤ S := this
          show qab (qSt f p s t j) ≤ 3 * (S : Int)
          omega) (fun U U2 hU hl ih z => by
      obtain ⟨u, τ, co, hτ, hs2, hn⟩ := ih
      obtain ⟨p, s, q, p1, p2, hs, hp, hm, e1, hr⟩ := z
      have fm : f < m := by omega
      have ef : (qSw f p s U f c).natAbs = (U p c).natAbs := by rw [qSw_at hs]; unfold qw; rw [if_pos rfl]
      have s1 : qR (fun j => qab (qSw f p s U j c) * τ (qw f p j)) f m ≤ 3 * (S : Int) := by
        have : qR (fun j => qab (qSw f p s U j c) * τ (qw f p j)) f m = qR (fun j => (fun j => qab (U j c) * τ j) (qw f p j)) f m := qR_congr fun j _ _ => by
          unfold qab; rw [qSw_at hs]
        rw [this, qR_swp (fun j => qab (U j c) * τ j) p1 p2]; exact hs2
      have t0 : ∀ j, f ≤ j → j < m → 0 ≤ τ (qw f p j) := fun j j1 j2 => by
        have r := qw_rg p1 p2 j1 j2; exact Int.le_trans (qab_nn _) (hτ _ r.1 r.2)
      obtain ⟨m1, m2⟩ := qMj_G (q := q) (x := fun j => qSw f p s U j c) (t := qSt f p s u) (τ := fun j => τ (qw f p j)) fm (fun j j1 j2 => by
        have := (hr j j1 j2).2 (by simp); rw [e1] at this; exact this) (fun j j1 j2 => by
        have r := qw_rg p1 p2 j1 j2
        have := hτ _ r.1 r.2
        unfold qab at *; rw [qSt_at hs]; exact this)
      refine ⟨qRt f m q (qSt f p s u), qRt f m (fun j => qab (q j)) (fun j => τ (qw f p j)), qCo_trans co (e1 ▸ qCo_step p1 p2 hs), m1, ?_, ?_⟩
      · rw [e1]; exact Int.le_trans (Int.le_of_eq m2) s1
      · intro j j1 j2 x
        have y : j ≠ f := by
          intro e; subst e
          have : U2 j c = qSw j p s U j c := by rw [e1]; unfold qRV; rw [qRd_f]
          omega
        rw [qRt_j y]
        have r := qw_rg p1 p2 j1 j2
        by_cases w : qSw f p s U j c = 0
        · have e := qSw_at (f := f) (p := p) (V := U) hs j c
          exact hn _ r.1 r.2 (by omega)
        · right
          exact tm (fun j => τ (qw f p j)) (qSw f p s U) _ t0 s1 j j1 j2 w)
  obtain ⟨⟨u, τ, co, hτ, _, hn⟩, hf, fm⟩ := k
  refine ⟨u, co, fun j j1 j2 => ?_⟩
  have a := hn j (Nat.le_of_lt j1) j2 (hz j j1 j2)
  have b := hτ j (Nat.le_of_lt j1) j2
  unfold qab at b; omega
theorem q_sab {s : Int} (hs : s = 1 ∨ s = -1) (a b : Int) : (s * a * b).natAbs = (a * b).natAbs := by
  rw [Int.mul_assoc, Int.natAbs_mul]; rcases hs with rfl | rfl <;> simp
theorem q_sab1 {s : Int} (hs : s = 1 ∨ s = -1) (a : Int) : (s * a).natAbs = a.natAbs := by
  rw [Int.natAbs_mul]; rcases hs with rfl | rfl <;> simp
theorem q_l5a {y s up u1 α K ε W tb q g Up : Int} (h2 : y * (s * up) = α * K - ε * W * tb) (h1 : y * u1 = g * K + ε * (s * Up) * tb) (ss : s * s = 1) : y * (s * up + q * u1) = (α * s * s + q * g) * K - ε * (W - q * (s * Up)) * tb := by
  have e : α * s * s = α := by rw [Int.mul_assoc, ss]; omega
  rw [e, Int.mul_add, h2]
  have : y * (q * u1) = q * (y * u1) := by grind
  rw [this, h1]; grind
/-- L5: two vectors -/
theorem qGath_2 {f c : Nat} {V V2 : Nat → Nat → Int} {t : Nat → Int} {B : Nat} {K : Int} (h : qGath f (f + 2) c V V2) (hK : V f c * t f + V (f + 1) c * t (f + 1) = K) (hB : (t f).natAbs ≤ B ∧ (t (f + 1)).natAbs ≤ B) : ∃ u, qCo f (f + 2) t V u V2 ∧ (u (f + 1)).natAbs ≤ K.natAbs + B := by
  have hz : V2 (f + 1) c = 0 := by obtain ⟨n, W, _, _, _, hz⟩ := h; exact hz _ (by omega) (by omega)
  have qv : ∀ (q t : Nat → Int), qRt f (f + 2) q t f = t f + q (f + 1) * t (f + 1) := fun q t => by
    rw [qRt_f, show f + 2 - f - 1 = 1 by omega]; simp [qS]
  have k := qGath_ind (Pr := fun U => ∃ (u : Nat → Int) (y tb α γ ε : Int), qCo f (f + 2) t V u U ∧ tb.natAbs ≤ B ∧ (ε = 1 ∨ ε = -1) ∧ y ≠ 0 ∧ y * u (f + 1) = γ * K + ε * U f c * tb ∧ y * u f = α * K - ε * U (f + 1) c * tb ∧ (α * U f c).natAbs + (γ * U (f + 1) c).natAbs ≤ y.natAbs ∧ (U f c).natAbs ≤ y.natAbs ∧ (U (f + 1) c = 0 → γ.natAbs ≤ y.natAbs)) h (fun U z => by
      obtain ⟨p, s, q, p1, p2, hs, hp, hm, e1, hr⟩ := z
      have ef : U f c = s * V p c := by rw [e1]; unfold qRV; rw [qRd_f]; unfold qSw; rw [if_pos rfl]
      have ef1 : U (f + 1) c = V (qw f p (f + 1)) c - q (f + 1) * (s * V p c) := by
        rw [e1]; unfold qRV; rw [qRd_j (by omega) (by omega)]; unfold qSw; rw [if_neg (by omega), if_pos rfl]
      have ob : p = f ∧ qw f p (f + 1) = f + 1 ∨ p = f + 1 ∧ qw f p (f + 1) = f := by
        by_cases x : p = f
        · left; refine ⟨x, ?_⟩; subst x; unfold qw; rw [if_neg (by omega), if_neg (by omega)]
        · right; have : p = f + 1 := by omega
          refine ⟨this, ?_⟩; subst this; unfold qw; rw [if_neg (by omega), if_pos rfl]
      have hKp : V p c * t p + V (qw f p (f + 1)) c * t (qw f p (f + 1)) = K := by
        rcases ob with ⟨a, b⟩ | ⟨a, b⟩ <;> rw [b, a] <;> omega
      refine ⟨qRt f (f + 2) q (qSt f p s t), V p c, t (qw f p (f + 1)), s, 0, s, e1 ▸ qCo_step p1 p2 hs, ?_, hs, hp, ?_, ?_, ?_, ?_, ?_⟩
      · rcases ob with ⟨a, b⟩ | ⟨a, b⟩ <;> rw [b] <;> omega
      · rw [qRt_j (by omega)]; unfold qSt; rw [if_neg (by omega), ef]
        rcases hs with rfl | rfl <;> grind
      · rw [qv, ef1]; unfold qSt; rw [if_pos rfl, if_neg (by omega)]
        rcases hs with rfl | rfl <;> grind
      · rw [ef]; rcases hs with rfl | rfl <;> simp
      · rw [ef]; rcases hs with rfl | rfl <;> omega
      · intro _; simp) (fun U U2 hU hl ih z => by
      obtain ⟨u, y, tb, α, γ, ε, co, htb, hε, hy, q1, q2, q3, q4, q5⟩ := ih
      obtain ⟨p, s, q, p1, p2, hs, hp, hm, e1, hr⟩ := z
      have ef : U2 f c = s * U p c := by rw [e1]; unfold qRV; rw [qRd_f]; unfold qSw; rw [if_pos rfl]
      have ef1 : U2 (f + 1) c = U (qw f p (f + 1)) c - q (f + 1) * (s * U p c) := by
        rw [e1]; unfold qRV; rw [qRd_j (by omega) (by omega)]; unfold qSw; rw [if_neg (by omega), if_pos rfl]
      have g := (hr (f + 1) (by omega) (by omega)).2 (by simp)
      have sw1 : qSw f p s U (f + 1) c = U (qw f p (f + 1)) c := by unfold qSw; rw [if_neg (by omega)]
      rw [sw1] at g
      -- the state behind the swap
      have st : ∃ α' γ' ε' : Int, (ε' = 1 ∨ ε' = -1) ∧ y * u (qw f p (f + 1)) = γ' * K + ε' * (s * U p c) * tb ∧ y * (s * u p) = α' * K - ε' * U (qw f p (f + 1)) c * tb ∧ (α' * U p c).natAbs + (γ' * U (qw f p (f + 1)) c).natAbs ≤ y.natAbs ∧ (U (qw f p (f + 1)) c = 0 → γ'.natAbs ≤ y.natAbs) ∧ (U p c).natAbs ≤ y.natAbs := by
        by_cases x : p = f
        · have w : qw f p (f + 1) = f + 1 := by subst x; unfold qw; rw [if_neg (by omega), if_neg (by omega)]
          rw [w, x]
          refine ⟨s * α, γ, ε * s, ?_, ?_, ?_, ?_, q5, q4⟩
          · rcases hs with rfl | rfl <;> rcases hε with rfl | rfl <;> simp
          · rcases hs with rfl | rfl <;> grind
          · rcases hs with rfl | rfl <;> grind
          · have : (s * α * U f c).natAbs = (α * U f c).natAbs := q_sab hs _ _
            omega
        · have x : p = f + 1 := by omega
          have w : qw f p (f + 1) = f := by subst x; unfold qw; rw [if_neg (by omega), if_pos rfl]
          have hl1 := hl (f + 1) (by omega) (by omega)
          rw [w, x]
          refine ⟨s * γ, α, -(ε * s), ?_, ?_, ?_, ?_, ?_, by omega⟩
          · rcases hs with rfl | rfl <;> rcases hε with rfl | rfl <;> simp
          · rcases hs with rfl | rfl <;> grind
          · rcases hs with rfl | rfl <;> grind
          · have : (s * γ * U (f + 1) c).natAbs = (γ * U (f + 1) c).natAbs := q_sab hs _ _
            omega
          · intro k; exact absurd k hU
      obtain ⟨α', γ', ε', hε', s1, s2, s3, s4, s5⟩ := st
      refine ⟨qRt f (f + 2) q (qSt f p s u), y, tb, α' * s * s + q (f + 1) * γ', γ', ε', qCo_trans co (e1 ▸ qCo_step p1 p2 hs), htb, hε', hy, ?_, ?_, ?_, ?_, ?_⟩
      · rw [qRt_j (by omega)]; unfold qSt; rw [if_neg (by omega), ef]; exact s1
      · rw [qv, ef1]; unfold qSt; rw [if_pos rfl, if_neg (by omega)]
        have ss : s * s = 1 := by rcases hs with rfl | rfl <;> rfl
        exact q_l5a s2 s1 ss
      · have l1 : ((α' * s * s + q (f + 1) * γ') * U2 f c).natAbs ≤ (α' * U p c).natAbs + (γ' * (q (f + 1) * (s * U p c))).natAbs := by
          rw [ef]
          have : (α' * s * s + q (f + 1) * γ') * (s * U p c) = s * (α' * U p c) + γ' * (q (f + 1) * (s * U p c)) := by
            rcases hs with rfl | rfl <;> grind
          rw [this]
          have : (s * (α' * U p c)).natAbs = (α' * U p c).natAbs := q_sab1 hs _
          omega
        have l2 : (γ' * (q (f + 1) * (s * U p c))).natAbs + (γ' * U2 (f + 1) c).natAbs = (γ' * U (qw f p (f + 1)) c).natAbs := by
          rw [Int.natAbs_mul, Int.natAbs_mul γ', Int.natAbs_mul γ', ← Nat.mul_add]
          congr 1
          unfold qG at g; omega
        omega
      · rw [ef]; rcases hs with rfl | rfl <;> omega
      · intro k
        by_cases w : U (qw f p (f + 1)) c = 0
        · exact s4 w
        · have : γ'.natAbs * 1 ≤ (γ' * U (qw f p (f + 1)) c).natAbs := by rw [Int.natAbs_mul]; exact Nat.mul_le_mul_left _ (by omega)
          omega)
  obtain ⟨⟨u, y, tb, α, γ, ε, co, htb, hε, hy, q1, q2, q3, q4, q5⟩, hf, fm⟩ := k
  refine ⟨u, co, ?_⟩
  have g := q5 hz
  have a : (y * u (f + 1)).natAbs ≤ y.natAbs * K.natAbs + y.natAbs * B := by
    rw [q1]
    have b1 : (γ * K).natAbs ≤ y.natAbs * K.natAbs := by rw [Int.natAbs_mul]; exact Nat.mul_le_mul_right _ g
    have b2 : (ε * V2 f c * tb).natAbs ≤ y.natAbs * B := by
      have : (ε * V2 f c).natAbs = (V2 f c).natAbs := q_sab1 hε _
      rw [Int.natAbs_mul, this]; exact Nat.mul_le_mul q4 htb
    omega
  rw [Int.natAbs_mul, ← Nat.mul_add] at a
  exact q_div (by omega) a
