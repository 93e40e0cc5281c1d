/-! A ROW MORE: the basis behind it -/
theorem qE_cong {ρ : Nat} (h : ρ ≤ 3) {a a2 : Nat → Nat → Int} {b b2 : Nat → Nat} (ha : ∀ i, i < ρ → a2 i = a i) (hb : ∀ i, i < ρ → b2 i = b i) (f : Nat → Int) (l : Nat) : qE ρ a2 b2 f l = qE ρ a b f l := by
  have : ρ = 0 ∨ ρ = 1 ∨ ρ = 2 ∨ ρ = 3 := by omega
  rcases this with rfl | rfl | rfl | rfl
  · rfl
  · simp only [qE]; rw [ha 0 (by omega), hb 0 (by omega)]
  · simp only [qE]; rw [ha 0 (by omega), hb 0 (by omega), ha 1 (by omega), hb 1 (by omega)]
  · simp only [qE]; rw [ha 0 (by omega), hb 0 (by omega), ha 1 (by omega), hb 1 (by omega), ha 2 (by omega), hb 2 (by omega)]
theorem qDe_cong {ρ : Nat} (h : ρ ≤ 4) {a a2 : Nat → Nat → Int} {b b2 : Nat → Nat} (ha : ∀ i, i < ρ → a2 i = a i) (hb : ∀ i, i < ρ → b2 i = b i) : qDe ρ a2 b2 = qDe ρ a b := by
  rcases ρ with _ | m
  · rfl
  · simp only [qDe]; rw [ha m (by omega), hb m (by omega)]
    exact qE_cong (by omega) (fun i hi => ha i (by omega)) (fun i hi => hb i (by omega)) _ _
theorem qPi_app (p : Nat → Nat) (m n : Nat) : qPi p (m + n) = qPi p m * qPi (fun i => p (m + i)) n := by
  induction n with
  | zero => simp [qPi]
  | succ n ih => rw [← Nat.add_assoc]; simp only [qPi]; rw [ih, Nat.mul_assoc]
theorem qPi_mul (p q : Nat → Nat) (n : Nat) : qPi (fun i => p i * q i) n = qPi p n * qPi q n := by
  induction n with
  | zero => rfl
  | succ n ih => simp only [qPi]; rw [ih]; grind
def qNx (ρ : Nat) (a : Nat → Nat → Int) (row : Nat → Int) : Nat → Nat → Int := fun i => if i = ρ then row else a i
def qNb2 (ρ : Nat) (b : Nat → Nat) (c : Nat) : Nat → Nat := fun i => if i = ρ then c else b i
def qNc (R : Nat) (cN : Nat → Nat) : Nat → Nat := fun i => if i < R then cN i else cN (i + 1)
theorem qKB_next {n ρ k R : Nat} {a : Nat → Nat → Int} {b cN : Nat → Nat} {w w2 : Nat → Nat → Int} {row : Nat → Int} {p : Nat → Int} (h : qKB n ρ k a b cN w) (hρ : ρ ≤ 3) (hR : R < k) (hx : qF row (w R) ≠ 0) (hz : ∀ i, R < i → i < k → qF row (w i) = 0) (l1 : ∀ i, i < R → 0 < p i ∧ w2 i (cN i) = p i * w i (cN i) ∧ ∀ c, c < cN i → w2 i c = 0) (l1p : qPi (fun i => (p i).natAbs) R ≤ (qF row (w R)).natAbs) (l2 : ∀ i c, R ≤ i → i + 1 < k → w2 i c = w (i + 1) c) (l3 : ∀ g i, g < i → i + 1 < k → 0 ≤ w2 g (qNc R cN i) ∧ w2 g (qNc R cN i) < w2 i (qNc R cN i)) (l4 : ∀ i, i < R → ∃ t : Nat → Int, ∀ c, w2 i c = qS (fun l => t l * w l c) k) (l5 : ∀ i, i < R → qF row (w2 i) = 0) : qKB n (ρ + 1) (k - 1) (qNx ρ a row) (qNb2 ρ b (cN R)) (qNc R cN) w2 := by
  obtain ⟨⟨h1, h1b, h1c⟩, h2, h3, h4, h5, h6, h7, h8, h9, h10⟩ := h
  have hKB : qKB n ρ k a b cN w := ⟨⟨h1, h1b, h1c⟩, h2, h3, h4, h5, h6, h7, h8, h9, h10⟩
  have qa : ∀ i, i < ρ → qNx ρ a row i = a i := fun i hi => by unfold qNx; rw [if_neg (by omega)]
  have qar : qNx ρ a row ρ = row := by unfold qNx; rw [if_pos rfl]
  have qb : ∀ i, i < ρ → qNb2 ρ b (cN R) i = b i := fun i hi => by unfold qNb2; rw [if_neg (by omega)]
  have qbr : qNb2 ρ b (cN R) ρ = cN R := by unfold qNb2; rw [if_pos rfl]
  -- the new determinant
  have cir := fun (j : Nat) (hj : j < k) => qKB_circ hKB hρ (v := w j) (fun c c1 _ => h5 j c hj c1) (fun i hi => h8 i j hi hj) row
  have one : ∀ j, j < k → (∀ i, j < i → i < k → qE ρ a b row (cN i) = 0) → qDe ρ a b * qF row (w j) = qE ρ a b row (cN j) * w j (cN j) := by
    intro j hj hi
    rw [cir j hj]
    have : qS (fun i => qE ρ a b row (cN i) * w j (cN i)) k = qS (qU (fun _ => 0) j (qE ρ a b row (cN j) * w j (cN j))) k := qS_congr fun i ik => by
      unfold qU
      rcases Nat.lt_trichotomy i j with c | c | c
      · rw [if_neg (by omega), (h2 j hj).2.2 _ (h3 i j c hj)]; simp
      · subst c; rw [if_pos rfl]
      · rw [if_neg (by omega), hi i c ik]; simp
    rw [this, qS_upd hj, qS_zero (fun _ _ => rfl)]; omega
  have z : ∀ d, d < k → R < k - 1 - d → qE ρ a b row (cN (k - 1 - d)) = 0 := by
    intro d
    induction d using Nat.strongRecOn with
    | ind d ih =>
      intro hd hRd
      have e := one (k - 1 - d) (by omega) (fun i i1 i2 => by
        have := ih (k - 1 - i) (by omega) (by omega) (by omega)
        rwa [show k - 1 - (k - 1 - i) = i by omega] at this)
      rw [hz _ hRd (by omega), Int.mul_zero] at e
      have := (h2 (k - 1 - d) (by omega)).2.1
      rcases Int.mul_eq_zero.mp e.symm with c | c
      · exact c
      · omega
  have eR := one R hR (fun i i1 i2 => by
    have := z (k - 1 - i) (by omega) (by omega)
    rwa [show k - 1 - (k - 1 - i) = i by omega] at this)
  have dn : qDe (ρ + 1) (qNx ρ a row) (qNb2 ρ b (cN R)) = qE ρ a b row (cN R) := by
    simp only [qDe]; rw [qar, qbr]; exact qE_cong hρ qa qb _ _
  have d0 := h9 ρ (by omega)
  have pR := (h2 R hR).2.1
  have e0 : qE ρ a b row (cN R) ≠ 0 := by
    intro e; rw [e, Int.zero_mul] at eR
    rcases Int.mul_eq_zero.mp eR with c | c
    · exact d0 c
    · exact hx c
  -- leads of the new ones
  have nl : ∀ i, i + 1 < k → qNc R cN i < n ∧ 0 < w2 i (qNc R cN i) ∧ ∀ c, c < qNc R cN i → w2 i c = 0 := by
    intro i hi
    unfold qNc
    by_cases c : i < R
    · rw [if_pos c]
      obtain ⟨p1, p2, p3⟩ := l1 i c
      refine ⟨(h2 i (by omega)).1, ?_, p3⟩
      rw [p2]; exact Int.mul_pos p1 (h2 i (by omega)).2.1
    · rw [if_neg c]
      rw [l2 i _ (by omega) hi]
      exact ⟨(h2 (i + 1) hi).1, (h2 (i + 1) hi).2.1, fun c hc => by rw [l2 i c (by omega) hi]; exact (h2 (i + 1) hi).2.2 c hc⟩
  have lin : ∀ (f : Nat → Int) i, i + 1 < k → (∀ j, j < k → qF f (w j) = 0) → qF f (w2 i) = 0 := by
    intro f i hi hf
    by_cases c : i < R
    · obtain ⟨t, ht⟩ := l4 i c
      unfold qF
      have : qS (fun c => f c * w2 i c) 7 = qS (fun c => qS (fun l => t l * (f c * w l c)) k) 7 := qS_congr fun c _ => by
        rw [ht, ← qS_mul]; exact qS_congr fun l _ => by grind
      rw [this, qS_swap]
      refine qS_zero fun l hl => ?_
      show qS (fun c => t l * (f c * w l c)) 7 = 0
      rw [qS_mul]
      have := hf l hl
      unfold qF at this
      rw [this]; simp
    · have : w2 i = w (i + 1) := funext fun c => l2 i c (by omega) hi
      rw [this]; exact hf (i + 1) hi
  refine ⟨⟨by omega, h1b, by omega⟩, fun i hi => nl i (by omega), ?_, fun g i gi hi => l3 g i gi (by omega), ?_, ?_, ?_, ?_, ?_, ?_⟩
  · intro i j ij hj
    unfold qNc
    by_cases c : j < R
    · rw [if_pos c, if_pos (by omega)]; exact h3 i j ij (by omega)
    · rw [if_neg c]
      by_cases c2 : i < R
      · rw [if_pos c2]; exact h3 i (j + 1) (by omega) (by omega)
      · rw [if_neg c2]; exact h3 (i + 1) (j + 1) (by omega) (by omega)
  · intro i c hi hc
    by_cases c2 : i < R
    · obtain ⟨t, ht⟩ := l4 i c2
      rw [ht]; exact qS_zero fun l hl => by rw [h5 l c hl hc]; simp
    · rw [l2 i c (by omega) (by omega)]; exact h5 (i + 1) c (by omega) hc
  · intro i hi
    by_cases c : i = ρ
    · subst c; rw [qbr]; exact (h2 R hR).1
    · rw [qb i (by omega)]; exact h6 i (by omega)
  · intro c hc
    rcases h7 c hc with ⟨i, i1, i2⟩ | ⟨i, i1, i2⟩
    · rcases Nat.lt_trichotomy i R with e | e | e
      · left; refine ⟨i, by omega, ?_⟩; unfold qNc; rw [if_pos e]; exact i2
      · right; refine ⟨ρ, by omega, ?_⟩; rw [qbr, i2, e]
      · left; refine ⟨i - 1, by omega, ?_⟩; unfold qNc; rw [if_neg (by omega), show i - 1 + 1 = i by omega]; exact i2
    · right; refine ⟨i, by omega, ?_⟩; rw [qb i i1]; exact i2
  · intro i j hi hj
    by_cases c : i = ρ
    · subst c; rw [qar]
      by_cases c2 : j < R
      · exact l5 j c2
      · have : w2 j = w (j + 1) := funext fun c => l2 j c (by omega) (by omega)
        rw [this]; exact hz (j + 1) (by omega) (by omega)
    · rw [qa i (by omega)]; exact lin (a i) j (by omega) (fun l hl => h8 i l (by omega) hl)
  · intro i hi
    by_cases c : i = ρ + 1
    · subst c; rw [dn]; exact e0
    · rw [qDe_cong (by omega) (fun j hj => qa j (by omega)) (fun j hj => qb j (by omega))]; exact h9 i (by omega)
  · rw [dn]
    -- products
    obtain ⟨m, hm⟩ := Nat.exists_eq_add_of_le (show R + 1 ≤ k from hR)
    have s2 : k - 1 = R + m := by omega
    have P0 := h10
    rw [hm, qPi_app, qPi] at P0
    have P1 : qPi (fun i => (w2 i (qNc R cN i)).natAbs) (k - 1) = qPi (fun i => (p i).natAbs) R * qPi (fun i => (w i (cN i)).natAbs) R * qPi (fun i => (w (R + 1 + i) (cN (R + 1 + i))).natAbs) m := by
      have e1 : qPi (fun i => (w2 i (qNc R cN i)).natAbs) R = qPi (fun i => (p i).natAbs) R * qPi (fun i => (w i (cN i)).natAbs) R := by
        rw [← qPi_mul]
        refine qPi_congr fun i hi => ?_
        show (w2 i (qNc R cN i)).natAbs = (p i).natAbs * (w i (cN i)).natAbs
        unfold qNc; rw [if_pos hi, (l1 i hi).2.1, Int.natAbs_mul]
      have e2 : qPi (fun i => (w2 (R + i) (qNc R cN (R + i))).natAbs) m = qPi (fun i => (w (R + 1 + i) (cN (R + 1 + i))).natAbs) m := by
        refine qPi_congr fun i hi => ?_
        show (w2 (R + i) (qNc R cN (R + i))).natAbs = (w (R + 1 + i) (cN (R + 1 + i))).natAbs
        unfold qNc; rw [if_neg (by omega), l2 (R + i) _ (by omega) (by omega), show R + i + 1 = R + 1 + i by omega]
      rw [s2, qPi_app, e1, e2]
    rw [P1]
    have n := congrArg Int.natAbs eR
    rw [Int.natAbs_mul, Int.natAbs_mul] at n
    have pp : 0 < (w R (cN R)).natAbs := by omega
    refine Nat.le_of_mul_le_mul_right ?_ pp
    rw [← n]
    have m := Nat.mul_le_mul P0 l1p
    refine Nat.le_trans (Nat.le_of_eq ?_) m
    grind
