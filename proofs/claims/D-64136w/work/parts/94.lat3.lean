/-! THE COMPONENT'S LATTICE: first, lead -/
theorem sp_X5_first {ev : Nat → Nat} {D : Nat → Prop} {a0 o e n j : Nat} {V : Nat → Nat → Int} {Q : Int32 → Hp → Prop} {h : Hp} (L : xL D h a0 o e n V) (hj : j < n) (q : ∀ m : Nat, m ≤ 6 → (∀ col, col < m → Int64.ofInt (V j (4 + col)) = 0) → (m < 6 → Int64.ofInt (V j (4 + m)) ≠ 0) → Q (Int32.ofNat m) h) : wp_X5_first ev h a0 (Int32.ofNat j) Q := by
  have six : (6 : Int32) = Int32.ofNat 6 := rfl
  have four : ∀ m : Nat, (4 : Int32) + Int32.ofNat m = Int32.ofNat (4 + m) := fun m => i_add 4 m
  have go : ∀ (t m : Nat), m + t = 6 → (∀ col, col < m → Int64.ofInt (V j (4 + col)) = 0) → wp_X5_first_2 ev Q (t + 1) a0 (Int32.ofNat j) (Int32.ofNat m) h := by
    intro t
    induction t with
    | zero =>
      intro m hm hz
      unfold wp_X5_first_2
      rw [six, i_le (by omega) (by omega)]
      exact ⟨fun _ => q m (by omega) hz fun h => by omega, fun z => absurd (by omega) z⟩
    | succ t ih =>
      intro m hm hz
      unfold wp_X5_first_2
      rw [six, i_le (by omega) (by omega)]
      obtain ⟨m1, m2, m3, m4, b1, m5, m6, m7, m8⟩ := xL_cell L hj (show 4 + m < 10 by omega)
      refine ⟨fun z => by omega, fun _ => ⟨m1, o, m2, m3, m4, b1, m5, m6, by rw [four]; exact m7, ?_, ?_⟩⟩
      · rw [four, lg_cmp_eq, m8]
        exact fun h0 => q m (by omega) hz fun _ => h0
      · rw [four, lg_cmp_eq, m8]
        intro h0 x8 e8
        subst e8
        rw [i_one]
        refine ih (m + 1) (by omega) fun col hc => ?_
        by_cases w : col = m
        · rw [w]; exact h0
        · exact hz col (by omega)
  exact ⟨7, go 6 0 rfl fun col hc => by omega⟩
/-- the leads found so far, and what is 0 -/
def xFs (z k s c : Nat) (V : Nat → Nat → Int) : Prop :=
  (∀ i, i < s → ∃ col, col < c ∧ V (z + i) (4 + col) ≠ 0 ∧ (V (z + i) (4 + col)).natAbs < 2 ^ 63) ∧ ∀ j, z + s ≤ j → j < z + k → ∀ col, col < c → V j (4 + col) = 0
theorem xFs_no {z k s c : Nat} {V : Nat → Nat → Int} (h : xFs z k s c V) (h0 : ∀ j, z + s ≤ j → j < z + k → V j (4 + c) = 0) : xFs z k s (c + 1) V := by
  refine ⟨fun i hi => ?_, fun j j1 j2 col hc => ?_⟩
  · obtain ⟨col, c1, c2⟩ := h.1 i hi; exact ⟨col, by omega, c2⟩
  · by_cases w : col = c
    · rw [w]; exact h0 j j1 j2
    · exact h.2 j j1 j2 col (by omega)
theorem xFs_yes {z k s c : Nat} {q : Nat → Int} {V V2 : Nat → Nat → Int} (h : xFs z k s c V) (hs : s < k) (g : qGath (z + s) (z + k) (4 + c) V V2) (pos : 0 < V2 (z + s) (4 + c)) (fit : (V2 (z + s) (4 + c)).natAbs < 2 ^ 63) : xFs z k (s + 1) (c + 1) (qRed z s q V2) := by
  have gz : ∀ j, z + s < j → j < z + k → V2 j (4 + c) = 0 := by obtain ⟨n, W, _, _, _, hz⟩ := g; exact hz
  have old := fun j (hj : j < z + s) => qGath_lt g (.inl hj)
  have zer : ∀ col, col < c → ∀ j, z + s ≤ j → j < z + k → V2 j (4 + col) = 0 := fun col hc => qGath_0 g (4 + col) fun j j1 j2 => h.2 j j1 j2 col hc
  refine ⟨fun i hi => ?_, fun j j1 j2 col hc => ?_⟩
  · by_cases w : i = s
    · subst w
      refine ⟨c, by omega, ?_⟩
      have e : qRed z i q V2 (z + i) (4 + c) = V2 (z + i) (4 + c) := by unfold qRed; rw [if_neg (by omega)]
      rw [e]; exact ⟨by omega, fit⟩
    · obtain ⟨col, c1, c2, c3⟩ := h.1 i (by omega)
      refine ⟨col, by omega, ?_⟩
      have e : qRed z s q V2 (z + i) (4 + col) = V (z + i) (4 + col) := by
        unfold qRed; rw [if_pos (by omega), zer col c1 (z + s) (Nat.le_refl _) (by omega), old (z + i) (by omega)]; simp
      rw [e]; exact ⟨c2, c3⟩
  · have e : qRed z s q V2 j (4 + col) = V2 j (4 + col) := by unfold qRed; rw [if_neg (by omega)]
    rw [e]
    by_cases w : col = c
    · rw [w]; exact gz j (by omega) j2
    · exact zer col (by omega) j (by omega) j2
theorem sp_X5_lead_53 {ev : Nat → Nat} {D : Nat → Prop} {a0 o e n z s c : Nat} {V : Nat → Nat → Int} {Q : Hp → Prop} {h0 : Hp} (hs : z + s < n) (hc : c < 6) (hp : 0 < V (z + s) (4 + c)) (hX : ∀ l, l ≤ s → (V (z + l) (4 + c)).natAbs + (V (z + s) (4 + c)).natAbs < 2 ^ 63) (q : ∀ h2, xG D o h0 h2 → xL D h2 a0 o e n (qRed z s (mFl z s (4 + c) V) V) → Q h2) : ∀ (t i : Nat) (h : Hp) (U : Nat → Nat → Int), i + t = s → xG D o h0 h → xL D h a0 o e n U → (∀ j, U j = if z ≤ j ∧ j < z + i then qRed z s (mFl z s (4 + c) V) V j else V j) → wp_X5_lead_53 ev Q (t + 1) a0 (Int32.ofNat c) (Int32.ofNat (z + s)) (Int32.ofNat (z + i)) h := by
  intro t
  have four : (4 : Int32) + Int32.ofNat c = Int32.ofNat (4 + c) := i_add 4 c
  induction t with
  | zero =>
    intro i h U hi fr L hU
    have : i = s := by omega
    subst this
    obtain ⟨l9, l1, l8⟩ := xL_n L
    unfold wp_X5_lead_53
    rw [i_le (by omega) (by omega)]
    refine ⟨fun _ => q h fr ?_, fun z => absurd (Nat.le_refl _) z⟩
    have : U = qRed z i (mFl z i (4 + c) V) V := by
      funext j
      rw [hU]
      by_cases w : z ≤ j ∧ j < z + i
      · rw [if_pos w]
      · rw [if_neg w]; funext d; unfold qRed; rw [if_neg w]
    rw [← this]; exact L
  | succ t ih =>
    intro i h U hi fr L hU
    obtain ⟨l9, l1, l8⟩ := xL_n L
    obtain ⟨m1, m2, m3, m4, b1, m5, m6, m7, m8⟩ := xL_cell L (show z + i < n by omega) (show 4 + c < 10 by omega)
    obtain ⟨r1, r2, r3, r4, b2, r5, r6, r7, r8⟩ := xL_cell L hs (show 4 + c < 10 by omega)
    unfold wp_X5_lead_53
    rw [i_le (by omega) (by omega)]
    refine ⟨fun w => by omega, fun _ => ⟨m1, o, m2, m3, m4, b1, m5, m6, by rw [four]; exact m7, r1, o, r2, r3, r4, b2, r5, r6, by rw [four]; exact r7, ?_⟩⟩
    have e1 : U (z + i) = V (z + i) := by rw [hU, if_neg (by omega)]
    have e2 : U (z + s) = V (z + s) := by rw [hU, if_neg (by omega)]
    rw [four, m8, r8, e1, e2]
    have x1 := hX i (by omega)
    have x2 := hX s (by omega)
    refine sp_J7_floorDiv (by omega) (by omega) hp ⟨l1, ?_⟩
    rw [l_neg]
    refine sp_X5_add (show z + i < n by omega) hs (by omega) L fun h2 f2 L2 x19 e19 => ?_
    subst e19
    rw [i_one]
    refine ih (i + 1) h2 _ (by omega) (xG_trans fr f2) L2 fun j => ?_
    have := congrFun (qRed_s (z := z) (s := s) (i := i) (q := mFl z s (4 + c) V) hU (by omega)) j
    rw [Int.neg_neg]
    exact this
/-- one lead: P stands for what is known of s leads in the columns below c -/
theorem sp_X5_lead {ev : Nat → Nat} {D : Nat → Prop} {a0 o e n z k s c : Nat} {V : Nat → Nat → Int} {P : Nat → Nat → (Nat → Nat → Int) → Prop} {Q : Hp → Prop} {h : Hp} (hz : z + k = n) (hc : c < n) (h3 : hI h a0 3 = Int32.ofNat z) (L : xL D h a0 o e n V) (hs : s ≤ k) (F : xFs z k s c V) (fit : s < k → ∀ j, z + s ≤ j → j < z + k → (V j (4 + c)).natAbs < 2 ^ 63) (yes : ∀ V2, s < k → qGath (z + s) (z + k) (4 + c) V V2 → 0 < V2 (z + s) (4 + c) → (∀ l, l ≤ s → (V2 (z + l) (4 + c)).natAbs + (V2 (z + s) (4 + c)).natAbs < 2 ^ 63) ∧ P (s + 1) (c + 1) (qRed z s (mFl z s (4 + c) V2) V2)) (no : s < k → (∀ j, z + s ≤ j → j < z + k → V j (4 + c) = 0) → P s (c + 1) V) (q0 : s = k → Q h) (q1 : ∀ h2 s2 V2, s2 ≤ k → xG D o h h2 → xL D h2 a0 o e n V2 → xFs z k s2 (c + 1) V2 → P s2 (c + 1) V2 → Q h2) : wp_X5_lead ev h a0 (Int32.ofNat c) Q := by
  obtain ⟨l9, l1, l8⟩ := xL_n L
  have four : (4 : Int32) + Int32.ofNat c = Int32.ofNat (4 + c) := i_add 4 c
  -- at the place of the next lead
  have at28 : wp_X5_lead_28 ev Q a0 (Int32.ofNat c) (Int32.ofNat (z + s)) h := by
    unfold wp_X5_lead_28 wp_X5_lead_47
    rw [l8, i_eq (by omega) (by omega)]
    refine ⟨l1, fun hh => q0 (by omega), fun hh => ⟨l1, ?_⟩⟩
    have sk : s < k := by omega
    rw [four]
    refine sp_X5_gather L (by omega) (by omega) (fun j j1 j2 => fit sk j j1 (by omega)) (fun hzz => ⟨fun h => absurd rfl h, fun _ => q1 h s V hs (xG_refl h) L (xFs_no F fun j j1 j2 => hzz j j1 (by omega)) (no sk fun j j1 j2 => hzz j j1 (by omega))⟩) fun h2 V2 f2 L2 g pos => ⟨fun _ => ⟨(xL_n L2).2.1, fun x6 e6 => ?_⟩, fun h => absurd h (by decide)⟩
    rw [← hz] at g
    obtain ⟨y1, y2⟩ := yes V2 sk g pos
    rw [hI_G f2, h3] at e6
    subst e6
    refine ⟨s + 1, ?_⟩
    have := sp_X5_lead_53 (ev := ev) (Q := Q) (h0 := h) (show z + s < n by omega) (show c < 6 by omega) pos y1 (fun h4 f4 L4 => q1 h4 (s + 1) _ (by omega) f4 L4 (xFs_yes F sk g pos (by have := y1 s (Nat.le_refl _); omega)) y2) s 0 h2 V2 (by omega) f2 L2 (fun j => by rw [if_neg (by omega)])
    exact this
  have go : ∀ (t i : Nat), i + t = s → wp_X5_lead_5 ev Q (t + 1) a0 (Int32.ofNat c) (Int32.ofNat (z + i)) h := by
    intro t
    induction t with
    | zero =>
      intro i hi
      have : i = s := by omega
      subst this
      unfold wp_X5_lead_5
      rw [l8, i_le (by omega) (by omega)]
      refine ⟨l1, fun _ => at28, fun hlt => ⟨l1, sp_X5_first L (by omega) fun m m6 mz mn => ⟨fun _ => at28, fun hh => ?_⟩⟩⟩
      rw [i_le (by omega) (by omega)] at hh
      exfalso
      exact mn (by omega) (by rw [F.2 (z + i) (Nat.le_refl _) (by omega) m (by omega)]; rfl)
    | succ t ih =>
      intro i hi
      unfold wp_X5_lead_5
      rw [l8, i_le (by omega) (by omega)]
      refine ⟨l1, fun hh => by omega, fun hlt => ⟨l1, sp_X5_first L (by omega) fun m m6 mz mn => ⟨fun hh => ?_, fun hh x5 e5 => ?_⟩⟩⟩
      · rw [i_le (by omega) (by omega)] at hh
        exfalso
        obtain ⟨col, c1, c2, c3⟩ := F.1 i (by omega)
        have := mz col (by omega)
        have z0 : (0 : Int64) = Int64.ofInt 0 := rfl
        rw [z0, l_eq c3 (by decide)] at this
        exact c2 this
      · subst e5
        rw [i_one]
        exact ih (i + 1) (by omega)
  unfold wp_X5_lead
  refine ⟨l1, fun x2 e2 => ⟨s + 1, ?_⟩⟩
  rw [e2, h3]
  exact go s 0 (by omega)
/-- all leads of a row -/
theorem sp_X5_work_165 {ev : Nat → Nat} {D : Nat → Prop} {a0 o e n z k b v2 : Nat} {P : Nat → Nat → (Nat → Nat → Int) → Prop} {Q : Hp → Prop} {K : Nat → Nat → Int32 → Hp → Prop} {h0 : Hp} (hz : z + k = n) (h3 : hI h0 a0 3 = Int32.ofNat z) (fit : ∀ s c V, s < k → c < n → P s c V → ∀ j, z + s ≤ j → j < z + k → (V j (4 + c)).natAbs < 2 ^ 63) (no : ∀ s c V, s < k → c < n → P s c V → (∀ j, z + s ≤ j → j < z + k → V j (4 + c) = 0) → P s (c + 1) V) (yes : ∀ s c V V2, s < k → c < n → P s c V → qGath (z + s) (z + k) (4 + c) V V2 → 0 < V2 (z + s) (4 + c) → (∀ l, l ≤ s → (V2 (z + l) (4 + c)).natAbs + (V2 (z + s) (4 + c)).natAbs < 2 ^ 63) ∧ P (s + 1) (c + 1) (qRed z s (mFl z s (4 + c) V2) V2)) (fin : ∀ h2 V2 s c, xG D o h0 h2 → xL D h2 a0 o e n V2 → P s c V2 → s ≤ k → (n ≤ c ∨ s = k) → K a0 b (Int32.ofNat (v2 + 1)) h2) : ∀ (t c s : Nat) (V : Nat → Nat → Int) (h : Hp), c + t = n → s ≤ k → xG D o h0 h → xL D h a0 o e n V → xFs z k s c V → (s = k ∧ (∃ c2, P s c2 V) ∨ P s c V) → wp_X5_work_165 ev Q K (t + 1) a0 b (Int32.ofNat v2) (Int32.ofNat c) h := by
  intro t
  induction t with
  | zero =>
    intro c s V h hc hs fr L F hP
    obtain ⟨l9, l1, l8⟩ := xL_n L
    unfold wp_X5_work_165
    rw [l8, i_le (by omega) (by omega)]
    refine ⟨l1, fun _ x2 e2 => ?_, fun w => by omega⟩
    subst e2
    rw [i_one]
    rcases hP with ⟨e, c2, p⟩ | p
    · exact fin h V s c2 fr L p hs (.inr e)
    · exact fin h V s c fr L p hs (.inl (by omega))
  | succ t ih =>
    intro c s V h hc hs fr L F hP
    obtain ⟨l9, l1, l8⟩ := xL_n L
    unfold wp_X5_work_165
    rw [l8, i_le (by omega) (by omega)]
    refine ⟨l1, fun w => by omega, fun _ => ⟨l1, ?_⟩⟩
    have hp2 : ∃ c2, P s c2 V := by
      rcases hP with ⟨_, p⟩ | p
      · exact p
      · exact ⟨c, p⟩
    have hpc : s < k → P s c V := fun hk => by
      rcases hP with ⟨e, _⟩ | p
      · omega
      · exact p
    refine sp_X5_lead (P := P) hz (by omega) (by rw [hI_G fr]; exact h3) L hs F (fun hk => fit s c V hk (by omega) (hpc hk)) (fun V2 hk g pos => yes s c V V2 hk (by omega) (hpc hk) g pos) (fun hk hz0 => no s c V hk (by omega) (hpc hk) hz0) (fun e x5 e5 => ?_) fun h2 s2 V2 hs2 f2 L2 F2 P2 x5 e5 => ?_
    · subst e5
      rw [i_one]
      refine ih (c + 1) s V h (by omega) hs fr L ⟨fun i hi => ?_, fun j j1 j2 => by omega⟩ (.inl ⟨e, hp2⟩)
      obtain ⟨col, c1, c2⟩ := F.1 i hi; exact ⟨col, by omega, c2⟩
    · subst e5
      rw [i_one]
      exact ih (c + 1) s2 V2 h2 (by omega) hs2 (xG_trans fr f2) L2 F2 (.inr P2)
