/-! THE COMPONENT'S LATTICE: settle -/
theorem qGath_cap {f m c X : Nat} {V V2 : Nat → Nat → Int} (g : qGath f m c V V2) (hX : ∀ j, f ≤ j → j < m → (V j c).natAbs ≤ X) : ∀ j, f ≤ j → j < m → (V2 j c).natAbs ≤ X := by
  have step : ∀ (fst : Prop) (U U2 : Nat → Nat → Int), qRnd fst f m c U U2 → (∀ j, f ≤ j → j < m → (U j c).natAbs ≤ X) → ∀ j, f ≤ j → j < m → (U2 j c).natAbs ≤ X := by
    intro fst U U2 ⟨p, s, q, p1, p2, hs, hp, hm, e, hr⟩ h j j1 j2
    have hpX := h p p1 p2
    by_cases w : j = f
    · subst w
      rw [e]
      have : qRV j m q (qSw j p s U) j c = s * U p c := by unfold qRV; rw [qRd_f]; unfold qSw; rw [if_pos rfl]
      rw [this]; rcases hs with rfl | rfl <;> omega
    · have := (hr j (by omega) j2).1; omega
  obtain ⟨n, W, w0, w1, st, _⟩ := g
  have all : ∀ i, i ≤ n + 1 → ∀ j, f ≤ j → j < m → (W i j c).natAbs ≤ X := by
    intro i
    induction i with
    | zero => intro _; rw [w0]; exact hX
    | succ i ih => intro hi; exact step _ _ _ (st i (by omega)) (ih (by omega))
  rw [← w1]; exact all (n + 1) (Nat.le_refl _)
def xF (D : Nat → Prop) (o e a0 : Nat) (h h2 : Hp) : Prop :=
  h2.1 = h.1 ∧ h2.2.1 = h.2.1 ∧ h2.2.2.1 = h.2.2.1 ∧ (∀ a, a ≠ a0 → h2.2.2.2.1 a = h.2.2.2.1 a) ∧ h2.2.2.2.2.1 = h.2.2.2.2.1 ∧ h2.2.2.2.2.2.1 = h.2.2.2.2.2.1 ∧ (∀ a, ¬ D a → a ≠ e → h2.2.2.2.2.2.2.1 a = h.2.2.2.2.2.2.1 a) ∧ ∀ a, a ≠ o → h2.2.2.2.2.2.2.2 a = h.2.2.2.2.2.2.2 a
theorem xF_refl {D : Nat → Prop} {o e a0 : Nat} (h : Hp) : xF D o e a0 h h := ⟨rfl, rfl, rfl, fun _ _ => rfl, rfl, rfl, fun _ _ _ => rfl, fun _ _ => rfl⟩
theorem xF_trans {D : Nat → Prop} {o e a0 : Nat} {h h2 h3 : Hp} (f : xF D o e a0 h h2) (g : xF D o e a0 h2 h3) : xF D o e a0 h h3 := by
  obtain ⟨a1, a2, a3, a4, a5, a6, a7, a8⟩ := f
  obtain ⟨b1, b2, b3, b4, b5, b6, b7, b8⟩ := g
  exact ⟨b1.trans a1, b2.trans a2, b3.trans a3, fun a ha => (b4 a ha).trans (a4 a ha), b5.trans a5, b6.trans a6, fun a ha hb => (b7 a ha hb).trans (a7 a ha hb), fun a ha => (b8 a ha).trans (a8 a ha)⟩
theorem xG_F {D : Nat → Prop} {o e a0 : Nat} {h h2 : Hp} (f : xG D o h h2) : xF D o e a0 h h2 := by
  obtain ⟨a1, a2, a3, a4, a5, a6, a7, a8⟩ := f
  exact ⟨a1, a2, a3, fun a _ => by rw [a4], a5, a6, fun a ha _ => a7 a ha, a8⟩
theorem xF_uI {D : Nat → Prop} {o e a0 : Nat} (h : Hp) (k : Nat) (x : Int32) : xF D o e a0 h (uI h a0 k x) :=
  ⟨rfl, rfl, rfl, fun a ha => by simp [uI, va_up, ha], rfl, rfl, fun _ _ _ => rfl, fun _ _ => rfl⟩
theorem xF_uJe {D : Nat → Prop} {o e a0 : Nat} (h : Hp) (i : Int32) (x : Int64) : xF D o e a0 h (uJ h e i x) :=
  ⟨rfl, rfl, rfl, fun a ha => rfl, rfl, rfl, fun a _ ha => by simp [uJ, uJf, va_up, ha], fun _ _ => rfl⟩
theorem xL_uI {D : Nat → Prop} {h : Hp} {a0 o e n k : Nat} {V : Nat → Nat → Int} {x : Int32} (L : xL D h a0 o e n V) (hk : k ≠ 2) : xL D (uI h a0 k x) a0 o e n V := by
  obtain ⟨d, ⟨l1, l2, l3, l4, l5, l6, l7, l8, l9⟩, mm, de, inj, cells⟩ := L
  exact ⟨d, ⟨l1, l2, l3, l4, l5, l6, l7, by rw [hI_uI, if_neg (by omega)]; exact l8, l9⟩, mm, de, inj, cells⟩
theorem xL_uJe {D : Nat → Prop} {h : Hp} {a0 o e n : Nat} {V : Nat → Nat → Int} {i : Int32} {x : Int64} (L : xL D h a0 o e n V) : xL D (uJ h e i x) a0 o e n V := by
  obtain ⟨d, ⟨l1, l2, l3, l4, l5, l6, l7, l8, l9⟩, mm, de, inj, cells⟩ := L
  refine ⟨d, ⟨l1, l2, l3, l4, l5, l6, l7, l8, l9⟩, mm, de, inj, fun j c hj hc => ?_⟩
  rw [hJ_uJ, if_neg (fun w => de (by rw [← w.1]; exact (mm j (by omega)).2.2.2))]
  exact cells j c hj hc
theorem xL_e {D : Nat → Prop} {h : Hp} {a0 o e n : Nat} {V : Nat → Nat → Int} (L : xL D h a0 o e n V) : hok h a0 4 ∧ hR h a0 1 = some e ∧ hok h e 23 ∧ hN h e = 4 ∧ ¬ D e := by
  obtain ⟨d, ⟨l1, l2, l3, l4, l5, l6, l7, l8, l9⟩, mm, de, inj, cells⟩ := L
  exact ⟨l1, l5, l6, l7, de⟩
/-- steps, rest, and whether it can be solved so far -/
def xS (h : Hp) (a0 e z : Nat) (y : Nat → Int64) (F : Prop) : Prop :=
  hI h a0 3 = Int32.ofNat z ∧ (∀ k, k < 4 → hJ h e (Int32.ofNat k) = y k) ∧ (F ∧ hI h a0 4 = 1 ∨ ¬ F ∧ hI h a0 4 = 0)
theorem xS_flag {h : Hp} {a0 e z : Nat} {y : Nat → Int64} {F G : Prop} {u : Int32} (S : xS h a0 e z y F) (hG : F → (G ∧ u = 1 ∨ ¬ G ∧ u = 0)) (hu : u = 0 ∨ u = 1) : isB (hI h a0 4 &&& u) ∧ xS (uI h a0 4 (hI h a0 4 &&& u)) a0 e z y (F ∧ G) := by
  obtain ⟨s1, s2, s3⟩ := S
  have one : (1 : Int32) &&& 1 = 1 := by decide
  have zer : (1 : Int32) &&& 0 = 0 := by decide
  have z0 : (0 : Int32) &&& 0 = 0 := by decide
  have z1 : (0 : Int32) &&& 1 = 0 := by decide
  have w : ∀ x : Int32, hI (uI h a0 4 x) a0 4 = x := fun x => by rw [hI_uI, if_pos ⟨rfl, rfl⟩]
  have w3 : ∀ x : Int32, hI (uI h a0 4 x) a0 3 = hI h a0 3 := fun x => by rw [hI_uI, if_neg (by omega)]
  rcases s3 with ⟨hF, e⟩ | ⟨hF, e⟩
  · rcases hG hF with ⟨g, hu1⟩ | ⟨g, hu0⟩
    · rw [e, hu1, one]
      exact ⟨isB_1, by rw [w3]; exact s1, s2, .inl ⟨⟨hF, g⟩, w 1⟩⟩
    · rw [e, hu0, zer]
      exact ⟨isB_0, by rw [w3]; exact s1, s2, .inr ⟨fun h => g h.2, w 0⟩⟩
  · have : (0 : Int32) &&& u = 0 := by rcases hu with rfl | rfl; exact z0; exact z1
    rw [e, this]
    exact ⟨isB_0, by rw [w3]; exact s1, s2, .inr ⟨fun h => hF h.1, w 0⟩⟩
theorem xS_G {D : Nat → Prop} {o : Nat} {h h2 : Hp} {a0 e z : Nat} {y : Nat → Int64} {F : Prop} (f : xG D o h h2) (de : ¬ D e) (S : xS h a0 e z y F) : xS h2 a0 e z y F := by
  obtain ⟨s1, s2, s3⟩ := S
  exact ⟨by rw [hI_G f]; exact s1, fun k hk => by rw [hJ_G f de]; exact s2 k hk, by rw [hI_G f]; exact s3⟩
theorem sp_X5_settle_64 {ev : Nat → Nat} {D : Nat → Prop} {a0 o e n z : Nat} {V : Nat → Nat → Int} {y : Nat → Int64} {m : Int64} {F : Prop} {Q : Hp → Prop} {h0 : Hp} (hz : z < n) (q : ∀ h2, xF D o e a0 h0 h2 → xL D h2 a0 o e n V → xS h2 a0 e (z + 1) (fun k => y k - m * Int64.ofInt (V z k)) F → Q h2) : ∀ (t c : Nat) (h : Hp), c + t = 4 → xF D o e a0 h0 h → xL D h a0 o e n V → xS h a0 e z (fun k => if k < c then y k - m * Int64.ofInt (V z k) else y k) F → wp_X5_settle_64 ev Q (t + 1) a0 m (Int32.ofNat c) h := by
  intro t
  have four : (4 : Int32) = Int32.ofNat 4 := rfl
  induction t with
  | zero =>
    intro c h hc fr L S
    obtain ⟨l9, l1, l8⟩ := xL_n L
    obtain ⟨s1, s2, s3⟩ := S
    unfold wp_X5_settle_64 wp_X5_settle_139
    rw [four, i_le (by omega) (by omega)]
    refine ⟨fun _ => ⟨l1, l1, fun h2 e2 => ?_⟩, fun w => absurd (by omega) w⟩
    rw [s1, i_one] at e2
    subst e2
    refine q _ (xF_trans fr (xF_uI h _ _)) (xL_uI L (by decide)) ⟨by rw [hI_uI, if_pos ⟨rfl, rfl⟩], fun k hk => ?_, by rw [hI_uI, if_neg (by omega)]; exact s3⟩
    rw [hJ_uI, s2 k hk]
    show (if k < c then _ else _) = _
    rw [if_pos (by omega)]
  | succ t ih =>
    intro c h hc fr L S
    obtain ⟨l9, l1, l8⟩ := xL_n L
    obtain ⟨k1, k2, k3, k4, k5⟩ := xL_e L
    have S0 := S
    obtain ⟨s1, s2, s3⟩ := S
    obtain ⟨r1, r2, r3, r4, b2, r5, r6, r7, r8⟩ := xL_cell L hz (show c < 10 by omega)
    unfold wp_X5_settle_64
    rw [four, i_le (by omega) (by omega), s1]
    refine ⟨fun w => by omega, fun _ => ⟨l1, e, k2, k3, vin k4 (by omega) (by omega), l1, o, r2, l1, r3, r4, b2, r5, r6, r7, k3, vin k4 (by omega) (by omega), fun h16 e16 x19 e19 => ?_⟩⟩
    subst e19
    rw [i_one]
    rw [s2 c (by omega), r8] at e16
    subst e16
    refine ih (c + 1) _ (by omega) (xF_trans fr (xF_uJe h _ _)) (xL_uJe L) ⟨s1, fun k hk => ?_, s3⟩
    rw [hJ_uJ, i_cl (by omega), i_cl (by omega)]
    show _ = if k < c + 1 then y k - m * Int64.ofInt (V z k) else y k
    by_cases w : k = c
    · rw [if_pos ⟨rfl, w⟩, if_pos (by omega)]
      show (if c < c then _ else _) - _ = _
      rw [if_neg (by omega), w]
    · rw [if_neg (fun y => w y.2), s2 k hk]
      show (if k < c then _ else _) = _
      by_cases w2 : k < c
      · rw [if_pos w2, if_pos (by omega)]
      · rw [if_neg w2, if_neg (by omega)]
theorem sp_X5_settle {ev : Nat → Nat} {D : Nat → Prop} {a0 o e n z r : Nat} {V : Nat → Nat → Int} {y : Nat → Int} {F : Prop} {Q : Hp → Prop} {h : Hp} (hz : z ≤ n) (hr : r < 4) (L : xL D h a0 o e n V) {yy : Nat → Int64} (S : xS h a0 e z yy F) (hy : F → (∀ k, k < 4 → yy k = Int64.ofInt (y k)) ∧ (y r).natAbs < 2 ^ 63) (hX : ∀ j, z ≤ j → j < n → (V j r).natAbs < 2 ^ 63) (q0 : (∀ j, z ≤ j → j < n → V j r = 0) → ∀ h2, xF D o e a0 h h2 → xL D h2 a0 o e n V → xS h2 a0 e z yy (F ∧ y r = 0) → Q h2) (q1 : ∀ h2 V2 y2, z < n → xF D o e a0 h h2 → xL D h2 a0 o e n V2 → qGath z n r V V2 → 0 < V2 z r → xS h2 a0 e (z + 1) y2 (F ∧ V2 z r ∣ y r) → (F → ∀ k, k < 4 → y2 k = Int64.ofInt (y k - (y r).tdiv (V2 z r) * V2 z k)) → Q h2) : wp_X5_settle ev h a0 (Int32.ofNat r) Q := by
  obtain ⟨l9, l1, l8⟩ := xL_n L
  obtain ⟨k1, k2, k3, k4, k5⟩ := xL_e L
  have z0 : (0 : Int64) = Int64.ofInt 0 := rfl
  unfold wp_X5_settle
  refine ⟨l1, l1, ?_⟩
  rw [S.1]
  refine sp_X5_gather L hz (by omega) hX (fun hzz => ⟨fun _ => ⟨l1, l1, e, k2, k3, vin k4 hr (by omega), ?_⟩, fun w => absurd rfl w⟩) fun h2 V2 f2 L2 g pos => ⟨fun w => absurd w (by decide), fun _ => ?_⟩
  · have fin : ∀ u : Int32, (u = 0 ∨ u = 1) → (F → (y r = 0 ∧ u = 1 ∨ ¬ y r = 0 ∧ u = 0)) → wp_X5_settle_135 ev Q a0 a0 (hI h a0 4) u h := by
      intro u hu hG
      obtain ⟨b, S2⟩ := xS_flag S hG hu
      unfold wp_X5_settle_135 wp_X5_settle_139
      refine ⟨l1, b, fun h1 e1 => ?_⟩
      subst e1
      exact q0 hzz _ (xF_uI h _ _) (xL_uI L (by decide)) S2
    rw [lg_cmp_eq, S.2.1 r hr]
    refine ⟨fun w => fin 0 (.inl rfl) fun hF => .inr ⟨fun y0 => w ?_, rfl⟩, fun w => fin 1 (.inr rfl) fun hF => .inl ⟨?_, rfl⟩⟩
    · rw [(hy hF).1 r hr, y0]; rfl
    · rw [(hy hF).1 r hr, z0, l_eq (hy hF).2 (by decide)] at w; exact w
  · have zn : z < n := by
      obtain ⟨_, W, _, _, s, _⟩ := g
      obtain ⟨p, _, _, p1, p2, _⟩ := s 0 (by omega)
      omega
    have S2 := xS_G f2 k5 S
    obtain ⟨r1, r2, r3, r4, b2, r5, r6, r7, r8⟩ := xL_cell L2 zn (show r < 10 by omega)
    obtain ⟨m1, m2, m3, m4, m5⟩ := xL_e L2
    have pf : (V2 z r).natAbs < 2 ^ 63 := by
      have := qGath_cap (X := 2 ^ 63 - 1) g (fun j j1 j2 => by have := hX j j1 j2; omega) z (Nat.le_refl _) zn
      omega
    rw [S2.1]
    refine ⟨r1, o, r2, r1, r3, r4, b2, r5, r6, r7, fun y18 e18 => ⟨r1, r1, e, m2, m3, vin m4 hr (by omega), ?_⟩⟩
    rw [r8] at e18
    subst e18
    have nz : ¬ Int64.ofInt (V2 z r) = 0 := by rw [z0, l_eq pf (by decide)]; omega
    refine ⟨nz, ?_⟩
    rw [S2.2.1 r hr]
    have fin : ∀ u : Int32, (u = 0 ∨ u = 1) → (F → (V2 z r ∣ y r ∧ u = 1 ∨ ¬ V2 z r ∣ y r ∧ u = 0)) → wp_X5_settle_47 ev Q a0 (Int32.ofNat r) (Int64.ofInt (V2 z r)) a0 (hI h2 a0 4) u h2 := by
      intro u hu hG
      obtain ⟨b, S3⟩ := xS_flag S2 hG hu
      unfold wp_X5_settle_47
      refine ⟨r1, b, fun h1 e1 => ?_⟩
      subst e1
      refine ⟨r1, e, m2, m3, vin m4 hr (by omega), nz, fun y9 e9 => ⟨5, ?_⟩⟩
      rw [S3.2.1 r hr] at e9
      refine sp_X5_settle_64 (h0 := h2) (V := V2) zn (fun h4 f4 L4 S4 => q1 h4 V2 _ zn (xF_trans (xG_F f2) f4) L4 g pos S4 fun hF k hk => ?_) 4 0 _ rfl (xF_uI h2 _ _) (xL_uI L2 (by decide)) ⟨S3.1, fun k hk => by rw [S3.2.1 k hk]; exact (if_neg (by omega)).symm, S3.2.2⟩
      rw [e9, (hy hF).1 r hr, (hy hF).1 k hk, l_div (hy hF).2 pf, l_mul, l_sub]
    rw [lg_cmp_eq]
    refine ⟨fun w => fin 0 (.inl rfl) fun hF => .inr ⟨fun dv => w ?_, rfl⟩, fun w => fin 1 (.inr rfl) fun hF => .inl ⟨?_, rfl⟩⟩
    · rw [(hy hF).1 r hr]; exact (l_tmod (hy hF).2 pf (by omega)).mpr dv
    · rw [(hy hF).1 r hr] at w; exact (l_tmod (hy hF).2 pf (by omega)).mp w
