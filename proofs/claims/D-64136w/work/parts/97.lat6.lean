/-! THE COMPONENT'S LATTICE: its start, work whole -/
/-- the lattice's cells, whatever they hold -/
def xLs (D : Nat → Prop) (h : Hp) (a0 o e : Nat) : Prop := ∃ d : Nat → Nat, (hok h a0 4 ∧ hR h a0 0 = some o ∧ hok h o 25 ∧ hN h o = 6 ∧ hR h a0 1 = some e ∧ hok h e 23 ∧ hN h e = 4) ∧
  (∀ j, j < 6 → hO h o (Int32.ofNat j) = some (d j) ∧ hok h (d j) 23 ∧ hN h (d j) = 10 ∧ D (d j)) ∧ ¬ D e ∧ (∀ i j, i < 6 → j < 6 → d i = d j → i = j)
theorem xL_s {D : Nat → Prop} {h : Hp} {a0 o e n : Nat} {V : Nat → Nat → Int} (L : xL D h a0 o e n V) : xLs D h a0 o e := by
  obtain ⟨d, ⟨l1, l2, l3, l4, l5, l6, l7, l8, l9⟩, mm, de, inj, cells⟩ := L
  exact ⟨d, ⟨l1, l2, l3, l4, l5, l6, l7⟩, mm, de, inj⟩
/-- a system in the component: R rows, n columns, A -/
def xM (h : Hp) (m R n : Nat) (A : Nat → Nat → Int) : Prop :=
  hok h m 3 ∧ hI h m 0 = Int32.ofNat R ∧ hI h m 1 = Int32.ofNat n ∧ R ≤ 4 ∧ n ≤ 6 ∧
  (∃ ao, hR h m 4 = some ao ∧ hok h ao 24 ∧ hN h ao = 4 ∧ ∀ r, r < 4 → ∃ b, hO h ao (Int32.ofNat r) = some b ∧ hok h b 20 ∧ hN h b = 6 ∧ ∀ c, r < R → c < n → (hA h b (Int32.ofNat c)).toInt = A r c) ∧
  (∃ ab, hR h m 5 = some ab ∧ hok h ab 20 ∧ hN h ab = 4 ∧ ∀ r, r < R → (hA h ab (Int32.ofNat r)).toInt = -A r 6) ∧
  (∀ r c, r < R → n ≤ c → c < 6 → A r c = 0) ∧ (∀ r c, R ≤ r → A r c = 0) ∧ ∀ r, qRow n (A r)
theorem xM_F {D : Nat → Prop} {o e a0 : Nat} {h h2 : Hp} (f : xF D o e a0 h h2) (ho : hok h o 25) (ha : hok h a0 4) {m R n : Nat} {A : Nat → Nat → Int} (M : xM h m R n A) : xM h2 m R n A := by
  obtain ⟨m1, m2, m3, m4, m5, ⟨ao, q1, q2, q3, q4⟩, ⟨ab, r1, r2, r3, r4⟩, m6⟩ := M
  have ma : m ≠ a0 := hok_ne m1 ha (by decide)
  refine ⟨(hok_F f _ _).mpr m1, by rw [hI_F f ma]; exact m2, by rw [hI_F f ma]; exact m3, m4, m5, ⟨ao, by rw [hR_F f]; exact q1, (hok_F f _ _).mpr q2, by rw [hN_F f]; exact q3, fun r hr => ?_⟩, ⟨ab, by rw [hR_F f]; exact r1, (hok_F f _ _).mpr r2, by rw [hN_F f]; exact r3, fun r hr => by rw [hA_F f]; exact r4 r hr⟩, m6⟩
  obtain ⟨b, b1, b2, b3, b4⟩ := q4 r hr
  exact ⟨b, by rw [hO_F f (hok_ne q2 ho (by decide))]; exact b1, (hok_F f _ _).mpr b2, by rw [hN_F f]; exact b3, fun c h1 h2 => by rw [hA_F f]; exact b4 c h1 h2⟩
/-- what the cells are to hold at the start -/
def xT (A : Nat → Nat → Int) : Nat → Nat → Int := fun j c => if c < 4 then A c j else if c < 11 then (if j = c - 4 then 1 else 0) else 0
def xTo (A V : Nat → Nat → Int) (j0 c0 : Nat) : Nat → Nat → Int := fun j c => if j < j0 ∨ j = j0 ∧ c < c0 then xT A j c else V j c
theorem xTo_s {D : Nat → Prop} {h : Hp} {a0 o e n j0 c0 : Nat} {d : Nat → Nat} {A V : Nat → Nat → Int} {x : Int} (L : xLd D h a0 o e n d (xTo A V j0 c0)) (hj : j0 < n) (hc : c0 < 10) (hx : x = xT A j0 c0) : xLd D (uJ h (d j0) (Int32.ofNat c0) (Int64.ofInt x)) a0 o e n d (xTo A V j0 (c0 + 1)) := by
  refine xLd_congr (xLd_J L hj hc) fun j c _ _ => ?_
  show (if j < j0 ∨ j = j0 ∧ c < c0 + 1 then xT A j c else V j c) = if j = j0 ∧ c = c0 then x else if j < j0 ∨ j = j0 ∧ c < c0 then xT A j c else V j c
  by_cases w : j = j0 ∧ c = c0
  · rw [if_pos w, if_pos (.inr ⟨w.1, by omega⟩), hx, w.1, w.2]
  · rw [if_neg w]
    by_cases y : j < j0 ∨ j = j0 ∧ c < c0
    · rw [if_pos y, if_pos (by omega)]
    · rw [if_neg y, if_neg (by omega)]
theorem xLd_e {D : Nat → Prop} {h : Hp} {a0 o e n : Nat} {d : Nat → Nat} {V : Nat → Nat → Int} {i : Int32} {x : Int64} (L : xLd D h a0 o e n d V) : xLd D (uJ h e i x) a0 o e n d V := by
  obtain ⟨⟨l1, l2, l3, l4, l5, l6, l7, l8, l9⟩, mm, de, inj, cells⟩ := L
  refine ⟨⟨l1, l2, l3, l4, l5, l6, l7, l8, l9⟩, mm, de, inj, fun j c hj hc => ?_⟩
  rw [hJ_uJ, if_neg (fun w => de (by rw [← w.1]; exact (mm j (by omega)).2.2.2))]
  exact cells j c hj hc
theorem xF_uJd {D : Nat → Prop} {o e a0 : Nat} (h : Hp) {a : Nat} (ha : D a) (i : Int32) (x : Int64) : xF D o e a0 h (uJ h a i x) := xG_F (xG_uJ h ha i x)
theorem sp_X5_work_62 {ev : Nat → Nat} {D : Nat → Prop} {a0 o e n m j0 : Nat} {d : Nat → Nat} {A V : Nat → Nat → Int} {Q : Hp → Prop} {K10 : Nat → Nat → Int32 → Hp → Prop} {h0 : Hp} (hj : j0 < n) (q : ∀ h2, xF D o e a0 h0 h2 → xLd D h2 a0 o e n d (xTo A V (j0 + 1) 0) → K10 a0 m (Int32.ofNat (j0 + 1)) h2) : ∀ (t c : Nat) (h : Hp), c + t = 6 → xF D o e a0 h0 h → xLd D h a0 o e n d (xTo A V j0 (4 + c)) → wp_X5_work_62 ev Q K10 (t + 1) a0 m (Int32.ofNat j0) (Int32.ofNat c) h := by
  intro t
  have six : (6 : Int32) = Int32.ofNat 6 := rfl
  induction t with
  | zero =>
    intro c h hc f L
    unfold wp_X5_work_62
    rw [six, i_le (by omega) (by omega)]
    refine ⟨fun _ x1 e1 => ?_, fun w => absurd (by omega) w⟩
    subst e1
    rw [i_one]
    refine q h f (xLd_congr L fun j c' hj' hc' => ?_)
    unfold xTo
    by_cases y : j < j0 ∨ j = j0 ∧ c' < 4 + c
    · rw [if_pos y, if_pos (by omega)]
    · rw [if_neg y, if_neg (by omega)]
  | succ t ih =>
    intro c h hc f L
    have L0 := L
    obtain ⟨⟨l1, l2, l3, l4, l5, l6, l7, l8, l9⟩, mm, de, inj, cells⟩ := L
    obtain ⟨o1, o2, o3, o4⟩ := mm j0 (by omega)
    have four : (4 : Int32) + Int32.ofNat c = Int32.ofNat (4 + c) := i_add 4 c
    have go : ∀ (u : Int), u = (if j0 = c then 1 else 0) → wp_X5_work_87 ev Q K10 (wp_X5_work_62 ev Q K10 (t + 1)) a0 m (Int32.ofNat j0) (Int32.ofNat c) (d j0) (4 + Int32.ofNat c) (Int64.ofInt u) h := by
      intro u hu
      unfold wp_X5_work_87
      rw [four]
      refine ⟨o2, vin o3 (by omega) (by omega), fun h1 e1 x4 e4 => ?_⟩
      subst e4
      rw [i_one]
      subst e1
      refine ih (c + 1) _ (by omega) (xF_trans f (xF_uJd h o4 _ _)) (xTo_s L0 hj (by omega) ?_)
      unfold xT
      rw [if_neg (by omega), if_pos (by omega), hu, show 4 + c - 4 = c by omega]
    unfold wp_X5_work_62
    rw [six, i_le (by omega) (by omega), i_eq (by omega) (by omega)]
    exact ⟨fun w => by omega, fun _ => ⟨l1, o, l2, l3, vin l4 (by omega) (by omega), d j0, o1, fun w => go 0 (if_neg w).symm, fun w => go 1 (if_pos w).symm⟩⟩
theorem sp_X5_work_20 {ev : Nat → Nat} {D : Nat → Prop} {a0 o e n R m j0 : Nat} {d : Nat → Nat} {A V : Nat → Nat → Int} {Q : Hp → Prop} {K10 : Nat → Nat → Int32 → Hp → Prop} {h0 : Hp} (hj : j0 < n) (ho : hok h0 o 25) (ha : hok h0 a0 4) (M : xM h0 m R n A) (q : ∀ h2, xF D o e a0 h0 h2 → xLd D h2 a0 o e n d (xTo A V (j0 + 1) 0) → K10 a0 m (Int32.ofNat (j0 + 1)) h2) : ∀ (t c : Nat) (h : Hp), c + t = 4 → xF D o e a0 h0 h → xLd D h a0 o e n d (xTo A V j0 c) → wp_X5_work_20 ev Q K10 (t + 1) a0 m (Int32.ofNat j0) (Int32.ofNat c) h := by
  intro t
  have four : (4 : Int32) = Int32.ofNat 4 := rfl
  induction t with
  | zero =>
    intro c h hc f L
    unfold wp_X5_work_20
    rw [four, i_le (by omega) (by omega)]
    refine ⟨fun _ => ⟨7, ?_⟩, fun w => absurd (by omega) w⟩
    have : c = 4 := by omega
    subst this
    exact sp_X5_work_62 hj q 6 0 h rfl f L
  | succ t ih =>
    intro c h hc f L
    have L0 := L
    obtain ⟨⟨l1, l2, l3, l4, l5, l6, l7, l8, l9⟩, mm, de, inj, cells⟩ := L
    obtain ⟨o1, o2, o3, o4⟩ := mm j0 (by omega)
    obtain ⟨m1, m2, m3, m4, m5, ⟨ao, q1, q2, q3, q4⟩, _, m6, m7, m8⟩ := xM_F f ho ha M
    have go : ∀ (u : Int), u = A c j0 → wp_X5_work_53 ev Q K10 (wp_X5_work_20 ev Q K10 (t + 1)) a0 m (Int32.ofNat j0) (Int32.ofNat c) (d j0) (Int32.ofNat c) (Int64.ofInt u) h := by
      intro u hu
      unfold wp_X5_work_53
      refine ⟨o2, vin o3 (by omega) (by omega), fun h1 e1 x4 e4 => ?_⟩
      subst e4
      rw [i_one]
      subst e1
      refine ih (c + 1) _ (by omega) (xF_trans f (xF_uJd h o4 _ _)) (xTo_s L0 hj (by omega) ?_)
      unfold xT
      rw [if_pos (by omega), hu]
    unfold wp_X5_work_20
    rw [four, i_le (by omega) (by omega), m2, i_le (by omega) (by omega)]
    refine ⟨fun w => by omega, fun _ => ⟨l1, o, l2, l3, vin l4 (by omega) (by omega), d j0, o1, m1, fun w => go 0 (m7 c j0 w).symm, fun w => ?_⟩⟩
    obtain ⟨b, b1, b2, b3, b4⟩ := q4 c (by omega)
    refine ⟨m1, ao, q1, q2, vin q3 (by omega) (by omega), b, b1, b2, vin b3 (by omega) (by omega), ?_⟩
    rw [l_i2l]
    exact go _ (b4 j0 (by omega) hj)
theorem sp_X5_work_102 {ev : Nat → Nat} {D : Nat → Prop} {a0 o e n R m : Nat} {d : Nat → Nat} {A V : Nat → Nat → Int} {Q : Hp → Prop} {h0 : Hp} (ho : hok h0 o 25) (ha : hok h0 a0 4) (M : xM h0 m R n A) (q : ∀ h2, xF D o e a0 h0 h2 → xLd D h2 a0 o e n d V → hI h2 a0 3 = 0 → hI h2 a0 4 = 1 → (∀ k, k < 4 → hJ h2 e (Int32.ofNat k) = Int64.ofInt (-A k 6)) → ∃ n150, wp_X5_work_150 ev Q n150 a0 m 0 h2) : ∀ (t c : Nat) (h : Hp), c + t = 4 → xF D o e a0 h0 h → xLd D h a0 o e n d V → (∀ k, k < c → hJ h e (Int32.ofNat k) = Int64.ofInt (-A k 6)) → wp_X5_work_102 ev Q (t + 1) a0 m (Int32.ofNat c) h := by
  intro t
  have four : (4 : Int32) = Int32.ofNat 4 := rfl
  induction t with
  | zero =>
    intro c h hc f L hh
    have L0 := L
    obtain ⟨⟨l1, l2, l3, l4, l5, l6, l7, l8, l9⟩, mm, de, inj, cells⟩ := L
    unfold wp_X5_work_102
    rw [four, i_le (by omega) (by omega)]
    refine ⟨fun _ => ⟨l1, fun h1 e1 => ?_⟩, fun w => absurd (by omega) w⟩
    subst e1
    refine ⟨l1, fun h3 e3 => ?_⟩
    subst e3
    refine q _ (xF_trans f (xF_trans (xF_uI h _ _) (xF_uI _ _ _))) ⟨⟨l1, l2, l3, l4, l5, l6, l7, ?_, l9⟩, mm, de, inj, cells⟩ ?_ ?_ fun k hk => hh k (by omega)
    · rw [hI_uI, hI_uI, if_neg (by omega), if_neg (by omega)]; exact l8
    · rw [hI_uI, hI_uI, if_neg (by omega), if_pos ⟨rfl, rfl⟩]
    · rw [hI_uI, if_pos ⟨rfl, rfl⟩]
  | succ t ih =>
    intro c h hc f L hh
    have L0 := L
    obtain ⟨⟨l1, l2, l3, l4, l5, l6, l7, l8, l9⟩, mm, de, inj, cells⟩ := L
    obtain ⟨m1, m2, m3, m4, m5, _, ⟨ab, q1, q2, q3, q4⟩, m6, m7, m8⟩ := xM_F f ho ha M
    have go : ∀ (u : Int), u = -A c 6 → wp_X5_work_131 ev Q (wp_X5_work_102 ev Q (t + 1)) a0 m (Int32.ofNat c) e (Int32.ofNat c) (Int64.ofInt u) h := by
      intro u hu
      unfold wp_X5_work_131
      refine ⟨l6, vin l7 (by omega) (by omega), fun h1 e1 x4 e4 => ?_⟩
      subst e4
      rw [i_one]
      subst e1
      refine ih (c + 1) _ (by omega) (xF_trans f (xF_uJe h _ _)) (xLd_e L0) fun k hk => ?_
      rw [hJ_uJ, i_cl (by omega), i_cl (by omega)]
      by_cases w : k = c
      · rw [if_pos ⟨rfl, w⟩, hu, w]
      · rw [if_neg (fun y => w y.2)]; exact hh k (by omega)
    unfold wp_X5_work_102
    rw [four, i_le (by omega) (by omega), m2, i_le (by omega) (by omega)]
    refine ⟨fun w => by omega, fun _ => ⟨l1, e, l5, m1, fun w => go 0 (by rw [m7 c 6 w]; rfl), fun w => ⟨m1, ab, q1, q2, vin q3 (by omega) (by omega), ?_⟩⟩⟩
    rw [l_i2l]
    exact go _ (q4 c (by omega))
theorem sp_X5_work_10 {ev : Nat → Nat} {D : Nat → Prop} {a0 o e n R m : Nat} {d : Nat → Nat} {A V : Nat → Nat → Int} {Q : Hp → Prop} {h0 : Hp} (ho : hok h0 o 25) (ha : hok h0 a0 4) (M : xM h0 m R n A) (q : ∀ h2, xF D o e a0 h0 h2 → xLd D h2 a0 o e n d (xTo A V n 0) → ∃ n102, wp_X5_work_102 ev Q n102 a0 m 0 h2) : ∀ (t j : Nat) (h : Hp), j + t = n → xF D o e a0 h0 h → xLd D h a0 o e n d (xTo A V j 0) → wp_X5_work_10 ev Q (t + 1) a0 m (Int32.ofNat j) h := by
  intro t
  induction t with
  | zero =>
    intro j h hj f L
    have : j = n := by omega
    subst this
    have L0 := L
    obtain ⟨⟨l1, l2, l3, l4, l5, l6, l7, l8, l9⟩, mm, de, inj, cells⟩ := L
    unfold wp_X5_work_10
    rw [l8, i_le (by omega) (by omega)]
    exact ⟨l1, fun _ => q h f L0, fun w => absurd (Nat.le_refl _) w⟩
  | succ t ih =>
    intro j h hj f L
    have L0 := L
    obtain ⟨⟨l1, l2, l3, l4, l5, l6, l7, l8, l9⟩, mm, de, inj, cells⟩ := L
    unfold wp_X5_work_10
    rw [l8, i_le (by omega) (by omega)]
    refine ⟨l1, fun w => by omega, fun _ => ⟨5, ?_⟩⟩
    exact sp_X5_work_20 (j0 := j) (by omega) ho ha M (fun h2 f2 L2 => ih (j + 1) h2 (by omega) f2 L2) 4 0 h rfl f L0
/-- THE COMPONENT's Lattice.work -/
theorem sp_X5_work {ev : Nat → Nat} {D : Nat → Prop} {a0 o e n R m : Nat} {A : Nat → Nat → Int} {Q : Hp → Prop} {h : Hp} (L : xLs D h a0 o e) (M : xM h m R n A) (q : ∀ h2, xF D o e a0 h h2 → xWh D h2 a0 o e n R A → Q h2) : wp_X5_work ev h a0 m Q := by
  obtain ⟨d, ⟨l1, l2, l3, l4, l5, l6, l7⟩, mm, de, inj⟩ := L
  have M0 := M
  obtain ⟨m1, m2, m3, m4, m5, _, _, m6, m7, m8⟩ := M
  unfold wp_X5_work
  refine ⟨m1, l1, fun h2 e2 => ⟨n + 1, ?_⟩⟩
  rw [m3] at e2
  subst e2
  have f0 : xF D o e a0 h (uI h a0 2 (Int32.ofNat n)) := xF_uI h _ _
  have ma : m ≠ a0 := hok_ne m1 l1 (by decide)
  refine sp_X5_work_10 (h0 := h) (d := d) (V := fun j c => (hJ h (d j) (Int32.ofNat c)).toInt) l3 l1 M0 (fun h3 f3 L3 => ⟨5, sp_X5_work_102 (h0 := h) l3 l1 M0 (fun h4 f4 L4 y3 y4 ye => ⟨R + 1, ?_⟩) 4 0 h3 rfl f3 L3 fun k hk => by omega⟩) n 0 _ (by omega) f0 ⟨⟨l1, l2, l3, l4, l5, l6, l7, by rw [hI_uI, if_pos ⟨rfl, rfl⟩], m5⟩, mm, de, inj, fun j c hj hc => ?_⟩
  · refine sp_X5_work_150 (h0 := h) m4 m1 m2 ma m8 (fun h5 f5 W5 => q h5 f5 W5) R 0 h4 (by omega) f4 ⟨0, n, 0, fun _ _ => 0, fun _ => 0, _, _, xT A, fun k => Int64.ofInt (-A k 6), qInv_0 m5 A _ _, by omega, ⟨d, xLd_congr L4 fun j c hj hc => ?_⟩, fun i hi col hc => ?_, fun j j1 j2 s hs => ?_, ⟨y3, ye, .inl ⟨⟨fun c => if c = 6 then 1 else 0, rfl, fun c c1 c2 => if_neg (by omega), fun s hs => by omega⟩, y4⟩⟩, fun _ _ => ⟨fun c => if c = 6 then 1 else 0, rfl, ⟨fun c c1 c2 => if_neg (by omega), fun s hs => by omega⟩, fun s hs => ?_⟩⟩
    · unfold xTo; rw [if_pos (.inl hj)]
    · show (if 4 + col < 4 then A (4 + col) (0 + i) else if 4 + col < 11 then (if 0 + i = 4 + col - 4 then (1 : Int) else 0) else 0) = if i = col ∧ i < n then 1 else 0
      rw [if_neg (by omega), if_pos (by omega)]
      by_cases w : i = col
      · rw [if_pos (by omega), if_pos ⟨w, hi⟩]
      · rw [if_neg (by omega), if_neg (fun y => w y.1)]
    · show (if s < 4 then A s j else _) = _
      rw [if_pos hs]
      have e : qF (A s) (fun c => xT A j (4 + c)) = qS (fun c => A s c * (if c = j then 1 else 0)) 7 := by
        unfold qF
        exact qS_congr fun c hc => by
          show A s c * (if 4 + c < 4 then A (4 + c) j else if 4 + c < 11 then (if j = 4 + c - 4 then (1 : Int) else 0) else 0) = _
          rw [if_neg (by omega), if_pos (by omega)]
          by_cases w : c = j
          · rw [if_pos w, if_pos (by omega)]
          · rw [if_neg w, if_neg (by omega)]
      rw [e, qS_unit2 (fun c => A s c) (by omega)]; omega
    · have e : qF (A s) (fun c => if c = 6 then (1 : Int) else 0) = A s 6 := by
        unfold qF; rw [qS_unit2 (fun c => A s c) (by omega)]; omega
      rw [e]
      refine ⟨rfl, ?_⟩
      have := (m8 s).2
      show (A s 6).natAbs ≤ 200
      exact this
  · rw [hJ_uI]
    unfold xTo
    rw [if_neg (by omega)]
    exact (l_ofI _).symm
