/-! THE LAST LEAD's column, of rows done: by covectors -/
theorem qLS_smallP {R s z P Y : Nat} {x : Nat → Int} {W V : Nat → Nat → Int} (h : qLS R s z x W V) (hs : s ≤ R) (hW : qW R W) (hP : ∀ l, l < s → (V (z + l) (16 + l)).natAbs * P ≤ Y) {l : Nat} (hl : l < s) : ∀ i, i < s → (V (z + l) (16 + i)).natAbs * P ≤ 2 ^ i * Y ∧ (qS (fun k => qab (V (z + l) (16 + k))) i).natAbs * P + Y ≤ 2 ^ i * Y := by
  intro i
  induction i with
  | zero =>
    intro hi
    constructor
    · by_cases e : l = 0
      · subst e; have := hP 0 hl; simpa using this
      · rw [(h.1 l hl).1 0 (by omega)]; simp
    · simp [qS]
  | succ i ih =>
    intro hi
    obtain ⟨a, b⟩ := ih (by omega)
    have c := qS_nonneg (f := fun k => qab (V (z + l) (16 + k))) (n := i) (fun _ _ => qab_nn _)
    have e : 2 ^ (i + 1) * Y = 2 ^ i * Y + 2 ^ i * Y := by rw [Nat.pow_succ]; grind
    have s1 : (qS (fun k => qab (V (z + l) (16 + k))) (i + 1)).natAbs * P + Y ≤ 2 ^ (i + 1) * Y := by
      have e2 : (qS (fun k => qab (V (z + l) (16 + k))) (i + 1)).natAbs = (qS (fun k => qab (V (z + l) (16 + k))) i).natAbs + (V (z + l) (16 + i)).natAbs := by simp only [qS]; unfold qab at *; omega
      rw [e2, Nat.add_mul]; omega
    refine ⟨?_, s1⟩
    by_cases x1 : i + 1 < l
    · rw [(h.1 l hl).1 (i + 1) (by omega)]; simp
    by_cases x2 : i + 1 = l
    · subst x2; have := hP (i + 1) hl; omega
    have sm := h.2.2.2.2.2 l (i + 1) (by omega) hi
    have w0 := (hW (i + 1) (by omega)).1
    have p := hP (i + 1) hi
    have q := q_sum_le (fun k => V (z + l) (16 + k)) hW (show i + 1 ≤ R by omega) (i + 1) (by omega)
    simp only [qS] at sm
    have f : (V (z + l) (16 + (i + 1)) * W (i + 1) (i + 1)).natAbs ≤ ((qS (fun k => qab (V (z + l) (16 + k))) (i + 1)).natAbs + (V (z + (i + 1)) (16 + (i + 1))).natAbs) * (W (i + 1) (i + 1)).natAbs := by
      have k1 : (W (i + 1) (i + 1) * V (z + (i + 1)) (16 + (i + 1))).natAbs = (V (z + (i + 1)) (16 + (i + 1))).natAbs * (W (i + 1) (i + 1)).natAbs := by rw [Int.natAbs_mul, Nat.mul_comm]
      rw [Nat.add_mul]
      simp only [qS] at q ⊢
      omega
    rw [Int.natAbs_mul] at f
    have g := Nat.mul_le_mul_right P (Nat.le_of_mul_le_mul_right f (by omega))
    rw [Nat.add_mul] at g
    omega
theorem qR_snoc (g : Nat → Int) {a b : Nat} (h : a ≤ b) : qR g a (b + 1) = qR g a b + g b := by
  rw [qR_split g h (Nat.le_succ b)]; congr 1
  unfold qR; rw [show b + 1 - b = 1 by omega]; simp [qS]
theorem q_tb {R s z m X : Nat} {x : Nat → Int} {W V : Nat → Nat → Int} {t : Nat → Int} (h : qLS R s z x W V) (hs : s ≤ R) (hx : x R ≠ 0) (hX : (x R).natAbs ≤ X) (hW : qW R W) (c : qCv R z m (x R) V t) (hm : m < s) : (t (z + m)).natAbs ≤ X ∧ (m + 1 < s → (t (z + m + 1)).natAbs ≤ 2 * X) ∧ (m + 2 < s → (t (z + m + 2)).natAbs ≤ 3 * (2 ^ (m + 2) * (X * X))) := by
  have pos : ∀ l, l < s → 1 ≤ (V (z + l) (16 + l)).natAbs := fun l hl => by have := (h.1 l hl).2; omega
  have zz : ∀ l, qR (fun j => t j * V j (16 + l)) z (z + m) = 0 := by
    intro l
    refine qR_0 fun j j1 j2 => ?_
    have a := qCv_low (qLS_0 h) hs c (j - z) (by omega) (by omega)
    rw [show z + (j - z) = j by omega] at a
    rw [a]; simp
  have c0 := qCv_col (qLS_0 h) hs c hm
  rw [zz, if_pos rfl, Int.zero_add] at c0
  have n0 := congrArg Int.natAbs c0
  rw [Int.natAbs_mul] at n0
  have t0 : (t (z + m)).natAbs ≤ (x R).natAbs := by rw [← n0]; exact Nat.le_mul_of_pos_right _ (pos m hm)
  have f1 : m + 1 < s → (t (z + m + 1)).natAbs ≤ 2 * X := by
    intro h1
    have c1 := qCv_col (qLS_0 h) hs c h1
    rw [if_neg (by omega), show z + (m + 1) = z + m + 1 by omega, qR_snoc _ (by omega), zz] at c1
    have r := h.2.2.2.2.2 m (m + 1) (by omega) h1
    have w := hW (m + 1) (by omega)
    have e : qS (fun k => V (z + m) (16 + k) * W k (m + 1)) (m + 1 + 1) = V (z + m) (16 + m) * W m (m + 1) + V (z + m) (16 + (m + 1)) * W (m + 1) (m + 1) := by
      simp only [qS]; rw [qS_zero (fun k hk => by rw [(h.1 m hm).1 k hk]; simp)]; omega
    rw [e] at r
    have b1 : (V (z + m) (16 + (m + 1)) * W (m + 1) (m + 1)).natAbs ≤ ((V (z + (m + 1)) (16 + (m + 1))).natAbs + (V (z + m) (16 + m)).natAbs) * (W (m + 1) (m + 1)).natAbs := by
      have k1 : (W (m + 1) (m + 1) * V (z + (m + 1)) (16 + (m + 1))).natAbs = (V (z + (m + 1)) (16 + (m + 1))).natAbs * (W (m + 1) (m + 1)).natAbs := by rw [Int.natAbs_mul, Nat.mul_comm]
      have k2 := q_abs_mul_le (Nat.le_refl (V (z + m) (16 + m)).natAbs) (qW_le hW (show m + 1 ≤ R by omega) (show m ≤ m + 1 by omega))
      rw [Nat.add_mul]; omega
    rw [Int.natAbs_mul] at b1
    have b2 := Nat.le_of_mul_le_mul_right b1 (by omega)
    have b3 : (t (z + m + 1) * V (z + m + 1) (16 + (m + 1))).natAbs = (t (z + m) * V (z + m) (16 + (m + 1))).natAbs := by omega
    rw [Int.natAbs_mul, Int.natAbs_mul] at b3
    have b4 := Nat.mul_le_mul_left (t (z + m)).natAbs b2
    rw [Nat.mul_add, n0, ← b3] at b4
    have p1 := pos (m + 1) h1
    rw [show z + (m + 1) = z + m + 1 by omega] at p1 b4
    have b5 : (t (z + m + 1)).natAbs * (V (z + m + 1) (16 + (m + 1))).natAbs ≤ ((t (z + m)).natAbs + (x R).natAbs) * (V (z + m + 1) (16 + (m + 1))).natAbs := by
      rw [Nat.add_mul]
      have := Nat.le_mul_of_pos_right (x R).natAbs p1
      omega
    have := Nat.le_of_mul_le_mul_right b5 (by omega)
    omega
  refine ⟨by omega, f1, fun h2 => ?_⟩
  have c2 := qCv_col (qLS_0 h) hs c h2
  rw [if_neg (by omega), show z + (m + 2) = z + m + 1 + 1 by omega, qR_snoc _ (by omega), qR_snoc _ (by omega), zz] at c2
  have s0 := (qLS_small h hs hx hX hW hm (m + 2) h2).1
  have s1 := (qLS_small h hs hx hX hW (show m + 1 < s by omega) (m + 2) h2).1
  have b0 := q_abs_mul_le (Nat.le_trans t0 hX) s0
  have b1 := q_abs_mul_le (f1 (by omega)) s1
  rw [← Nat.add_assoc] at b1
  have b3 : (t (z + m + 1 + 1) * V (z + m + 1 + 1) (16 + (m + 2))).natAbs ≤ 3 * (2 ^ (m + 2) * (X * X)) := by
    have e0 : X * (2 ^ (m + 2) * X) = 2 ^ (m + 2) * (X * X) := by grind
    have e1 : 2 * X * (2 ^ (m + 2) * X) = 2 * (2 ^ (m + 2) * (X * X)) := by grind
    rw [e0] at b0; rw [e1] at b1
    omega
  rw [Int.natAbs_mul] at b3
  have p2 := pos (m + 2) h2
  rw [show z + (m + 2) = z + m + 1 + 1 by omega] at p2
  exact Nat.le_trans (Nat.le_mul_of_pos_right _ (by omega)) b3
theorem qLY_pen {R s z X Y : Nat} {x : Nat → Int} {W V V2 : Nat → Nat → Int} {q : Nat → Int} {y k b : Nat → Nat} (h : qLS R s z x W V) (hs : s + 2 = R) (hs3 : s ≤ 3) (hx : x R ≠ 0) (hX : (x R).natAbs ≤ X) (hW : qW R W) (g : qGath (z + s) (z + R) (16 + s) V V2) (pos : 0 < V2 (z + s) (16 + s)) (rd : ∀ l, l < s → 0 ≤ qS (fun h => qRed z s q V2 (z + l) (16 + h) * W h s) (s + 1) ∧ qS (fun h => qRed z s q V2 (z + l) (16 + h) * W h s) (s + 1) < W s s * V2 (z + s) (16 + s)) (hY : qLY R s z V y) (hT : qLT R s z (x R) V b) (k0 : ∀ m, m < s → X * y m + (if m + 1 < s then 2 * X * y (m + 1) else 0) + (if m + 2 < s then 3 * (2 ^ (m + 2) * (X * X)) * y (m + 2) else 0) ≤ k m) (k1 : X ≤ k s) (n1 : ∀ n, n ≤ s + 1 → qS (fun m => ((2 ^ m * (k m + b m) : Nat) : Int)) n ≤ Y) : ∀ l, l < s + 1 → (qRed z s q V2 (z + l) (16 + (s + 1))).natAbs ≤ Y := by
  have h3 := qLS_step h (by omega) g pos rd
  obtain ⟨t, t1, t2⟩ := hT
  have ex : ∀ g : Nat → Int, qR g (z + s) (z + R) = g (z + s) + g (z + s + 1) := fun g => by
    unfold qR; rw [show z + R - (z + s) = 2 by omega]; simp [qS]
  have zR : z + R = z + s + 2 := by omega
  -- K
  have hK : ∀ m, m < s + 1 → (V (z + s) (16 + s) * t m (z + s) + V (z + s + 1) (16 + s) * t m (z + s + 1)).natAbs ≤ k m := by
    intro m hm
    have c := t1 m (by omega) s (by omega)
    rw [qR_split _ (show z ≤ z + s by omega) (show z + s ≤ z + R by omega), ex] at c
    by_cases e : m = s
    · subst e
      rw [if_pos rfl, qR_0 (fun j j1 j2 => by
        have a := qCv_low (qLS_0 h) (by omega) (t1 m (by omega)) (j - z) (by omega) (by omega)
        rw [show z + (j - z) = j by omega] at a
        rw [a]; simp)] at c
      have : V (z + m) (16 + m) * t m (z + m) + V (z + m + 1) (16 + m) * t m (z + m + 1) = x R := by rw [← c]; grind
      rw [this]; omega
    · rw [if_neg e] at c
      have ms : m < s := by omega
      have eq : V (z + s) (16 + s) * t m (z + s) + V (z + s + 1) (16 + s) * t m (z + s + 1) = -qR (fun j => t m j * V j (16 + s)) z (z + s) := by
        have : V (z + s) (16 + s) * t m (z + s) + V (z + s + 1) (16 + s) * t m (z + s + 1) = t m (z + s) * V (z + s) (16 + s) + t m (z + s + 1) * V (z + s + 1) (16 + s) := by grind
        omega
      rw [eq, Int.natAbs_neg]
      refine Nat.le_trans ?_ (k0 m ms)
      obtain ⟨b0, b1, b2⟩ := q_tb h (by omega) hx hX hW (t1 m (by omega)) ms
      have zz : qR (fun j => t m j * V j (16 + s)) z (z + m) = 0 := by
        refine qR_0 fun j j1 j2 => ?_
        have a := qCv_low (qLS_0 h) (by omega) (t1 m (by omega)) (j - z) (by omega) (by omega)
        rw [show z + (j - z) = j by omega] at a
        rw [a]; simp
      have p0 := q_abs_mul_le b0 (hY m s ms (Nat.le_refl _) (by omega))
      by_cases c1 : m + 1 < s
      · have p1 := q_abs_mul_le (b1 c1) (by have := hY (m + 1) s c1 (Nat.le_refl _) (by omega); rwa [← Nat.add_assoc] at this)
        rw [if_pos c1]
        by_cases c2 : m + 2 < s
        · have p2 := q_abs_mul_le (b2 c2) (by have := hY (m + 2) s c2 (Nat.le_refl _) (by omega); rwa [← Nat.add_assoc] at this)
          rw [if_pos c2]
          have : s = m + 3 := by omega
          have e : qR (fun j => t m j * V j (16 + s)) z (z + s) = t m (z + m) * V (z + m) (16 + s) + t m (z + m + 1) * V (z + m + 1) (16 + s) + t m (z + m + 2) * V (z + m + 2) (16 + s) := by
            rw [show z + s = z + m + 2 + 1 by omega, qR_snoc _ (by omega), show z + m + 2 = z + m + 1 + 1 by omega, qR_snoc _ (by omega), qR_snoc _ (by omega), zz]; omega
          rw [e]; omega
        · rw [if_neg c2]
          have e : qR (fun j => t m j * V j (16 + s)) z (z + s) = t m (z + m) * V (z + m) (16 + s) + t m (z + m + 1) * V (z + m + 1) (16 + s) := by
            rw [show z + s = z + m + 1 + 1 by omega, qR_snoc _ (by omega), qR_snoc _ (by omega), zz]; omega
          rw [e]; omega
      · rw [if_neg c1, if_neg (by omega)]
        have e : qR (fun j => t m j * V j (16 + s)) z (z + s) = t m (z + m) * V (z + m) (16 + s) := by
          rw [show z + s = z + m + 1 by omega, qR_snoc _ (by omega), zz]; omega
        rw [e]; omega
  -- the covectors behind the gather
  have key : ∀ m, ∃ u, m < R → qCv R z m (x R) V2 u ∧ (m < s + 1 → (u (z + s + 1)).natAbs ≤ k m + b m) := by
    intro m
    by_cases hm : m < R
    · have bb : ∀ j, z + s ≤ j → j < z + R → (t m j).natAbs ≤ b m := fun j j1 j2 => t2 m j hm j1 j2
      have g2 : qGath (z + s) (z + s + 2) (16 + s) V V2 := by rw [← zR]; exact g
      obtain ⟨u, co, bd⟩ := qGath_2 (t := t m) (B := b m) g2 rfl ⟨bb _ (by omega) (by omega), bb _ (by omega) (by omega)⟩
      rw [← zR] at co
      refine ⟨u, fun _ => ⟨qCv_gath (by omega) g (t1 m hm) co, fun c => ?_⟩⟩
      have := hK m c
      omega
    · exact ⟨fun _ => 0, fun c => absurd c hm⟩
  have cv : ∀ m, m < R → qCv R z m (x R) (qRed z s q V2) (qRdt z s q (key m).choose) := fun m hm => qCv_red (by omega) ((key m).choose_spec hm).1
  have tb : ∀ m, m < s + 1 → (qRdt z s q (key m).choose (z + s + 1)).natAbs ≤ k m + b m := by
    intro m hm
    have e : qRdt z s q (key m).choose (z + s + 1) = (key m).choose (z + s + 1) := by unfold qRdt; rw [if_neg (by omega)]
    rw [e]; exact ((key m).choose_spec (by omega)).2 hm
  generalize hT : (fun m => qRdt z s q (key m).choose) = T at cv tb
  have cv : ∀ m, m < R → qCv R z m (x R) (qRed z s q V2) (T m) := by rw [← hT]; exact cv
  have tb : ∀ m, m < s + 1 → (T m (z + s + 1)).natAbs ≤ k m + b m := by rw [← hT]; exact tb
  clear hT
  generalize hV3 : qRed z s q V2 = V3 at *
  have tT : ∀ m j, m < R → j < m → T m (z + j) = 0 := fun m j hm hj => qCv_low (qLS_0 h3) (by omega) (cv m hm) j (by omega) hj
  have tV : ∀ j l, j < R → l < j → V3 (z + j) (16 + l) = 0 := by
    intro j l hj hl
    by_cases c : j < s + 1
    · exact (h3.1 j c).1 l hl
    · exact h3.2.1 (z + j) (by omega) (by omega) l (by omega)
  have hTV : ∀ m l, m < R → l < R → qS (fun j => T m (z + j) * V3 (z + j) (16 + l)) R = if m = l then x R else 0 := by
    intro m l hm hl
    have := cv m hm l hl
    unfold qR at this
    rwa [show z + R - z = R by omega] at this
  have inv := q_inv (T := fun m j => T m (z + j)) (V := fun j l => V3 (z + j) (16 + l)) hx hTV tT tV
  have last : T (s + 1) (z + s + 1) * V3 (z + s + 1) (16 + (s + 1)) = x R := by
    have := hTV (s + 1) (s + 1) (by omega) (by omega)
    rw [if_pos rfl, show R = s + 1 + 1 by omega, qS, qS_zero (fun j hj => by rw [tT (s + 1) j (by omega) hj]; simp)] at this
    rw [show R = s + 1 + 1 by omega]
    rw [← this]; simp [Nat.add_assoc]
  -- the lead of the last row
  obtain ⟨c, yy, h1, h2, h33, _⟩ := q_steps x R hx
  have pl : (V3 (z + s + 1) (16 + (s + 1))).natAbs ≤ c (s + 1) := by
    obtain ⟨c0, e0, z0, _, d0⟩ := h1 (s + 1) (by omega)
    obtain ⟨kk, hk⟩ := h3.2.2.2.1 (yy (s + 1)) d0 z0
    have e := hk (s + 1) (by omega)
    have : qR (fun j => kk j * V3 j (16 + (s + 1))) (z + (s + 1)) (z + R) = kk (z + s + 1) * V3 (z + s + 1) (16 + (s + 1)) := by
      unfold qR; rw [show z + R - (z + (s + 1)) = 1 by omega]; simp [qS, Nat.add_assoc]
    rw [this, e0] at e
    have n := congrArg Int.natAbs e
    rw [Int.natAbs_mul, Int.natAbs_natCast] at n
    rw [n] at c0 ⊢
    exact Nat.le_mul_of_pos_left _ (Nat.pos_of_mul_pos_right c0)
  have pp : ∀ l, l < s + 1 → (V3 (z + l) (16 + l)).natAbs * (V3 (z + s + 1) (16 + (s + 1))).natAbs ≤ (x R).natAbs := by
    intro l hl
    obtain ⟨c0, e0, z0, _, d0⟩ := h1 l (by omega)
    obtain ⟨kk, hk⟩ := h3.2.2.2.2.1 l hl (yy l) d0 z0
    rw [e0] at hk
    have n := congrArg Int.natAbs hk
    rw [Int.natAbs_mul, Int.natAbs_natCast] at n
    have : (V3 (z + l) (16 + l)).natAbs ≤ c l := by
      rw [n] at c0 ⊢
      exact Nat.le_mul_of_pos_left _ (Nat.pos_of_mul_pos_right c0)
    exact Nat.le_trans (Nat.mul_le_mul this pl) (h33 l (s + 1) hl (by omega))
  intro l hl
  have sm := fun m hm => (qLS_smallP h3 (by omega) hW pp hl m hm).1
  have e := inv l (s + 1) (by omega) (by omega)
  rw [if_neg (by omega), show R = s + 1 + 1 by omega, qS] at e
  have e : qS (fun m => V3 (z + l) (16 + m) * T m (z + s + 1)) (s + 1) + V3 (z + l) (16 + (s + 1)) * T (s + 1) (z + s + 1) = 0 := by
    rw [← e]; simp [Nat.add_assoc]
  have e2 : V3 (z + l) (16 + (s + 1)) * x R = -(qS (fun m => V3 (z + s + 1) (16 + (s + 1)) * (V3 (z + l) (16 + m) * T m (z + s + 1))) (s + 1)) := by
    rw [qS_mul, ← last]
    generalize qS (fun m => V3 (z + l) (16 + m) * T m (z + s + 1)) (s + 1) = A at *
    have : A = -(V3 (z + l) (16 + (s + 1)) * T (s + 1) (z + s + 1)) := by omega
    rw [this]; grind
  have bd : ∀ n, n ≤ s + 1 → ((qS (fun m => V3 (z + s + 1) (16 + (s + 1)) * (V3 (z + l) (16 + m) * T m (z + s + 1))) n).natAbs : Int) ≤ (x R).natAbs * qS (fun m => ((2 ^ m * (k m + b m) : Nat) : Int)) n := by
    intro n
    induction n with
    | zero => intro _; simp [qS]
    | succ n ih =>
      intro hn
      have a := ih (by omega)
      simp only [qS]
      have bq : (V3 (z + s + 1) (16 + (s + 1)) * (V3 (z + l) (16 + n) * T n (z + s + 1))).natAbs ≤ (x R).natAbs * (2 ^ n * (k n + b n)) := by
        have b1 := Nat.mul_le_mul (sm n (by omega)) (tb n (by omega))
        have e1 : (V3 (z + s + 1) (16 + (s + 1)) * (V3 (z + l) (16 + n) * T n (z + s + 1))).natAbs = (V3 (z + l) (16 + n)).natAbs * (V3 (z + s + 1) (16 + (s + 1))).natAbs * (T n (z + s + 1)).natAbs := by
          rw [Int.natAbs_mul, Int.natAbs_mul]; grind
        have e2 : 2 ^ n * (x R).natAbs * (k n + b n) = (x R).natAbs * (2 ^ n * (k n + b n)) := by grind
        rw [e1, ← e2]; exact b1
      rw [Int.mul_add]
      have c0 : (((x R).natAbs * (2 ^ n * (k n + b n)) : Nat) : Int) = ((x R).natAbs : Int) * ((2 ^ n * (k n + b n) : Nat) : Int) := by simp
      omega
  have f := bd (s + 1) (Nat.le_refl _)
  have f2 := n1 (s + 1) (Nat.le_refl _)
  have f3 : ((x R).natAbs : Int) * qS (fun m => ((2 ^ m * (k m + b m) : Nat) : Int)) (s + 1) ≤ ((x R).natAbs : Int) * (Y : Int) := Int.mul_le_mul_of_nonneg_left f2 (by omega)
  have f4 : (V3 (z + l) (16 + (s + 1)) * x R).natAbs ≤ (x R).natAbs * Y := by
    rw [e2, Int.natAbs_neg]
    have : (((x R).natAbs * Y : Nat) : Int) = ((x R).natAbs : Int) * (Y : Int) := by simp
    omega
  rw [Int.natAbs_mul, Nat.mul_comm] at f4
  exact q_div (by omega) f4
