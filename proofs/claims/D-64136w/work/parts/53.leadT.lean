/-! THE LEADS: covectors -/
def qLT (R s z : Nat) (xR : Int) (V : Nat → Nat → Int) (b : Nat → Nat) : Prop := ∃ t : Nat → Nat → Int, (∀ m, m < R → qCv R z m xR V (t m)) ∧ ∀ m j, m < R → z + s ≤ j → j < z + R → (t m j).natAbs ≤ b m
/-- a covector behind a gather of the active rows -/
theorem qCv_gath {R s z m c : Nat} {xR : Int} {V V2 : Nat → Nat → Int} {t u : Nat → Int} (hs : s ≤ R) (g : qGath (z + s) (z + R) c V V2) (h : qCv R z m xR V t) (co : qCo (z + s) (z + R) t V u V2) : qCv R z m xR V2 u := by
  intro l hl
  rw [← h l hl, qR_split _ (show z ≤ z + s by omega) (show z + s ≤ z + R by omega), qR_split (fun j => t j * V j (16 + l)) (show z ≤ z + s by omega) (show z + s ≤ z + R by omega), co.2]
  congr 1
  exact qR_congr fun j j1 j2 => by rw [co.1 j (.inl j2), qGath_lt g (.inl j2)]
/-- .. and behind the reductions of rows done -/
def qRdt (z s : Nat) (q u : Nat → Int) : Nat → Int := fun j => if j = z + s then u j + qS (fun l => q l * u (z + l)) s else u j
theorem qCv_red {R s z m : Nat} {xR : Int} {V2 : Nat → Nat → Int} {q u : Nat → Int} (hs : s < R) (h : qCv R z m xR V2 u) : qCv R z m xR (qRed z s q V2) (qRdt z s q u) := by
  intro l hl
  rw [← h l hl, qR_split _ (show z ≤ z + s by omega) (show z + s ≤ z + R by omega), qR_split (fun j => u j * V2 j (16 + l)) (show z ≤ z + s by omega) (show z + s ≤ z + R by omega), qR_head (f := z + s) (by omega), qR_head (g := fun j => u j * V2 j (16 + l)) (f := z + s) (by omega)]
  have e1 : qR (fun j => qRdt z s q u j * qRed z s q V2 j (16 + l)) z (z + s) = qR (fun j => u j * V2 j (16 + l)) z (z + s) - V2 (z + s) (16 + l) * qS (fun l => q l * u (z + l)) s := by
    unfold qR
    rw [show z + s - z = s by omega, ← qS_mul, ← qS_sub]
    refine qS_congr fun i hi => ?_
    show qRdt z s q u (z + i) * qRed z s q V2 (z + i) (16 + l) = u (z + i) * V2 (z + i) (16 + l) - V2 (z + s) (16 + l) * (q i * u (z + i))
    rw [qRed_l hi]; unfold qRdt; rw [if_neg (by omega)]; grind
  have e2 : qS (fun i => qRdt z s q u (z + s + 1 + i) * qRed z s q V2 (z + s + 1 + i) (16 + l)) (z + R - (z + s) - 1) = qS (fun i => u (z + s + 1 + i) * V2 (z + s + 1 + i) (16 + l)) (z + R - (z + s) - 1) := qS_congr fun i _ => by
    rw [qRed_ge (.inr (by omega))]; unfold qRdt; rw [if_neg (by omega)]
  rw [e1, e2, qRed_ge (.inr (Nat.le_refl _))]
  have e3 : qRdt z s q u (z + s) = u (z + s) + qS (fun l => q l * u (z + l)) s := by unfold qRdt; rw [if_pos rfl]
  rw [e3]; grind
theorem q_cube_le {u A t : Nat} (h1 : (2 * u) ^ 3 ≤ A) (h2 : A < (2 * (t + 1)) ^ 3) : u ≤ t := by
  rcases Nat.lt_or_ge t u with c | c
  · have := q_pow3_mono (Nat.mul_le_mul_left 2 c)
    have e : (2 * t.succ) ^ 3 = (2 * (t + 1)) ^ 3 := rfl
    omega
  · exact c
theorem qMass_le {f m e B : Nat} {V : Nat → Nat → Int} {c : Nat} {t : Nat → Int} (hV : ∀ j, f ≤ j → j < m → (V j c).natAbs ≤ e) (ht : ∀ j, f ≤ j → j < m → (t j).natAbs ≤ B) : qR (fun j => qab (V j c) * qab (t j)) f m ≤ ((m - f) * (e * B) : Nat) := by
  have : qR (fun j => qab (V j c) * qab (t j)) f m ≤ (m - f : Nat) * ((e * B : Nat) : Int) := qS_cap fun i hi => by
    show qab (V (f + i) c) * qab (t (f + i)) ≤ ((e * B : Nat) : Int)
    rw [← qab_mul]
    have := q_abs_mul_le (hV (f + i) (by omega) (by omega)) (ht (f + i) (by omega) (by omega))
    unfold qab; omega
  simpa using this
theorem qLT_step {R s z e : Nat} {b b2 : Nat → Nat} {x : Nat → Int} {W V V2 : Nat → Nat → Int} (q : Nat → Int) (h : qLS R s z x W V) (hs : s < R) (g : qGath (z + s) (z + R) (16 + s) V V2) (hE : qLE R s z V e) (hT : qLT R s z (x R) V b) (n0 : R - s - 1 ≤ 4) (n1 : ∀ m, s < m → m < R → (2 * ((R - s - 1) * b m)) ^ 3 * e ^ 2 < (2 * (b2 m + 1)) ^ 3) (n2 : ∀ m, m ≤ s → b m ≤ b2 m ∧ 3 * ((R - s) * (e * b m)) ≤ b2 m) : qLT R (s + 1) z (x R) (qRed z s q V2) b2 := by
  obtain ⟨t, t1, t2⟩ := hT
  have key : ∀ m, ∃ u, m < R → qCv R z m (x R) V2 u ∧ ∀ j, z + s < j → j < z + R → (u j).natAbs ≤ b2 m := by
    intro m
    by_cases hm : m < R
    · by_cases c : s < m
      · have o := qCv_act (qLS_0 h) (by omega) (t1 m hm) (by omega) hs
        rw [if_neg (by omega)] at o
        obtain ⟨u, co, bd⟩ := qGath_co (B := b m) (X := e) g o (fun j j1 j2 => hE j j1 j2 s hs) (fun j j1 j2 => t2 m j hm j1 j2) (by omega)
        refine ⟨u, fun _ => ⟨qCv_gath (by omega) g (t1 m hm) co, fun j j1 j2 => ?_⟩⟩
        rw [show z + R - (z + s) - 1 = R - s - 1 by omega] at bd
        exact q_cube_le (bd j (by omega) j2) (n1 m c hm)
      · obtain ⟨u, co, bd⟩ := qGath_mj (B := b m) g (fun j j1 j2 => t2 m j hm j1 j2) (qMass_le (fun j j1 j2 => hE j j1 j2 s hs) (fun j j1 j2 => t2 m j hm j1 j2))
        refine ⟨u, fun _ => ⟨qCv_gath (by omega) g (t1 m hm) co, fun j j1 j2 => ?_⟩⟩
        rw [show z + R - (z + s) = R - s by omega] at bd
        have := bd j j1 j2
        have := n2 m (by omega)
        omega
    · exact ⟨fun _ => 0, fun k => absurd k hm⟩
  refine ⟨fun m => qRdt z s q (key m).choose, fun m hm => qCv_red hs ((key m).choose_spec hm).1, fun m j hm j1 j2 => ?_⟩
  have := ((key m).choose_spec hm).2 j (by omega) j2
  have e : qRdt z s q (key m).choose j = (key m).choose j := by unfold qRdt; rw [if_neg (by omega)]
  show (qRdt z s q (key m).choose j).natAbs ≤ b2 m
  rw [e]; exact this
/-! rows done: small where they are reduced -/
theorem qLS_pi {R s z : Nat} {x : Nat → Int} {W V : Nat → Nat → Int} (h : qLS R s z x W V) (hs : s ≤ R) (hx : x R ≠ 0) : (∀ l, l < s → (V (z + l) (16 + l)).natAbs ≤ (x R).natAbs) ∧ ∀ l i, l < i → i < s → (V (z + l) (16 + l)).natAbs * (V (z + i) (16 + i)).natAbs ≤ (x R).natAbs := by
  obtain ⟨c, y, h1, h2, h3, _⟩ := q_steps x R hx
  have le : ∀ l, l < s → (V (z + l) (16 + l)).natAbs ≤ c l := by
    intro l hl
    obtain ⟨c0, e0, z0, _, d0⟩ := h1 l (by omega)
    obtain ⟨k, hk⟩ := h.2.2.2.2.1 l hl (y l) d0 z0
    rw [e0] at hk
    have n := congrArg Int.natAbs hk
    rw [Int.natAbs_mul, Int.natAbs_natCast] at n
    rw [n] at c0 ⊢
    exact Nat.le_mul_of_pos_left _ (Nat.pos_of_mul_pos_right c0)
  exact ⟨fun l hl => Nat.le_trans (le l hl) (h2 l (by omega)), fun l i li hi => Nat.le_trans (Nat.mul_le_mul (le l (by omega)) (le i hi)) (h3 l i li (by omega))⟩
def qW (R : Nat) (W : Nat → Nat → Int) : Prop := ∀ i, i ≤ R → 0 < W i i ∧ ∀ h, h < i → 0 ≤ W h i ∧ W h i < W i i
theorem qW_le {R : Nat} {W : Nat → Nat → Int} (h : qW R W) {i k : Nat} (hi : i ≤ R) (hk : k ≤ i) : (W k i).natAbs ≤ (W i i).natAbs := by
  have a := (h i hi).1
  by_cases e : k = i
  · subst e; exact Nat.le_refl _
  · have := (h i hi).2 k (by omega); omega
/-- sizes of a triangular sum -/
theorem q_sum_le (u : Nat → Int) {R i : Nat} {W : Nat → Nat → Int} (h : qW R W) (hi : i ≤ R) : ∀ n, n ≤ i + 1 → (qS (fun k => u k * W k i) n).natAbs ≤ (qS (fun k => qab (u k)) n).natAbs * (W i i).natAbs := by
  intro n
  induction n with
  | zero => intro _; simp [qS]
  | succ n ih =>
    intro hn
    have a := ih (by omega)
    have b := q_abs_mul_le (Nat.le_refl (u n).natAbs) (qW_le h hi (k := n) (by omega))
    have c := qS_nonneg (f := fun k => qab (u k)) (n := n) (fun _ _ => qab_nn _)
    simp only [qS]
    have e : (qS (fun k => qab (u k)) n + qab (u n)).natAbs = (qS (fun k => qab (u k)) n).natAbs + (u n).natAbs := by unfold qab at *; omega
    rw [e, Nat.add_mul]; omega
theorem qLS_small {R s z X : Nat} {x : Nat → Int} {W V : Nat → Nat → Int} (h : qLS R s z x W V) (hs : s ≤ R) (hx : x R ≠ 0) (hX : (x R).natAbs ≤ X) (hW : qW R W) {l : Nat} (hl : l < s) : ∀ i, i < s → (V (z + l) (16 + i)).natAbs ≤ 2 ^ i * X ∧ (qS (fun k => qab (V (z + l) (16 + k))) i).natAbs + X ≤ 2 ^ i * X := by
  intro i
  induction i with
  | zero =>
    intro hi
    constructor
    · by_cases e : l = 0
      · subst e; have := (qLS_pi h hs hx).1 0 hl; simpa using Nat.le_trans this hX
      · rw [(h.1 l hl).1 0 (by omega)]; simp
    · simp [qS]
  | succ i ih =>
    intro hi
    obtain ⟨a, b⟩ := ih (by omega)
    have c := qS_nonneg (f := fun k => qab (V (z + l) (16 + k))) (n := i) (fun _ _ => qab_nn _)
    have e : 2 ^ (i + 1) * X = 2 ^ i * X + 2 ^ i * X := by rw [Nat.pow_succ]; grind
    have s1 : (qS (fun k => qab (V (z + l) (16 + k))) (i + 1)).natAbs + X ≤ 2 ^ (i + 1) * X := by
      simp only [qS]; unfold qab at *; omega
    refine ⟨?_, s1⟩
    by_cases x1 : i + 1 < l
    · rw [(h.1 l hl).1 (i + 1) (by omega)]; simp
    by_cases x2 : i + 1 = l
    · subst x2; have := (qLS_pi h hs hx).1 (i + 1) hl; omega
    have sm := h.2.2.2.2.2 l (i + 1) (by omega) hi
    have w0 := (hW (i + 1) (by omega)).1
    have p := (qLS_pi h hs hx).1 (i + 1) hi
    have q := q_sum_le (fun k => V (z + l) (16 + k)) hW (show i + 1 ≤ R by omega) (i + 1) (by omega)
    simp only [qS] at sm
    have f : (V (z + l) (16 + (i + 1)) * W (i + 1) (i + 1)).natAbs ≤ ((qS (fun k => qab (V (z + l) (16 + k))) (i + 1)).natAbs + (V (z + (i + 1)) (16 + (i + 1))).natAbs) * (W (i + 1) (i + 1)).natAbs := by
      have k1 : (W (i + 1) (i + 1) * V (z + (i + 1)) (16 + (i + 1))).natAbs = (V (z + (i + 1)) (16 + (i + 1))).natAbs * (W (i + 1) (i + 1)).natAbs := by rw [Int.natAbs_mul, Nat.mul_comm]
      rw [Nat.add_mul]
      simp only [qS] at q ⊢
      omega
    rw [Int.natAbs_mul] at f
    have := Nat.le_of_mul_le_mul_right f (by omega)
    omega
