/-! THE MEMBERS OF A LIST -/
abbrev u1 : Vc := fun _ => 1
/-- between 0 and x in each column -/
def vCf (u x : Vc) : Prop := ∀ c, c < 6 → (x c < 0 → x c ≤ u c ∧ u c ≤ 0) ∧ (0 ≤ x c → 0 ≤ u c ∧ u c ≤ x c)
def tPos (x : Vc) : Prop := ∃ d, d < 6 ∧ (∀ i, i < d → x i = 0) ∧ 0 < x d
def vNz (x : Vc) : Prop := ∃ c, c < 6 ∧ x c ≠ 0
/-- a vector of n columns that solves the rows (with B for list 1), not 0 (but for list 1) -/
def tSl (wh : Nat) (A : Nat → Nat → Int) (R n : Nat) (x : Vc) : Prop := (∀ c, n ≤ c → x c = 0) ∧ (wh ≠ 1 → vNz x) ∧ gZ A R n u1 (decide (wh = 1)) x
def tMem (wh : Nat) (A : Nat → Nat → Int) (R n : Nat) (x : Vc) : Prop := tSl wh A R n x ∧ (wh < 2 → ∀ c, c < 6 → 0 ≤ x c) ∧ (wh = 2 → tPos x) ∧ ∀ u, tSl wh A R n u → vCf u x → u = x
def vNg (x : Vc) : Vc := fun c => -x c
def tBel (wh : Nat) (A : Nat → Nat → Int) (R n : Nat) (L : List Vc) (x : Vc) : Prop := (wh ≠ 1 → vNz x) ∧ (wh = 2 → tPos x) ∧ gZ A R n u1 (decide (wh = 1)) x ∧ ∀ v, v ∈ L → ¬ vCf v x ∧ (wh = 2 → ¬ vCf (vNg v) x)
theorem vCf_refl (x : Vc) : vCf x x := fun c _ => ⟨fun h => ⟨Int.le_refl _, by omega⟩, fun h => ⟨h, Int.le_refl _⟩⟩
theorem vCf_trans {u v x : Vc} (h : vCf u v) (g : vCf v x) : vCf u x := fun c hc => by
  have a := h c hc
  have b := g c hc
  constructor
  · intro hx
    have := b.1 hx
    by_cases w : v c < 0
    · have := a.1 w; omega
    · have := a.2 (by omega); omega
  · intro hx
    have := b.2 hx
    have := a.2 (by omega); omega
theorem vCf_size {u x : Vc} (h : vCf u x) : vSize u ≤ vSize x := qS_le fun c hc => by
  have := h c hc
  unfold qab
  by_cases w : x c < 0
  · have := this.1 w; omega
  · have := this.2 (by omega); omega
theorem vCf_eq {u x : Vc} {n : Nat} (hn : n ≤ 6) (h : vCf u x) (hu : ∀ c, n ≤ c → u c = 0) (hx : ∀ c, n ≤ c → x c = 0) (e : vSize x ≤ vSize u) : u = x := by
  have b : ∀ c, c < 6 → qab (u c) ≤ qab (x c) ∧ (qab (u c) = qab (x c) → u c = x c) := fun c hc => by
    have := h c hc
    unfold qab
    by_cases w : x c < 0
    · have := this.1 w; omega
    · have := this.2 (by omega); omega
  unfold vSize at e
  simp only [qS] at e
  have b0 := b 0 (by omega); have b1 := b 1 (by omega); have b2 := b 2 (by omega); have b3 := b 3 (by omega); have b4 := b 4 (by omega); have b5 := b 5 (by omega)
  funext c
  by_cases w : c < 6
  · have : c = 0 ∨ c = 1 ∨ c = 2 ∨ c = 3 ∨ c = 4 ∨ c = 5 := by omega
    rcases this with rfl | rfl | rfl | rfl | rfl | rfl
    · exact b0.2 (by omega)
    · exact b1.2 (by omega)
    · exact b2.2 (by omega)
    · exact b3.2 (by omega)
    · exact b4.2 (by omega)
    · exact b5.2 (by omega)
  · rw [hu c (by omega), hx c (by omega)]
theorem vSize_nn0 (x : Vc) : 0 ≤ vSize x := qS_nonneg fun c _ => by unfold qab; omega
theorem vSize_ng (x : Vc) : vSize (vNg x) = vSize x := qS_congr fun c _ => by unfold vNg qab; omega
theorem vCf_ng {u x : Vc} (h : vCf u x) : vCf (vNg u) (vNg x) := fun c hc => by
  have := h c hc
  unfold vNg
  constructor
  · intro w; have := this.2 (by omega); omega
  · intro w
    by_cases z : x c < 0
    · have := this.1 z; omega
    · have := this.2 (by omega); omega
theorem vNg_ng (x : Vc) : vNg (vNg x) = x := funext fun c => by unfold vNg; omega
theorem gZ_ng {A : Nat → Nat → Int} {R n : Nat} {x : Vc} (h : gZ A R n u1 false x) : gZ A R n u1 false (vNg x) := by
  intro r hr
  have := h r hr
  unfold gMd at this ⊢
  have e : qS (fun j => A r j * u1 j * vNg x j) n = qS (fun j => (-1) * (A r j * u1 j * x j)) n := qS_congr fun j _ => by unfold vNg; grind
  rw [e, qS_mul]
  simp only [if_neg (show ¬ (false = true) by simp)] at this ⊢
  omega
theorem tSl_ng {A : Nat → Nat → Int} {R n : Nat} {x : Vc} (h : tSl 2 A R n x) : tSl 2 A R n (vNg x) := by
  obtain ⟨h1, h2, h3⟩ := h
  refine ⟨fun c hc => by unfold vNg; rw [h1 c hc]; rfl, fun w => ?_, ?_⟩
  · obtain ⟨c, hc, hne⟩ := h2 w
    exact ⟨c, hc, by unfold vNg; omega⟩
  · exact gZ_ng h3
theorem tPos_or {x : Vc} (h : vNz x) : tPos x ∨ tPos (vNg x) := by
  have key : ∀ k, k ≤ 6 → (∀ c, c < k → x c = 0) ∨ ∃ d, d < k ∧ (∀ i, i < d → x i = 0) ∧ x d ≠ 0 := by
    intro k
    induction k with
    | zero => intro _; exact .inl fun c hc => by omega
    | succ k ih =>
      intro hk
      rcases ih (by omega) with w | ⟨d, d1, d2, d3⟩
      · by_cases z : x k = 0
        · exact .inl fun c hc => by
            by_cases y : c = k
            · rw [y]; exact z
            · exact w c (by omega)
        · exact .inr ⟨k, by omega, w, z⟩
      · exact .inr ⟨d, by omega, d2, d3⟩
  rcases key 6 (Nat.le_refl _) with w | ⟨d, d1, d2, d3⟩
  · obtain ⟨c, hc, hne⟩ := h; exact absurd (w c hc) hne
  · by_cases z : 0 < x d
    · exact .inl ⟨d, d1, d2, z⟩
    · exact .inr ⟨d, d1, fun i hi => by unfold vNg; rw [d2 i hi]; rfl, by unfold vNg; omega⟩
theorem tPos_ng {x : Vc} (h : tPos x) : ¬ tPos (vNg x) := by
  obtain ⟨d, d1, d2, d3⟩ := h
  rintro ⟨e, e1, e2, e3⟩
  unfold vNg at e2 e3
  rcases Nat.lt_trichotomy d e with w | w | w
  · have := e2 d w; omega
  · subst w; omega
  · have := d2 e w; omega
/-- below each solution a least one -/
theorem tMin_ex {wh : Nat} {A : Nat → Nat → Int} {R n : Nat} (hn : n ≤ 6) : ∀ (N : Nat) (y : Vc), vSize y < N → tSl wh A R n y → ∃ m, tSl wh A R n m ∧ vCf m y ∧ ∀ u, tSl wh A R n u → vCf u m → u = m := by
  intro N
  induction N with
  | zero => intro y h _; have := vSize_nn0 y; omega
  | succ N ih =>
    intro y h p
    by_cases w : ∀ u, tSl wh A R n u → vCf u y → u = y
    · exact ⟨y, p, vCf_refl y, w⟩
    · have : ∃ z, tSl wh A R n z ∧ vCf z y ∧ z ≠ y := by
        apply Classical.byContradiction
        intro no
        exact w fun z hz hb => Classical.byContradiction fun ne => no ⟨z, hz, hb, ne⟩
      obtain ⟨z, hz, hb, ne⟩ := this
      have lt : vSize z < vSize y := by
        rcases Int.lt_or_eq_of_le (vCf_size hb) with l | l
        · exact l
        · exact absurd (vCf_eq hn hb hz.1 p.1 (by omega)) ne
      obtain ⟨m, hm, hmz, hmin⟩ := ih z (by omega) hz
      exact ⟨m, hm, vCf_trans hmz hb, hmin⟩
theorem vLx_irr (x : Vc) : ¬ vLx x x := fun ⟨d, _, _, h⟩ => by omega
/-- what is computed is what is meant -/
theorem tStep {wh : Nat} {A : Nat → Nat → Int} {R n s : Nat} {x : Vc} {L : List Vc} (hn : n ≤ 6) (hw : wh ≤ 2) (hx : tC n (decide (wh = 2)) s x) (hL : ∀ v, v ∈ L ↔ tMem wh A R n v ∧ (vSize v < s ∨ vSize v = s ∧ vLx v x)) : tBel wh A R n L x ↔ tMem wh A R n x := by
  have nn : wh < 2 → ∀ c, c < 6 → 0 ≤ x c := fun h => hx.2.1 (by simp; omega)
  constructor
  · rintro ⟨b1, b2, b3, b4⟩
    have sx : tSl wh A R n x := ⟨hx.1, b1, b3⟩
    refine ⟨sx, nn, b2, fun u hu hb => Classical.byContradiction fun ne => ?_⟩
    obtain ⟨m, m1, m2, m3⟩ := tMin_ex hn (vSize u).toNat.succ u (by have := vSize_nn0 u; omega) hu
    have mx := vCf_trans m2 hb
    have lt : vSize m < s := by
      have a := vCf_size m2
      rcases Int.lt_or_eq_of_le (vCf_size hb) with l | l
      · have := hx.2.2; omega
      · exact absurd (vCf_eq hn hb hu.1 hx.1 (by omega)) ne
    by_cases w : wh = 2
    · subst w
      rcases tPos_or (m1.2.1 (by decide)) with p | p
      · exact (b4 m ((hL m).mpr ⟨⟨m1, fun h => by omega, fun _ => p, m3⟩, .inl lt⟩)).1 mx
      · have mm : tMem 2 A R n (vNg m) := ⟨tSl_ng m1, fun h => by omega, fun _ => p, fun u hu hb => by
          have := m3 _ (tSl_ng hu) (by have := vCf_ng hb; rw [vNg_ng] at this; exact this)
          rw [← vNg_ng u, this]⟩
        have := (b4 (vNg m) ((hL _).mpr ⟨mm, .inl (by rw [vSize_ng]; exact lt)⟩)).2 rfl
        rw [vNg_ng] at this
        exact this mx
    · have mnn : ∀ c, c < 6 → 0 ≤ m c := fun c hc => ((mx c hc).2 (nn (by omega) c hc)).1
      exact (b4 m ((hL m).mpr ⟨⟨m1, fun _ => mnn, fun h => absurd h w, m3⟩, .inl lt⟩)).1 mx
  · rintro ⟨sx, h1, h2, h3⟩
    refine ⟨sx.2.1, h2, sx.2.2, fun v hv => ?_⟩
    obtain ⟨mv, hv⟩ := (hL v).mp hv
    refine ⟨fun hb => ?_, fun w hb => ?_⟩
    · have e := h3 v mv.1 hb
      rcases hv with l | ⟨_, l⟩
      · rw [e, hx.2.2] at l; omega
      · rw [e] at l; exact vLx_irr x l
    · subst w
      have e := h3 _ (tSl_ng mv.1) hb
      have p := h2 rfl
      rw [← e] at p
      exact tPos_ng (mv.2.2.1 rfl) p
/-- for the first two lists it's what the grower finds -/
theorem sgB_0 : sgB 0 = u1 := funext fun c => by unfold sgB; rw [Nat.zero_testBit]; rfl
theorem tMem_min {wh : Nat} {A : Nat → Nat → Int} {R n : Nat} (hw : wh < 2) (x : Vc) : tMem wh A R n x ↔ gMin A R n (sgB 0) (decide (wh = 1)) x := by
  rw [sgB_0]
  have cf : ∀ u : Vc, (∀ c, c < 6 → 0 ≤ x c) → (vCf u x ↔ (∀ c, c < 6 → 0 ≤ u c) ∧ vBe u x) := by
    intro u h
    constructor
    · intro hc; exact ⟨fun c h6 => ((hc c h6).2 (h c h6)).1, vBe_iff.mpr fun c h6 => ((hc c h6).2 (h c h6)).2⟩
    · rintro ⟨a, b⟩ c h6
      have := h c h6
      exact ⟨fun w => by omega, fun _ => ⟨a c h6, vBe_iff.mp b c h6⟩⟩
  have nz : ∀ u : Vc, (wh ≠ 1 → vNz u) ↔ (decide (wh = 1) = false → ∃ c, c < 6 ∧ u c ≠ 0) := by
    intro u; simp only [decide_eq_false_iff_not]; exact Iff.rfl
  constructor
  · rintro ⟨⟨s1, s2, s3⟩, h1, _, h3⟩
    refine ⟨⟨h1 hw, s1, s3, (nz x).mp s2⟩, fun y hy hb => h3 y ⟨hy.2.1, (nz y).mpr hy.2.2.2, hy.2.2.1⟩ ((cf y (h1 hw)).mpr ⟨hy.1, hb⟩)⟩
  · rintro ⟨⟨p1, p2, p3, p4⟩, hm⟩
    refine ⟨⟨p2, (nz x).mpr p4, p3⟩, fun _ => p1, fun h => by omega, fun u hu hb => ?_⟩
    obtain ⟨a, b⟩ := (cf u p1).mp hb
    exact hm u ⟨a, hu.1, hu.2.2, (nz u).mp hu.2.1⟩ b
/-- a list of the members up to a size -/
def tLst (wh : Nat) (A : Nat → Nat → Int) (R n bd : Nat) (L : List Vc) : Prop := vSort L ∧ ∀ v, v ∈ L ↔ tMem wh A R n v ∧ vSize v ≤ bd
def tBig (wh : Nat) (A : Nat → Nat → Int) (R n bd : Nat) : Prop := ∃ l : List Vc, l.Nodup ∧ l.length = 2001 ∧ ∀ v, v ∈ l → tMem wh A R n v ∧ vSize v ≤ bd
theorem nd_len {α : Type} : ∀ {l m : List α}, l.Nodup → (∀ v, v ∈ l → v ∈ m) → l.length ≤ m.length := by
  intro l
  induction l with
  | nil => intro m _ _; exact Nat.zero_le _
  | cons a t ih =>
    intro m hn hs
    obtain ⟨h1, h2⟩ := List.nodup_cons.mp hn
    obtain ⟨p, q, rfl⟩ := List.append_of_mem (hs a List.mem_cons_self)
    have := ih (m := p ++ q) h2 fun v hv => by
      have := hs v (List.mem_cons_of_mem _ hv)
      rw [List.mem_append, List.mem_cons] at this
      rw [List.mem_append]
      rcases this with w | w | w
      · exact .inl w
      · subst w; exact absurd hv h1
      · exact .inr w
    simp only [List.length_append, List.length_cons] at this ⊢
    omega
theorem tLst_big {wh : Nat} {A : Nat → Nat → Int} {R n bd : Nat} {L : List Vc} (h : tLst wh A R n bd L) (hl : L.length ≤ 2000) : ¬ tBig wh A R n bd := by
  rintro ⟨l, l1, l2, l3⟩
  have := nd_len l1 (m := L) fun v hv => (h.2 v).mpr (l3 v hv)
  omega
theorem vSort_eq : ∀ {l m : List Vc}, vSort l → vSort m → (∀ v, v ∈ l ↔ v ∈ m) → l = m := by
  intro l
  induction l with
  | nil =>
    intro m _ _ h
    cases m with
    | nil => rfl
    | cons b u => exact absurd ((h b).mpr List.mem_cons_self) (by simp)
  | cons a t ih =>
    intro m hl hm h
    cases m with
    | nil => exact absurd ((h a).mp List.mem_cons_self) (by simp)
    | cons b u =>
      have hl' := List.pairwise_cons.mp hl
      have hm' := List.pairwise_cons.mp hm
      have ab : a = b := by
        rcases List.mem_cons.mp ((h a).mp List.mem_cons_self) with w | w
        · exact w
        · rcases List.mem_cons.mp ((h b).mpr List.mem_cons_self) with y | y
          · exact y.symm
          · exact absurd (vLt_trans (hm'.1 a w) (hl'.1 b y)) (vLt_irr b)
      subst ab
      congr 1
      refine ih hl'.2 hm'.2 fun v => ?_
      constructor
      · intro hv
        rcases List.mem_cons.mp ((h v).mp (List.mem_cons_of_mem _ hv)) with w | w
        · subst w; exact absurd (hl'.1 v hv) (vLt_irr v)
        · exact w
      · intro hv
        rcases List.mem_cons.mp ((h v).mpr (List.mem_cons_of_mem _ hv)) with w | w
        · subst w; exact absurd (hm'.1 v hv) (vLt_irr v)
        · exact w
theorem tLst_eq {wh : Nat} {A : Nat → Nat → Int} {R n bd : Nat} {L M : List Vc} (h : tLst wh A R n bd L) (g : tLst wh A R n bd M) : L = M := vSort_eq h.1 g.1 fun v => (h.2 v).trans (g.2 v).symm
