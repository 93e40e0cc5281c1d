/-! WHAT THE GROWER FINDS: the least ones, all of them -/
def gP (A : Nat → Nat → Int) (R n : Nat) (sg : Vc) (rt : Bool) (x : Vc) : Prop := (∀ c, c < 6 → 0 ≤ x c) ∧ (∀ c, n ≤ c → x c = 0) ∧ gZ A R n sg rt x ∧ (rt = false → ∃ c, c < 6 ∧ x c ≠ 0)
def gMin (A : Nat → Nat → Int) (R n : Nat) (sg : Vc) (rt : Bool) (x : Vc) : Prop := gP A R n sg rt x ∧ ∀ y, gP A R n sg rt y → vBe y x → y = x
theorem vBe_eq {x y : Vc} {n : Nat} (hn : n ≤ 6) (h : vBe x y) (hx : ∀ c, n ≤ c → x c = 0) (hy : ∀ c, n ≤ c → y c = 0) (e : qS y 6 ≤ qS x 6) : x = y := by
  have b := vBe_iff.mp h
  simp only [qS] at e
  have b0 := b 0 (by omega); have b1 := b 1 (by omega); have b2 := b 2 (by omega); have b3 := b 3 (by omega); have b4 := b 4 (by omega); have b5 := b 5 (by omega)
  funext c
  by_cases w : c < 6
  · have : c = 0 ∨ c = 1 ∨ c = 2 ∨ c = 3 ∨ c = 4 ∨ c = 5 := by omega
    rcases this with rfl | rfl | rfl | rfl | rfl | rfl <;> omega
  · rw [hx c (by omega), hy c (by omega)]
theorem vBe_sum {x y : Vc} (h : vBe x y) : qS x 6 ≤ qS y 6 := qS_le fun c hc => vBe_iff.mp h c hc
theorem vBe_trans {x y z : Vc} (h : vBe x y) (g : vBe y z) : vBe x z := vBe_iff.mpr fun c hc => Int.le_trans (vBe_iff.mp h c hc) (vBe_iff.mp g c hc)
theorem gMin_ex {A : Nat → Nat → Int} {R n : Nat} {sg : Vc} {rt : Bool} (hn : n ≤ 6) : ∀ (N : Nat) (y : Vc), qS y 6 < N → gP A R n sg rt y → ∃ m, gMin A R n sg rt m ∧ vBe m y := by
  intro N
  induction N with
  | zero => intro y h p; have := qS_nonneg (f := y) (n := 6) p.1; omega
  | succ N ih =>
    intro y h p
    by_cases w : gMin A R n sg rt y
    · exact ⟨y, w, vBe_iff.mpr fun c _ => Int.le_refl _⟩
    · have : ∃ z, gP A R n sg rt z ∧ vBe z y ∧ z ≠ y := by
        apply Classical.byContradiction
        intro no
        exact w ⟨p, fun z hz hb => Classical.byContradiction fun ne => no ⟨z, hz, hb, ne⟩⟩
      obtain ⟨z, hz, hb, ne⟩ := this
      have lt : qS z 6 < qS y 6 := by
        have := vBe_sum hb
        rcases Int.lt_or_eq_of_le this with l | l
        · exact l
        · exact absurd (vBe_eq hn hb hz.2.1 p.2.1 (by omega)) ne
      obtain ⟨m, hm, hmz⟩ := ih z (by omega) hz
      exact ⟨m, hm, vBe_trans hmz hb⟩
theorem vSize_nn {x : Vc} (h : ∀ c, c < 6 → 0 ≤ x c) : vSize x = qS x 6 := by
  unfold vSize
  exact qS_congr fun c hc => by have := h c hc; unfold qab; omega
/-- look, as a set -/
theorem gLk_sem {A : Nat → Nat → Int} {R n sz : Nat} {sg : Vc} {rt : Bool} (hn : n ≤ 6) (s0 : List Vc) : ∀ (F : List Ent) (s : Sh), (∀ e, e ∈ F → wOk1 n sz e) → (∀ v, v ∈ s.1 → v ∈ s0 ∨ (qS v 6 = sz ∧ (∀ c, n ≤ c → v c = 0) ∧ gZ A R n sg rt v ∧ ¬ gHas s0 v)) → (∀ v, v ∈ s0 → v ∈ s.1) → s.1.length ≤ 2000 → s.1.Nodup →
    ((gLk A R n sg rt (s, false) F).2 = false → ∀ v, v ∈ (gLk A R n sg rt (s, false) F).1.1 ↔ v ∈ s.1 ∨ ∃ e, e ∈ F ∧ e.1 = v ∧ gZ A R n sg rt v ∧ ¬ gHas s0 v) ∧
    ((gLk A R n sg rt (s, false) F).2 = true → ∃ l : List Vc, l.Nodup ∧ l.length = 2001 ∧ ∀ v, v ∈ l → v ∈ s.1 ∨ ∃ e, e ∈ F ∧ e.1 = v ∧ gZ A R n sg rt v ∧ ¬ gHas s0 v) := by
  intro F
  induction F with
  | nil =>
    intro s _ _ _ _ _
    refine ⟨fun _ v => ⟨fun h => .inl h, fun h => ?_⟩, fun h => by cases h⟩
    rcases h with h | ⟨e, he, _⟩
    · exact h
    · cases he
  | cons e t ih =>
    intro s hF hs h0 hl nd
    have he := hF e List.mem_cons_self
    have ht : ∀ e, e ∈ t → wOk1 n sz e := fun e he => hF e (List.mem_cons_of_mem _ he)
    have e1 : gLk A R n sg rt (s, false) (e :: t) = gLk A R n sg rt (gLk1 A R n sg rt s e.1) t := by show (if _ then _ else _) = _; rw [if_neg (by simp)]
    rw [e1]
    -- what is above a thing of the same size is that thing
    have same : gHas s.1 e.1 → gHas s0 e.1 ∨ e.1 ∈ s.1 := by
      rintro ⟨v, hv, hb⟩
      rcases hs v hv with w | ⟨w1, w2, _, _⟩
      · exact .inl ⟨v, w, hb⟩
      · have := vBe_eq hn hb w2 he.2.1 (by rw [w1, he.2.2.1]; exact Int.le_refl _)
        exact .inr (this ▸ hv)
    by_cases c1 : gZ A R n sg rt e.1 ∧ ¬ gHas s.1 e.1
    · have n0 : ¬ gHas s0 e.1 := fun ⟨v, hv, hb⟩ => c1.2 ⟨v, h0 v hv, hb⟩
      have nm : e.1 ∉ s.1 := fun hm => c1.2 ⟨e.1, hm, vBe_iff.mpr fun c _ => Int.le_refl _⟩
      by_cases c2 : s.1.length = 2000
      · have e2 : gLk1 A R n sg rt s e.1 = (s, true) := by unfold gLk1; rw [if_pos c1, if_pos c2]
        rw [e2, gLk_full]
        refine ⟨fun h => (by cases h), fun _ => ⟨e.1 :: s.1, List.nodup_cons.mpr ⟨nm, nd⟩, by rw [List.length_cons, c2], fun v hv => ?_⟩⟩
        rcases List.mem_cons.mp hv with w | w
        · exact .inr ⟨e, List.mem_cons_self, w.symm, by rw [w]; exact c1.1, by rw [w]; exact n0⟩
        · exact .inl w
      · have e2 : gLk1 A R n sg rt s e.1 = (shKeep s e.1, false) := by unfold gLk1; rw [if_pos c1, if_neg c2]
        rw [e2]
        have mem : ∀ v, v ∈ (shKeep s e.1).1 ↔ v = e.1 ∨ v ∈ s.1 := fun v => vIns_mem s.1
        have ndk : (shKeep s e.1).1.Nodup := by
          have p : (shKeep s e.1).1.Perm (e.1 :: s.1) := by
            have : ∀ xs : List Vc, (vIns e.1 xs).Perm (e.1 :: xs) := by
              intro xs
              induction xs with
              | nil => exact List.Perm.refl _
              | cons u t ih =>
                unfold vIns
                split
                · exact List.Perm.refl _
                · exact (List.Perm.cons u ih).trans (List.Perm.swap e.1 u t)
            exact this s.1
          exact p.nodup_iff.mpr (List.nodup_cons.mpr ⟨nm, nd⟩)
        have ih := ih (shKeep s e.1) ht (fun v hv => by
          rcases (mem v).mp hv with w | w
          · rw [w]; exact .inr ⟨he.2.2.1, he.2.1, c1.1, n0⟩
          · exact hs v w) (fun v hv => (mem v).mpr (.inr (h0 v hv))) (by show (vIns e.1 s.1).length ≤ 2000; rw [vIns_len]; omega) ndk
        have conv : ∀ v, (v ∈ (shKeep s e.1).1 ∨ ∃ e', e' ∈ t ∧ e'.1 = v ∧ gZ A R n sg rt v ∧ ¬ gHas s0 v) ↔ (v ∈ s.1 ∨ ∃ e', e' ∈ e :: t ∧ e'.1 = v ∧ gZ A R n sg rt v ∧ ¬ gHas s0 v) := by
          intro v
          rw [mem]
          constructor
          · rintro ((w | w) | ⟨e', h1, h2⟩)
            · exact .inr ⟨e, List.mem_cons_self, w.symm, by rw [w]; exact c1.1, by rw [w]; exact n0⟩
            · exact .inl w
            · exact .inr ⟨e', List.mem_cons_of_mem _ h1, h2⟩
          · rintro (w | ⟨e', h1, h2⟩)
            · exact .inl (.inr w)
            · rcases List.mem_cons.mp h1 with y | y
              · exact .inl (.inl (by rw [← h2.1, y]))
              · exact .inr ⟨e', y, h2⟩
        refine ⟨fun hf v => (ih.1 hf v).trans (conv v), fun hf => ?_⟩
        obtain ⟨l, l1, l2, l3⟩ := ih.2 hf
        exact ⟨l, l1, l2, fun v hv => (conv v).mp (l3 v hv)⟩
    · have e2 : gLk1 A R n sg rt s e.1 = (s, false) := by unfold gLk1; rw [if_neg c1]
      rw [e2]
      have ih := ih s ht hs h0 hl nd
      have conv : ∀ v, (v ∈ s.1 ∨ ∃ e', e' ∈ t ∧ e'.1 = v ∧ gZ A R n sg rt v ∧ ¬ gHas s0 v) ↔ (v ∈ s.1 ∨ ∃ e', e' ∈ e :: t ∧ e'.1 = v ∧ gZ A R n sg rt v ∧ ¬ gHas s0 v) := by
        intro v
        constructor
        · rintro (w | ⟨e', h1, h2⟩)
          · exact .inl w
          · exact .inr ⟨e', List.mem_cons_of_mem _ h1, h2⟩
        · rintro (w | ⟨e', h1, h2⟩)
          · exact .inl w
          · rcases List.mem_cons.mp h1 with y | y
            · subst y
              left
              have hz : gZ A R n sg rt e'.1 := by rw [h2.1]; exact h2.2.1
              have hh : gHas s.1 e'.1 := Classical.byContradiction fun w => c1 ⟨hz, w⟩
              rcases same hh with z | z
              · exact absurd (h2.1 ▸ z) h2.2.2
              · rw [← h2.1]; exact z
            · exact .inr ⟨e', y, h2⟩
      refine ⟨fun hf v => (ih.1 hf v).trans (conv v), fun hf => ?_⟩
      obtain ⟨l, l1, l2, l3⟩ := ih.2 hf
      exact ⟨l, l1, l2, fun v hv => (conv v).mp (l3 v hv)⟩
theorem gKids_mem {A : Nat → Nat → Int} {R n : Nat} {sg : Vc} {rt : Bool} {os fs : List Vc} {e e2 : Ent} : ∀ {F : List Ent}, e ∈ F → e2 ∈ gKid A R n sg rt os fs e.1 n 0 e.2 → e2 ∈ gKids A R n sg rt os fs F := by
  intro F
  induction F with
  | nil => intro h; cases h
  | cons p t ih =>
    intro h k
    show e2 ∈ gKid A R n sg rt os fs p.1 n 0 p.2 ++ gKids A R n sg rt os fs t
    rcases List.mem_cons.mp h with w | w
    · subst w; exact List.mem_append_left _ k
    · exact List.mem_append_right _ (ih w k)
/-- a way on to a least one -/
def wTo (e : Ent) (m : Vc) : Prop := vBe e.1 m ∧ ∀ c, c < 6 → e.2.testBit c = true → e.1 c = m c
theorem w_or2 : ∀ B, B < 64 → ∀ j, j < 6 → ∀ c, c < 6 → (B ||| 1 <<< j).testBit c = true → B.testBit c = true ∨ c = j := by decide +kernel
theorem gKid_to {A : Nat → Nat → Int} {R n : Nat} {sg : Vc} {rt : Bool} {os fs : List Vc} {x m : Vc} (hn : n ≤ 6) (hnz : ¬ gZ A R n sg rt x) (hf : ∀ y, vBe y m → ¬ gHas fs y) (ho : ∀ y, vBe y m → ¬ gHas os y) (hx : vBe x m) : ∀ (t j C : Nat), j + t = n → C < 64 → (∀ c, c < 6 → C.testBit c = true → x c = m c) → (∃ j', j ≤ j' ∧ j' < n ∧ x j' < m j' ∧ gTn A R sg (gMd A n sg rt x) j' < 0) → ∃ e, e ∈ gKid A R n sg rt os fs x t j C ∧ wTo e m := by
  intro t
  induction t with
  | zero => intro j C hj _ _ ⟨j', h1, h2, _⟩; omega
  | succ t ih =>
    intro j C hj hC hcl ⟨j', h1, h2, h3, h4⟩
    have wo := w_or C hC j (by omega)
    unfold gKid
    have up : x j < m j → vBe (gUp x j) m := fun hl => vBe_iff.mpr fun c hc => by
      have := vBe_iff.mp hx c hc
      unfold gUp; split
      · rename_i e; rw [e]; omega
      · exact this
    by_cases hl : x j < m j ∧ gTn A R sg (gMd A n sg rt x) j < 0
    · have nb : C.testBit j = false := by
        cases hb : C.testBit j with
        | false => rfl
        | true => have := hcl j (by omega) hb; omega
      rw [if_pos ⟨nb, hnz, hl.2, hf _ (up hl.1), ho _ (up hl.1)⟩]
      refine ⟨(gUp x j, C), List.mem_cons_self, up hl.1, fun c hc hb => ?_⟩
      have ne : c ≠ j := fun w => by rw [w, nb] at hb; cases hb
      show gUp x j c = m c
      unfold gUp; rw [if_neg ne]; exact hcl c hc hb
    · have jj : j ≠ j' := fun w => hl (by rw [w]; exact ⟨h3, h4⟩)
      by_cases cond : C.testBit j = false ∧ ¬ gZ A R n sg rt x ∧ gTn A R sg (gMd A n sg rt x) j < 0 ∧ ¬ gHas fs (gUp x j) ∧ ¬ gHas os (gUp x j)
      · rw [if_pos cond]
        have ej : x j = m j := by
          have := vBe_iff.mp hx j (by omega)
          have : ¬ x j < m j := fun w => hl ⟨w, cond.2.2.1⟩
          omega
        obtain ⟨e, e1, e2⟩ := ih (j + 1) (C ||| 1 <<< j) (by omega) wo.1 (fun c hc hb => by
          rcases w_or2 C hC j (by omega) c hc hb with w | w
          · exact hcl c hc w
          · rw [w]; exact ej) ⟨j', by omega, h2, h3, h4⟩
        exact ⟨e, List.mem_cons_of_mem _ e1, e2⟩
      · rw [if_neg cond]
        exact ih (j + 1) C (by omega) hC hcl ⟨j', by omega, h2, h3, h4⟩
/-- what is missing leads back -/
theorem gTn_ex {A : Nat → Nat → Int} {R n : Nat} {sg : Vc} {rt : Bool} {x m : Vc} (hn : n ≤ 6) (hx : vBe x m) (hnz : ¬ gZ A R n sg rt x) (hm : gZ A R n sg rt m) : ∃ j, j < n ∧ x j < m j ∧ gTn A R sg (gMd A n sg rt x) j < 0 := by
  apply Classical.byContradiction
  intro no
  have all : ∀ j, j < n → 0 ≤ (m j - x j) * gTn A R sg (gMd A n sg rt x) j := by
    intro j hj
    have b := vBe_iff.mp hx j (by omega)
    by_cases w : x j < m j
    · have : ¬ gTn A R sg (gMd A n sg rt x) j < 0 := fun z => no ⟨j, hj, w, z⟩
      exact Int.mul_nonneg (by omega) (by omega)
    · have : m j - x j = 0 := by omega
      rw [this]; simp
  have s1 : 0 ≤ qS (fun j => (m j - x j) * gTn A R sg (gMd A n sg rt x) j) n := qS_nonneg all
  have e1 : qS (fun j => (m j - x j) * gTn A R sg (gMd A n sg rt x) j) n = qS (fun r => gMd A n sg rt x r * (gMd A n sg rt m r - gMd A n sg rt x r)) R := by
    have a : qS (fun j => (m j - x j) * gTn A R sg (gMd A n sg rt x) j) n = qS (fun j => qS (fun r => gMd A n sg rt x r * A r j * sg j * (m j - x j)) R) n := qS_congr fun j _ => by
      unfold gTn
      rw [← qS_mul]; exact qS_congr fun r _ => by grind
    rw [a, qS_swap]
    refine qS_congr fun r _ => ?_
    have d : gMd A n sg rt m r - gMd A n sg rt x r = qS (fun j => A r j * sg j * (m j - x j)) n := by
      unfold gMd
      have : qS (fun j => A r j * sg j * (m j - x j)) n = qS (fun j => A r j * sg j * m j) n - qS (fun j => A r j * sg j * x j) n := by
        rw [← qS_sub]; exact qS_congr fun j _ => by grind
      omega
    rw [d, ← qS_mul]
    exact qS_congr fun j _ => by grind
  have e2 : qS (fun r => gMd A n sg rt x r * (gMd A n sg rt m r - gMd A n sg rt x r)) R = - qS (fun r => gMd A n sg rt x r * gMd A n sg rt x r) R := by
    have : qS (fun r => gMd A n sg rt x r * (gMd A n sg rt m r - gMd A n sg rt x r)) R = qS (fun r => (-1) * (gMd A n sg rt x r * gMd A n sg rt x r)) R := qS_congr fun r hr => by rw [hm r hr]; grind
    rw [this, qS_mul]; omega
  have sq : ∀ r, r < R → 0 ≤ gMd A n sg rt x r * gMd A n sg rt x r := fun r _ => by
    rcases Int.le_total 0 (gMd A n sg rt x r) with w | w
    · exact Int.mul_nonneg w w
    · exact Int.mul_nonneg_of_nonpos_of_nonpos w w
  have : ∃ r, r < R ∧ gMd A n sg rt x r ≠ 0 := by
    apply Classical.byContradiction
    intro w
    exact hnz fun r hr => Classical.byContradiction fun z => w ⟨r, hr, z⟩
  obtain ⟨r, hr, hne⟩ := this
  have t := qS_term sq hr
  have : 0 < gMd A n sg rt x r * gMd A n sg rt x r := by
    rcases Int.lt_or_gt_of_ne hne with w | w
    · exact Int.mul_pos_of_neg_of_neg w w
    · exact Int.mul_pos w w
  omega
/-- what is known before the size sz is looked at -/
def gInv (A : Nat → Nat → Int) (R n : Nat) (sg : Vc) (rt : Bool) (bd sz : Nat) (g : Gr) : Prop :=
  g.2.1 = false ∧ shOk g.1 ∧ wOk n sz g.2.2.1 ∧ (rt = false → 1 ≤ sz) ∧ (∀ v, v ∈ g.1.1 ↔ gMin A R n sg rt v ∧ qS v 6 < sz) ∧ ∀ m, gMin A R n sg rt m → (sz : Int) ≤ qS m 6 → qS m 6 ≤ bd → ∃ e, e ∈ g.2.2.1 ∧ wTo e m
def gEnd (A : Nat → Nat → Int) (R n : Nat) (sg : Vc) (rt : Bool) (bd : Nat) (g : Gr) : Prop :=
  shOk g.1 ∧ (g.2.1 = false → ∀ v, v ∈ g.1.1 ↔ gMin A R n sg rt v ∧ qS v 6 ≤ bd) ∧ (g.2.1 = true → ∃ l : List Vc, l.Nodup ∧ l.length = 2001 ∧ ∀ v, v ∈ l → gMin A R n sg rt v ∧ qS v 6 ≤ bd)
theorem vSort_nd {xs : List Vc} (h : vSort xs) : xs.Nodup := List.Pairwise.imp (fun {a b} hab (e : a = b) => vLt_irr a (by rw [← e] at hab; exact hab)) h
theorem gGw_end {A : Nat → Nat → Int} {R n bd : Nat} {sg : Vc} {rt : Bool} {os : List Vc} (hn : n ≤ 6) (hb : bd ≤ 16) (hos : ∀ v, v ∈ os → rt = true ∧ gP A R n sg false v) : ∀ (t sz : Nat) (g : Gr), sz + t = bd + 1 → gInv A R n sg rt bd sz g → gEnd A R n sg rt bd (gGw A R n sg rt os bd t sz g) := by
  intro t
  induction t with
  | zero =>
    intro sz g hs I
    obtain ⟨i1, i2, i3, i4, i5, i6⟩ := I
    show gEnd A R n sg rt bd g
    refine ⟨i2, fun _ v => ?_, fun h => by rw [i1] at h; cases h⟩
    rw [i5]
    constructor
    · rintro ⟨a, b⟩; exact ⟨a, by omega⟩
    · rintro ⟨a, b⟩; exact ⟨a, by omega⟩
  | succ t ih =>
    intro sz g hs I
    obtain ⟨i1, i2, i3, i4, i5, i6⟩ := I
    obtain ⟨s, fu, F, hc, nc⟩ := g
    simp only at i1 i2 i3 i5 i6
    subst i1
    unfold gGw
    by_cases w : F = [] ∨ false = true
    · rw [if_pos w]
      have hF : F = [] := by
        rcases w with w | w
        · exact w
        · cases w
      refine ⟨i2, fun _ v => ?_, fun h => by cases h⟩
      show v ∈ s.1 ↔ _
      rw [i5]
      constructor
      · rintro ⟨a, b⟩; exact ⟨a, by omega⟩
      · rintro ⟨a, b⟩
        refine ⟨a, Classical.byContradiction fun z => ?_⟩
        obtain ⟨e, he, _⟩ := i6 v a (by omega) b
        rw [hF] at he; cases he
    · rw [if_neg w]
      have sem := gLk_sem (A := A) (R := R) (sg := sg) (rt := rt) (sz := sz) hn s.1 F s i3.1 (fun v hv => .inl hv) (fun v hv => hv) (by have := i2.1; omega) (vSort_nd i2.2.2.2.1)
      have ok2 := gLk_ok (A := A) (R := R) (sg := sg) (rt := rt) (sz := sz) (by omega) hn F (s, false) i3.1 i2
      -- those that come are the least ones of the size
      have new : ∀ v, (∃ e, e ∈ F ∧ e.1 = v ∧ gZ A R n sg rt v ∧ ¬ gHas s.1 v) → gMin A R n sg rt v ∧ qS v 6 = sz := by
        rintro v ⟨e, he, rfl, hz, hno⟩
        have we := i3.1 e he
        have pe : gP A R n sg rt e.1 := ⟨we.1, we.2.1, hz, fun hrt => by
          apply Classical.byContradiction
          intro no
          have : qS e.1 6 = 0 := qS_zero fun c hc => Classical.byContradiction fun z => no ⟨c, hc, z⟩
          have := we.2.2.1
          have := i4 hrt
          omega⟩
        refine ⟨⟨pe, fun y hy hb => ?_⟩, we.2.2.1⟩
        apply Classical.byContradiction
        intro ne
        have lt : qS y 6 < qS e.1 6 := by
          have := vBe_sum hb
          rcases Int.lt_or_eq_of_le this with l | l
          · exact l
          · exact absurd (vBe_eq hn hb hy.2.1 we.2.1 (by omega)) ne
        obtain ⟨m, hm, hmy⟩ := gMin_ex hn (qS y 6).toNat.succ y (by have := qS_nonneg (f := y) (n := 6) hy.1; omega) hy
        have ms := vBe_sum hmy
        have := we.2.2.1
        exact hno ⟨m, (i5 m).mpr ⟨hm, by omega⟩, vBe_trans hmy hb⟩
      have gst : gSt A R n sg rt os bd sz (s, false, F, hc, nc) = ((gLk A R n sg rt (s, false) F).1, (gLk A R n sg rt (s, false) F).2, (if (gLk A R n sg rt (s, false) F).2 = true ∨ bd ≤ sz then [] else gKids A R n sg rt os (gLk A R n sg rt (s, false) F).1.1 F), nc, capK hc (if (gLk A R n sg rt (s, false) F).2 = true ∨ bd ≤ sz then [] else gKids A R n sg rt os (gLk A R n sg rt (s, false) F).1.1 F).length) := rfl
      by_cases fl : (gLk A R n sg rt (s, false) F).2 = true
      · -- too many
        have stop : gGw A R n sg rt os bd t (sz + 1) (gSt A R n sg rt os bd sz (s, false, F, hc, nc)) = gSt A R n sg rt os bd sz (s, false, F, hc, nc) := by
          cases t with
          | zero => rfl
          | succ t => unfold gGw; rw [if_pos (.inr (by rw [gst]; exact fl))]
        rw [stop, gst]
        refine ⟨ok2, fun h => ?_, fun _ => ?_⟩
        · have h : (gLk A R n sg rt (s, false) F).2 = false := h
          rw [fl] at h; cases h
        obtain ⟨l, l1, l2, l3⟩ := sem.2 fl
        refine ⟨l, l1, l2, fun v hv => ?_⟩
        rcases l3 v hv with z | z
        · have := (i5 v).mp z; exact ⟨this.1, by omega⟩
        · have := new v z; exact ⟨this.1, by omega⟩
      · have fl2 : (gLk A R n sg rt (s, false) F).2 = false := by simpa using fl
        have mem := sem.1 fl2
        have mem2 : ∀ v, v ∈ (gLk A R n sg rt (s, false) F).1.1 ↔ gMin A R n sg rt v ∧ qS v 6 < (sz + 1 : Nat) := by
          intro v
          rw [mem v, i5]
          constructor
          · rintro (⟨a, b⟩ | z)
            · exact ⟨a, by omega⟩
            · have := new v z; exact ⟨this.1, by omega⟩
          · rintro ⟨a, b⟩
            by_cases y : qS v 6 < sz
            · exact .inl ⟨a, y⟩
            · right
              obtain ⟨e, he, hw⟩ := i6 v a (by omega) (by omega)
              have we := i3.1 e he
              have ee : e.1 = v := vBe_eq hn hw.1 we.2.1 a.1.2.1 (by have := we.2.2.1; omega)
              refine ⟨e, he, ee, a.1.2.2.1, ?_⟩
              rintro ⟨u, hu, hb⟩
              have hu := (i5 u).mp hu
              have := a.2 u hu.1.1 hb
              rw [this] at hu
              omega
        refine ih (sz + 1) _ (by omega) ?_
        rw [gst]
        refine ⟨fl2, ok2, ?_, fun h => by omega, mem2, fun m hm h1 h2 => ?_⟩
        · show wOk n (sz + 1) (if (gLk A R n sg rt (s, false) F).2 = true ∨ bd ≤ sz then [] else gKids A R n sg rt os (gLk A R n sg rt (s, false) F).1.1 F)
          split
          · exact ⟨fun e he => (by cases he), List.Pairwise.nil⟩
          · exact (gKids_ok hn F i3).1
        · have hbs : ¬ ((gLk A R n sg rt (s, false) F).2 = true ∨ bd ≤ sz) := by
            rintro (z | z)
            · exact fl z
            · omega
          obtain ⟨e, he, hw⟩ := i6 m hm (by omega) h2
          have we := i3.1 e he
          have nz : ¬ gZ A R n sg rt e.1 := by
            intro hz
            have pe : gP A R n sg rt e.1 := ⟨we.1, we.2.1, hz, fun hrt => by
              apply Classical.byContradiction
              intro no
              have : qS e.1 6 = 0 := qS_zero fun c hc => Classical.byContradiction fun z => no ⟨c, hc, z⟩
              have := we.2.2.1
              have := i4 hrt
              omega⟩
            have := hm.2 e.1 pe hw.1
            have e2 := we.2.2.1
            rw [this] at e2
            omega
          obtain ⟨j, j1, j2, j3⟩ := gTn_ex hn hw.1 nz hm.1.2.2.1
          have nof : ∀ y, vBe y m → ¬ gHas (gLk A R n sg rt (s, false) F).1.1 y := by
            rintro y hy ⟨v, hv, hb⟩
            have hv := (mem2 v).mp hv
            have := hm.2 v hv.1.1 (vBe_trans hb hy)
            rw [this] at hv
            omega
          have noo : ∀ y, vBe y m → ¬ gHas os y := by
            rintro y hy ⟨v, hv, hb⟩
            obtain ⟨hrt, hp⟩ := hos v hv
            have hvm := vBe_trans hb hy
            have pd : gP A R n sg rt (fun c => m c - v c) := by
              refine ⟨fun c hc => by have := vBe_iff.mp hvm c hc; show 0 ≤ m c - v c; omega, fun c hc => by show m c - v c = 0; rw [hm.1.2.1 c hc, hp.2.1 c hc]; rfl, fun r hr => ?_, fun h => by rw [hrt] at h; cases h⟩
              have a := hm.1.2.2.1 r hr
              have b := hp.2.2.1 r hr
              unfold gMd at a b ⊢
              have d : qS (fun j => A r j * sg j * (m j - v j)) n = qS (fun j => A r j * sg j * m j) n - qS (fun j => A r j * sg j * v j) n := by
                rw [← qS_sub]; exact qS_congr fun j _ => by grind
              rw [d]
              simp only [if_neg (show ¬ (false = true) by simp)] at b
              omega
            have eq := hm.2 _ pd (vBe_iff.mpr fun c hc => by have := hp.1 c hc; show m c - v c ≤ m c; omega)
            obtain ⟨c, hc, hne⟩ := hp.2.2.2 rfl
            have : m c - v c = m c := congrFun eq c
            omega
          obtain ⟨e2, k1, k2⟩ := gKid_to hn nz nof noo hw.1 n 0 e.2 (by omega) we.2.2.2 hw.2 ⟨j, Nat.zero_le _, j1, j2, j3⟩
          refine ⟨e2, ?_, k2⟩
          show e2 ∈ (if (gLk A R n sg rt (s, false) F).2 = true ∨ bd ≤ sz then [] else gKids A R n sg rt os (gLk A R n sg rt (s, false) F).1.1 F)
          rw [if_neg hbs]
          exact gKids_mem he k1
