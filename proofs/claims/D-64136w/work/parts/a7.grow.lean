/-! THE GROWER, PLAIN -/
abbrev Vc : Type := Nat → Int
abbrev Ent : Type := Vc × Nat
/-- what row r makes of x (sg: signs of the columns), with B or without -/
def gMd (A : Nat → Nat → Int) (n : Nat) (sg : Vc) (rt : Bool) (x : Vc) (r : Nat) : Int := (if rt = true then A r 6 else 0) + qS (fun j => A r j * sg j * x j) n
abbrev gZ (A : Nat → Nat → Int) (R n : Nat) (sg : Vc) (rt : Bool) (x : Vc) : Prop := ∀ r, r < R → gMd A n sg rt x r = 0
def gTn (A : Nat → Nat → Int) (R : Nat) (sg : Vc) (md : Vc) (j : Nat) : Int := qS (fun r => md r * A r j * sg j) R
abbrev gHas (xs : List Vc) (x : Vc) : Prop := ∃ v, v ∈ xs ∧ vBe v x
def gUp (x : Vc) (j : Nat) : Vc := fun c => if c = j then x c + 1 else x c
/-- the system that is looked at -/
abbrev Sys : Type := (Nat → Nat → Int) × Nat × Nat × Vc × Bool × List Vc
def gKid (A : Nat → Nat → Int) (R n : Nat) (sg : Vc) (rt : Bool) (os fs : List Vc) (x : Vc) : Nat → Nat → Nat → List Ent
  | 0, _, _ => []
  | t + 1, j, C => if C.testBit j = false ∧ ¬ gZ A R n sg rt x ∧ gTn A R sg (gMd A n sg rt x) j < 0 ∧ ¬ gHas fs (gUp x j) ∧ ¬ gHas os (gUp x j) then (gUp x j, C) :: gKid A R n sg rt os fs x t (j + 1) (C ||| 1 <<< j) else gKid A R n sg rt os fs x t (j + 1) C
/-- a shelf, plain: its things, how many spares, the rooms of both lists -/
abbrev Sh : Type := List Vc × Nat × Nat × Nat
def shKeep (s : Sh) (v : Vc) : Sh := (vIns v s.1, s.2.1 - 1, capN s.1.length s.2.2.1, s.2.2.2)
def shClear (s : Sh) : Sh := ([], s.2.1 + s.1.length, s.2.2.1, capA s.2.2.2 s.2.1 s.1.length)
def shC (s : Sh) : Nat := 2 * (s.1.length + s.2.1) + s.2.2.1 + s.2.2.2
def shS (s : Sh) : Nat := 8 * (s.1.length + s.2.1) + 4 * s.2.2.1 + 4 * s.2.2.2
/-- a shelf that is fine -/
def shOk (s : Sh) : Prop := s.1.length + s.2.1 ≤ 2000 ∧ s.2.2.1 ≤ 3000 ∧ s.2.2.2 ≤ 3000 ∧ vSort s.1 ∧ ∀ v, v ∈ s.1 → vOk v
theorem shKeep_C (s : Sh) (v : Vc) : shC s ≤ shC (shKeep s v) ∧ shS s ≤ shS (shKeep s v) ∧ (if s.2.1 = 0 then 2 else 0) + (capN s.1.length s.2.2.1 - s.2.2.1) ≤ shC (shKeep s v) - shC s ∧ (if s.2.1 = 0 then 8 else 0) + 4 * (capN s.1.length s.2.2.1 - s.2.2.1) ≤ shS (shKeep s v) - shS s := by
  obtain ⟨xs, s, ct, cs⟩ := s
  have g := capN_ge xs.length ct
  simp only [shKeep, shC, shS, vIns_len]
  split <;> omega
theorem shClear_C (s : Sh) : shC s ≤ shC (shClear s) ∧ shS s ≤ shS (shClear s) ∧ capA s.2.2.2 s.2.1 s.1.length - s.2.2.2 ≤ shC (shClear s) - shC s ∧ 4 * (capA s.2.2.2 s.2.1 s.1.length - s.2.2.2) ≤ shS (shClear s) - shS s := by
  obtain ⟨xs, s, ct, cs⟩ := s
  have g := capA_ge xs.length cs s
  simp only [shClear, shC, shS, List.length_nil]
  omega
theorem shKeep_ok {s : Sh} {v : Vc} (h : shOk s) (hl : s.1.length < 2000) (hv : vOk v) (hn : v ∉ s.1) : shOk (shKeep s v) := by
  obtain ⟨xs, s, ct, cs⟩ := s
  obtain ⟨h1, h2, h3, h4, h5⟩ := h
  refine ⟨?_, capN_le hl h2, h3, vIns_sort hv xs h4 h5 hn, fun u hu => ?_⟩
  · simp only [shKeep, vIns_len]; simp only at h1 hl; omega
  · rcases (vIns_mem xs).mp hu with e | e
    · rw [e]; exact hv
    · exact h5 u e
theorem shClear_ok {s : Sh} (h : shOk s) : shOk (shClear s) := by
  obtain ⟨xs, s, ct, cs⟩ := s
  obtain ⟨h1, h2, h3, h4, h5⟩ := h
  exact ⟨by simp only [shClear, List.length_nil]; simp only at h1; omega, h2, capA_le _ _ _ h3 (by simp only at h1 ⊢; omega), List.Pairwise.nil, fun v hv => by cases hv⟩
/-- room of an array of ways behind so many -/
def capK (c : Nat) : Nat → Nat
  | 0 => c
  | k + 1 => if 7 * k + 7 > capK c k then 2 * capK c k else capK c k
theorem capK_s (c k : Nat) : capK c (k + 1) = if 7 * k + 7 > capK c k then 2 * capK c k else capK c k := rfl
theorem capK_ge (c k : Nat) : c ≤ capK c k := by
  induction k with
  | zero => exact Nat.le_refl _
  | succ k ih => rw [capK_s]; split <;> omega
theorem capK_mono (c k : Nat) : capK c k ≤ capK c (k + 1) := by
  rw [capK_s]; split <;> omega
theorem capK_mono2 (c k m : Nat) : capK c k ≤ capK c (k + m) := by
  induction m with
  | zero => exact Nat.le_refl _
  | succ m ih => exact Nat.le_trans ih (capK_mono _ _)
theorem capK_fit {c k : Nat} (h : 7 ≤ c) : 7 * k ≤ capK c k := by
  induction k with
  | zero => omega
  | succ k ih => 
    have := capK_ge c k
    rw [capK_s]; split <;> omega
theorem capK_le {c k m : Nat} (hc : c ≤ m) (hk : 14 * k ≤ m) : capK c k ≤ m := by
  induction k with
  | zero => exact hc
  | succ k ih => 
    have := ih (by omega)
    rw [capK_s]; split <;> omega
theorem capK_C {c k : Nat} (h : 224 ≤ c) (hg : 7 * k + 7 > capK c k) : capK c k / 224 + 1 ≤ capK c (k + 1) / 224 ∧ 2 * capK c k + 2 * capK c k ≤ 2 * capK c (k + 1) := by
  have := capK_ge c k
  have e : capK c (k + 1) = 2 * capK c k := by show (if _ then _ else _) = _; rw [if_pos hg]
  rw [e]; omega
/-- look: what is a solution comes to the shelf -/
def gLk1 (A : Nat → Nat → Int) (R n : Nat) (sg : Vc) (rt : Bool) (s : Sh) (x : Vc) : Sh × Bool :=
  if gZ A R n sg rt x ∧ ¬ gHas s.1 x then (if s.1.length = 2000 then (s, true) else (shKeep s x, false)) else (s, false)
def gLk (A : Nat → Nat → Int) (R n : Nat) (sg : Vc) (rt : Bool) : Sh × Bool → List Ent → Sh × Bool
  | s, [] => s
  | s, e :: t => if s.2 = true then s else gLk A R n sg rt (gLk1 A R n sg rt s.1 e.1) t
/-- the grower's state: shelf, full, ways, rooms -/
abbrev Gr : Type := Sh × Bool × List Ent × Nat × Nat
def gC (g : Gr) : Nat := shC g.1 + g.2.2.2.1 / 224 + g.2.2.2.2 / 224
def gSl (g : Gr) : Nat := shS g.1 + 2 * g.2.2.2.1 + 2 * g.2.2.2.2
def gKids (A : Nat → Nat → Int) (R n : Nat) (sg : Vc) (rt : Bool) (os fs : List Vc) : List Ent → List Ent
  | [] => []
  | e :: t => gKid A R n sg rt os fs e.1 n 0 e.2 ++ gKids A R n sg rt os fs t
/-- one size: those of the size are looked at, then the next size's ways -/
def gSt (A : Nat → Nat → Int) (R n : Nat) (sg : Vc) (rt : Bool) (os : List Vc) (bd sz : Nat) (g : Gr) : Gr :=
  let l := gLk A R n sg rt (g.1, false) g.2.2.1
  let N := if l.2 = true ∨ bd ≤ sz then [] else gKids A R n sg rt os l.1.1 g.2.2.1
  (l.1, l.2, N, g.2.2.2.2, capK g.2.2.2.1 N.length)
def gGw (A : Nat → Nat → Int) (R n : Nat) (sg : Vc) (rt : Bool) (os : List Vc) (bd : Nat) : Nat → Nat → Gr → Gr
  | 0, _, g => g
  | t + 1, sz, g => if g.2.2.1 = [] ∨ g.2.1 = true then g else gGw A R n sg rt os bd t (sz + 1) (gSt A R n sg rt os bd sz g)
theorem gLk1_C (A : Nat → Nat → Int) (R n : Nat) (sg : Vc) (rt : Bool) (s : Sh) (x : Vc) : shC s ≤ shC (gLk1 A R n sg rt s x).1 ∧ shS s ≤ shS (gLk1 A R n sg rt s x).1 := by
  unfold gLk1
  split
  · split
    · exact ⟨Nat.le_refl _, Nat.le_refl _⟩
    · exact ⟨(shKeep_C s x).1, (shKeep_C s x).2.1⟩
  · exact ⟨Nat.le_refl _, Nat.le_refl _⟩
theorem gLk_C (A : Nat → Nat → Int) (R n : Nat) (sg : Vc) (rt : Bool) : ∀ (F : List Ent) (s : Sh × Bool), shC s.1 ≤ shC (gLk A R n sg rt s F).1 ∧ shS s.1 ≤ shS (gLk A R n sg rt s F).1 := by
  intro F
  induction F with
  | nil => intro s; exact ⟨Nat.le_refl _, Nat.le_refl _⟩
  | cons e t ih =>
    intro s
    unfold gLk
    split
    · exact ⟨Nat.le_refl _, Nat.le_refl _⟩
    · have a := gLk1_C A R n sg rt s.1 e.1
      have b := ih (gLk1 A R n sg rt s.1 e.1)
      exact ⟨Nat.le_trans a.1 b.1, Nat.le_trans a.2 b.2⟩
theorem gSt_C (A : Nat → Nat → Int) (R n : Nat) (sg : Vc) (rt : Bool) (os : List Vc) (bd sz : Nat) (g : Gr) : gC g ≤ gC (gSt A R n sg rt os bd sz g) ∧ gSl g ≤ gSl (gSt A R n sg rt os bd sz g) := by
  have a := gLk_C A R n sg rt g.2.2.1 (g.1, false)
  have b := capK_ge g.2.2.2.1 (gSt A R n sg rt os bd sz g).2.2.1.length
  have e : (gSt A R n sg rt os bd sz g).2.2.2.2 = capK g.2.2.2.1 (gSt A R n sg rt os bd sz g).2.2.1.length := rfl
  have e2 : (gSt A R n sg rt os bd sz g).2.2.2.1 = g.2.2.2.2 := rfl
  have e3 : (gSt A R n sg rt os bd sz g).1 = (gLk A R n sg rt (g.1, false) g.2.2.1).1 := rfl
  unfold gC gSl
  rw [e, e2, e3]
  have := Nat.div_le_div_right (c := 224) b
  simp only at a
  omega
theorem gGw_C (A : Nat → Nat → Int) (R n : Nat) (sg : Vc) (rt : Bool) (os : List Vc) (bd : Nat) : ∀ (t sz : Nat) (g : Gr), gC g ≤ gC (gGw A R n sg rt os bd t sz g) ∧ gSl g ≤ gSl (gGw A R n sg rt os bd t sz g) := by
  intro t
  induction t with
  | zero => intro sz g; exact ⟨Nat.le_refl _, Nat.le_refl _⟩
  | succ t ih =>
    intro sz g
    unfold gGw
    split
    · exact ⟨Nat.le_refl _, Nat.le_refl _⟩
    · have a := gSt_C A R n sg rt os bd sz g
      have b := ih (sz + 1) (gSt A R n sg rt os bd sz g)
      exact ⟨Nat.le_trans a.1 b.1, Nat.le_trans a.2 b.2⟩
/-! WAYS: each vector once -/
/-- two ways never come to the same vector: some column that is closed in one stays less there than in the other -/
def wSep (e f : Ent) : Prop := (∃ c, c < 6 ∧ e.2.testBit c = true ∧ e.1 c < f.1 c) ∨ ∃ c, c < 6 ∧ f.2.testBit c = true ∧ f.1 c < e.1 c
def wOk1 (n sz : Nat) (e : Ent) : Prop := (∀ c, c < 6 → 0 ≤ e.1 c) ∧ (∀ c, n ≤ c → e.1 c = 0) ∧ qS e.1 6 = sz ∧ e.2 < 64
def wOk (n sz : Nat) (F : List Ent) : Prop := (∀ e, e ∈ F → wOk1 n sz e) ∧ F.Pairwise wSep
theorem wOk1_le {n sz : Nat} {e : Ent} (h : wOk1 n sz e) {c : Nat} (hc : c < 6) : e.1 c ≤ sz := by
  have := qS_term (f := e.1) (n := 6) h.1 hc
  rw [h.2.2.1] at this; exact this
theorem gUp_sum (x : Vc) {j : Nat} (hj : j < 6) : qS (gUp x j) 6 = qS x 6 + 1 := by
  have e : gUp x j = qU x j (x j + 1) := by
    funext c; unfold gUp qU
    by_cases w : c = j
    · rw [if_pos w, if_pos w, w]
    · rw [if_neg w, if_neg w]
  rw [e, qS_upd hj]; omega
theorem w_or : ∀ B, B < 64 → ∀ j, j < 6 → B ||| 1 <<< j < 64 ∧ (B ||| 1 <<< j).testBit j = true ∧ ∀ c, c < 6 → B.testBit c = true → (B ||| 1 <<< j).testBit c = true := by decide +kernel
/-- the ways out of one way -/
theorem gKid_ok {A : Nat → Nat → Int} {R n : Nat} {sg : Vc} {rt : Bool} {os fs : List Vc} {x : Vc} {sz : Nat} (hn : n ≤ 6) : ∀ (t j C : Nat), j + t = n → wOk1 n sz (x, C) → (∀ e, e ∈ gKid A R n sg rt os fs x t j C → wOk1 n (sz + 1) e ∧ (∃ i, j ≤ i ∧ i < n ∧ e.1 = gUp x i ∧ e.2.testBit i = false) ∧ ∀ c, c < 6 → C.testBit c = true → e.2.testBit c = true) ∧ (gKid A R n sg rt os fs x t j C).Pairwise wSep := by
  intro t
  induction t with
  | zero => intro j C _ _; exact ⟨fun e he => (by cases he), List.Pairwise.nil⟩
  | succ t ih =>
    intro j C hj hx
    unfold gKid
    have wo := w_or C hx.2.2.2 j (by omega)
    split
    · rename_i hcond
      have ih1 := ih (j + 1) (C ||| 1 <<< j) (by omega) ⟨hx.1, hx.2.1, hx.2.2.1, wo.1⟩
      have w1 : wOk1 n (sz + 1) (gUp x j, C) := by
        refine ⟨fun c hc => ?_, fun c hc => ?_, ?_, hx.2.2.2⟩
        · have := hx.1 c hc
          show 0 ≤ gUp x j c
          unfold gUp; simp only at this; split <;> omega
        · show gUp x j c = 0
          unfold gUp; rw [if_neg (by omega)]; exact hx.2.1 c hc
        · show qS (gUp x j) 6 = _
          rw [gUp_sum x (by omega)]
          have := hx.2.2.1
          simp only at this
          omega
      refine ⟨fun e he => ?_, List.pairwise_cons.mpr ⟨fun e he => ?_, ih1.2⟩⟩
      · rcases List.mem_cons.mp he with w | w
        · subst w
          exact ⟨w1, ⟨j, Nat.le_refl _, by omega, rfl, hcond.1⟩, fun c _ h => h⟩
        · obtain ⟨a, ⟨i, i1, i2, i3, i4⟩, b⟩ := ih1.1 e w
          exact ⟨a, ⟨i, by omega, i2, i3, i4⟩, fun c hc h => b c hc (wo.2.2 c hc h)⟩
      · obtain ⟨a, ⟨i, i1, i2, i3, i4⟩, b⟩ := ih1.1 e he
        refine .inr ⟨j, by omega, b j (by omega) wo.2.1, ?_⟩
        rw [i3]
        show gUp x i j < gUp x j j
        unfold gUp; rw [if_neg (by omega), if_pos rfl]; omega
    · have ih1 := ih (j + 1) C (by omega) hx
      refine ⟨fun e he => ?_, ih1.2⟩
      obtain ⟨a, ⟨i, i1, i2, i3, i4⟩, b⟩ := ih1.1 e he
      exact ⟨a, ⟨i, by omega, i2, i3, i4⟩, b⟩
theorem gKids_ok {A : Nat → Nat → Int} {R n : Nat} {sg : Vc} {rt : Bool} {os fs : List Vc} {sz : Nat} (hn : n ≤ 6) : ∀ F : List Ent, wOk n sz F → wOk n (sz + 1) (gKids A R n sg rt os fs F) ∧ ∀ e, e ∈ gKids A R n sg rt os fs F → ∃ p, p ∈ F ∧ (∃ i, i < n ∧ e.1 = gUp p.1 i ∧ e.2.testBit i = false) ∧ ∀ c, c < 6 → p.2.testBit c = true → e.2.testBit c = true := by
  intro F
  induction F with
  | nil => intro _; exact ⟨⟨fun e he => (by cases he), List.Pairwise.nil⟩, fun e he => (by cases he)⟩
  | cons p t ih =>
    intro h
    have hp := h.1 p List.mem_cons_self
    have hpw := List.pairwise_cons.mp h.2
    have k := gKid_ok (A := A) (R := R) (sg := sg) (rt := rt) (os := os) (fs := fs) (x := p.1) (sz := sz) hn n 0 p.2 (by omega) hp
    obtain ⟨⟨i1, i2⟩, i3⟩ := ih ⟨fun e he => h.1 e (List.mem_cons_of_mem _ he), hpw.2⟩
    unfold gKids
    have all : ∀ e, e ∈ gKid A R n sg rt os fs p.1 n 0 p.2 ++ gKids A R n sg rt os fs t → ∃ p', p' ∈ p :: t ∧ (∃ i, i < n ∧ e.1 = gUp p'.1 i ∧ e.2.testBit i = false) ∧ ∀ c, c < 6 → p'.2.testBit c = true → e.2.testBit c = true := by
      intro e he
      rcases List.mem_append.mp he with w | w
      · obtain ⟨a, ⟨i, _, j2, j3, j4⟩, b⟩ := k.1 e w
        exact ⟨p, List.mem_cons_self, ⟨i, j2, j3, j4⟩, b⟩
      · obtain ⟨p', q1, q2, q3⟩ := i3 e w
        exact ⟨p', List.mem_cons_of_mem _ q1, q2, q3⟩
    refine ⟨⟨fun e he => ?_, ?_⟩, all⟩
    · rcases List.mem_append.mp he with w | w
      · exact (k.1 e w).1
      · exact i1 e w
    · refine List.pairwise_append.mpr ⟨k.2, i2, fun e he f hf => ?_⟩
      obtain ⟨_, ⟨a, _, a2, a3, a4⟩, a5⟩ := k.1 e he
      obtain ⟨p', q1, ⟨b, b2, b3, b4⟩, b5⟩ := i3 f hf
      rcases hpw.1 p' q1 with ⟨c, c1, c2, c3⟩ | ⟨c, c1, c2, c3⟩
      · refine .inl ⟨c, c1, a5 c c1 c2, ?_⟩
        have ne : c ≠ a := fun w => by rw [w] at c2; have := a5 a (by omega) c2; rw [a4] at this; cases this
        rw [a3, b3]
        unfold gUp; rw [if_neg ne]; split <;> omega
      · refine .inr ⟨c, c1, b5 c c1 c2, ?_⟩
        have ne : c ≠ b := fun w => by rw [w] at c2; have := b5 b (by omega) c2; rw [b4] at this; cases this
        rw [a3, b3]
        unfold gUp; rw [if_neg ne]; split <;> omega
/-! COUNTING -/
def wCn : Nat → Nat → Nat
  | 0, s => if s = 0 then 1 else 0
  | d + 1, s => ((List.range (s + 1)).map fun i => wCn d (s - i)).sum
theorem w_zero (l : List Nat) : (l.map fun _ => 0).sum = 0 := by
  induction l with
  | nil => rfl
  | cons a t ih => simp only [List.map_cons, List.sum_cons, ih]
theorem w_part {α : Type} (f : α → Nat) : ∀ (F : List α) (m : Nat), (∀ e, e ∈ F → f e < m) → F.length = ((List.range m).map fun i => (F.filter fun e => f e = i).length).sum := by
  intro F
  induction F with
  | nil => intro m _; simp only [List.filter_nil, List.length_nil, w_zero]
  | cons e t ih =>
    intro m h
    have he := h e List.mem_cons_self
    have key : ∀ k, ((List.range k).map fun i => ((e :: t).filter fun e => f e = i).length).sum = ((List.range k).map fun i => (t.filter fun e => f e = i).length).sum + if f e < k then 1 else 0 := by
      intro k
      induction k with
      | zero => simp
      | succ k ihk =>
        rw [List.range_succ, List.map_append, List.sum_append, ihk, List.map_append, List.sum_append]
        have hf : ((e :: t).filter fun e => f e = k).length = (t.filter fun e => f e = k).length + if f e = k then 1 else 0 := by
          rw [List.filter_cons]; by_cases w : f e = k <;> simp [w]
        simp only [List.map_cons, List.map_nil, List.sum_cons, List.sum_nil]
        rw [hf]
        by_cases w : f e = k
        · rw [if_pos w, if_neg (by omega), if_pos (by omega)]; omega
        · rw [if_neg w]
          by_cases y : f e < k
          · rw [if_pos y, if_pos (by omega)]; omega
          · rw [if_neg y, if_neg (by omega)]; omega
    rw [key, if_pos he, List.length_cons, ← ih m fun e he => h e (List.mem_cons_of_mem _ he)]
theorem w_sum_le (f g : Nat → Nat) : ∀ l : List Nat, (∀ i, i ∈ l → f i ≤ g i) → (l.map f).sum ≤ (l.map g).sum := by
  intro l
  induction l with
  | nil => intro _; exact Nat.le_refl _
  | cons a t ih =>
    intro h
    simp only [List.map_cons, List.sum_cons]
    have := h a List.mem_cons_self
    have := ih fun i hi => h i (List.mem_cons_of_mem _ hi)
    omega
theorem w_count : ∀ (d s : Nat) (F : List Ent), (∀ e, e ∈ F → (∀ c, c < d → 0 ≤ e.1 c) ∧ qS e.1 d = s) → F.Pairwise (fun e f => ∃ c, c < d ∧ e.1 c ≠ f.1 c) → F.length ≤ wCn d s := by
  intro d
  induction d with
  | zero =>
    intro s F h pw
    cases F with
    | nil => exact Nat.zero_le _
    | cons e t =>
      have e0 := (h e List.mem_cons_self).2
      simp only [qS] at e0
      have : s = 0 := by omega
      subst this
      cases t with
      | nil => exact Nat.le_refl _
      | cons f t =>
        obtain ⟨c, hc, _⟩ := (List.pairwise_cons.mp pw).1 f List.mem_cons_self
        omega
  | succ d ih =>
    intro s F h pw
    have bnd : ∀ e, e ∈ F → (e.1 d).toNat < s + 1 ∧ 0 ≤ e.1 d ∧ 0 ≤ qS e.1 d := by
      intro e he
      obtain ⟨h1, h2⟩ := h e he
      have a := h1 d (by omega)
      have b := qS_nonneg (f := e.1) (n := d) fun j hj => h1 j (by omega)
      have : qS e.1 d + e.1 d = s := h2
      omega
    rw [w_part (fun e => (e.1 d).toNat) F (s + 1) fun e he => (bnd e he).1]
    refine w_sum_le _ _ _ fun i hi => ih (s - i) _ (fun e he => ?_) ?_
    · obtain ⟨he1, he2⟩ := List.mem_filter.mp he
      have he2 : (e.1 d).toNat = i := by simpa using he2
      obtain ⟨h1, h2⟩ := h e he1
      have b := bnd e he1
      have : qS e.1 d + e.1 d = s := h2
      exact ⟨fun c hc => h1 c (by omega), by omega⟩
    · refine List.Pairwise.imp_of_mem ?_ (List.Pairwise.filter _ pw)
      intro e f he hf ⟨c, hc, hne⟩
      obtain ⟨he1, he2⟩ := List.mem_filter.mp he
      obtain ⟨hf1, hf2⟩ := List.mem_filter.mp hf
      have he2 : (e.1 d).toNat = i := by simpa using he2
      have hf2 : (f.1 d).toNat = i := by simpa using hf2
      have b1 := bnd e he1
      have b2 := bnd f hf1
      by_cases w : c = d
      · subst w; omega
      · exact ⟨c, by omega, hne⟩
theorem w_stage {d : Nat} {g g2 : Nat → Nat} (h : ∀ s, s < 17 → wCn d s = g s) (k : ∀ s, s < 17 → ((List.range (s + 1)).map fun i => g (s - i)).sum = g2 s) : ∀ s, s < 17 → wCn (d + 1) s = g2 s := by
  intro s hs
  rw [← k s hs]
  show ((List.range (s + 1)).map fun i => wCn d (s - i)).sum = _
  congr 1
  refine List.map_congr_left fun i hi => ?_
  rw [h _ (by omega)]
theorem w_1 : ∀ s, s < 17 → wCn 1 s = 1 := by decide +kernel
theorem w_2 : ∀ s, s < 17 → wCn 2 s = ([1, 2, 3, 4, 5, 6, 7, 8, 9, 10, 11, 12, 13, 14, 15, 16, 17] : List Nat).getD s 0 := w_stage (g := fun _ => 1) w_1 (by decide +kernel)
theorem w_3 : ∀ s, s < 17 → wCn 3 s = ([1, 3, 6, 10, 15, 21, 28, 36, 45, 55, 66, 78, 91, 105, 120, 136, 153] : List Nat).getD s 0 := w_stage (g := fun s => ([1, 2, 3, 4, 5, 6, 7, 8, 9, 10, 11, 12, 13, 14, 15, 16, 17] : List Nat).getD s 0) w_2 (by decide +kernel)
theorem w_4 : ∀ s, s < 17 → wCn 4 s = ([1, 4, 10, 20, 35, 56, 84, 120, 165, 220, 286, 364, 455, 560, 680, 816, 969] : List Nat).getD s 0 := w_stage (g := fun s => ([1, 3, 6, 10, 15, 21, 28, 36, 45, 55, 66, 78, 91, 105, 120, 136, 153] : List Nat).getD s 0) w_3 (by decide +kernel)
theorem w_5 : ∀ s, s < 17 → wCn 5 s = ([1, 5, 15, 35, 70, 126, 210, 330, 495, 715, 1001, 1365, 1820, 2380, 3060, 3876, 4845] : List Nat).getD s 0 := w_stage (g := fun s => ([1, 4, 10, 20, 35, 56, 84, 120, 165, 220, 286, 364, 455, 560, 680, 816, 969] : List Nat).getD s 0) w_4 (by decide +kernel)
theorem w_6 : ∀ s, s < 17 → wCn 6 s = ([1, 6, 21, 56, 126, 252, 462, 792, 1287, 2002, 3003, 4368, 6188, 8568, 11628, 15504, 20349] : List Nat).getD s 0 := w_stage (g := fun s => ([1, 5, 15, 35, 70, 126, 210, 330, 495, 715, 1001, 1365, 1820, 2380, 3060, 3876, 4845] : List Nat).getD s 0) w_5 (by decide +kernel)
theorem wCn_16 : ∀ s, s < 17 → wCn 6 s ≤ 20349 := by
  intro s hs
  rw [w_6 s hs]
  revert s
  decide +kernel
theorem wOk_len {n sz : Nat} {F : List Ent} (h : wOk n sz F) (hs : sz ≤ 16) : F.length ≤ 20349 := by
  refine Nat.le_trans (w_count 6 sz F (fun e he => ⟨(h.1 e he).1, (h.1 e he).2.2.1⟩) ?_) (wCn_16 sz (by omega))
  refine List.Pairwise.imp (fun {e f} hs => ?_) h.2
  rcases hs with ⟨c, c1, _, c3⟩ | ⟨c, c1, _, c3⟩
  · exact ⟨c, c1, by omega⟩
  · exact ⟨c, c1, by omega⟩
