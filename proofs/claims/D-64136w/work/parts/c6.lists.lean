/-! WHAT THE LISTS HOLD: the orthants together -/
theorem sgLp_end {A : Nat → Nat → Int} {R n B bd : Nat} (hn : n ≤ 6) (hB : B < 64) (hb : bd ≤ 16) : ∀ (xs : List Vc) (s : Sh), shOk s → xs.Nodup → (∀ v, v ∈ xs → gMin A R n (sgB B) false v ∧ qS v 6 ≤ bd) → (∀ u, u ∈ s.1 → tMem 2 A R n u ∧ vSize u ≤ bd) → (∀ v, v ∈ xs → vBl B v → vSg B v ∉ s.1) → shOk (sgLp B s xs).1 ∧ ((sgLp B s xs).2 = true → ∀ u, u ∈ (sgLp B s xs).1.1 ↔ u ∈ s.1 ∨ ∃ v, v ∈ xs ∧ vBl B v ∧ u = vSg B v) ∧ ((sgLp B s xs).2 = false → tBig 2 A R n bd) := by
  intro xs
  induction xs with
  | nil =>
    intro s so _ _ _ _
    refine ⟨so, fun _ u => ⟨fun h => .inl h, fun h => ?_⟩, fun h => (by cases h)⟩
    rcases h with h | ⟨v, hv, _⟩
    · exact h
    · cases hv
  | cons v t ih =>
    intro s so nd hx hs hf
    obtain ⟨n1, n2⟩ := List.nodup_cons.mp nd
    have hv := hx v List.mem_cons_self
    have v100 : ∀ c, c < 6 → 0 ≤ v c ∧ v c ≤ 100 := by
      intro c hc
      have p := hv.1.1.1
      have e := hv.2
      simp only [qS] at e
      have p0 := p 0 (by omega); have p1 := p 1 (by omega); have p2 := p 2 (by omega); have p3 := p 3 (by omega); have p4 := p 4 (by omega); have p5 := p 5 (by omega)
      have : c = 0 ∨ c = 1 ∨ c = 2 ∨ c = 3 ∨ c = 4 ∨ c = 5 := by omega
      rcases this with rfl | rfl | rfl | rfl | rfl | rfl <;> omega
    unfold sgLp
    by_cases b : vBl B v
    · rw [if_pos b]
      have nin := hf v List.mem_cons_self b
      have tm := sg_to hn hv.1 b
      have sz : vSize (vSg B v) ≤ bd := by rw [vSg_size hv.1.1.1]; exact hv.2
      by_cases l : s.1.length = 2000
      · rw [if_pos l]
        refine ⟨so, fun h => (by cases h), fun _ => ⟨vSg B v :: s.1, List.nodup_cons.mpr ⟨nin, vSort_nd so.2.2.2.1⟩, by rw [List.length_cons, l], fun u hu => ?_⟩⟩
        rcases List.mem_cons.mp hu with w | w
        · rw [w]; exact ⟨tm, sz⟩
        · exact hs u w
      · rw [if_neg l]
        have sl := so.1
        have ok2 := shKeep_ok so (by omega) (vSg_ok (B := B) v100) nin
        obtain ⟨i1, i2, i3⟩ := ih (shKeep s (vSg B v)) ok2 n2 (fun u hu => hx u (List.mem_cons_of_mem _ hu)) (fun u hu => by
          rcases (vIns_mem s.1).mp hu with w | w
          · rw [w]; exact ⟨tm, sz⟩
          · exact hs u w) (fun u hu bu hm => by
          rcases (vIns_mem s.1).mp hm with w | w
          · have hu' := hx u (List.mem_cons_of_mem _ hu)
            obtain ⟨_, e⟩ := vSg_inj hB hB bu b hu'.1.1.1 hv.1.1.1 (fun c hc => hu'.1.1.2.1 c (by omega)) (fun c hc => hv.1.1.2.1 c (by omega)) w
            rw [e] at hu; exact n1 hu
          · exact hf u (List.mem_cons_of_mem _ hu) bu w)
        refine ⟨i1, fun h u => ?_, i3⟩
        rw [i2 h u, show (u ∈ (shKeep s (vSg B v)).1 ↔ u = vSg B v ∨ u ∈ s.1) from vIns_mem s.1]
        constructor
        · rintro ((w | w) | ⟨x, w1, w2, w3⟩)
          · exact .inr ⟨v, List.mem_cons_self, b, w⟩
          · exact .inl w
          · exact .inr ⟨x, List.mem_cons_of_mem _ w1, w2, w3⟩
        · rintro (w | ⟨x, w1, w2, w3⟩)
          · exact .inl (.inr w)
          · rcases List.mem_cons.mp w1 with y | y
            · rw [y] at w3; exact .inl (.inl w3)
            · exact .inr ⟨x, y, w2, w3⟩
    · rw [if_neg b]
      obtain ⟨i1, i2, i3⟩ := ih s so n2 (fun u hu => hx u (List.mem_cons_of_mem _ hu)) hs fun u hu => hf u (List.mem_cons_of_mem _ hu)
      refine ⟨i1, fun h u => ?_, i3⟩
      rw [i2 h u]
      constructor
      · rintro (w | ⟨x, w1, w2, w3⟩)
        · exact .inl w
        · exact .inr ⟨x, List.mem_cons_of_mem _ w1, w2, w3⟩
      · rintro (w | ⟨x, w1, w2, w3⟩)
        · exact .inl w
        · rcases List.mem_cons.mp w1 with y | y
          · rw [y] at w2; exact absurd w2 b
          · exact .inr ⟨x, y, w2, w3⟩
theorem nd_map {α β : Type} (f : α → β) : ∀ {l : List α}, l.Nodup → (∀ a b, a ∈ l → b ∈ l → f a = f b → a = b) → (l.map f).Nodup := by
  intro l
  induction l with
  | nil => intro _ _; exact List.nodup_nil
  | cons a t ih =>
    intro hn hi
    obtain ⟨h1, h2⟩ := List.nodup_cons.mp hn
    rw [List.map_cons]
    refine List.nodup_cons.mpr ⟨fun hm => ?_, ih h2 fun x y hx hy => hi x y (List.mem_cons_of_mem _ hx) (List.mem_cons_of_mem _ hy)⟩
    obtain ⟨b, hb, e⟩ := List.mem_map.mp hm
    have := hi b a (List.mem_cons_of_mem _ hb) List.mem_cons_self e
    rw [this] at hb; exact h1 hb
/-- more than 2000 in one orthant: more than 2000 members -/
theorem sg_big {A : Nat → Nat → Int} {R n B bd : Nat} (hn : n ≤ 6) (h : ∃ l : List Vc, l.Nodup ∧ l.length = 2001 ∧ ∀ v, v ∈ l → gMin A R n (sgB B) false v ∧ qS v 6 ≤ bd) : tBig 2 A R n bd := by
  obtain ⟨l, l1, l2, l3⟩ := h
  haveI : ∀ v, Decidable (tPos v) := fun v => Classical.propDecidable _
  let f : Vc → Vc := fun v => if tPos (vSg B v) then vSg B v else vNg (vSg B v)
  have fa : ∀ v, v ∈ l → ∀ c, c < 6 → v c = qab (f v c) := by
    intro v hv c hc
    rw [vSg_ab (B := B) (l3 v hv).1.1.1 c hc]
    show _ = qab ((if tPos (vSg B v) then vSg B v else vNg (vSg B v)) c)
    split
    · rfl
    · unfold vNg qab; omega
  refine ⟨l.map f, nd_map f l1 fun a b ha hb e => funext fun c => ?_, by rw [List.length_map]; exact l2, fun u hu => ?_⟩
  · by_cases w : c < 6
    · rw [fa a ha c w, fa b hb c w, e]
    · rw [(l3 a ha).1.1.2.1 c (by omega), (l3 b hb).1.1.2.1 c (by omega)]
  · obtain ⟨v, hv, e⟩ := List.mem_map.mp hu
    obtain ⟨m1, m2⟩ := l3 v hv
    obtain ⟨s1, s2⟩ := sg_min hn m1
    have sz : vSize (vSg B v) ≤ bd := by rw [vSg_size m1.1.1]; exact m2
    have e : (if tPos (vSg B v) then vSg B v else vNg (vSg B v)) = u := e
    by_cases p : tPos (vSg B v)
    · rw [if_pos p] at e
      rw [← e]
      exact ⟨⟨s1, fun w => by omega, fun _ => p, s2⟩, sz⟩
    · rw [if_neg p] at e
      rw [← e]
      refine ⟨⟨tSl_ng s1, fun w => by omega, fun _ => ?_, fun u hu hc => ?_⟩, by rw [vSize_ng]; exact sz⟩
      · rcases tPos_or (s1.2.1 (by decide)) with y | y
        · exact absurd y p
        · exact y
      · have := s2 _ (tSl_ng hu) (by have := vCf_ng hc; rw [vNg_ng] at this; exact this)
        rw [← this, vNg_ng]
theorem sgAll_end {A : Nat → Nat → Int} {R n bd : Nat} (hn : n ≤ 6) (hb : bd ≤ 16) : ∀ (t B : Nat) (S : LW), B + t = 2 ^ n → lwOk S → (∀ u, u ∈ (S.2.2.2.1 2).1 ↔ ∃ B' x, B' < B ∧ u = vSg B' x ∧ vBl B' x ∧ gMin A R n (sgB B') false x ∧ qS x 6 ≤ bd) → (∀ w, w ≠ 2 → (sgAll A R n bd t B S).1.2.2.2.1 w = S.2.2.2.1 w) ∧ ((sgAll A R n bd t B S).2 = true → tLst 2 A R n bd ((sgAll A R n bd t B S).1.2.2.2.1 2).1) ∧ ((sgAll A R n bd t B S).2 = false → tBig 2 A R n bd) := by
  have p64 : 2 ^ n ≤ 64 := by
    have : 2 ^ n ≤ 2 ^ 6 := Nat.pow_le_pow_right (by decide) hn
    omega
  intro t
  induction t with
  | zero =>
    intro B S hB ok mem
    refine ⟨fun _ _ => rfl, fun _ => ⟨(ok.2.1 2 (by omega)).2.2.2.1, fun u => ?_⟩, fun h => (by cases h)⟩
    rw [show (sgAll A R n bd 0 B S).1 = S from rfl, mem u]
    constructor
    · rintro ⟨B', x, h1, h2, h3, h4, h5⟩
      rw [h2]
      exact ⟨sg_to hn h4 h3, by rw [vSg_size h4.1.1]; exact h5⟩
    · rintro ⟨h1, h2⟩
      obtain ⟨B', x, g1, g2, g3, g4⟩ := sg_of hn h1
      refine ⟨B', x, by omega, g2, g3, g4, ?_⟩
      rw [g2, vSg_size g4.1.1] at h2; exact h2
  | succ t ih =>
    intro B S hB ok mem
    obtain ⟨fs, hc, nc, l, be⟩ := S
    obtain ⟨ok1, ok2, ok3⟩ := ok
    simp only at ok1 ok2 ok3 mem
    have kE := gKer_end (B := B) (R := R) (A := A) (hc := hc) (nc := nc) hn hb ok1
    unfold sgAll
    simp only
    generalize eT : gKer A R n B bd fs hc nc = T at kE
    by_cases w : T.2.1 = true
    · rw [if_pos w]
      exact ⟨fun _ _ => rfl, fun h => (by cases h), fun _ => sg_big hn (kE.2.2 w)⟩
    · rw [if_neg w]
      have fin := kE.2.1 (by simpa using w)
      have ok2' := ok2 2 (by omega)
      obtain ⟨g1, g2, g3⟩ := sgLp_end (A := A) (R := R) (bd := bd) hn (show B < 64 by omega) hb T.1.1 (l 2) ok2' (vSort_nd kE.1.2.2.2.1) (fun v hv => (fin v).mp hv) (fun u hu => by
        obtain ⟨B', x, h1, h2, h3, h4, h5⟩ := (mem u).mp hu
        rw [h2]
        exact ⟨sg_to hn h4 h3, by rw [vSg_size h4.1.1]; exact h5⟩) (fun v hv bv hm => by
        obtain ⟨B', x, h1, h2, h3, h4, h5⟩ := (mem _).mp hm
        have gv := ((fin v).mp hv).1
        obtain ⟨e, _⟩ := vSg_inj (by omega) (by omega) bv h3 gv.1.1 h4.1.1 (fun c hc => gv.1.2.1 c (by omega)) (fun c hc => h4.1.2.1 c (by omega)) h2
        omega)
      by_cases y : (sgLp B (l 2) T.1.1).2 = true
      · rw [if_pos y]
        obtain ⟨i1, i2, i3⟩ := ih (B + 1) (T.1, T.2.2.2.1, T.2.2.2.2, lwU l 2 (sgLp B (l 2) T.1.1).1, be) (by omega) ⟨kE.1, fun u hu => by
          show shOk (if u = 2 then _ else l u)
          by_cases z : u = 2
          · rw [if_pos z]; exact g1
          · rw [if_neg z]; exact ok2 u hu, ok3⟩ (fun u => by
          show u ∈ (sgLp B (l 2) T.1.1).1.1 ↔ _
          rw [g2 y u, mem u]
          constructor
          · rintro (⟨B', x, h1, h2⟩ | ⟨v, h1, h2, h3⟩)
            · exact ⟨B', x, by omega, h2⟩
            · have := (fin v).mp h1
              exact ⟨B, v, by omega, h3, h2, this⟩
          · rintro ⟨B', x, h1, h2, h3, h4⟩
            by_cases e : B' = B
            · subst e
              exact .inr ⟨x, (fin x).mpr h4, h3, h2⟩
            · exact .inl ⟨B', x, by omega, h2, h3, h4⟩)
        refine ⟨fun z hz => ?_, i2, i3⟩
        rw [i1 z hz]
        exact if_neg hz
      · rw [if_neg y]
        exact ⟨fun z hz => if_neg hz, fun h => (by cases h), fun _ => g3 (by simpa using y)⟩
theorem sgAll_all {A : Nat → Nat → Int} {R n bd : Nat} {S : LW} (hn : n ≤ 6) (hb : bd ≤ 16) (ok : lwOk S) (e0 : (S.2.2.2.1 2).1 = []) : (∀ w, w ≠ 2 → (sgAll A R n bd (2 ^ n) 0 S).1.2.2.2.1 w = S.2.2.2.1 w) ∧ ((sgAll A R n bd (2 ^ n) 0 S).2 = true → tLst 2 A R n bd ((sgAll A R n bd (2 ^ n) 0 S).1.2.2.2.1 2).1) ∧ ((sgAll A R n bd (2 ^ n) 0 S).2 = false → tBig 2 A R n bd) := by
  refine sgAll_end hn hb (2 ^ n) 0 S (by omega) ok fun u => ⟨fun h => ?_, fun ⟨B, x, h, _⟩ => by omega⟩
  rw [e0] at h; cases h
theorem wSum_all {A : Nat → Nat → Int} {R n bd : Nat} {S : LW} (hn : n ≤ 6) (hb : bd ≤ 16) (ok : lwOk S) (e0 : (S.2.2.2.1 0).1 = []) : (∀ w, w ≠ 0 → (wSum A R n bd S).1.2.2.2.1 w = S.2.2.2.1 w) ∧ ((wSum A R n bd S).2 = true → tLst 0 A R n bd ((wSum A R n bd S).1.2.2.2.1 0).1) ∧ ((wSum A R n bd S).2 = false → tBig 0 A R n bd) := by
  obtain ⟨fs, hc, nc, l, be⟩ := S
  obtain ⟨ok1, ok2, ok3⟩ := ok
  simp only at ok1 ok2 ok3 e0
  have kE := gKer_end (B := 0) (R := R) (A := A) (hc := hc) (nc := nc) hn hb ok1
  unfold wSum
  simp only
  generalize gKer A R n 0 bd fs hc nc = T at kE
  have okl := ok2 0 (by omega)
  have kl := kE.1.1
  by_cases w : T.2.1 = true
  · refine ⟨fun z _ => (by rw [if_pos w]), fun h => (by rw [w] at h; cases h), fun _ => ?_⟩
    obtain ⟨g, g1, g2, g3⟩ := kE.2.2 w
    refine ⟨g, g1, g2, fun v hv => ?_⟩
    obtain ⟨a, b⟩ := g3 v hv
    exact ⟨(tMem_min (by decide) v).mpr a, by rw [vSize_nn a.1.1]; exact b⟩
  · refine ⟨fun z hz => (by rw [if_neg w]; exact if_neg hz), fun _ => ?_, fun h => by simp at h; exact absurd h w⟩
    have fin := kE.2.1 (by simpa using w)
    rw [if_neg w]
    show tLst 0 A R n bd (shCp (l 0) T.1.1).1
    have cok := shCp_ok T.1.1 (l 0) okl (by rw [e0]; simp only [List.length_nil]; omega) (vSort_nd kE.1.2.2.2.1) fun v hv => ⟨kE.1.2.2.2.2 v hv, by rw [e0]; exact List.not_mem_nil⟩
    refine ⟨cok.2.2.2.1, fun v => ?_⟩
    rw [shCp_mem, e0, fin v, tMem_min (wh := 0) (by decide) v]
    constructor
    · rintro (h | h)
      · cases h
      · exact ⟨h.1, by rw [vSize_nn h.1.1.1]; exact h.2⟩
    · rintro ⟨h1, h2⟩
      exact .inr ⟨h1, by rw [vSize_nn h1.1.1] at h2; exact h2⟩
theorem wLea_all {A : Nat → Nat → Int} {R n bd : Nat} {S : LW} (hn : n ≤ 6) (hb : bd ≤ 16) (ok : lwOk S) (e0 : (S.2.2.2.1 1).1 = []) : (∀ w, w ≠ 1 → (wLea A R n bd S).1.2.2.2.1 w = S.2.2.2.1 w) ∧ ((wLea A R n bd S).2 = true → tLst 1 A R n bd ((wLea A R n bd S).1.2.2.2.1 1).1) ∧ ((wLea A R n bd S).2 = false → tBig 1 A R n bd) := by
  obtain ⟨fs, hc, nc, l, be⟩ := S
  obtain ⟨ok1, ok2, ok3⟩ := ok
  simp only at ok1 ok2 ok3 e0
  have kE := gKer_end (B := 0) (R := R) (A := A) (hc := hc) (nc := nc) hn hb ok1
  unfold wLea
  simp only
  generalize gKer A R n 0 bd fs hc nc = T at kE
  generalize eb : (if T.2.1 = true then shClear be else shCp (shClear be) T.1.1) = b2
  have b2P : ∀ v, v ∈ b2.1 → gP A R n (sgB 0) false v := by
    intro v hv
    rw [← eb] at hv
    by_cases w : T.2.1 = true
    · rw [if_pos w] at hv; cases hv
    · rw [if_neg w, shCp_mem] at hv
      rcases hv with y | y
      · cases y
      · exact ((kE.2.1 (by simpa using w) v).mp y).1.1
  have sE := gSlv_end (R := R) (A := A) (os := b2.1) (hc := T.2.2.2.1) (nc := T.2.2.2.2) hn hb kE.1 b2P
  generalize gSlv A R n bd b2.1 T.1 T.2.2.2.1 T.2.2.2.2 = U at sE
  have okl := ok2 1 (by omega)
  have kl := sE.1.1
  by_cases w : U.2.1 = true
  · refine ⟨fun z _ => (by rw [if_pos w]), fun h => (by rw [w] at h; cases h), fun _ => ?_⟩
    obtain ⟨g, g1, g2, g3⟩ := sE.2.2 w
    refine ⟨g, g1, g2, fun v hv => ?_⟩
    obtain ⟨a, b⟩ := g3 v hv
    exact ⟨(tMem_min (wh := 1) (by decide) v).mpr a, by rw [vSize_nn a.1.1]; exact b⟩
  · refine ⟨fun z hz => (by rw [if_neg w]; exact if_neg hz), fun _ => ?_, fun h => by simp at h; exact absurd h w⟩
    have fin := sE.2.1 (by simpa using w)
    rw [if_neg w]
    show tLst 1 A R n bd (shCp (l 1) U.1.1).1
    have cok := shCp_ok U.1.1 (l 1) okl (by rw [e0]; simp only [List.length_nil]; omega) (vSort_nd sE.1.2.2.2.1) fun v hv => ⟨sE.1.2.2.2.2 v hv, by rw [e0]; exact List.not_mem_nil⟩
    refine ⟨cok.2.2.2.1, fun v => ?_⟩
    rw [shCp_mem, e0, fin v, tMem_min (wh := 1) (by decide) v]
    constructor
    · rintro (h | h)
      · cases h
      · exact ⟨h.1, by rw [vSize_nn h.1.1.1]; exact h.2⟩
    · rintro ⟨h1, h2⟩
      exact .inr ⟨h1, by rw [vSize_nn h1.1.1] at h2; exact h2⟩
