/-! THE DESK's lists: summands, least -/
/-- all that was found is copied: the loops of least -/
theorem sp_X1_least_75 {ev ow : Nat → Nat} {h : Hp} {a0 g fsh hc nc t w0 TC TS : Nat} {rf fd sh : Nat → Nat} {s s0 : Sh} {Q : Int32 → Hp → Prop} (D : xDk ow h a0 rf fd sh) (eg : rf 5 = g) (T : gTop ow h g fsh hc nc) (S : xShS ev ow 50 h fsh s) (so : shOk s) (hw : w0 < 3) (et : t = 60 + w0) (so0 : shOk s0) (hl : s0.1.length + s.1.length ≤ 2000) (hv : ∀ v, v ∈ s.1 → (∀ c, c < 6 → 0 ≤ v c) ∧ v ∉ s0.1) (tc : shC (shCp s0 s.1) ≤ TC) (ts : shS (shCp s0 s.1) ≤ TS) (q1 : ∀ ow2 h2, hE (I15 t) ow h ow2 h2 → xShS ev ow2 t h2 (sh w0) (shCp s0 s.1) → Q 1 h2) : ∀ (m k : Nat) (ow1 : Nat → Nat) (h1 : Hp) (s1 : Sh) (mc ms : Nat), k + m = s.1.length → hE (I15 t) ow h ow1 h1 → xShS ev ow1 t h1 (sh w0) s1 → shOk s1 → s1.1.length = s0.1.length + k → (∀ v, v ∈ s1.1 → v ∈ s0.1 ∨ v ∈ s.1.take k) → shCp s1 (s.1.drop k) = shCp s0 s.1 → TC ≤ mc + shC s1 → TS ≤ ms + shS s1 → wp_X1_least_75 ev Q (m + 1) a0 (fd w0) 1 (Int32.ofNat k) h1 mc ms := by
  intro m
  have nI : ∀ j, j < 60 → j ≠ 15 → ¬ I15 t j := fun j h1 h2 h => by rcases h with h | h <;> omega
  induction m with
  | zero =>
    intro k ow1 h1 s1 mc ms hk f S1 so1 ln mem e1 hmc hms
    have D1 := xDk_E f (nI 1 (by omega) (by omega)) (nI 6 (by omega) (by omega)) D
    have T1 := gTop_f (gTop_E f (nI 5 (by omega) (by omega)) T)
    have SS := xSh_E f (nI 50 (by omega) (by omega)) S
    have len := so.1
    unfold wp_X1_least_75 wp_X1_least_111
    refine ⟨D1.1, g, by rw [D1.2.2.1 5 (by omega) (by omega) (by omega) (by omega) (by omega), eg], T1.1, fsh, T1.2.2, xSh_len SS, sp_X7_size SS ?_⟩
    rw [i_le (by omega) (by omega)]
    refine ⟨fun _ => ⟨isB_1, q1 ow1 h1 f ?_⟩, fun w => by omega⟩
    have : s1 = shCp s0 s.1 := by
      rw [← e1, show k = s.1.length by omega, List.drop_length]; rfl
    rw [← this]; exact S1
  | succ m ih =>
    intro k ow1 h1 s1 mc ms hk f S1 so1 ln mem e1 hmc hms
    have D1 := xDk_E f (nI 1 (by omega) (by omega)) (nI 6 (by omega) (by omega)) D
    have T0 := gTop_E f (nI 5 (by omega) (by omega)) T
    have T1 := gTop_f T0
    have SS := xSh_E f (nI 50 (by omega) (by omega)) S
    have len := so.1
    obtain ⟨v, ev'⟩ : ∃ v, s.1[k]? = some v := ⟨_, List.getElem?_eq_getElem (by omega)⟩
    obtain ⟨kl, ekv⟩ := List.getElem?_eq_some_iff.mp ev'
    have vm := List.mem_of_getElem? ev'
    have dr : shCp s1 (s.1.drop k) = shCp (shKeep s1 v) (s.1.drop (k + 1)) := by rw [List.drop_eq_getElem_cons kl, ekv]; rfl
    have v0 : vSg 0 v = v := vSg_0 (so.2.2.2.2 v vm).2
    have kc := shKeep_C s1 v
    have pc := shCp_C (s.1.drop (k + 1)) (shKeep s1 v)
    rw [← dr, e1] at pc
    have nin : v ∉ s1.1 := fun hm => by
      rcases mem v hm with y | y
      · exact (hv v vm).2 y
      · obtain ⟨j, hj⟩ := List.mem_iff_getElem?.mp y
        have jl : j < k := by have := (List.getElem?_eq_some_iff.mp hj).1; rw [List.length_take] at this; omega
        rw [List.getElem?_take, if_pos jl] at hj
        have nd := vSort_nd so.2.2.2.1
        have := (List.getElem?_inj (by omega) nd).mp (hj.trans ev'.symm)
        omega
    unfold wp_X1_least_75
    refine ⟨D1.1, g, by rw [D1.2.2.1 5 (by omega) (by omega) (by omega) (by omega) (by omega), eg], T1.1, fsh, T1.2.2, xSh_len SS, sp_X7_size SS ?_⟩
    rw [i_le (by omega) (by omega)]
    obtain ⟨e2, e3, e4, e5⟩ := D1.2.2.2.2.1 w0 hw
    refine ⟨fun w => by omega, fun _ => ⟨fun w => absurd w (by decide), fun _ => ⟨e3, sh w0, e5, shC (shKeep s1 v) - shC s1, shS (shKeep s1 v) - shS s1, mc - (shC (shKeep s1 v) - shC s1), ms - (shS (shKeep s1 v) - shS s1), by omega, by omega, D1.1, ?_⟩⟩⟩
    refine sp_X1_copy (B := 0) D1 eg T0 SS S1 (by omega) so1 (by omega) ev' (hv v vm).1 (by decide) (by rw [v0]; exact Nat.le_refl _) (by rw [v0]; exact Nat.le_refl _) fun ow2 h2 f2 S2 x16 e16 => ?_
    subst e16
    rw [i_one]
    rw [v0] at S2
    refine ih (k + 1) ow2 h2 (shKeep s1 v) _ _ (by omega) (hE_trans f f2) S2 (shKeep_ok so1 (by omega) (so.2.2.2.2 v vm) nin) (by rw [show (shKeep s1 v).1.length = s1.1.length + 1 from vIns_len v s1.1]; omega) (fun u hu => ?_) (by rw [← dr]; exact e1) (by omega) (by omega)
    rw [List.take_add_one, ev', List.mem_append]
    rcases (vIns_mem s1.1).mp hu with y | y
    · rw [y]; exact .inr (.inr (by simp))
    · rcases mem u y with z | z
      · exact .inl z
      · exact .inr (.inl z)
theorem sp_X1_least_25 {ev ow : Nat → Nat} {h : Hp} {a0 g fsh hc nc l1 TC TS : Nat} {v2 : Int32} {rf fd sh : Nat → Nat} {s s0 : Sh} {Q : Int32 → Hp → Prop} (D : xDk ow h a0 rf fd sh) (eg : rf 5 = g) (T : gTop ow h g fsh hc nc) (S : xShS ev ow 50 h fsh s) (so : shOk s) (so0 : shOk s0) (hl : s0.1.length + s.1.length ≤ 2000) (hv : ∀ v, v ∈ s.1 → (∀ c, c < 6 → 0 ≤ v c) ∧ v ∉ s0.1) (tc : shC (shCp s0 s.1) ≤ TC) (ts : shS (shCp s0 s.1) ≤ TS) (q1 : ∀ ow2 h2 mc2 ms2, hE (I15 63) ow h ow2 h2 → xShS ev ow2 63 h2 (rf 14) (shCp s0 s.1) → TC ≤ mc2 + shC (shCp s0 s.1) → TS ≤ ms2 + shS (shCp s0 s.1) → wp_X1_least_55 ev Q a0 l1 v2 h2 mc2 ms2) : ∀ (m k : Nat) (ow1 : Nat → Nat) (h1 : Hp) (s1 : Sh) (mc ms : Nat), k + m = s.1.length → hE (I15 63) ow h ow1 h1 → xShS ev ow1 63 h1 (rf 14) s1 → shOk s1 → s1.1.length = s0.1.length + k → (∀ v, v ∈ s1.1 → v ∈ s0.1 ∨ v ∈ s.1.take k) → shCp s1 (s.1.drop k) = shCp s0 s.1 → TC ≤ mc + shC s1 → TS ≤ ms + shS s1 → wp_X1_least_25 ev Q (m + 1) a0 l1 v2 (Int32.ofNat k) h1 mc ms := by
  intro m
  have nI : ∀ j, j < 60 → j ≠ 15 → ¬ I15 63 j := fun j h1 h2 h => by rcases h with h | h <;> omega
  induction m with
  | zero =>
    intro k ow1 h1 s1 mc ms hk f S1 so1 ln mem e1 hmc hms
    have D1 := xDk_E f (nI 1 (by omega) (by omega)) (nI 6 (by omega) (by omega)) D
    have T1 := gTop_f (gTop_E f (nI 5 (by omega) (by omega)) T)
    have SS := xSh_E f (nI 50 (by omega) (by omega)) S
    have len := so.1
    unfold wp_X1_least_25
    refine ⟨D1.1, g, by rw [D1.2.2.1 5 (by omega) (by omega) (by omega) (by omega) (by omega), eg], T1.1, fsh, T1.2.2, xSh_len SS, sp_X7_size SS ?_⟩
    rw [i_le (by omega) (by omega)]
    have : s1 = shCp s0 s.1 := by
      rw [← e1, show k = s.1.length by omega, List.drop_length]; rfl
    rw [← this] at q1
    exact ⟨fun _ => q1 ow1 h1 mc ms f S1 hmc hms, fun w => by omega⟩
  | succ m ih =>
    intro k ow1 h1 s1 mc ms hk f S1 so1 ln mem e1 hmc hms
    have D1 := xDk_E f (nI 1 (by omega) (by omega)) (nI 6 (by omega) (by omega)) D
    have T0 := gTop_E f (nI 5 (by omega) (by omega)) T
    have T1 := gTop_f T0
    have SS := xSh_E f (nI 50 (by omega) (by omega)) S
    have len := so.1
    obtain ⟨v, ev'⟩ : ∃ v, s.1[k]? = some v := ⟨_, List.getElem?_eq_getElem (by omega)⟩
    obtain ⟨kl, ekv⟩ := List.getElem?_eq_some_iff.mp ev'
    have vm := List.mem_of_getElem? ev'
    have dr : shCp s1 (s.1.drop k) = shCp (shKeep s1 v) (s.1.drop (k + 1)) := by rw [List.drop_eq_getElem_cons kl, ekv]; rfl
    have v0 : vSg 0 v = v := vSg_0 (so.2.2.2.2 v vm).2
    have kc := shKeep_C s1 v
    have pc := shCp_C (s.1.drop (k + 1)) (shKeep s1 v)
    rw [← dr, e1] at pc
    have nin : v ∉ s1.1 := fun hm => by
      rcases mem v hm with y | y
      · exact (hv v vm).2 y
      · obtain ⟨j, hj⟩ := List.mem_iff_getElem?.mp y
        have jl : j < k := by have := (List.getElem?_eq_some_iff.mp hj).1; rw [List.length_take] at this; omega
        rw [List.getElem?_take, if_pos jl] at hj
        have nd := vSort_nd so.2.2.2.1
        have := (List.getElem?_inj (by omega) nd).mp (hj.trans ev'.symm)
        omega
    unfold wp_X1_least_25
    refine ⟨D1.1, g, by rw [D1.2.2.1 5 (by omega) (by omega) (by omega) (by omega) (by omega), eg], T1.1, fsh, T1.2.2, xSh_len SS, sp_X7_size SS ?_⟩
    rw [i_le (by omega) (by omega)]
    refine ⟨fun w => by omega, fun _ => ⟨D1.1, rf 14, D1.2.2.1 14 (by omega) (by omega) (by omega) (by omega) (by omega), shC (shKeep s1 v) - shC s1, shS (shKeep s1 v) - shS s1, mc - (shC (shKeep s1 v) - shC s1), ms - (shS (shKeep s1 v) - shS s1), by omega, by omega, D1.1, ?_⟩⟩
    refine sp_X1_copy (B := 0) D1 eg T0 SS S1 (by omega) so1 (by omega) ev' (hv v vm).1 (by decide) (by rw [v0]; exact Nat.le_refl _) (by rw [v0]; exact Nat.le_refl _) fun ow2 h2 f2 S2 x16 e16 => ?_
    subst e16
    rw [i_one]
    rw [v0] at S2
    refine ih (k + 1) ow2 h2 (shKeep s1 v) _ _ (by omega) (hE_trans f f2) S2 (shKeep_ok so1 (by omega) (so.2.2.2.2 v vm) nin) (by rw [show (shKeep s1 v).1.length = s1.1.length + 1 from vIns_len v s1.1]; omega) (fun u hu => ?_) (by rw [← dr]; exact e1) (by omega) (by omega)
    rw [List.take_add_one, ev', List.mem_append]
    rcases (vIns_mem s1.1).mp hu with y | y
    · rw [y]; exact .inr (.inr (by simp))
    · rcases mem u y with z | z
      · exact .inl z
      · exact .inr (.inl z)

/-- what work at the lists turns: found ones, the grower's rooms, the lists, those below -/
abbrev LW : Type := Sh × Nat × Nat × (Nat → Sh) × Sh
def lwC (s : LW) : Nat := shC s.1 + s.2.1 / 224 + s.2.2.1 / 224 + (shC (s.2.2.2.1 0) + shC (s.2.2.2.1 1) + shC (s.2.2.2.1 2)) + shC s.2.2.2.2
def lwS (s : LW) : Nat := shS s.1 + 2 * s.2.1 + 2 * s.2.2.1 + (shS (s.2.2.2.1 0) + shS (s.2.2.2.1 1) + shS (s.2.2.2.1 2)) + shS s.2.2.2.2
def lwU (l : Nat → Sh) (w : Nat) (s : Sh) : Nat → Sh := fun j => if j = w then s else l j
def wSum (A : Nat → Nat → Int) (R n bd : Nat) (S : LW) : LW × Bool :=
  let T := gKer A R n 0 bd S.1 S.2.1 S.2.2.1
  ((T.1, T.2.2.2.1, T.2.2.2.2, (if T.2.1 = true then S.2.2.2.1 else lwU S.2.2.2.1 0 (shCp (S.2.2.2.1 0) T.1.1)), S.2.2.2.2), !T.2.1)
def wLea (A : Nat → Nat → Int) (R n bd : Nat) (S : LW) : LW × Bool :=
  let T := gKer A R n 0 bd S.1 S.2.1 S.2.2.1
  let be := if T.2.1 = true then shClear S.2.2.2.2 else shCp (shClear S.2.2.2.2) T.1.1
  let U := gSlv A R n bd be.1 T.1 T.2.2.2.1 T.2.2.2.2
  ((U.1, U.2.2.2.1, U.2.2.2.2, (if U.2.1 = true then S.2.2.2.1 else lwU S.2.2.2.1 1 (shCp (S.2.2.2.1 1) U.1.1)), be), !U.2.1)
/-- owners that work touches -/
def Iwk : Nat → Prop := fun i => i = 5 ∨ i = 50 ∨ i = 15 ∨ i = 60 ∨ i = 61 ∨ i = 62 ∨ i = 63
theorem Iwk_56 {i : Nat} (h : I56 i) : Iwk i := by unfold I56 at h; unfold Iwk; omega
theorem Iwk_15 {i w : Nat} (hw : w < 4) (h : I15 (60 + w) i) : Iwk i := by unfold I15 at h; unfold Iwk; omega
/-- the grower, its shelf, the lists and what is below, in the heap -/
def xLW (ev ow : Nat → Nat) (h : Hp) (rf sh : Nat → Nat) (S : LW) : Prop :=
  ∃ fsh, gTop ow h (rf 5) fsh S.2.1 S.2.2.1 ∧ xShS ev ow 50 h fsh S.1 ∧ (∀ w, w < 3 → xShS ev ow (60 + w) h (sh w) (S.2.2.2.1 w)) ∧ xShS ev ow 63 h (rf 14) S.2.2.2.2
def lwOk (S : LW) : Prop := shOk S.1 ∧ (∀ w, w < 3 → shOk (S.2.2.2.1 w)) ∧ shOk S.2.2.2.2
theorem gMin_ok {A : Nat → Nat → Int} {R n : Nat} {sg : Vc} {rt : Bool} {v : Vc} (h : gMin A R n sg rt v) : ∀ c, c < 6 → 0 ≤ v c := h.1.1
theorem sp_X1_summands {ev ow : Nat → Nat} {h : Hp} {a0 i m R n vr bd MC MS : Nat} {rf fd sh : Nat → Nat} {A : Nat → Nat → Int} {Lt : Nat → Int32} {S : LW} {Q : Int32 → Hp → Prop} (D : xDk ow h a0 rf fd sh) (em : rf 2 = m) (W : xLW ev ow h rf sh S) (ok : lwOk S) (e0 : (S.2.2.2.1 0).1 = []) (M : xMo ow i h m R n vr A Lt) (hi : ¬ Iwk i) (hb : bd ≤ 16) (mc : lwC (wSum A R n bd S).1 ≤ MC + lwC S) (ms : lwS (wSum A R n bd S).1 ≤ MS + lwS S) (q : ∀ ow2 h2, hE Iwk ow h ow2 h2 → xLW ev ow2 h2 rf sh (wSum A R n bd S).1 → lwOk (wSum A R n bd S).1 → Q (if (wSum A R n bd S).2 = true then 1 else 0) h2) : wp_X1_summands ev h a0 (fd 0) (Int32.ofNat bd) MC MS Q := by
  obtain ⟨f, hc, nc, l, be⟩ := S
  obtain ⟨fsh, W1, W2, W3, W4⟩ := W
  obtain ⟨ok1, ok2, ok3⟩ := ok
  simp only at W1 W2 W3 W4 ok1 ok2 ok3 e0
  have hi56 : ¬ I56 i := fun w => hi (Iwk_56 w)
  have n6 : n ≤ 6 := M.1.2.2.2.2.1
  have kC := gKer_C A R n 0 bd f hc nc
  have kE := gKer_end (B := 0) (R := R) (A := A) (hc := hc) (nc := nc) n6 hb ok1
  generalize eT : gKer A R n 0 bd f hc nc = T at kC kE
  have ws : wSum A R n bd (f, hc, nc, l, be) = ((T.1, T.2.2.2.1, T.2.2.2.2, (if T.2.1 = true then l else lwU l 0 (shCp (l 0) T.1.1)), be), !T.2.1) := by rw [← eT]; rfl
  rw [ws] at mc ms q
  simp only [lwC, lwS] at mc ms
  simp only [gC, gSl] at kC
  have okl := ok2 0 (by omega)
  have cpC := shCp_C T.1.1 (l 0)
  have lst : ∀ (x : Nat → Sh) (y : Sh), shC (lwU x 0 y 0) = shC y ∧ shC (lwU x 0 y 1) = shC (x 1) ∧ shC (lwU x 0 y 2) = shC (x 2) ∧ shS (lwU x 0 y 0) = shS y ∧ shS (lwU x 0 y 1) = shS (x 1) ∧ shS (lwU x 0 y 2) = shS (x 2) := fun x y => ⟨rfl, rfl, rfl, rfl, rfl, rfl⟩
  unfold wp_X1_summands
  have kgr := gTop_f W1
  refine ⟨D.1, rf 5, D.2.2.1 5 (by omega) (by omega) (by omega) (by omega) (by omega), D.1, m, by rw [D.2.2.1 2 (by omega) (by omega) (by omega) (by omega) (by omega), em], gC T - (shC f + hc / 224 + nc / 224), gSl T - (shS f + 2 * hc + 2 * nc), MC - (gC T - (shC f + hc / 224 + nc / 224)), MS - (gSl T - (shS f + 2 * hc + 2 * nc)), ?_, ?_, kgr.1, ?_⟩
  · by_cases w : T.2.1 = true
    · rw [if_pos w] at mc; simp only [gC]; omega
    · rw [if_neg w] at mc; have := lst l (shCp (l 0) T.1.1); simp only [gC]; omega
  · by_cases w : T.2.1 = true
    · rw [if_pos w] at ms; simp only [gSl]; omega
    · rw [if_neg w] at ms; have := lst l (shCp (l 0) T.1.1); simp only [gSl]; omega
  have b0 : (0 : Int32) = Int32.ofNat 0 := rfl
  rw [b0]
  refine sp_X6_kernel (B := 0) W1 W2 ok1 M hi56 (by decide) hb (by rw [eT]; simp only [gC]; omega) (by rw [eT]; simp only [gSl]; omega) fun ow2 h2 f2 T2 S2 so2 => ?_
  rw [eT] at T2 S2 so2 ⊢
  have D2 := xDk_E f2 (by unfold I56; omega) (by unfold I56; omega) D
  have Wl : ∀ w, w < 3 → xShS ev ow2 (60 + w) h2 (sh w) (l w) := fun w hw => xSh_E f2 (by unfold I56; omega) (W3 w hw)
  have Wb := xSh_E f2 n63 W4
  have F2 := hE_mono f2 fun _ w => Iwk_56 w
  have T2f := gTop_f T2
  refine ⟨T.1.1.length + 1, ?_⟩
  by_cases w : T.2.1 = true
  · rw [if_pos w]
    have q := q ow2 h2 F2 ⟨fsh, T2, S2, by rw [if_pos w]; exact Wl, Wb⟩ ⟨so2, by rw [if_pos w]; exact ok2, ok3⟩
    rw [w] at q
    unfold wp_X1_summands_17 wp_X1_summands_53
    refine ⟨D2.1, rf 5, D2.2.2.1 5 (by omega) (by omega) (by omega) (by omega) (by omega), T2f.1, fsh, T2f.2.2, xSh_len S2, sp_X7_size S2 ⟨fun _ => ⟨isB_0, q⟩, fun _ => ⟨fun _ => ⟨isB_0, q⟩, fun z => absurd rfl z⟩⟩⟩
  · rw [if_neg w]
    rw [if_neg w] at mc ms
    have w2 : T.2.1 = false := by simpa using w
    have fin := kE.2.1 w2
    have lq := lst l (shCp (l 0) T.1.1)
    have so := so2.1
    refine sp_X1_summands_17 (w0 := 0) (t := 60) (TC := shC (shCp (l 0) T.1.1)) (TS := shS (shCp (l 0) T.1.1)) D2 rfl T2 S2 so2 (by omega) rfl okl (by rw [e0]; simp only [List.length_nil]; omega) (fun v hv => ⟨gMin_ok ((fin v).mp hv).1, by rw [e0]; exact List.not_mem_nil⟩) (Nat.le_refl _) (Nat.le_refl _) (fun ow3 h3 f3 S3 => ?_) T.1.1.length 0 ow2 h2 (l 0) _ _ (by omega) (hE_refl _ _ _) (Wl 0 (by omega)) okl (by omega) (fun v hv => .inl hv) rfl (by simp only [gC]; omega) (by simp only [gSl]; omega)
    have n15 : ∀ j, j ≠ 15 → j ≠ 60 → ¬ I15 60 j := fun j h1 h2 h => by rcases h with h | h <;> omega
    have cok : shOk (shCp (l 0) T.1.1) := shCp_ok T.1.1 (l 0) okl (by rw [e0]; simp only [List.length_nil]; omega) (vSort_nd so2.2.2.2.1) fun v hv => ⟨so2.2.2.2.2 v hv, by rw [e0]; exact List.not_mem_nil⟩
    have q := q ow3 h3 (hE_trans F2 (hE_mono f3 fun _ z => Iwk_15 (w := 0) (by omega) z)) ⟨fsh, gTop_E f3 (n15 5 (by omega) (by omega)) T2, xSh_E f3 (n15 50 (by omega) (by omega)) S2, fun u hu => ?_, xSh_E f3 (n15 63 (by omega) (by omega)) Wb⟩ ⟨so2, fun u hu => ?_, ok3⟩
    · rw [w2] at q; exact q
    · rw [if_neg w]
      show xShS ev ow3 (60 + u) h3 (sh u) (if u = 0 then _ else l u)
      by_cases y : u = 0
      · subst y; exact S3
      · rw [if_neg y]; exact xSh_E f3 (n15 _ (by omega) (by omega)) (Wl u hu)
    · rw [if_neg w]
      show shOk (if u = 0 then _ else l u)
      by_cases y : u = 0
      · rw [if_pos y]; exact cok
      · rw [if_neg y]; exact ok2 u hu
