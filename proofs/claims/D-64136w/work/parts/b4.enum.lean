/-! THE GROWER's ends -/
theorem w_ini2 : ∀ j, j < 6 → ∀ c, c < 6 → (2 ^ j - 1).testBit c = true → c < j := by decide +kernel
theorem gKer_end {A : Nat → Nat → Int} {R n B bd : Nat} {s : Sh} {hc nc : Nat} (hn : n ≤ 6) (hb : bd ≤ 16) (so : shOk s) : gEnd A R n (sgB B) false bd (gKer A R n B bd s hc nc) := by
  refine gGw_end hn hb (fun v hv => by cases hv) bd 1 _ (by omega) ⟨rfl, shClear_ok so, ?_, fun _ => Nat.le_refl _, fun v => ⟨fun h => (by cases h), fun h => ?_⟩, fun m hm h1 h2 => ?_⟩
  · show wOk n 1 (if bd = 0 then [] else gIni n)
    split
    · exact ⟨fun e he => (by cases he), List.Pairwise.nil⟩
    · exact gIni_ok hn n (Nat.le_refl _)
  · exfalso
    obtain ⟨c, hc', hne⟩ := h.1.1.2.2.2 rfl
    have := qS_term (f := v) (n := 6) h.1.1.1 hc'
    have := h.1.1.1 c hc'
    have := h.2
    omega
  · have b0 : ¬ bd = 0 := by omega
    show ∃ e, e ∈ (if bd = 0 then [] else gIni n) ∧ wTo e m
    rw [if_neg b0]
    have fst : ∀ k, k ≤ n → (∀ c, c < k → m c = 0) ∨ ∃ j, j < k ∧ m j ≠ 0 ∧ ∀ c, c < j → m c = 0 := by
      intro k
      induction k with
      | zero => intro _; exact .inl fun c hc => by omega
      | succ k ih =>
        intro hk
        rcases ih (by omega) with w | ⟨j, j1, j2, j3⟩
        · by_cases z : m k = 0
          · exact .inl fun c hc => by
              by_cases y : c = k
              · rw [y]; exact z
              · exact w c (by omega)
          · exact .inr ⟨k, by omega, z, w⟩
        · exact .inr ⟨j, by omega, j2, j3⟩
    rcases fst n (Nat.le_refl _) with w | ⟨j, j1, j2, j3⟩
    · exfalso
      obtain ⟨c, hc', hne⟩ := hm.1.2.2.2 rfl
      by_cases y : c < n
      · exact hne (w c y)
      · exact hne (hm.1.2.1 c (by omega))
    · refine ⟨(vE j, 2 ^ j - 1), ?_, vBe_iff.mpr fun c hc' => ?_, fun c hc' hb' => ?_⟩
      · unfold gIni; exact List.mem_map.mpr ⟨j, List.mem_range.mpr j1, rfl⟩
      · have := hm.1.1 c hc'
        show vE j c ≤ m c
        unfold vE; split
        · rename_i e; rw [e] at this ⊢; omega
        · exact this
      · have := w_ini2 j (by omega) c hc' hb'
        show vE j c = m c
        unfold vE; rw [if_neg (by omega), j3 c this]
theorem gSlv_end {A : Nat → Nat → Int} {R n bd : Nat} {os : List Vc} {s : Sh} {hc nc : Nat} (hn : n ≤ 6) (hb : bd ≤ 16) (so : shOk s) (ho : ∀ v, v ∈ os → gP A R n (sgB 0) false v) : gEnd A R n (sgB 0) true bd (gSlv A R n bd os s hc nc) := by
  refine gGw_end hn hb (fun v hv => ⟨rfl, ho v hv⟩) (bd + 1) 0 _ (by omega) ⟨rfl, shClear_ok so, ?_, fun h => (by cases h), fun v => ⟨fun h => (by cases h), fun h => ?_⟩, fun m hm h1 h2 => ?_⟩
  · refine ⟨fun e he => ?_, List.pairwise_singleton _ _⟩
    have he := List.mem_singleton.mp he
    subst he
    exact ⟨fun _ _ => Int.le_refl _, fun _ _ => rfl, qS_zero fun _ _ => rfl, by show 0 < 64; decide⟩
  · exfalso
    have := qS_nonneg (f := v) (n := 6) h.1.1.1
    have := h.2
    omega
  · exact ⟨(fun _ => 0, 0), List.mem_singleton.mpr rfl, vBe_iff.mpr fun c hc' => hm.1.1 c hc', fun c _ hb' => by rw [Nat.zero_testBit] at hb'; cases hb'⟩
/-! ALL VECTORS OF A SIZE, one behind the other -/
abbrev vLx (u v : Vc) : Prop := ∃ d, d < 6 ∧ (∀ i, i < d → u i = v i) ∧ u d < v d
theorem lexB_iff (u v : Vc) : ∀ (t c : Nat), c + t = 6 → (lexB u v t c = true ↔ ∃ d, c ≤ d ∧ d < 6 ∧ (∀ i, c ≤ i → i < d → u i = v i) ∧ u d < v d) := by
  intro t
  induction t with
  | zero =>
    intro c hc
    refine ⟨fun h => (by cases h), fun ⟨d, h1, h2, _⟩ => by omega⟩
  | succ t ih =>
    intro c hc
    unfold lexB
    by_cases e : u c = v c
    · rw [if_pos e, ih (c + 1) (by omega)]
      constructor
      · rintro ⟨d, d1, d2, d3, d4⟩
        exact ⟨d, by omega, d2, fun i i1 i2 => by
          by_cases w : i = c
          · rw [w]; exact e
          · exact d3 i (by omega) i2, d4⟩
      · rintro ⟨d, d1, d2, d3, d4⟩
        have : d ≠ c := fun w => by rw [w, e] at d4; omega
        exact ⟨d, by omega, d2, fun i i1 i2 => d3 i (by omega) i2, d4⟩
    · rw [if_neg e]
      constructor
      · intro h
        have h : u c < v c := by simpa using h
        exact ⟨c, Nat.le_refl _, by omega, fun i i1 i2 => by omega, h⟩
      · rintro ⟨d, d1, d2, d3, d4⟩
        have : d = c := Classical.byContradiction fun w => e (d3 c (Nat.le_refl _) (by omega))
        rw [this] at d4
        simpa using d4
theorem vLx_iff (u v : Vc) : lexB u v 6 0 = true ↔ vLx u v := by
  rw [lexB_iff u v 6 0 rfl]
  constructor
  · rintro ⟨d, _, d2, d3, d4⟩; exact ⟨d, d2, fun i hi => d3 i (Nat.zero_le _) hi, d4⟩
  · rintro ⟨d, d2, d3, d4⟩; exact ⟨d, Nat.zero_le _, d2, fun i _ hi => d3 i hi, d4⟩
def vSf (v : Vc) (c : Nat) : Int := qS (fun i => qab (v i)) 6 - qS (fun i => qab (v i)) c
theorem vSf_s (v : Vc) (c : Nat) : vSf v c = qab (v c) + vSf v (c + 1) := by
  unfold vSf
  show _ = _ + (_ - (qS (fun i => qab (v i)) c + qab (v c)))
  omega
theorem vSf_n {v : Vc} {n : Nat} (hn : n ≤ 6) (h : ∀ c, n ≤ c → v c = 0) : ∀ c, n ≤ c → c ≤ 6 → vSf v c = 0 := by
  intro c h1 h2
  obtain ⟨d, hd⟩ : ∃ d, c + d = 6 := ⟨6 - c, by omega⟩
  induction d generalizing c with
  | zero => have : c = 6 := by omega
            subst this; unfold vSf; omega
  | succ d ih => rw [vSf_s, ih (c + 1) (by omega) (by omega) (by omega), h c h1]; rfl
theorem vSf_nn (v : Vc) {c : Nat} (hc : c ≤ 6) : 0 ≤ vSf v c := by
  obtain ⟨d, hd⟩ : ∃ d, c + d = 6 := ⟨6 - c, by omega⟩
  induction d generalizing c with
  | zero => have : c = 6 := by omega
            subst this; unfold vSf; omega
  | succ d ih => 
    have := ih (c := c + 1) (by omega) (by omega)
    rw [vSf_s]; unfold qab; omega
theorem vSf_pre {u v : Vc} {c : Nat} (hs : vSize u = vSize v) (h : ∀ i, i < c → u i = v i) : vSf u c = vSf v c := by
  have : qS (fun i => qab (u i)) c = qS (fun i => qab (v i)) c := qS_congr fun i hi => by rw [h i hi]
  unfold vSf
  unfold vSize at hs
  omega
/-- the first way to put a size into the columns from one on -/
def tG (n : Nat) (sd : Bool) (f : Nat) (r : Int) : Vc := fun c => if sd = true then (if c = f then -r else 0) else (if c + 1 = n then r else 0)
theorem tG_sf {n f : Nat} {sd : Bool} {r : Int} (hn : n ≤ 6) (hr : 0 ≤ r) (hf : f < n) {v : Vc} (hv : ∀ c, f ≤ c → v c = if c < n then tG n sd f r c else 0) : vSf v f = r := by
  have hv0 : ∀ c, n ≤ c → v c = 0 := fun c hc => by rw [hv c (by omega), if_neg (by omega)]
  cases sd with
  | true =>
    rw [vSf_s, hv f (Nat.le_refl _), if_pos hf]
    have z : ∀ c, f + 1 ≤ c → v c = 0 := fun c hc => by
      rw [hv c (by omega)]
      by_cases w : c < n
      · rw [if_pos w]; unfold tG; rw [if_pos rfl, if_neg (by omega)]
      · rw [if_neg w]
    rw [vSf_n (n := f + 1) (by omega) z (f + 1) (Nat.le_refl _) (by omega)]
    unfold tG qab; rw [if_pos rfl, if_pos rfl]; omega
  | false =>
    have key : ∀ d c, c + d = n → f ≤ c → c < n → vSf v c = r := by
      intro d
      induction d with
      | zero => intro c h1 _ h3; omega
      | succ d ih =>
        intro c h1 h2 h3
        rw [vSf_s, hv c h2, if_pos h3]
        by_cases w : c + 1 = n
        · rw [vSf_n hn hv0 (c + 1) (by omega) (by omega)]
          unfold tG qab; rw [if_neg (by simp), if_pos w]; omega
        · rw [ih (c + 1) (by omega) (by omega) (by omega)]
          unfold tG qab; rw [if_neg (by simp), if_neg w]; omega
    exact key (n - f) f (by omega) (Nat.le_refl _) hf
/-- .. is the first indeed -/
theorem tG_min {n f : Nat} {sd : Bool} {r : Int} (hn : n ≤ 6) (hf : f < n) {w : Vc} (h0 : ∀ c, n ≤ c → w c = 0) (hp : sd = false → ∀ c, c < 6 → 0 ≤ w c) (hs : vSf w f = r) : (∀ c, f ≤ c → c < n → w c = tG n sd f r c) ∨ ∃ d, f ≤ d ∧ d < n ∧ (∀ c, f ≤ c → c < d → w c = tG n sd f r c) ∧ tG n sd f r d < w d := by
  cases sd with
  | true =>
    have nn := vSf_nn w (c := f + 1) (by omega)
    rw [vSf_s] at hs
    by_cases e : w f = -r
    · left
      intro c h1 h2
      by_cases y : c = f
      · rw [y, e]; unfold tG; rw [if_pos rfl, if_pos rfl]
      · have z : vSf w (f + 1) = 0 := by unfold qab at hs; omega
        have zc : ∀ d k, f + 1 + d = k → k ≤ 6 → vSf w k = 0 ∧ ∀ i, f + 1 ≤ i → i < k → w i = 0 := by
          intro d
          induction d with
          | zero => intro k hk _; subst hk; exact ⟨z, fun i i1 i2 => by omega⟩
          | succ d ih =>
            intro k hk k6
            obtain ⟨a, b⟩ := ih (f + 1 + d) rfl (by omega)
            rw [vSf_s] at a
            have nn2 := vSf_nn w (c := f + 1 + d + 1) (by omega)
            have ek : k = f + 1 + d + 1 := by omega
            subst ek
            refine ⟨by unfold qab at a; omega, fun i i1 i2 => ?_⟩
            by_cases q : i = f + 1 + d
            · rw [q]; unfold qab at a; omega
            · exact b i i1 (by omega)
        unfold tG; rw [if_pos rfl, if_neg y]
        exact (zc (5 - f) 6 (by omega) (Nat.le_refl _)).2 c (by omega) (by omega)
    · right
      refine ⟨f, Nat.le_refl _, hf, fun c h1 h2 => by omega, ?_⟩
      unfold tG; rw [if_pos rfl, if_pos rfl]
      unfold qab at hs; omega
  | false =>
    have hp := hp rfl
    have key : ∀ d c, c + d = n → f ≤ c → vSf w c = r → c < n → (∀ i, c ≤ i → i < n → w i = tG n false f r i) ∨ ∃ e, c ≤ e ∧ e < n ∧ (∀ i, c ≤ i → i < e → w i = tG n false f r i) ∧ tG n false f r e < w e := by
      intro d
      induction d with
      | zero => intro c h1 _ _ h4; omega
      | succ d ih =>
        intro c h1 h2 h3 h4
        have hs := vSf_s w c
        have pc := hp c (by omega)
        by_cases y : c + 1 = n
        · left
          intro i i1 i2
          have : i = c := by omega
          subst this
          rw [vSf_n hn h0 (i + 1) (by omega) (by omega)] at hs
          unfold tG; rw [if_neg (by simp), if_pos y]
          unfold qab at hs; omega
        · by_cases z : w c = 0
          · rw [z] at hs
            have hs0 : vSf w (c + 1) = r := by unfold qab at hs; omega
            have ez : w c = tG n false f r c := by unfold tG; rw [if_neg (by simp), if_neg y]; exact z
            rcases ih (c + 1) (by omega) (by omega) hs0 (by omega) with a | ⟨e, e1, e2, e3, e4⟩
            · exact .inl fun i i1 i2 => by
                by_cases q : i = c
                · rw [q]; exact ez
                · exact a i (by omega) i2
            · exact .inr ⟨e, by omega, e2, fun i i1 i2 => by
                by_cases q : i = c
                · rw [q]; exact ez
                · exact e3 i (by omega) i2, e4⟩
          · refine .inr ⟨c, Nat.le_refl _, h4, fun i i1 i2 => by omega, ?_⟩
            unfold tG; rw [if_neg (by simp), if_neg y]; omega
    exact key (n - f) f (by omega) (Nat.le_refl _) hs hf
/-- the vectors of a size -/
def tC (n : Nat) (sd : Bool) (s : Nat) (w : Vc) : Prop := (∀ c, n ≤ c → w c = 0) ∧ (sd = false → ∀ c, c < 6 → 0 ≤ w c) ∧ vSize w = s
theorem vSf_0 (v : Vc) : vSf v 0 = vSize v := by unfold vSf vSize; simp only [qS]; omega
/-- prefix, more, the first rest -/
def tN (n : Nat) (sd : Bool) (x : Vc) (c : Nat) : Vc := fun i => if i < c then x i else if i = c then x c + 1 else if i < n then tG n sd (c + 1) (vSf x c - qab (x c + 1)) i else 0
theorem tN_ok {n c s : Nat} {sd : Bool} {x : Vc} (hn : n ≤ 6) (hc : c + 1 < n) (hx : tC n sd s x) (hk : qab (x c + 1) ≤ vSf x c) (no : ∀ d, c < d → d < n → ∀ w, tC n sd s w → (∀ i, i < d → w i = x i) → ¬ x d < w d) : tC n sd s (tN n sd x c) ∧ vLx x (tN n sd x c) ∧ ∀ w, tC n sd s w → vLx x w → w = tN n sd x c ∨ vLx (tN n sd x c) w := by
  obtain ⟨x1, x2, x3⟩ := hx
  have at_c : tN n sd x c c = x c + 1 := by unfold tN; rw [if_neg (by omega), if_pos rfl]
  have lo : ∀ i, i < c → tN n sd x c i = x i := fun i hi => by unfold tN; rw [if_pos hi]
  have hi : ∀ i, c + 1 ≤ i → tN n sd x c i = if i < n then tG n sd (c + 1) (vSf x c - qab (x c + 1)) i else 0 := fun i hi => by
    unfold tN; rw [if_neg (by omega), if_neg (by omega)]
  have sf1 : vSf (tN n sd x c) (c + 1) = vSf x c - qab (x c + 1) := tG_sf hn (by omega) hc hi
  have sf0 : vSf (tN n sd x c) c = vSf x c := by rw [vSf_s, at_c, sf1]; omega
  have pre : qS (fun i => qab (tN n sd x c i)) c = qS (fun i => qab (x i)) c := qS_congr fun i hi => by rw [lo i hi]
  have sz : vSize (tN n sd x c) = s := by
    have a : vSf (tN n sd x c) c = vSize (tN n sd x c) - qS (fun i => qab (tN n sd x c i)) c := rfl
    have b : vSf x c = vSize x - qS (fun i => qab (x i)) c := rfl
    omega
  have cls : tC n sd s (tN n sd x c) := by
    refine ⟨fun i h => by rw [hi i (by omega), if_neg (by omega)], fun hsd i h => ?_, sz⟩
    have xp := x2 hsd
    by_cases w : i < c
    · rw [lo i w]; exact xp i h
    · by_cases z : i = c
      · rw [z, at_c]; have := xp c (by omega); omega
      · rw [hi i (by omega)]
        split
        · unfold tG; rw [if_neg (by rw [hsd]; simp)]; split <;> omega
        · omega
  refine ⟨cls, ⟨c, by omega, fun i hi => (lo i hi).symm, by rw [at_c]; omega⟩, fun w hw ⟨d, d1, d2, d3⟩ => ?_⟩
  have dn : d < n := Classical.byContradiction fun z => by rw [x1 d (by omega), hw.1 d (by omega)] at d3; omega
  have dc : d ≤ c := Classical.byContradiction fun z => no d (by omega) dn w hw (fun i hi => (d2 i hi).symm) d3
  by_cases y : d < c
  · right
    exact ⟨d, d1, fun i hi => by rw [lo i (by omega)]; exact d2 i hi, by rw [lo d y]; exact d3⟩
  · have : d = c := by omega
    subst this
    by_cases z : w d = x d + 1
    · have sfw : vSf w d = vSf x d := vSf_pre (by rw [hw.2.2, x3]) fun i hi => (d2 i hi).symm
      have sfw1 : vSf w (d + 1) = vSf x d - qab (x d + 1) := by rw [← sfw, vSf_s w d, z]; omega
      rcases tG_min hn hc hw.1 hw.2.1 sfw1 with a | ⟨e, e1, e2, e3, e4⟩
      · left
        funext i
        by_cases q : i < d
        · rw [lo i q]; exact (d2 i q).symm
        · by_cases q2 : i = d
          · rw [q2, at_c]; exact z
          · rw [hi i (by omega)]
            by_cases q3 : i < n
            · rw [if_pos q3]; exact a i (by omega) q3
            · rw [if_neg q3]; exact hw.1 i (by omega)
      · right
        refine ⟨e, by omega, fun i hi' => ?_, by rw [hi e e1, if_pos e2]; exact e4⟩
        by_cases q : i < d
        · rw [lo i q]; exact d2 i q
        · by_cases q2 : i = d
          · rw [q2, at_c]; exact z.symm
          · rw [hi i (by omega), if_pos (by omega)]; exact (e3 i (by omega) hi').symm
    · right
      exact ⟨d, d1, fun i hi => by rw [lo i hi]; exact d2 i hi, by rw [at_c]; omega⟩
def tL (x : Vc) (c : Nat) : Vc := fun i => if i = c then -x c else x i
theorem tL_ok {n c s : Nat} {x : Vc} (hn : n ≤ 6) (hc : c + 1 = n) (hx : tC n true s x) (h0 : x c < 0) : tC n true s (tL x c) ∧ vLx x (tL x c) ∧ ∀ w, tC n true s w → vLx x w → w = tL x c ∨ vLx (tL x c) w := by
  obtain ⟨x1, x2, x3⟩ := hx
  have at_c : tL x c c = -x c := if_pos rfl
  have ne : ∀ i, i ≠ c → tL x c i = x i := fun i hi => if_neg hi
  have sz : vSize (tL x c) = s := by
    rw [← x3]; unfold vSize
    exact qS_congr fun i _ => by
      by_cases w : i = c
      · rw [w, at_c]; unfold qab; omega
      · rw [ne i w]
  refine ⟨⟨fun i h => by rw [ne i (by omega)]; exact x1 i h, fun h => (by cases h), sz⟩, ⟨c, by omega, fun i hi => (ne i (by omega)).symm, by rw [at_c]; omega⟩, fun w hw ⟨d, d1, d2, d3⟩ => ?_⟩
  have dn : d < n := Classical.byContradiction fun z => by rw [x1 d (by omega), hw.1 d (by omega)] at d3; omega
  by_cases y : d < c
  · right
    exact ⟨d, d1, fun i hi => by rw [ne i (by omega)]; exact d2 i hi, by rw [ne d (by omega)]; exact d3⟩
  · have : d = c := by omega
    subst this
    have sfw : vSf w d = vSf x d := vSf_pre (by rw [hw.2.2, x3]) fun i hi => (d2 i hi).symm
    rw [vSf_s w, vSf_s x, vSf_n hn hw.1 (d + 1) (by omega) (by omega), vSf_n hn x1 (d + 1) (by omega) (by omega)] at sfw
    left
    funext i
    by_cases q : i = d
    · rw [q, at_c]; unfold qab at sfw; omega
    · rw [ne i q]
      by_cases q2 : i < d
      · exact (d2 i q2).symm
      · rw [x1 i (by omega), hw.1 i (by omega)]
/-- nothing more at a column -/
theorem tX_no {n c s : Nat} {sd : Bool} {x : Vc} (hn : n ≤ 6) (hc : c < n) (hx : tC n sd s x) (h1 : c + 1 = n → ¬ (sd = true ∧ x c < 0)) (h2 : c + 1 < n → ¬ qab (x c + 1) ≤ vSf x c) : ∀ w, tC n sd s w → (∀ i, i < c → w i = x i) → ¬ x c < w c := by
  intro w hw hi hlt
  obtain ⟨x1, x2, x3⟩ := hx
  have sfw : vSf w c = vSf x c := vSf_pre (by rw [hw.2.2, x3]) hi
  by_cases e : c + 1 = n
  · rw [vSf_s w, vSf_s x, vSf_n hn hw.1 (c + 1) (by omega) (by omega), vSf_n hn x1 (c + 1) (by omega) (by omega)] at sfw
    have : x c < 0 := by unfold qab at sfw; omega
    cases sd with
    | true => exact h1 e ⟨rfl, this⟩
    | false => have := x2 rfl c (by omega); omega
  · have k := h2 (by omega)
    have nn := vSf_nn w (c := c + 1) (by omega)
    have nn2 := vSf_nn x (c := c + 1) (by omega)
    rw [vSf_s w] at sfw
    have sx := vSf_s x c
    unfold qab at *
    omega
