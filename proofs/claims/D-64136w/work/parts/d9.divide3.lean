/-! DIVIDING: the desk -/
def vMix (r v : Vc) (c : Nat) : Vc := fun x => if x < c then r x - v x else r x
theorem vMix_lt (r v : Vc) {c x : Nat} (h : x < c) : vMix r v c x = r x - v x := if_pos h
theorem vMix_ge (r v : Vc) {c x : Nat} (h : ¬ x < c) : vMix r v c x = r x := if_neg h
theorem sp_X1_take {ev ow : Nat → Nat} {i j : Nat} {h : Hp} {a p : Nat} {v r : Vc} {Q : Hp → Prop} (V : xVec ow i h a v) (X : xA6o ow j h p r) (hj : i ≠ j) (q : ∀ h2, hE (· = j) ow h ow h2 → xA6o ow j h2 p (vSub r v) → Q h2) : wp_X1_take ev h a p Q := by
  obtain ⟨v1, v0, b, v2, v3, vw, v4, v5, v6, v7⟩ := V
  have six : (6 : Int32) = Int32.ofNat 6 := rfl
  have go : ∀ (t c : Nat) (h1 : Hp), c + t = 6 → hE (· = j) ow h ow h1 → xA6o ow j h1 p (vMix r v c) → wp_X1_take_2 ev Q (t + 1) a p (Int32.ofNat c) h1 := by
    intro t
    induction t with
    | zero =>
      intro c h1 hc f X1
      unfold wp_X1_take_2
      rw [six, i_le (by omega) (by omega)]
      refine ⟨fun _ => q h1 f ?_, fun w => by omega⟩
      obtain ⟨x1, x2, x3, x4⟩ := X1
      exact ⟨x1, x2, x3, fun c' hc' => by rw [x4 c' hc', vMix_lt r v (by omega)]; rfl⟩
    | succ t ih =>
      intro c h1 hc f X1
      obtain ⟨x1, x2, x3, x4⟩ := X1
      have w1 := hok_E f v1
      have w3 := hok_E f v3
      have iv : ¬ (· = j) (ow a) := by rw [v0]; exact hj
      have ib : ¬ (· = j) (ow b) := by rw [vw]; exact hj
      unfold wp_X1_take_2
      rw [six, i_le (by omega) (by omega)]
      refine ⟨fun w => by omega, fun _ => ⟨x1, (i_in (by omega)).mpr (by omega), w1.1, b, by rw [hR_E f v1 iv]; exact v2, w3.1, (i_in (by omega)).mpr (by rw [w3.2.2]; omega), x1, (i_in (by omega)).mpr (by omega), fun h7 e7 x10 e10 => ?_⟩⟩
      rw [e10, i_one]
      rw [hA_E f v3 ib, v6 c (by omega), x4 c (by omega), vMix_ge r v (by omega), i_subI] at e7
      refine ih (c + 1) h7 (by omega) (by rw [e7]; exact hE_trans f (hE_uA h1 x2 _ _)) ⟨by rw [e7]; exact x1, x2, by rw [e7]; exact x3, fun c' hc' => ?_⟩
      rw [e7, hA_uA, i_cl (by omega), i_cl (by omega)]
      by_cases z : c' = c
      · rw [if_pos ⟨rfl, z⟩, vMix_lt r v (by omega), z]
      · rw [if_neg (fun w => z w.2), x4 c' hc']
        by_cases y : c' < c
        · rw [vMix_lt r v y, vMix_lt r v (by omega)]
        · rw [vMix_ge r v y, vMix_ge r v (by omega)]
  refine ⟨7, go 6 0 h rfl (hE_refl _ _ _) ?_⟩
  obtain ⟨x1, x2, x3, x4⟩ := X
  exact ⟨x1, x2, x3, fun c hc => by rw [vMix_ge r v (by omega)]; exact x4 c hc⟩
/-- an array of times -/
def xTm (ow : Nat → Nat) (h : Hp) (a : Nat) : Prop := hok h a 20 ∧ ow a = 11 ∧ hN h a = 2000
theorem xTm_E {I : Nat → Prop} {ow ow2 : Nat → Nat} {h h2 : Hp} {a : Nat} (f : hE I ow h ow2 h2) (T : xTm ow h a) : xTm ow2 h2 a := by
  have e := hok_E f T.1
  exact ⟨e.1, e.2.1.trans T.2.1, e.2.2.trans T.2.2⟩
def I12 : Nat → Prop := fun i => i = 16 ∨ i = 11
theorem xA6o_6 {ow : Nat → Nat} {j : Nat} {h : Hp} {p : Nat} {r : Vc} (X : xA6o ow j h p r) (hr : ∀ c, c < 6 → 0 ≤ r c ∧ r c ≤ 100) : xA6 h p r := ⟨X.1, X.2.2.1, fun c hc => ⟨X.2.2.2 c hc, by have := hr c hc; omega⟩⟩
theorem sp_X1_split_204 {ev ow : Nat → Nat} {h0 : Hp} {a0 p k n : Nat} {rf fd sh : Nat → Nat} {s : Sh} {v : Vc} {v4 : Int32} {Q : Int32 → Hp → Prop} {Xr : String → Hp → Prop} {K186 : Nat → Nat → Int32 → Nat → Int32 → Hp → Nat → Nat → Prop} {mc ms : Nat} (D : xDk ow h0 a0 rf fd sh) (S : xShS ev ow 60 h0 (sh 0) s) (so : shOk s) (T : xTm ow h0 (rf 11)) (hk : s.1[k]? = some v) (hv : dFv n v) (r0 : Vc)
    (q : ∀ h2, hE I12 ow h0 ow h2 → xA6o ow 16 h2 p (dTk v 101 r0).2 → hA h2 (rf 11) (Int32.ofNat k) = Int32.ofNat (dTk v 101 r0).1 → (∀ j, j < 2000 → j ≠ k → hA h2 (rf 11) (Int32.ofNat j) = hA h0 (rf 11) (Int32.ofNat j)) → K186 a0 p v4 (sh 0) (Int32.ofNat (k + 1)) h2 mc ms) : ∀ (f cnt : Nat) (r : Vc) (h : Hp), dFr n r → qS r 6 < f → cnt + (dTk v f r).1 = (dTk v 101 r0).1 → (dTk v f r).2 = (dTk v 101 r0).2 → hE I12 ow h0 ow h → xA6o ow 16 h p r → hA h (rf 11) (Int32.ofNat k) = Int32.ofNat cnt → (∀ j, j < 2000 → j ≠ k → hA h (rf 11) (Int32.ofNat j) = hA h0 (rf 11) (Int32.ofNat j)) → wp_X1_split_204 ev Q Xr K186 (f + 1) a0 p v4 (sh 0) (Int32.ofNat k) h mc ms := by
  have kl : k < s.1.length := (List.getElem?_eq_some_iff.mp hk).1
  have sl := so.1
  intro f
  induction f with
  | zero =>
    intro cnt r h h1 hf
    have := qS_nonneg (f := r) (n := 6) h1.1
    omega
  | succ f ih =>
    intro cnt r h hr hf e1 e2 fr X t1 t2
    have rb := dFr_b hr
    have D1 := xDk_E fr (by unfold I12; omega) (by unfold I12; omega) D
    have S1 := xSh_E fr (by unfold I12; omega) S
    have T1 := xTm_E fr T
    unfold wp_X1_split_204
    refine ⟨xSh_len S1, sp_X7_get S1 kl fun a u eu V => ⟨fun b hb => by rw [← Option.some.inj hb]; exact V.1, a, rfl, V.1, ?_⟩⟩
    have euv : u = v := by rw [hk] at eu; exact (Option.some.inj eu).symm
    subst euv
    refine sp_X11_isIn V (xA6o_6 X rb) (fun nb => ⟨fun _ x11 ex => ?_, fun w => absurd rfl w⟩) fun b => ⟨fun w => absurd w (by decide), fun _ => ⟨xSh_len S1, sp_X7_get S1 kl fun a2 u2 eu2 V2 => ⟨fun b hb => by rw [← Option.some.inj hb]; exact V2.1, a2, rfl, ?_⟩⟩⟩
    · have ed : dTk u (f + 1) r = (0, r) := if_neg nb
      rw [ed] at e1 e2
      simp only at e1 e2
      rw [ex, i_one]
      exact q h fr (by rw [← e2]; exact X) (by rw [t1, ← e1]; rfl) t2
    · have euv : u2 = u := by rw [hk] at eu2; exact (Option.some.inj eu2).symm
      subst euv
      have ed : dTk u2 (f + 1) r = ((dTk u2 f (vSub r u2)).1 + 1, (dTk u2 f (vSub r u2)).2) := if_pos b
      rw [ed] at e1 e2
      simp only at e1 e2
      have sb := dFr_sub hr hv.1 hv.2.1 b
      refine sp_X1_take V2 X (by omega) fun h18 f18 X18 => ?_
      have D18 := xDk_E f18 (by omega) (by omega) D1
      have T18 := xTm_E f18 T1
      refine ⟨D18.1, rf 11, D18.2.2.1 11 (by omega) (by omega) (by omega) (by omega) (by omega), T18.1, (i_in (by omega)).mpr (by rw [T18.2.2]; omega), T18.1, (i_in (by omega)).mpr (by rw [T18.2.2]; omega), fun h24 e24 => ?_⟩
      have a18 : ∀ j : Int32, hA h18 (rf 11) j = hA h (rf 11) j := fun j => hA_E f18 T1.1 (by rw [T1.2.1]; omega) j
      rw [a18, t1, i_one] at e24
      have f24 : hE (· = 11) ow h18 ow h24 := by rw [e24]; exact hE_uA h18 T18.2.1 _ _
      have A24 : ∀ j, j < 2000 → hA h24 (rf 11) (Int32.ofNat j) = if j = k then Int32.ofNat (cnt + 1) else hA h (rf 11) (Int32.ofNat j) := fun j hj => by
        rw [e24, hA_uA, i_cl (by omega), i_cl (by omega)]
        by_cases z : j = k
        · rw [if_pos ⟨rfl, z⟩, if_pos z]
        · rw [if_neg (fun w => z w.2), if_neg z, a18]
      refine ih (cnt + 1) (vSub r u2) h24 sb.1 (by have := sb.2; have := hv.2.2.1; omega) (by omega) e2 (hE_trans fr (hE_trans (hE_mono f18 fun _ w => .inl w) (hE_mono f24 fun _ w => .inr w))) (xA6o_E f24 (by omega) X18) (by rw [A24 k (by omega), if_pos rfl]) fun j hj hne => by rw [A24 j hj, if_neg hne]; exact t2 j hj hne
theorem sp_X1_split_186 {ev ow : Nat → Nat} {h0 : Hp} {a0 p n mc ms : Nat} {rf fd sh : Nat → Nat} {s : Sh} {r0 : Vc} {v4 : Int32} {Q : Int32 → Hp → Prop} {Xr : String → Hp → Prop} (D : xDk ow h0 a0 rf fd sh) (S : xShS ev ow 60 h0 (sh 0) s) (so : shOk s) (T : xTm ow h0 (rf 11)) (hv : ∀ v, v ∈ s.1 → dFv n v) (hr : dFr n r0)
    (q : ∀ h2, hE I12 ow h0 ow h2 → xDk ow h2 a0 rf fd sh → (∀ i m, (dCs s.1 r0)[i]? = some m → hA h2 (rf 11) (Int32.ofNat i) = Int32.ofNat m) → Q v4 (uI h2 a0 12 1)) : ∀ (t k : Nat) (h : Hp), k + t = s.1.length → hE I12 ow h0 ow h → xA6o ow 16 h p (dRs (s.1.take k) r0) → (∀ i m, i < k → (dCs s.1 r0)[i]? = some m → hA h (rf 11) (Int32.ofNat i) = Int32.ofNat m) → wp_X1_split_186 ev Q Xr (t + 1) a0 p v4 (sh 0) (Int32.ofNat k) h mc ms := by
  have sl := so.1
  intro t
  induction t with
  | zero =>
    intro k h hk f X hh
    have D1 := xDk_E f (by unfold I12; omega) (by unfold I12; omega) D
    have S1 := xSh_E f (by unfold I12; omega) S
    unfold wp_X1_split_186
    refine ⟨xSh_len S1, sp_X7_size S1 ?_⟩
    rw [i_le (by omega) (by omega)]
    refine ⟨fun _ => ⟨D1.1, fun h5 e5 => ?_⟩, fun w => by omega⟩
    rw [e5]
    refine q h f D1 fun i m hm => hh i m ?_ hm
    have := (List.getElem?_eq_some_iff.mp hm).1
    rw [dCs_len] at this; omega
  | succ t ih =>
    intro k h hk f X hh
    have D1 := xDk_E f (by unfold I12; omega) (by unfold I12; omega) D
    have S1 := xSh_E f (by unfold I12; omega) S
    have T1 := xTm_E f T
    obtain ⟨v, ev'⟩ : ∃ v, s.1[k]? = some v := ⟨_, List.getElem?_eq_getElem (by omega)⟩
    have fv := hv v (List.mem_of_getElem? ev')
    obtain ⟨d1, d2⟩ := dRs_take k r0 v ev'
    have fr := dRs_fr hv hr k
    unfold wp_X1_split_186
    refine ⟨xSh_len S1, sp_X7_size S1 ?_⟩
    rw [i_le (by omega) (by omega)]
    refine ⟨fun w => by omega, fun _ => ⟨D1.1, rf 11, D1.2.2.1 11 (by omega) (by omega) (by omega) (by omega) (by omega), T1.1, (i_in (by omega)).mpr (by rw [T1.2.2]; omega), fun h9 e9 => ⟨101 + 1, ?_⟩⟩⟩
    have f9 : hE (· = 11) ow h ow h9 := by rw [e9]; exact hE_uA h T1.2.1 _ _
    have F9 : hE I12 ow h0 ow h9 := hE_trans f (hE_mono f9 fun _ w => .inr w)
    have A9 : ∀ j, j < 2000 → hA h9 (rf 11) (Int32.ofNat j) = if j = k then Int32.ofNat 0 else hA h (rf 11) (Int32.ofNat j) := fun j hj => by
      rw [e9, hA_uA, i_cl (by omega), i_cl (by omega)]
      by_cases z : j = k
      · rw [if_pos ⟨rfl, z⟩, if_pos z]; rfl
      · rw [if_neg (fun w => z w.2), if_neg z]
    refine sp_X1_split_204 (ow := ow) (h0 := h9) (xDk_E F9 (by unfold I12; omega) (by unfold I12; omega) D) (xSh_E F9 (by unfold I12; omega) S) so (xTm_E F9 T) ev' fv (dRs (s.1.take k) r0) (fun h2 f2 X2 t1 t2 => ih (k + 1) h2 (by omega) (hE_trans F9 f2) (by rw [d1]; exact X2) fun i m hi hm => ?_) 101 0 (dRs (s.1.take k) r0) h9 fr (by have := fr.2.2; omega) (Nat.zero_add _) rfl (hE_refl _ _ _) (xA6o_E f9 (by omega) X) (by rw [A9 k (by omega), if_pos rfl]) fun j _ _ => rfl
    by_cases z : i = k
    · subst z
      rw [d2] at hm
      rw [t1, Option.some.inj hm]
    · rw [t2 i (by omega) z, A9 i (by omega), if_neg z]; exact hh i m (by omega) hm
