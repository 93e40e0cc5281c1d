/-! SHELVES -/
theorem hI_same {h h2 : Hp} {b : Nat} (f : hSame h h2 b) (k : Nat) : hI h2 b k = hI h b k := by unfold hI; rw [f.1]
theorem hR_same {h h2 : Hp} {b : Nat} (f : hSame h h2 b) (k : Nat) : hR h2 b k = hR h b k := by unfold hR; rw [f.2.1]
theorem hA_same {h h2 : Hp} {b : Nat} (f : hSame h h2 b) (k : Int32) : hA h2 b k = hA h b k := by unfold hA; rw [f.2.2.1]
theorem hO_same {h h2 : Hp} {b : Nat} (f : hSame h h2 b) (k : Int32) : hO h2 b k = hO h b k := by unfold hO; rw [f.2.2.2.2]
/-- lists and their arrays of part i may have changed, new cells are there -/
def sE (i : Nat) (ow : Nat → Nat) (h : Hp) (ow2 : Nat → Nat) (h2 : Hp) : Prop := hE (· = i) ow h ow2 h2 ∧ ∀ b k, hok h b k → k ≠ 11 → k ≠ 26 → hSame h h2 b
theorem sE_refl (i : Nat) (ow : Nat → Nat) (h : Hp) : sE i ow h ow h := ⟨hE_refl _ _ _, fun b _ _ _ _ => hSame_refl h b⟩
theorem sE_trans {i : Nat} {ow ow2 ow3 : Nat → Nat} {h h2 h3 : Hp} (f : sE i ow h ow2 h2) (g : sE i ow2 h2 ow3 h3) : sE i ow h ow3 h3 :=
  ⟨hE_trans f.1 g.1, fun b k hb h1 h2 => hSame_trans (f.2 b k hb h1 h2) (g.2 b k (hok_E f.1 hb).1 h1 h2)⟩
theorem lE_s {ev : Nat → Nat} {i l : Nat} {ow ow2 : Nat → Nat} {h h2 : Hp} (f : lE ev i ow h l ow2 h2) (hl : hok h l 11) : sE i ow h ow2 h2 :=
  ⟨f.1, fun b k hb h1 h2 => f.2.1 b hb.1 (hok_ne hb hl h1) fun w => h2 (hb.2.symm.trans w.1.2)⟩
theorem xAL_l {ev : Nat → Nat} {i l l2 cap : Nat} {els : List Nat} {ow ow2 : Nat → Nat} {h h2 : Hp} (f : lE ev i ow h l ow2 h2) (kl : hok h l 11) (hl : l2 ≠ l) (ap : ∀ b, b ≠ ev 11 → hR h l 1 = some b → hR h l2 1 = some b → False) (A : xAL ev ow i h l2 els cap) : xAL ev ow2 i h2 l2 els cap ∧ ∀ b, b ≠ ev 11 → hR h2 l 1 = some b → hR h2 l2 1 = some b → False := by
  obtain ⟨a1, a2, a3, a4, a5, a6, arr, a7, a8⟩ := A
  have s2 := f.2.1 l2 a1.1 hl fun w => absurd (a1.2.symm.trans w.1.2) (by decide)
  obtain ⟨b1, b2, b3⟩ := hok_E f.1 a1
  refine ⟨⟨b1, b2.trans a2, by rw [hI_same s2]; exact a3, a4, a5, fun a ha => (hok_E f.1 (a6 a ha)).1, arr, by rw [hR_same s2]; exact a7, ?_⟩, fun b hb h1 h2 => ?_⟩
  · rcases a8 with c | ⟨c1, c2, c3, c4, c5, c6⟩
    · exact .inl c
    · obtain ⟨d1, d2, d3⟩ := hok_E f.1 c3
      have sa := f.2.1 arr c3.1 (hok_ne c3 kl (by decide)) fun w => ap arr c2 w.2 a7
      exact .inr ⟨c1, c2, d1, d2.trans c4, d3.trans c5, fun k hk => by rw [hO_same sa]; exact c6 k hk⟩
  · rw [hR_same s2] at h2
    rcases f.2.2 b h1 with c | c
    · exact ap b hb c h2
    · rw [a7] at h2
      have e := Option.some.inj h2
      subst e
      rcases a8 with d | ⟨_, _, d, _⟩
      · exact hb d.2
      · exact c.1 d.1

/-- the vectors of a shelf, each with its bytes -/
def xPo (ow : Nat → Nat) (i : Nat) (h : Hp) (fb : Nat → Nat) (P : List Nat) : Prop :=
  (∀ a, a ∈ P → hok h a 10 ∧ ow a = i ∧ hR h a 0 = some (fb a) ∧ hok h (fb a) 21 ∧ ow (fb a) = i ∧ hN h (fb a) = 6) ∧ ∀ a b, a ∈ P → b ∈ P → fb a = fb b → a = b
theorem xPo_s {i : Nat} {ow ow2 : Nat → Nat} {h h2 : Hp} {fb : Nat → Nat} {P : List Nat} (f : sE i ow h ow2 h2) (p : xPo ow i h fb P) : xPo ow2 i h2 fb P := by
  refine ⟨fun a ha => ?_, p.2⟩
  obtain ⟨p1, p2, p3, p4, p5, p6⟩ := p.1 a ha
  obtain ⟨b1, b2, b3⟩ := hok_E f.1 p1
  obtain ⟨c1, c2, c3⟩ := hok_E f.1 p4
  exact ⟨b1, b2.trans p2, by rw [hR_same (f.2 a 10 p1 (by decide) (by decide))]; exact p3, c1, c2.trans p5, c3.trans p6⟩
theorem xVc_s {i : Nat} {ow ow2 : Nat → Nat} {h h2 : Hp} {fb : Nat → Nat} {P : List Nat} {a : Nat} {v : Nat → Int} (f : sE i ow h ow2 h2) (p : xPo ow i h fb P) (ha : a ∈ P) (V : xVc h a (fb a) v) : xVc h2 a (fb a) v := by
  obtain ⟨p1, p2, p3, p4, p5, p6⟩ := p.1 a ha
  obtain ⟨v1, v2, v3⟩ := V
  exact ⟨by rw [hI_same (f.2 a 10 p1 (by decide) (by decide))]; exact v1, fun c hc => by rw [hA_same (f.2 _ 21 p4 (by decide) (by decide))]; exact v2 c hc, v3⟩
/-- a shelf: T its things, S its spares, lo vectors in hand, xs what the things are -/
def xShL (ev ow : Nat → Nat) (i : Nat) (h : Hp) (q lt ls : Nat) (T S lo : List Nat) (fb : Nat → Nat) (xs : List (Nat → Int)) (ct cs : Nat) : Prop :=
  (hok h q 6 ∧ ow q = i ∧ hR h q 0 = some lt ∧ hR h q 1 = some ls ∧ lt ≠ ls) ∧ xAL ev ow i h lt T ct ∧ xAL ev ow i h ls S cs ∧ (∀ b, b ≠ ev 11 → hR h lt 1 = some b → hR h ls 1 = some b → False) ∧
  (T ++ S ++ lo).Nodup ∧ xPo ow i h fb (T ++ S ++ lo) ∧ xs.length = T.length ∧ ∀ (k a : Nat) (v : Nat → Int), T[k]? = some a → xs[k]? = some v → xVc h a (fb a) v
def xSh (ev ow : Nat → Nat) (i : Nat) (h : Hp) (q : Nat) (xs : List (Nat → Int)) (s ct cs : Nat) : Prop := ∃ (lt ls : Nat) (T S : List Nat) (fb : Nat → Nat), xShL ev ow i h q lt ls T S [] fb xs ct cs ∧ S.length = s
theorem xShL_head {ev ow ow2 : Nat → Nat} {i q lt ls : Nat} {h h2 : Hp} (f : sE i ow h ow2 h2) (H : hok h q 6 ∧ ow q = i ∧ hR h q 0 = some lt ∧ hR h q 1 = some ls ∧ lt ≠ ls) : hok h2 q 6 ∧ ow2 q = i ∧ hR h2 q 0 = some lt ∧ hR h2 q 1 = some ls ∧ lt ≠ ls := by
  obtain ⟨h1, h2', h3, h4, h5⟩ := H
  have s := f.2 q 6 h1 (by decide) (by decide)
  obtain ⟨b1, b2, b3⟩ := hok_E f.1 h1
  exact ⟨b1, b2.trans h2', by rw [hR_same s]; exact h3, by rw [hR_same s]; exact h4, h5⟩
theorem xSh_E {ev : Nat → Nat} {I : Nat → Prop} {ow ow2 : Nat → Nat} {h h2 : Hp} {i q s ct cs : Nat} {xs : List (Nat → Int)} (f : hE I ow h ow2 h2) (hi : ¬ I i) (A : xSh ev ow i h q xs s ct cs) : xSh ev ow2 i h2 q xs s ct cs := by
  obtain ⟨lt, ls, T, S, fb, ⟨⟨h1, h2', h3, h4, h5⟩, at_, as_, ap, nd, po, len, cel⟩, es⟩ := A
  have hq : ¬ I (ow q) := by rw [h2']; exact hi
  obtain ⟨b1, b2, b3⟩ := hok_E f h1
  refine ⟨lt, ls, T, S, fb, ⟨⟨b1, b2.trans h2', by rw [hR_E f h1 hq]; exact h3, by rw [hR_E f h1 hq]; exact h4, h5⟩, xAL_E f hi at_, xAL_E f hi as_, fun b hb c1 c2 => ?_, nd, ⟨fun a ha => ?_, po.2⟩, len, fun k a v e1 e2 => ?_⟩, es⟩
  · rw [hR_E f at_.1 (by rw [at_.2.1]; exact hi)] at c1
    rw [hR_E f as_.1 (by rw [as_.2.1]; exact hi)] at c2
    exact ap b hb c1 c2
  · obtain ⟨p1, p2, p3, p4, p5, p6⟩ := po.1 a ha
    obtain ⟨d1, d2, d3⟩ := hok_E f p1
    obtain ⟨e1, e2, e3⟩ := hok_E f p4
    exact ⟨d1, d2.trans p2, by rw [hR_E f p1 (by rw [p2]; exact hi)]; exact p3, e1, e2.trans p5, e3.trans p6⟩
  · have ha : a ∈ T ++ S ++ [] := by
      rw [List.append_nil]; exact List.mem_append_left _ (List.mem_of_getElem? e1)
    obtain ⟨p1, p2, p3, p4, p5, p6⟩ := po.1 a ha
    obtain ⟨v1, v2, v3⟩ := cel k a v e1 e2
    exact ⟨by rw [hI_E f p1 (by rw [p2]; exact hi)]; exact v1, fun c hc => by rw [hA_E f p4 (by rw [p5]; exact hi)]; exact v2 c hc, v3⟩
theorem sp_X7_sizeL {ev ow : Nat → Nat} {i q lt ls ct cs : Nat} {h : Hp} {T S lo : List Nat} {fb : Nat → Nat} {xs : List (Nat → Int)} {Q : Int32 → Hp → Prop} (A : xShL ev ow i h q lt ls T S lo fb xs ct cs) (k : Q (Int32.ofNat xs.length) h) : wp_X7_size ev h q Q := by
  obtain ⟨⟨h1, h2', h3, h4, h5⟩, at_, as_, ap, nd, po, len, cel⟩ := A
  refine ⟨h1, lt, h3, at_.1, sp_J6_size at_ ?_⟩
  rw [← len]; exact k
theorem sp_X7_getL {ev ow : Nat → Nat} {i q lt ls ct cs k : Nat} {h : Hp} {T S lo : List Nat} {fb : Nat → Nat} {xs : List (Nat → Int)} {Q : Option Nat → Hp → Prop} (A : xShL ev ow i h q lt ls T S lo fb xs ct cs) (hk : k < xs.length) (g : ∀ a v, T[k]? = some a → xs[k]? = some v → xVec ow i h a v → Q (some a) h) : wp_X7_get ev h q (Int32.ofNat k) Q := by
  obtain ⟨⟨h1, h2', h3, h4, h5⟩, at_, as_, ap, nd, po, len, cel⟩ := A
  obtain ⟨a, ea⟩ : ∃ a, T[k]? = some a := ⟨_, List.getElem?_eq_getElem (by omega)⟩
  obtain ⟨v, ev'⟩ : ∃ v, xs[k]? = some v := ⟨_, List.getElem?_eq_getElem hk⟩
  have ha : a ∈ T ++ S ++ lo := List.mem_append_left _ (List.mem_append_left _ (List.mem_of_getElem? ea))
  obtain ⟨p1, p2, p3, p4, p5, p6⟩ := po.1 a ha
  refine ⟨h1, lt, h3, at_.1, sp_J6_get at_ (by omega) ⟨fun b hb => ?_, ?_⟩⟩
  · rw [ea] at hb; rw [← Option.some.inj hb]; exact p1
  · rw [ea]
    exact g a v ea ev' ⟨p1, p2, fb a, p3, p4, p5, p6, cel k a v ea ev'⟩
theorem sp_X7_size {ev ow : Nat → Nat} {i q s ct cs : Nat} {h : Hp} {xs : List (Nat → Int)} {Q : Int32 → Hp → Prop} (A : xSh ev ow i h q xs s ct cs) (k : Q (Int32.ofNat xs.length) h) : wp_X7_size ev h q Q := by
  obtain ⟨lt, ls, T, S, fb, A, _⟩ := A; exact sp_X7_sizeL A k
theorem sp_X7_get {ev ow : Nat → Nat} {i q s ct cs k : Nat} {h : Hp} {xs : List (Nat → Int)} {Q : Option Nat → Hp → Prop} (A : xSh ev ow i h q xs s ct cs) (hk : k < xs.length) (g : ∀ a v, xs[k]? = some v → xVec ow i h a v → Q (some a) h) : wp_X7_get ev h q (Int32.ofNat k) Q := by
  obtain ⟨lt, ls, T, S, fb, A, _⟩ := A; exact sp_X7_getL A hk fun a v _ e V => g a v e V
/-- room behind m more -/
def capA (c s : Nat) : Nat → Nat
  | 0 => c
  | m + 1 => capA (capN s c) (s + 1) m
theorem capN_ge (m c : Nat) : c ≤ capN m c := by
  unfold capN; split
  · exact Nat.le_of_lt (nx_gt c)
  · exact Nat.le_refl _
theorem capA_ge : ∀ (m c s : Nat), c ≤ capA c s m := by
  intro m
  induction m with
  | zero => intro c s; exact Nat.le_refl _
  | succ m ih => intro c s; exact Nat.le_trans (capN_ge s c) (ih _ _)
theorem capA_le : ∀ (m c s : Nat), c ≤ 3000 → s + m ≤ 2000 → capA c s m ≤ 3000 := by
  intro m
  induction m with
  | zero => intro c s h _; exact h
  | succ m ih => intro c s h hs; exact ih _ _ (capN_le (by omega) h) (by omega)
theorem capN_need {m c MC MS : Nat} (h1 : capN m c - c ≤ MC) (h2 : 4 * (capN m c - c) ≤ MS) : (m = c → 1 ≤ MC) ∧ (m = c → nx c ≤ MS) := by
  constructor
  · intro e; unfold capN at h1; rw [if_pos e] at h1; have := nx_gt c; omega
  · intro e; unfold capN at h2; rw [if_pos e] at h2; have := nx_gt c; have := nx_pot c; omega
/-- all things become spares -/
theorem sp_X7_clear {ev ow : Nat → Nat} {i q s ct cs : Nat} {h : Hp} {xs : List (Nat → Int)} {MC MS : Nat} {Q : Hp → Prop} (A : xSh ev ow i h q xs s ct cs) (hT : xs.length + s ≤ 2000) (mc : capA cs s xs.length - cs ≤ MC) (ms : 4 * (capA cs s xs.length - cs) ≤ MS) (k : ∀ ow2 h2, hE (· = i) ow h ow2 h2 → (∀ b n, hok h b n → n ≠ 11 → n ≠ 26 → hSame h h2 b) → xSh ev ow2 i h2 q [] (s + xs.length) ct (capA cs s xs.length) → Q h2) : wp_X7_clear ev h q MC MS Q := by
  obtain ⟨lt, ls, T, S, fb, A, es⟩ := A
  obtain ⟨H, at_, as_, ap, nd, po, len, cel⟩ := A
  subst es
  have hTl : T.length + S.length ≤ 2000 := by omega
  unfold wp_X7_clear
  refine ⟨T.length + 1, ?_⟩
  have go : ∀ (t j : Nat) (ow1 : Nat → Nat) (h1 : Hp) (c mc ms : Nat), j + t = T.length → sE i ow h ow1 h1 → xAL ev ow1 i h1 lt T ct → xAL ev ow1 i h1 ls (S ++ T.take j) c → (∀ b, b ≠ ev 11 → hR h1 lt 1 = some b → hR h1 ls 1 = some b → False) → capA c (S.length + j) t = capA cs S.length xs.length → capA cs S.length xs.length - c ≤ mc → 4 * (capA cs S.length xs.length - c) ≤ ms → wp_X7_clear_2 ev Q (t + 1) q (Int32.ofNat j) h1 mc ms := by
    intro t
    induction t with
    | zero =>
      intro j ow1 h1 c mc ms hj f at1 as1 ap1 hcap hmc hms
      obtain ⟨k1, k2, k3, k4, k5⟩ := xShL_head (ev := ev) f H
      have ej : j = T.length := by omega
      subst ej
      rw [List.take_length] at as1
      unfold wp_X7_clear_2
      refine ⟨k1, lt, k3, at1.1, sp_J6_size at1 ⟨fun _ => ⟨k1, lt, k3, at1.1, sp_J6_clear at1 fun h2 f2 at2 => ?_⟩, fun w => by rw [i_le (by omega) (by omega)] at w; omega⟩⟩
      have f3 := sE_trans f (lE_s f2 at1.1)
      obtain ⟨as2, ap2⟩ := xAL_l f2 at1.1 (fun e => k5 e.symm) ap1 as1
      have pm : ∀ a, a ∈ ([] ++ (S ++ T) ++ ([] : List Nat)) ↔ a ∈ T ++ S ++ ([] : List Nat) := by
        intro a; simp only [List.nil_append, List.append_nil, List.mem_append]; exact Or.comm
      refine k ow1 h2 f3.1 f3.2 ⟨lt, ls, [], S ++ T, fb, ⟨xShL_head (ev := ev) f3 H, at2, ?_, ap2, ?_, ⟨fun a ha => (xPo_s f3 po).1 a ((pm a).mp ha), fun a b ha hb => po.2 a b ((pm a).mp ha) ((pm b).mp hb)⟩, rfl, fun k a v e => by cases e⟩, by rw [List.length_append, len]⟩
      · have : c = capA cs S.length xs.length := by rw [← hcap]; rfl
        rw [← this]; exact as2
      · rw [List.nil_append, List.append_nil]
        rw [List.append_nil] at nd
        exact (List.perm_append_comm.nodup_iff).mp nd
    | succ t ih =>
      intro j ow1 h1 c mc ms hj f at1 as1 ap1 hcap hmc hms
      obtain ⟨k1, k2, k3, k4, k5⟩ := xShL_head (ev := ev) f H
      have jl : j < T.length := by omega
      obtain ⟨a, ea⟩ : ∃ a, T[j]? = some a := ⟨_, List.getElem?_eq_getElem jl⟩
      have ka : hok h1 a 10 := at1.2.2.2.2.2.1 a (List.mem_of_getElem? ea)
      have tl : (T.take j).length = j := by rw [List.length_take]; omega
      have sl : (S ++ T.take j).length = S.length + j := by rw [List.length_append, tl]
      have e1 : capA (capN (S.length + j) c) (S.length + j + 1) t = capA cs S.length xs.length := hcap
      have g1 := capN_ge (S.length + j) c
      have g2 := capA_ge t (capN (S.length + j) c) (S.length + j + 1)
      rw [e1] at g2
      unfold wp_X7_clear_2
      refine ⟨k1, lt, k3, at1.1, sp_J6_size at1 ⟨fun w => by rw [i_le (by omega) (by omega)] at w; omega, fun _ => ⟨k1, ls, k4, k1, lt, k3, at1.1, sp_J6_get at1 jl ⟨fun b hb => ?_, a, ea, capN (S.length + j) c - c, 4 * (capN (S.length + j) c - c), mc - (capN (S.length + j) c - c), ms - 4 * (capN (S.length + j) c - c), by omega, by omega, as1.1, ?_⟩⟩⟩⟩
      · rw [ea] at hb; rw [← Option.some.inj hb]; exact ka
      have need := capN_need (m := S.length + j) (c := c) (Nat.le_refl _) (Nat.le_refl _)
      refine sp_J6_add as1 ka (by omega) (by rw [sl]; exact need.1) (by rw [sl]; exact need.2) fun ow2 h2 f2 as2 x26 e26 => ?_
      subst e26
      rw [i_one]
      rw [sl] at as2
      obtain ⟨at2, ap2⟩ := xAL_l f2 as1.1 k5 (fun b hb c1 c2 => ap1 b hb c2 c1) at1
      have tk : S ++ T.take j ++ [a] = S ++ T.take (j + 1) := by
        rw [List.append_assoc]
        congr 1
        rw [List.take_add_one, ea]; rfl
      rw [tk] at as2
      exact ih (j + 1) ow2 h2 _ _ _ (by omega) (sE_trans f (lE_s f2 as1.1)) at2 as2 (fun b hb c1 c2 => ap2 b hb c2 c1) e1 (by omega) (by omega)
  exact go T.length 0 ow h cs MC MS (by omega) (sE_refl _ _ _) at_ (by rw [List.take_zero, List.append_nil]; exact as_) ap (by rw [Nat.add_zero, len]) mc ms
