/-! LISTS OF VECTORS: add, insert, clear, remove -/
theorem xAL_mod {ev ow : Nat → Nat} {i l cap : Nat} {els : List Nat} {h : Hp} (x : Int32) (A : xAL ev ow i h l els cap) : xAL ev ow i (uI h l 0 x) l els cap := by
  obtain ⟨a1, a2, a3, a4, a5, a6, arr, a7, a8⟩ := A
  exact ⟨a1, a2, by rw [hI_uI, if_neg (by omega)]; exact a3, a4, a5, a6, arr, a7, a8⟩
def capN (m cap : Nat) : Nat := if m = cap then nx cap else cap
theorem capN_lt {m cap : Nat} (h : m ≤ cap) : m < capN m cap := by
  unfold capN; split
  · rename_i e; rw [e]; exact nx_gt cap
  · omega
theorem capN_le {m cap : Nat} (h : m < 2000) (hc : cap ≤ 3000) : capN m cap ≤ 3000 := by
  unfold capN; split
  · rename_i e; rw [← e]; exact nx_le h
  · exact hc
/-- a list with its array at hand -/
theorem xAL_arr {ev ow : Nat → Nat} {i l cap m : Nat} {els : List Nat} {h : Hp} (A : xAL ev ow i h l els cap) (h0 : m < cap) : ∃ arr, hR h l 1 = some arr ∧ arr ≠ ev 11 ∧ hok h arr 26 ∧ ow arr = i ∧ hN h arr = cap ∧ (∀ k, k < els.length → hO h arr (Int32.ofNat k) = els[k]?) ∧ (hL ev h arr = Int32.ofNat cap) := by
  obtain ⟨a1, a2, a3, a4, a5, a6, arr, a7, a8⟩ := A
  rcases a8 with ⟨c1, c2⟩ | ⟨c1, c2, c3, c4, c5, c6⟩
  · omega
  · exact ⟨arr, a7, c2, c3, c4, c5, c6, by unfold hL; rw [if_neg c2, c5]; rfl⟩
theorem xAL_hL {ev ow : Nat → Nat} {i l cap : Nat} {els : List Nat} {h : Hp} (A : xAL ev ow i h l els cap) : ∃ arr, hR h l 1 = some arr ∧ (arr = ev 11 ∨ hok h arr 26) ∧ hL ev h arr = Int32.ofNat cap := by
  obtain ⟨a1, a2, a3, a4, a5, a6, arr, a7, a8⟩ := A
  rcases a8 with ⟨c1, c2⟩ | ⟨c1, c2, c3, c4, c5, c6⟩
  · exact ⟨arr, a7, .inl c2, by unfold hL; rw [if_pos c2, c1]; rfl⟩
  · exact ⟨arr, a7, .inr c3, by unfold hL; rw [if_neg c2, c5]; rfl⟩
theorem sp_J6_add {ev ow : Nat → Nat} {i l cap a : Nat} {els : List Nat} {h : Hp} {MC MS : Nat} {Q : Int32 → Hp → Prop} (A : xAL ev ow i h l els cap) (ha : hok h a 10) (h2 : els.length < 2000) (mc : els.length = cap → 1 ≤ MC) (ms : els.length = cap → nx cap ≤ MS) (q : ∀ ow2 h2, lE ev i ow h l ow2 h2 → xAL ev ow2 i h2 l (els ++ [a]) (capN els.length cap) → Q 1 h2) : wp_J6_add ev h l a MC MS Q := by
  have A1 := xAL_mod (hI h l 0 + 1) A
  have l0 := lE_uI (ev := ev) (i := i) h A.2.1 0 (hI h l 0 + 1)
  obtain ⟨arr, r1, r2, r3⟩ := xAL_hL A1
  have k1 : hok (uI h l 0 (hI h l 0 + 1)) l 11 := A1.1
  have hlen : els.length ≤ 3000 := Nat.le_trans A.2.2.2.1 A.2.2.2.2.1
  have hcap := A.2.2.2.2.1
  -- with room at hand
  have fin : ∀ (ow1 : Nat → Nat) (h1 : Hp) (b c : Nat) (mc ms : Nat), lE ev i ow h l ow1 h1 → xAL ev ow1 i h1 l els c → els.length < c → c = capN els.length cap → hR h1 l 1 = some b → wp_J6_add_2_11 ev (fun h11 => isB 1 ∧ Q 1 h11) l a b (Int32.ofNat els.length) h1 mc ms := by
    intro ow1 h1 b c mc ms f B hc ec hb
    obtain ⟨arr, b1, b2, b3, b4, b5, b6, _⟩ := xAL_arr B hc
    have eb : b = arr := by rw [hb] at b1; exact Option.some.inj b1
    subst eb
    have cle : c ≤ 3000 := by rw [ec]; exact capN_le h2 hcap
    have ka := (hok_E f.1 ha).1
    unfold wp_J6_add_2_11
    refine ⟨b3, ka, vin b5 hc (by omega), fun h2 e2 => ?_⟩
    subst e2
    refine ⟨B.1, fun h5 e5 => ⟨isB_1, ?_⟩⟩
    subst e5
    rw [i_one]
    have f1 : lE ev i ow1 h1 l ow1 (uO h1 b (Int32.ofNat els.length) (some a)) := lE_uO b4 b3 hb _ _
    have f2 : lE ev i ow1 (uO h1 b (Int32.ofNat els.length) (some a)) l ow1 _ := lE_uI (uO h1 b (Int32.ofNat els.length) (some a)) B.2.1 2 (Int32.ofNat (els.length + 1))
    refine q ow1 _ (lE_trans f (lE_trans f1 f2)) ⟨B.1, B.2.1, ?_, ?_, by rw [← ec]; exact B.2.2.2.2.1, fun x hx => ?_, b, hb, .inr ⟨by omega, b2, b3, b4, by rw [← ec]; exact b5, fun k hk => ?_⟩⟩
    · rw [hI_uI, if_pos ⟨rfl, rfl⟩, List.length_append]; rfl
    · rw [List.length_append, ← ec]; exact hc
    · rcases List.mem_append.mp hx with w | w
      · exact B.2.2.2.2.2.1 x w
      · rw [List.mem_singleton] at w; rw [w]; exact ka
    · rw [List.length_append] at hk
      have hk : k < els.length + 1 := hk
      rw [hO_uI, hO_uO, i_cl (by omega), i_cl (by omega)]
      by_cases w : k = els.length
      · rw [if_pos ⟨rfl, w⟩, w, List.getElem?_append_right (Nat.le_refl _), Nat.sub_self]; rfl
      · rw [if_neg (fun y => w y.2), b6 k (by omega), List.getElem?_append_left (by omega)]
  unfold wp_J6_add
  refine ⟨A.1, A.1, fun h2' e2 => ?_⟩
  subst e2
  refine ⟨k1, arr, r1, k1, MC, MS, 0, 0, by omega, by omega, k1, ?_⟩
  unfold wp_J6_add_2
  rw [A1.2.2.1, r3, i_eq (by omega) (by omega)]
  refine ⟨r2, fun w => ?_, fun w => ?_⟩
  · have : els.length < cap := by have := A.2.2.2.1; omega
    exact fin ow _ arr cap MC MS l0 A1 this (by unfold capN; rw [if_neg w]) r1
  · subst w
    refine ⟨MC, MS, 0, 0, by omega, by omega, k1, ?_⟩
    refine sp_J6_grow A1 h2 (mc rfl) (ms rfl) fun ow2 h3 arr2 f B hr k _ => ⟨arr2, rfl, ?_⟩
    exact fin ow2 h3 arr2 _ _ _ (lE_trans l0 f) B (nx_gt _) (by unfold capN; rw [if_pos rfl]) hr
/-- an element comes in between -/
def insAt (els : List Nat) (k a : Nat) : List Nat := els.take k ++ a :: els.drop k
theorem insAt_len {els : List Nat} {k a : Nat} (h : k ≤ els.length) : (insAt els k a).length = els.length + 1 := by
  unfold insAt; simp; omega
theorem insAt_get {els : List Nat} {k a : Nat} (h : k ≤ els.length) (j : Nat) : (insAt els k a)[j]? = if j < k then els[j]? else if j = k then some a else els[j - 1]? := by
  unfold insAt
  by_cases w : j < k
  · rw [if_pos w, List.getElem?_append_left (by rw [List.length_take]; omega), List.getElem?_take, if_pos w]
  · rw [if_neg w, List.getElem?_append_right (by rw [List.length_take]; omega), List.length_take, Nat.min_eq_left h]
    by_cases z : j = k
    · rw [if_pos z, z, Nat.sub_self]; rfl
    · rw [if_neg z]
      obtain ⟨d, rfl⟩ : ∃ d, j = k + 1 + d := ⟨j - k - 1, by omega⟩
      rw [show k + 1 + d - k = d + 1 by omega, List.getElem?_cons_succ, List.getElem?_drop, show k + 1 + d - 1 = k + d by omega]
theorem insAt_mem {els : List Nat} {k a x : Nat} : x ∈ insAt els k a ↔ x = a ∨ x ∈ els := by
  unfold insAt
  rw [List.mem_append, List.mem_cons]
  constructor
  · rintro (h | h | h)
    · exact .inr (List.mem_of_mem_take h)
    · exact .inl h
    · exact .inr (List.mem_of_mem_drop h)
  · rintro (h | h)
    · exact .inr (.inl h)
    · rw [← List.take_append_drop k els, List.mem_append] at h
      rcases h with h | h
      · exact .inl h
      · exact .inr (.inr h)
theorem i_sub {a b : Nat} (h : b ≤ a) : Int32.ofNat a - Int32.ofNat b = Int32.ofNat (a - b) := by
  obtain ⟨d, rfl⟩ := Nat.exists_eq_add_of_le h
  rw [← i_add, Int32.sub_eq_add_neg, Int32.add_comm (Int32.ofNat b), Int32.add_assoc, Int32.add_right_neg, Int32.add_zero, Nat.add_sub_cancel_left]
theorem i_nneg {a : Nat} (h : a < 2147483648) : ¬ Int32.ofNat a < 0 := by rw [i_0, i_lt h (by omega)]; omega
theorem sp_J6_add_3 {ev ow : Nat → Nat} {i l cap a k : Nat} {els : List Nat} {h : Hp} {MC MS : Nat} {Q : Hp → Prop} (A : xAL ev ow i h l els cap) (ha : hok h a 10) (hk : k ≤ els.length) (h2 : els.length < 2000) (mc : els.length = cap → 1 ≤ MC) (ms : els.length = cap → nx cap ≤ MS) (q : ∀ ow2 h2, lE ev i ow h l ow2 h2 → xAL ev ow2 i h2 l (insAt els k a) (capN els.length cap) → Q h2) : wp_J6_add_3 ev h l (Int32.ofNat k) a MC MS Q := by
  have A1 := xAL_mod (hI h l 0 + 1) A
  have l0 := lE_uI (ev := ev) (i := i) h A.2.1 0 (hI h l 0 + 1)
  obtain ⟨arr, r1, r2, r3⟩ := xAL_hL A1
  have k1 : hok (uI h l 0 (hI h l 0 + 1)) l 11 := A1.1
  have hlen : els.length ≤ 3000 := Nat.le_trans A.2.2.2.1 A.2.2.2.2.1
  have hcap := A.2.2.2.2.1
  have fin : ∀ (ow1 : Nat → Nat) (h1 : Hp) (b c : Nat) (mc ms : Nat), lE ev i ow h l ow1 h1 → xAL ev ow1 i h1 l els c → els.length < c → c = capN els.length cap → hR h1 l 1 = some b → wp_J6_add_3_38 ev Q l (Int32.ofNat k) a (Int32.ofNat els.length) b h1 mc ms := by
    intro ow1 h1 b c mc ms f B hc ec hb
    obtain ⟨arr, b1, b2, b3, b4, b5, b6, _⟩ := xAL_arr B hc
    have eb : b = arr := by rw [hb] at b1; exact Option.some.inj b1
    subst eb
    have cle : c ≤ 3000 := by rw [ec]; exact capN_le h2 hcap
    have ka := (hok_E f.1 ha).1
    have zk : (Int32.ofNat k).toNatClampNeg = k := i_cl (by omega)
    have zk1 : (Int32.ofNat (k + 1)).toNatClampNeg = k + 1 := i_cl (by omega)
    have zd : (Int32.ofNat (els.length - k)).toNatClampNeg = els.length - k := i_cl (by omega)
    have raw : ∀ j, j < els.length → h1.2.2.2.2.2.2.2 b j = els[j]? := by
      intro j hj; rw [← b6 j hj]; unfold hO; rw [i_cl (by omega)]
    unfold wp_J6_add_3_38
    rw [i_sub hk, i_one, i_one, zk, zk1, zd, b5]
    refine ⟨b3, b3, ⟨i_nneg (by omega), i_nneg (by omega), i_nneg (by omega), by omega, by omega, fun j hj y hy => ?_⟩, fun h2 e2 => ?_⟩
    · rw [raw (k + j) (by omega)] at hy
      exact B.2.2.2.2.2.1 y (List.mem_of_getElem? hy)
    subst e2
    refine ⟨b3, ka, vin b5 (by omega) (by omega), fun h5 e5 => ?_⟩
    subst e5
    refine ⟨B.1, fun h9 e9 => ?_⟩
    subst e9
    have f1 : lE ev i ow1 h1 l ow1 (uOf h1 b (va_cpy (h1.2.2.2.2.2.2.2 b) (h1.2.2.2.2.2.2.2 b) k (k + 1) (els.length - k))) := lE_uOf b4 b3 hb _
    have f2 : lE ev i ow1 (uOf h1 b (va_cpy (h1.2.2.2.2.2.2.2 b) (h1.2.2.2.2.2.2.2 b) k (k + 1) (els.length - k))) l ow1 _ := lE_uO (h := uOf h1 b (va_cpy (h1.2.2.2.2.2.2.2 b) (h1.2.2.2.2.2.2.2 b) k (k + 1) (els.length - k))) (arr := b) b4 b3 hb (Int32.ofNat k) (some a)
    have f3 := lE_uI (ev := ev) (i := i) (l := l) (ow := ow1) (uO (uOf h1 b (va_cpy (h1.2.2.2.2.2.2.2 b) (h1.2.2.2.2.2.2.2 b) k (k + 1) (els.length - k))) b (Int32.ofNat k) (some a)) B.2.1 2 (Int32.ofNat (els.length + 1))
    refine q ow1 _ (lE_trans f (lE_trans f1 (lE_trans f2 f3))) ⟨B.1, B.2.1, ?_, ?_, by rw [← ec]; exact B.2.2.2.2.1, fun x hx => ?_, b, hb, .inr ⟨by omega, b2, b3, b4, by rw [← ec]; exact b5, fun j hj => ?_⟩⟩
    · rw [hI_uI, if_pos ⟨rfl, rfl⟩, insAt_len hk]
    · rw [insAt_len hk, ← ec]; exact hc
    · rcases insAt_mem.mp hx with w | w
      · rw [w]; exact ka
      · exact B.2.2.2.2.2.1 x w
    · rw [insAt_len hk] at hj
      rw [insAt_get hk, hO_uI, hO_uO, hO_uOf, if_pos rfl, i_cl (by omega), zk]
      by_cases w : j = k
      · rw [if_pos ⟨rfl, w⟩, if_neg (by omega), if_pos w]
      · rw [if_neg (fun y => w y.2)]
        unfold va_cpy
        by_cases y : j < k
        · rw [if_neg (by omega), if_pos y]; exact raw j (by omega)
        · rw [if_pos (by omega), if_neg y, if_neg w, raw _ (by omega), show k + (j - (k + 1)) = j - 1 by omega]
  unfold wp_J6_add_3 wp_J6_rangeCheckForAdd
  rw [A.2.2.1, i_lt (by omega) (by omega), show (0 ≤ Int32.ofNat k) = (Int32.ofNat 0 ≤ Int32.ofNat k) from rfl, i_le (by omega) (by omega)]
  refine ⟨A.1, A.1, fun w => by omega, fun _ => ⟨fun _ => ⟨A.1, A.1, fun h4 e4 => ?_⟩, fun w => by omega⟩⟩
  subst e4
  refine ⟨k1, fun x7 e7 => ⟨k1, arr, r1, r2, ?_⟩⟩
  rw [A1.2.2.1] at e7
  subst e7
  rw [r3, i_eq (by omega) (by omega)]
  refine ⟨fun w => ?_, fun w => ?_⟩
  · have : els.length < cap := by have := A.2.2.2.1; omega
    exact fin ow _ arr cap MC MS l0 A1 this (by unfold capN; rw [if_neg w]) r1
  · subst w
    refine ⟨MC, MS, 0, 0, by omega, by omega, k1, ?_⟩
    refine sp_J6_grow A1 h2 (mc rfl) (ms rfl) fun ow2 h3 arr2 f B hr kk _ => ⟨arr2, rfl, ?_⟩
    exact fin ow2 h3 arr2 _ _ _ (lE_trans l0 f) B (nx_gt _) (by unfold capN; rw [if_pos rfl]) hr
/-- the list is emptied -/
theorem sp_J6_clear {ev ow : Nat → Nat} {i l cap : Nat} {els : List Nat} {h : Hp} {Q : Hp → Prop} (A : xAL ev ow i h l els cap) (q : ∀ h2, lE ev i ow h l ow h2 → xAL ev ow i h2 l [] cap → Q h2) : wp_J6_clear ev h l Q := by
  have A1 := xAL_mod (hI h l 0 + 1) A
  have l0 := lE_uI (ev := ev) (i := i) h A.2.1 0 (hI h l 0 + 1)
  have hlen : els.length ≤ 3000 := Nat.le_trans A.2.2.2.1 A.2.2.2.2.1
  unfold wp_J6_clear
  refine ⟨A.1, A.1, fun h2 e2 => ?_⟩
  subst e2
  obtain ⟨a1, a2, a3, a4, a5, a6, arr, a7, a8⟩ := A1
  refine ⟨a1, arr, a7, a1, fun x7 e7 => ⟨a1, fun h8 e8 => ⟨els.length + 1, ?_⟩⟩⟩
  rw [a3] at e7
  subst e7
  have go : ∀ (t c : Nat) (h3 : Hp), c + t = els.length → lE ev i ow h l ow h3 → xAL ev ow i h3 l [] cap → hR h3 l 1 = some arr → wp_J6_clear_27 ev Q (t + 1) l arr (Int32.ofNat els.length) (Int32.ofNat c) h3 := by
    intro t
    induction t with
    | zero =>
      intro c h3 hc f B hb
      unfold wp_J6_clear_27
      rw [i_le (by omega) (by omega)]
      exact ⟨fun _ => q h3 f B, fun w => by omega⟩
    | succ t ih =>
      intro c h3 hc f B hb
      obtain ⟨arr2, b1, b2, b3, b4, b5, b6, _⟩ := xAL_arr (m := c) B (by omega)
      have eb : arr = arr2 := by rw [hb] at b1; exact Option.some.inj b1
      subst eb
      unfold wp_J6_clear_27
      rw [i_le (by omega) (by omega)]
      refine ⟨fun w => by omega, fun _ => ⟨b3, vin b5 (by omega) (by omega), fun h1 e1 x4 e4 => ?_⟩⟩
      subst e4
      rw [i_one]
      subst e1
      refine ih (c + 1) _ (by omega) (lE_trans f (lE_uO b4 b3 hb _ _)) ?_ hb
      exact ⟨B.1, B.2.1, B.2.2.1, B.2.2.2.1, B.2.2.2.2.1, B.2.2.2.2.2.1, arr, hb, .inr ⟨by omega, b2, b3, b4, b5, fun k hk => by cases hk⟩⟩
  refine go els.length 0 h8 (by omega) ?_ ?_ ?_
  · rw [e8]; exact lE_trans l0 (lE_uI (uI h l 0 (hI h l 0 + 1)) a2 2 0)
  · rw [e8]
    refine ⟨a1, a2, by rw [hI_uI, if_pos ⟨rfl, rfl⟩]; rfl, Nat.zero_le _, a5, (fun a ha => (by cases ha)), arr, a7, ?_⟩
    rcases a8 with c | ⟨c1, c2, c3, c4, c5, c6⟩
    · exact .inl c
    · exact .inr ⟨c1, c2, c3, c4, c5, fun k hk => by cases hk⟩
  · rw [e8]; exact a7
/-- the last element goes -/
theorem sp_J6_remove {ev ow : Nat → Nat} {i l cap a : Nat} {els : List Nat} {h : Hp} {Q : Option Nat → Hp → Prop} (A : xAL ev ow i h l (els ++ [a]) cap) (q : ∀ h2, lE ev i ow h l ow h2 → xAL ev ow i h2 l els cap → Q (some a) h2) : wp_J6_remove ev h l (Int32.ofNat els.length) Q := by
  have len : (els ++ [a]).length = els.length + 1 := by simp
  have hlen : els.length + 1 ≤ 3000 := by have := A.2.2.2.1; have := A.2.2.2.2.1; omega
  obtain ⟨arr, b1, b2, b3, b4, b5, b6, _⟩ := xAL_arr (m := els.length) A (by have := A.2.2.2.1; omega)
  have A1 := xAL_mod (hI h l 0 + 1) A
  have l0 := lE_uI (ev := ev) (i := i) h A.2.1 0 (hI h l 0 + 1)
  have hc : els.length < cap := by have := A.2.2.2.1; omega
  have hcap := A.2.2.2.2.1
  unfold wp_J6_remove wp_J8_checkIndex wp_J9_checkIndex
  rw [A.2.2.1, len, show (Int32.ofNat els.length < 0) = (Int32.ofNat els.length < Int32.ofNat 0) from rfl, i_lt (by omega) (by omega), i_lt (by omega) (by omega)]
  refine ⟨A.1, fun w => by omega, fun _ => ⟨fun _ => ⟨A.1, arr, b1, b3, vin b5 hc (by omega), A.1, ?_⟩, fun w => by omega⟩⟩
  unfold wp_J6_fastRemove wp_J6_fastRemove_34
  have e1 : hO h arr (Int32.ofNat els.length) = some a := by
    rw [b6 els.length (by omega), List.getElem?_append_right (Nat.le_refl _), Nat.sub_self]; rfl
  rw [e1]
  refine ⟨A.1, A.1, fun h2 e2 => ?_⟩
  subst e2
  refine ⟨A1.1, fun x5 e5 => ?_⟩
  have one : (1 : Int32) = Int32.ofNat 1 := rfl
  rw [A1.2.2.1, len, one, i_sub (by omega), Nat.add_sub_cancel] at e5
  subst e5
  rw [i_le (by omega) (by omega)]
  refine ⟨fun _ => ⟨A1.1, fun h1 e1 => ?_⟩, fun w => absurd (Nat.le_refl _) w⟩
  subst e1
  refine ⟨b3, vin b5 hc (by omega), fun h3 e3 => ?_⟩
  subst e3
  have f2 := lE_uI (ev := ev) (i := i) (uI h l 0 (hI h l 0 + 1)) A1.2.1 2 (Int32.ofNat els.length)
  have f3 : lE ev i ow (uI (uI h l 0 (hI h l 0 + 1)) l 2 (Int32.ofNat els.length)) l ow _ := lE_uO (h := uI (uI h l 0 (hI h l 0 + 1)) l 2 (Int32.ofNat els.length)) (arr := arr) b4 b3 b1 (Int32.ofNat els.length) none
  refine q _ (lE_trans l0 (lE_trans f2 f3)) ⟨A.1, A.2.1, ?_, by omega, A.2.2.2.2.1, fun x hx => A.2.2.2.2.2.1 x (List.mem_append_left _ hx), arr, b1, .inr ⟨by omega, b2, b3, b4, b5, fun k hk => ?_⟩⟩
  · rw [hI_uO, hI_uI, if_pos ⟨rfl, rfl⟩]
  · rw [hO_uO, if_neg (by rw [i_cl (by omega), i_cl (by omega)]; omega), hO_uI, hO_uI, b6 k (by omega), List.getElem?_append_left hk]
