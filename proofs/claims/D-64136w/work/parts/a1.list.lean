/-! VECTORS, LISTS OF VECTORS in the component's heap -/
/-- an ArrayList of part i with the elements els and room for cap -/
def xAL (ev ow : Nat → Nat) (i : Nat) (h : Hp) (l : Nat) (els : List Nat) (cap : Nat) : Prop :=
  hok h l 11 ∧ ow l = i ∧ hI h l 2 = Int32.ofNat els.length ∧ els.length ≤ cap ∧ cap ≤ 3000 ∧ (∀ a, a ∈ els → hok h a 10) ∧
  ∃ arr, hR h l 1 = some arr ∧ (cap = 0 ∧ arr = ev 11 ∨ 0 < cap ∧ arr ≠ ev 11 ∧ hok h arr 26 ∧ ow arr = i ∧ hN h arr = cap ∧ ∀ k, k < els.length → hO h arr (Int32.ofNat k) = els[k]?)
theorem xAL_E {ev : Nat → Nat} {I : Nat → Prop} {ow ow2 : Nat → Nat} {h h2 : Hp} {i l cap : Nat} {els : List Nat} (f : hE I ow h ow2 h2) (hi : ¬ I i) (A : xAL ev ow i h l els cap) : xAL ev ow2 i h2 l els cap := by
  obtain ⟨a1, a2, a3, a4, a5, a6, arr, a7, a8⟩ := A
  have li : ¬ I (ow l) := by rw [a2]; exact hi
  obtain ⟨b1, b2, b3⟩ := hok_E f a1
  refine ⟨b1, b2.trans a2, by rw [hI_E f a1 li]; exact a3, a4, a5, fun a ha => (hok_E f (a6 a ha)).1, arr, by rw [hR_E f a1 li]; exact a7, ?_⟩
  rcases a8 with ⟨c1, c2⟩ | ⟨c1, c2, c3, c4, c5, c6⟩
  · exact .inl ⟨c1, c2⟩
  · obtain ⟨d1, d2, d3⟩ := hok_E f c3
    exact .inr ⟨c1, c2, d1, d2.trans c4, d3.trans c5, fun k hk => by rw [hO_E f c3 (by rw [c4]; exact hi)]; exact c6 k hk⟩
/-- what an operation on the list l may have changed: l, its array, new cells -/
def lE (ev : Nat → Nat) (i : Nat) (ow : Nat → Nat) (h : Hp) (l : Nat) (ow2 : Nat → Nat) (h2 : Hp) : Prop :=
  hE (· = i) ow h ow2 h2 ∧ (∀ b, b ∈ h.1 → b ≠ l → ¬ (hok h b 26 ∧ hR h l 1 = some b) → hSame h h2 b) ∧ ∀ arr, hR h2 l 1 = some arr → hR h l 1 = some arr ∨ arr ∉ h.1 ∧ arr ≠ ev 11
theorem hSame_trans {h h2 h3 : Hp} {b : Nat} (f : hSame h h2 b) (g : hSame h2 h3 b) : hSame h h3 b := by
  obtain ⟨a1, a2, a3, a4, a5⟩ := f
  obtain ⟨b1, b2, b3, b4, b5⟩ := g
  exact ⟨b1.trans a1, b2.trans a2, b3.trans a3, b4.trans a4, b5.trans a5⟩
theorem hSame_refl (h : Hp) (b : Nat) : hSame h h b := ⟨rfl, rfl, rfl, rfl, rfl⟩
theorem lE_refl (ev : Nat → Nat) (i : Nat) (ow : Nat → Nat) (h : Hp) (l : Nat) : lE ev i ow h l ow h := ⟨hE_refl _ _ _, fun b _ _ _ => hSame_refl h b, fun _ w => .inl w⟩
theorem lE_trans {ev : Nat → Nat} {i l : Nat} {ow ow2 ow3 : Nat → Nat} {h h2 h3 : Hp} (f : lE ev i ow h l ow2 h2) (g : lE ev i ow2 h2 l ow3 h3) : lE ev i ow h l ow3 h3 := by
  refine ⟨hE_trans f.1 g.1, fun b hb hl hn => ?_, fun arr h3 => ?_⟩
  · obtain ⟨b1, b2, b3, b4⟩ := f.1.1 b hb
    refine hSame_trans (f.2.1 b hb hl hn) (g.2.1 b b1 hl fun w => hn ?_)
    have kb : hok h b 26 := ⟨hb, by rw [← b3]; exact w.1.2⟩
    refine ⟨kb, ?_⟩
    rcases f.2.2 b w.2 with c | c
    · exact c
    · exact absurd hb c.1
  · rcases g.2.2 arr h3 with c | c
    · exact f.2.2 arr c
    · exact .inr ⟨fun w => c.1 (f.1.1 arr w).1, c.2⟩
theorem lE_uI {ev : Nat → Nat} {i l : Nat} {ow : Nat → Nat} (h : Hp) (hi : ow l = i) (k : Nat) (x : Int32) : lE ev i ow h l ow (uI h l k x) :=
  ⟨hE_uI h hi k x, fun b _ hl _ => ⟨by simp [uI, va_up, hl], rfl, rfl, rfl, rfl⟩, fun arr w => .inl (by rwa [hR_uI] at w)⟩
theorem lE_uO {ev : Nat → Nat} {i l arr : Nat} {ow : Nat → Nat} {h : Hp} (hi : ow arr = i) (ha : hok h arr 26) (hl : hR h l 1 = some arr) (k : Int32) (x : Option Nat) : lE ev i ow h l ow (uO h arr k x) :=
  ⟨hE_uO h hi k x, fun b _ _ hn => by
    have : b ≠ arr := fun e => hn (e ▸ ⟨ha, hl⟩)
    exact ⟨rfl, rfl, rfl, rfl, by simp [uO, uOf, va_up, this]⟩, fun arr w => .inl w⟩
theorem lE_uOf {ev : Nat → Nat} {i l arr : Nat} {ow : Nat → Nat} {h : Hp} (hi : ow arr = i) (ha : hok h arr 26) (hl : hR h l 1 = some arr) (g : Nat → Option Nat) : lE ev i ow h l ow (uOf h arr g) :=
  ⟨hE_uOf h hi g, fun b _ _ hn => by
    have : b ≠ arr := fun e => hn (e ▸ ⟨ha, hl⟩)
    exact ⟨rfl, rfl, rfl, rfl, by simp [uOf, va_up, this]⟩, fun arr w => .inl w⟩
/-- the next room -/
def nx (c : Nat) : Nat := if c = 0 then 10 else c + max 1 (c / 2)
theorem nx_gt (c : Nat) : c < nx c := by unfold nx; split <;> omega
theorem nx_le {c : Nat} (h : c < 2000) : nx c ≤ 3000 := by unfold nx; split <;> omega
theorem nx_pot (c : Nat) : 4 * c + nx c ≤ 4 * nx c := by unfold nx; split <;> omega
theorem i_shr : ∀ m : Nat, m < 2000 → Int32.ofNat m >>> (1 : Int32) = Int32.ofNat (m / 2) := by decide +kernel
theorem i_sub1 (m : Nat) : Int32.ofNat (m + 1) - Int32.ofNat m = Int32.ofNat 1 := by
  rw [← i_add, Int32.sub_eq_add_neg, Int32.add_comm (Int32.ofNat m), Int32.add_assoc, Int32.add_right_neg, Int32.add_zero]
theorem sp_J6_size {ev ow : Nat → Nat} {i l cap : Nat} {els : List Nat} {h : Hp} {Q : Int32 → Hp → Prop} (A : xAL ev ow i h l els cap) (q : Q (Int32.ofNat els.length) h) : wp_J6_size ev h l Q := by
  refine ⟨A.1, ?_⟩
  rw [A.2.2.1]; exact q
theorem sp_J6_isEmpty {ev ow : Nat → Nat} {i l cap : Nat} {els : List Nat} {h : Hp} {Q : Int32 → Hp → Prop} (A : xAL ev ow i h l els cap) (q0 : els ≠ [] → Q 0 h) (q1 : els = [] → Q 1 h) : wp_J6_isEmpty ev h l Q := by
  have : els.length ≤ 3000 := Nat.le_trans A.2.2.2.1 A.2.2.2.2.1
  unfold wp_J6_isEmpty wp_J6_isEmpty_12
  rw [A.2.2.1, i_0, i_eq (by omega) (by omega)]
  refine ⟨A.1, fun hh => ⟨isB_0, q0 fun e => hh (by rw [e]; rfl)⟩, fun hh => ⟨isB_1, q1 (List.length_eq_zero_iff.mp hh)⟩⟩
theorem sp_J6_get {ev ow : Nat → Nat} {i l cap k : Nat} {els : List Nat} {h : Hp} {Q : Option Nat → Hp → Prop} (A : xAL ev ow i h l els cap) (hk : k < els.length) (q : Q els[k]? h) : wp_J6_get ev h l (Int32.ofNat k) Q := by
  obtain ⟨a1, a2, a3, a4, a5, a6, arr, a7, a8⟩ := A
  unfold wp_J6_get wp_J8_checkIndex wp_J9_checkIndex wp_J6_elementData
  rw [a3, i_0, i_lt (by omega) (by omega), i_lt (by omega) (by omega)]
  rcases a8 with ⟨c1, c2⟩ | ⟨c1, c2, c3, c4, c5, c6⟩
  · omega
  · refine ⟨a1, fun w => by omega, fun _ => ⟨fun _ => ⟨a1, a1, arr, a7, c3, vin c5 (by omega) (by omega), by rw [c6 k hk]; exact q⟩, fun w => absurd hk w⟩⟩
/-- room for one more -/
theorem sp_J6_grow {ev ow : Nat → Nat} {i l : Nat} {els : List Nat} {h : Hp} {MC MS : Nat} {Q : Option Nat → Hp → Prop} (A : xAL ev ow i h l els els.length) (h2 : els.length < 2000) (mc : 1 ≤ MC) (ms : nx els.length ≤ MS) (q : ∀ ow2 h2 arr, lE ev i ow h l ow2 h2 → xAL ev ow2 i h2 l els (nx els.length) → hR h2 l 1 = some arr → hok h2 arr 26 → ow2 arr = i → Q (some arr) h2) : wp_J6_grow ev h l MC MS Q := by
  have A0 := A
  obtain ⟨a1, a2, a3, a4, a5, a6, arr, a7, a8⟩ := A
  obtain ⟨mc', rfl⟩ : ∃ m, MC = 1 + m := ⟨MC - 1, by omega⟩
  obtain ⟨ms', rfl⟩ : ∃ m, MS = nx els.length + m := ⟨MS - nx els.length, by omega⟩
  have one : Int32.ofNat els.length + 1 = Int32.ofNat (els.length + 1) := i_one _
  have s11 : (1 : Int32) &&& 31 = 1 := by decide
  -- what is there once the new array is
  have fin : ∀ (q5 : Nat) (h6 : Hp) (c : Nat), q5 ∉ h.1 ∧ q5 ≠ ev 11 → c = nx els.length → h6 = nA h q5 26 c → (∀ g : Nat → Option Nat, (∀ k, k < els.length → g k = els[k]?) → Q (some q5) (uR (uOf h6 q5 g) l 1 (some q5))) := by
    intro q5 h6 c hq hc e6 g hg
    have ne : l ≠ q5 := hok_fresh a1 hq.1
    subst e6
    have f1 : hE (· = i) ow h (owS ow q5 i) (nA h q5 26 c) := hE_nA i hq.1
    have f2 : hE (· = i) (owS ow q5 i) (nA h q5 26 c) (owS ow q5 i) (uOf (nA h q5 26 c) q5 g) := hE_uOf _ (owS_q ow q5 i) g
    have f3 : hE (· = i) (owS ow q5 i) (uOf (nA h q5 26 c) q5 g) (owS ow q5 i) (uR (uOf (nA h q5 26 c) q5 g) l 1 (some q5)) := hE_uR _ (by rw [owS_ne ow ne]; exact a2) 1 _
    have f := hE_trans f1 (hE_trans f2 f3)
    have r1 : hR (uR (uOf (nA h q5 26 c) q5 g) l 1 (some q5)) l 1 = some q5 := by rw [hR_uR, if_pos ⟨rfl, rfl⟩]
    have k1 : hok (uR (uOf (nA h q5 26 c) q5 g) l 1 (some q5)) q5 26 := by
      rw [hok_uR, hok_uOf]; exact hok_nA
    refine q (owS ow q5 i) _ q5 ⟨f, fun b hb hbl _ => ?_, fun arr w => ?_⟩ ⟨(hok_E f a1).1, by rw [owS_ne ow ne]; exact a2, ?_, ?_, nx_le h2, fun a ha => (hok_E f (a6 a ha)).1, q5, r1, .inr ⟨by have := nx_gt els.length; omega, hq.2, k1, owS_q ow q5 i, ?_, fun k hk => ?_⟩⟩ r1 k1 (owS_q ow q5 i)
    · have : b ≠ q5 := fun e => hq.1 (e ▸ hb)
      exact ⟨rfl, by simp [uR, uOf, nA, va_up, hbl], by simp [uR, uOf, nA, va_up, this], by simp [uR, uOf, nA, va_up, this], by simp [uR, uOf, nA, va_up, this]⟩
    · rw [r1] at w; injection w with w; exact .inr (w ▸ hq)
    · rw [hI_uR, hI_uOf, hI_nA]; exact a3
    · exact Nat.le_of_lt (nx_gt _)
    · rw [hN_uR, hN_uOf, hN_nA, if_pos rfl, hc]
    · rw [hO_uR, hO_uOf, if_pos rfl, i_cl (by omega)]; exact hg k hk
  unfold wp_J6_grow
  refine ⟨a1, 1 + mc', nx els.length + ms', 0, 0, by omega, by omega, a1, ?_⟩
  unfold wp_J6_grow_2
  rw [a3, one]
  rcases a8 with ⟨c1, c2⟩ | ⟨c1, c2, c3, c4, c5, c6⟩
  · -- the empty list
    have hL0 : hL ev h arr = 0 := by unfold hL; rw [if_pos c2]
    refine ⟨a1, arr, a7, .inl c2, fun x4 e4 => ?_⟩
    rw [hL0] at e4
    subst e4
    refine ⟨fun w => absurd w (by decide), fun _ => ⟨a1, arr, a7, fun _ => ?_, fun w => absurd c2 w⟩⟩
    rw [c1]
    unfold wp_J7_max wp_J7_max_10
    refine ⟨fun w => absurd w (by decide), fun _ => ⟨by decide, fun k9 e9 => ?_⟩⟩
    have k10 : k9 = 10 := by rw [← e9]; decide
    subst k10
    refine ⟨by decide, mc', ms', rfl, rfl, fun q13 hq h14 e14 => ?_⟩
    have e00 : els = [] := List.length_eq_zero_iff.mp c1
    have g := fin q13 h14 10 hq (by rw [c1]; rfl) e14 (fun _ => none) (fun k hk => by omega)
    refine ⟨?_, fun h15 e15 => ⟨q13, rfl, ?_⟩⟩
    · rw [e14]; exact (hok_E (hE_nA (I := fun _ => False) (ow := ow) 0 hq.1) a1).1
    · have : uOf h14 q13 (fun _ => none) = h14 := by
        rw [e14]
        unfold uOf nA
        refine Prod.ext rfl (Prod.ext rfl (Prod.ext rfl (Prod.ext rfl (Prod.ext rfl (Prod.ext rfl (Prod.ext rfl ?_))))))
        funext a
        by_cases w : a = q13 <;> simp [va_up, w]
      rw [this] at g
      rw [e15]; exact g
  · have hL1 : hL ev h arr = Int32.ofNat els.length := by unfold hL; rw [if_neg c2, c5]; rfl
    have pos : (0 : Int32) < Int32.ofNat els.length := by rw [i_0, i_lt (by omega) (by omega)]; exact c1
    refine ⟨a1, arr, a7, .inr c3, fun x4 e4 => ?_⟩
    rw [hL1] at e4
    subst e4
    refine ⟨fun _ => ?_, fun w => absurd pos w⟩
    unfold wp_J6_grow_2_20 wp_J10_newLength wp_J7_max wp_J7_max_10
    rw [s11]
    rw [i_shr _ h2, i_sub1]
    have pl : els.length ≤ 1999 := by omega
    have go : ∀ x2 : Nat, x2 = max 1 (els.length / 2) → ∀ x3 : Int32, x3 = Int32.ofNat els.length + Int32.ofNat x2 → (x3 ≤ 0 → wp_J10_newLength_21 ev (fun (x2 : Int32) (h1 : Hp) =>
    hok h1 l 11 ∧
    ∃ b4 : Nat, hR h1 l 1 = some b4 ∧
    ∃ c5 d6 mc7 ms8 : Nat, 1 + mc' = c5 + mc7 ∧ nx els.length + ms' = d6 + ms8 ∧
    wp_J11_copyOf ev h1 b4 x2 c5 d6 (fun (r10 : Option Nat) (h9 : Hp) =>
      ∃ b11 : Nat, r10 = some b11 ∧
      hok h9 l 11 ∧
      ∀ (h12 : Hp), h12 = uR h9 l 1 (some b11) → ∃ b9 : Nat, some b11 = some b9 ∧ Q (some b9) h12)) (Int32.ofNat els.length) (Int32.ofNat 1) h) ∧ (¬ x3 ≤ 0 → (2147483639 < x3 → wp_J10_newLength_21 ev (fun (x2 : Int32) (h1 : Hp) =>
    hok h1 l 11 ∧
    ∃ b4 : Nat, hR h1 l 1 = some b4 ∧
    ∃ c5 d6 mc7 ms8 : Nat, 1 + mc' = c5 + mc7 ∧ nx els.length + ms' = d6 + ms8 ∧
    wp_J11_copyOf ev h1 b4 x2 c5 d6 (fun (r10 : Option Nat) (h9 : Hp) =>
      ∃ b11 : Nat, r10 = some b11 ∧
      hok h9 l 11 ∧
      ∀ (h12 : Hp), h12 = uR h9 l 1 (some b11) → ∃ b9 : Nat, some b11 = some b9 ∧ Q (some b9) h12)) (Int32.ofNat els.length) (Int32.ofNat 1) h) ∧ (¬ 2147483639 < x3 → hok h l 11 ∧
    ∃ b4 : Nat, hR h l 1 = some b4 ∧
    ∃ c5 d6 mc7 ms8 : Nat, 1 + mc' = c5 + mc7 ∧ nx els.length + ms' = d6 + ms8 ∧
    wp_J11_copyOf ev h b4 x3 c5 d6 (fun (r10 : Option Nat) (h9 : Hp) =>
      ∃ b11 : Nat, r10 = some b11 ∧
      hok h9 l 11 ∧
      ∀ (h12 : Hp), h12 = uR h9 l 1 (some b11) → ∃ b9 : Nat, some b11 = some b9 ∧ Q (some b9) h12))) := by
      intro x2 e2 x3 e3
      have en : els.length + x2 = nx els.length := by unfold nx; rw [if_neg (by omega), e2]
      rw [i_add, en] at e3
      subst e3
      have nl := nx_le h2
      have ng := nx_gt els.length
      rw [i_0, i_le (by omega) (by omega), show (2147483639 : Int32) = Int32.ofNat 2147483639 from rfl, i_lt (by omega) (by omega)]
      refine ⟨fun w => by omega, fun _ => ⟨fun w => by omega, fun _ => ⟨a1, arr, a7, 1 + mc', nx els.length + ms', 0, 0, by omega, by omega, ?_⟩⟩⟩
      unfold wp_J11_copyOf
      refine ⟨c3, 1 + mc', nx els.length + ms', 0, 0, by omega, by omega, ?_⟩
      unfold wp_J11_copyOf_2
      refine ⟨fun w => absurd rfl w, fun _ => ⟨by rw [i_0, i_lt (by omega) (by omega)]; omega, fun k1 e1 => ?_⟩⟩
      rw [i_cl (by omega)] at e1
      refine ⟨by omega, mc', ms', rfl, by rw [e1], fun q5 hq h6 e6 => ?_⟩
      have g := fin q5 h6 k1 hq e1.symm e6
      have fr : hE (· = i) ow h (owS ow q5 i) h6 := by rw [e6]; exact hE_nA i hq.1
      have ka := hok_E fr c3
      have anq : arr ≠ q5 := hok_fresh c3 hq.1
      have hLn : hL ev h6 arr = Int32.ofNat els.length := by
        unfold hL; rw [if_neg c2, ka.2.2, c5]; rfl
      have kq : hok h6 q5 26 := by rw [e6]; exact hok_nA
      have nq : hN h6 q5 = nx els.length := by rw [e6, hN_nA, if_pos rfl, e1]
      have raw : ∀ k, k < els.length → h6.2.2.2.2.2.2.2 arr k = els[k]? := by
        intro k hk
        rw [← c6 k hk]
        have : h6.2.2.2.2.2.2.2 arr = h.2.2.2.2.2.2.2 arr := by rw [e6]; simp [nA, va_up, anq]
        rw [this]; unfold hO; rw [i_cl (by omega)]
      refine ⟨.inr ka.1, ?_⟩
      unfold wp_J7_min wp_J7_min_10
      rw [hLn, i_lt (by omega) (by omega)]
      have z0 : (0 : Int32).toNatClampNeg = 0 := rfl
      have zc : (Int32.ofNat els.length).toNatClampNeg = els.length := i_cl (by omega)
      refine ⟨fun w => by omega, fun _ => ⟨ka.1, kq, ⟨by decide, by decide, by rw [i_0, i_lt (by omega) (by omega)]; omega, by rw [z0, zc, ka.2.2, c5]; omega, by rw [z0, zc, nq]; omega, fun k hk y hy => ?_⟩, fun h10 e10 => ⟨q5, rfl, q5, rfl, ?_, fun h12 e12 => ⟨q5, rfl, ?_⟩⟩⟩⟩
      · rw [zc] at hk
        rw [z0, Nat.zero_add, raw k hk] at hy
        exact (hok_E fr (a6 y (List.mem_of_getElem? hy))).1
      · rw [e10, hok_uOf]; exact (hok_E fr a1).1
      · rw [e12, e10]
        exact g _ fun k hk => by
          unfold va_cpy
          rw [z0, zc, if_pos (by omega), Nat.zero_add, Nat.sub_zero]; exact raw k hk
    refine ⟨fun w => go _ ?_, fun w => go 1 ?_⟩
    · rw [i_lt (a := 1) (by omega) (by omega)] at w; omega
    · rw [i_lt (a := 1) (by omega) (by omega)] at w; omega
