/-! SHELVES: spare, be, put, keep -/
theorem sp_X7_spareL {ev ow : Nat → Nat} {i q lt ls ct cs : Nat} {h : Hp} {T S : List Nat} {fb : Nat → Nat} {xs : List (Nat → Int)} {Q : Option Nat → Hp → Prop} (A : xShL ev ow i h q lt ls T S [] fb xs ct cs) (q0 : S = [] → Q none h) (q1 : ∀ a S' h2, S = S' ++ [a] → sE i ow h ow h2 → xShL ev ow i h2 q lt ls T S' [a] fb xs ct cs → Q (some a) h2) : wp_X7_spare ev h q Q := by
  obtain ⟨H, at_, as_, ap, nd, po, len, cel⟩ := A
  obtain ⟨k1, k2, k3, k4, k5⟩ := H
  unfold wp_X7_spare wp_X7_spare_33
  refine ⟨k1, ls, k4, as_.1, sp_J6_isEmpty as_ (fun ne => ⟨fun _ => ⟨k1, ls, k4, k1, ls, k4, as_.1, sp_J6_size as_ ⟨as_.1, ?_⟩⟩, fun w => absurd rfl w⟩) fun e => ⟨fun w => absurd w (by decide), fun _ => q0 e⟩⟩
  obtain ⟨S', a, rfl⟩ : ∃ S' a, S = S' ++ [a] := ⟨S.dropLast, S.getLast ne, (List.dropLast_concat_getLast ne).symm⟩
  have one : (1 : Int32) = Int32.ofNat 1 := rfl
  have sl : (S' ++ [a]).length = S'.length + 1 := by simp
  rw [sl, one, i_sub (by omega), Nat.add_sub_cancel]
  have ha : a ∈ T ++ (S' ++ [a]) ++ [] := by simp
  refine sp_J6_remove as_ fun h2 f2 as2 => ⟨fun b hb => ?_, ?_⟩
  · rw [← Option.some.inj hb]; exact (hok_E f2.1 (po.1 a ha).1).1
  · have f3 := lE_s f2 as_.1
    obtain ⟨at2, ap2⟩ := xAL_l f2 as_.1 k5 (fun b hb c1 c2 => ap b hb c2 c1) at_
    have e : T ++ S' ++ [a] = T ++ (S' ++ [a]) ++ [] := by simp
    refine q1 a S' h2 rfl f3 ⟨xShL_head (ev := ev) f3 ⟨k1, k2, k3, k4, k5⟩, at2, as2, fun b hb c1 c2 => ap2 b hb c2 c1, by rw [e]; exact nd, by rw [e]; exact xPo_s f3 po, len, fun k b v e1 e2 => ?_⟩
    exact xVc_s f3 po (List.mem_append_left _ (List.mem_append_left _ (List.mem_of_getElem? e1))) (cel k b v e1 e2)
/-- the signs of bits put on -/
def vSg (B : Nat) (x : Nat → Int) : Nat → Int := fun c => if c < 6 then (if B.testBit c = true then -x c else x c) else 0
theorem i_bit : ∀ B, B < 64 → ∀ c, c < 6 → (((Int32.ofNat B >>> (Int32.ofNat c &&& 31)) &&& 1) = 1 ↔ B.testBit c = true) := by decide +kernel
def bE (a b : Nat) (h h2 : Hp) : Prop :=
  h2.1 = h.1 ∧ h2.2.1 = h.2.1 ∧ h2.2.2.1 = h.2.2.1 ∧ (∀ x, x ≠ a → h2.2.2.2.1 x = h.2.2.2.1 x) ∧ h2.2.2.2.2.1 = h.2.2.2.2.1 ∧ (∀ x, x ≠ b → h2.2.2.2.2.2.1 x = h.2.2.2.2.2.1 x) ∧ h2.2.2.2.2.2.2.1 = h.2.2.2.2.2.2.1 ∧ h2.2.2.2.2.2.2.2 = h.2.2.2.2.2.2.2
theorem bE_refl (a b : Nat) (h : Hp) : bE a b h h := ⟨rfl, rfl, rfl, fun _ _ => rfl, rfl, fun _ _ => rfl, rfl, rfl⟩
theorem bE_trans {a b : Nat} {h h2 h3 : Hp} (f : bE a b h h2) (g : bE a b h2 h3) : bE a b h h3 := by
  obtain ⟨a1, a2, a3, a4, a5, a6, a7, a8⟩ := f
  obtain ⟨b1, b2, b3, b4, b5, b6, b7, b8⟩ := g
  exact ⟨b1.trans a1, b2.trans a2, b3.trans a3, fun x hx => (b4 x hx).trans (a4 x hx), b5.trans a5, fun x hx => (b6 x hx).trans (a6 x hx), b7.trans a7, b8.trans a8⟩
theorem bE_uI (a b : Nat) (h : Hp) (k : Nat) (x : Int32) : bE a b h (uI h a k x) := ⟨rfl, rfl, rfl, fun y hy => by simp [uI, va_up, hy], rfl, fun _ _ => rfl, rfl, rfl⟩
theorem bE_uA (a b : Nat) (h : Hp) (k x : Int32) : bE a b h (uA h b k x) := ⟨rfl, rfl, rfl, fun _ _ => rfl, rfl, fun y hy => by simp [uA, uAf, va_up, hy], rfl, rfl⟩
theorem bE_hok {a b : Nat} {h h2 : Hp} (f : bE a b h h2) (c n : Nat) : hok h2 c n ↔ hok h c n := by unfold hok; rw [f.1, f.2.1]
theorem bE_same {a b c : Nat} {h h2 : Hp} (f : bE a b h h2) (ha : c ≠ a) (hb : c ≠ b) : hSame h h2 c :=
  ⟨f.2.2.2.1 c ha, by rw [f.2.2.2.2.1], f.2.2.2.2.2.1 c hb, by rw [f.2.2.2.2.2.2.1], by rw [f.2.2.2.2.2.2.2]⟩
theorem vSg_size {B : Nat} {x : Nat → Int} (h0 : ∀ c, c < 6 → 0 ≤ x c) : vSize (vSg B x) = qS x 6 := by
  unfold vSize
  refine qS_congr fun c hc => ?_
  have := h0 c hc
  unfold qab vSg
  rw [if_pos hc]
  split <;> omega
theorem vSg_ok {B : Nat} {x : Nat → Int} (h0 : ∀ c, c < 6 → 0 ≤ x c ∧ x c ≤ 100) : vOk (vSg B x) := by
  refine ⟨fun c hc => ?_, fun c hc => ?_⟩
  · have := h0 c hc
    unfold vSg; rw [if_pos hc]; split <;> omega
  · unfold vSg; rw [if_neg (by omega)]
theorem sp_X11_be {ev : Nat → Nat} {a b p B : Nat} {x : Nat → Int} {h : Hp} {Q : Hp → Prop} (ha : hok h a 10) (hr : hR h a 0 = some b) (hb : hok h b 21) (hn : hN h b = 6) (X : xA6 h p x) (h0 : ∀ c, c < 6 → 0 ≤ x c ∧ x c ≤ 100) (hB : B < 64) (q : ∀ h2, bE a b h h2 → xVc h2 a b (vSg B x) → Q h2) : wp_X11_be ev h a p (Int32.ofNat B) Q := by
  have six : (6 : Int32) = Int32.ofNat 6 := rfl
  obtain ⟨x1, x2, x3⟩ := X
  unfold wp_X11_be
  refine ⟨ha, fun h1 e1 => ⟨7, ?_⟩⟩
  have go : ∀ (t c : Nat) (h3 : Hp), c + t = 6 → bE a b h h3 → hI h3 a 1 = Int32.ofInt (qS x c) → (∀ y, y < c → hA h3 b (Int32.ofNat y) = Int32.ofInt (vSg B x y)) → wp_X11_be_7 ev Q (t + 1) a p (Int32.ofNat B) (Int32.ofNat c) h3 := by
    intro t
    induction t with
    | zero =>
      intro c h3 hc f hi hh
      have : c = 6 := by omega
      subst this
      unfold wp_X11_be_7
      rw [six, i_le (by omega) (by omega)]
      refine ⟨fun _ => q h3 f ⟨by rw [hi, vSg_size fun c hc => (h0 c hc).1], hh, vSg_ok h0⟩, fun w => by omega⟩
    | succ t ih =>
      intro c h3 hc f hi hh
      have pa : p ≠ a := hok_ne x1 ha (by decide)
      have pb : p ≠ b := hok_ne x1 hb (by decide)
      have ab : a ≠ b := hok_ne ha hb (by decide)
      have pr : hA h3 p (Int32.ofNat c) = Int32.ofInt (x c) := by rw [hA_same (bE_same f pa pb)]; exact (x3 c (by omega)).1
      have hp : hok h3 p 20 := (bE_hok f _ _).mpr x1
      have hpn : hN h3 p = 6 := by unfold hN; rw [f.2.2.1]; exact x2
      have hbn : hN h3 b = 6 := by unfold hN; rw [f.2.2.1]; exact hn
      have go2 : ∀ u : Int, u = vSg B x c → wp_X11_be_37 ev Q (wp_X11_be_7 ev Q (t + 1)) a p (Int32.ofNat B) (Int32.ofNat c) b (Int32.ofNat c) (Int32.ofInt u) h3 := by
        intro u hu
        unfold wp_X11_be_37
        have ub : u.natAbs ≤ 100 := by rw [hu]; exact (vSg_ok h0).1 c (by omega)
        refine ⟨(bE_hok f _ _).mpr hb, vin hbn (by omega) (by omega), fun h4 e4 => ?_⟩
        rw [i_byte ub] at e4
        subst e4
        refine ⟨(bE_hok f _ _).mpr ha, hp, vin hpn (by omega) (by omega), (bE_hok f _ _).mpr ha, fun h7 e7 x9 e9 => ?_⟩
        subst e9
        rw [i_one]
        have r1 : hI (uA h3 b (Int32.ofNat c) (Int32.ofInt u)) a 1 = Int32.ofInt (qS x c) := by rw [hI_uA]; exact hi
        have r2 : hA (uA h3 b (Int32.ofNat c) (Int32.ofInt u)) p (Int32.ofNat c) = Int32.ofInt (x c) := by
          rw [hA_uA, if_neg (fun w => pb w.1)]; exact pr
        rw [r1, r2, i_addI] at e7
        subst e7
        refine ih (c + 1) _ (by omega) (bE_trans f (bE_trans (bE_uA a b h3 _ _) (bE_uI a b _ _ _))) ?_ fun y hy => ?_
        · rw [hI_uI, if_pos ⟨rfl, rfl⟩]; rfl
        · rw [hA_uI, hA_uA, i_cl (by omega), i_cl (by omega)]
          by_cases w : y = c
          · rw [if_pos ⟨rfl, w⟩, hu, w]
          · rw [if_neg (fun z => w z.2)]; exact hh y (by omega)
      unfold wp_X11_be_7
      rw [six, i_le (by omega) (by omega)]
      refine ⟨fun w => by omega, fun _ => ⟨(bE_hok f _ _).mpr ha, b, by unfold hR; rw [f.2.2.2.2.1]; exact hr, ?_, ?_⟩⟩
      · rw [i_bit B hB c (by omega)]
        refine fun w => ⟨hp, vin hpn (by omega) (by omega), ?_⟩
        rw [pr]
        exact go2 _ (by unfold vSg; rw [if_pos (by omega), if_neg w])
      · rw [i_bit B hB c (by omega)]
        refine fun w => ⟨hp, vin hpn (by omega) (by omega), ?_⟩
        rw [pr, i_negI]
        exact go2 _ (by unfold vSg; rw [if_pos (by omega), if_pos w])
  refine go 6 0 h1 rfl ?_ ?_ fun y hy => by omega
  · rw [e1]; exact bE_uI a b h 1 0
  · rw [e1, hI_uI, if_pos ⟨rfl, rfl⟩]; rfl
/-! the order -/
theorem lexB_trans {u v w : Nat → Int} : ∀ (t c : Nat), lexB u v t c = true → lexB v w t c = true → lexB u w t c = true := by
  intro t
  induction t with
  | zero => intro c h; cases h
  | succ t ih =>
    intro c h1 h2
    unfold lexB at h1 h2 ⊢
    by_cases e1 : u c = v c
    · rw [if_pos e1] at h1
      by_cases e2 : v c = w c
      · rw [if_pos e2] at h2
        rw [if_pos (e1.trans e2)]; exact ih _ h1 h2
      · rw [if_neg e2] at h2
        rw [if_neg (by rw [e1]; exact e2), e1]; exact h2
    · rw [if_neg e1] at h1
      have a1 : u c < v c := by simpa using h1
      by_cases e2 : v c = w c
      · rw [← e2, if_neg e1]; exact h1
      · rw [if_neg e2] at h2
        have a2 : v c < w c := by simpa using h2
        rw [if_neg (by omega)]; simp; omega
theorem vLt_trans {u v w : Nat → Int} (h1 : vLt u v) (h2 : vLt v w) : vLt u w := by
  rcases h1 with a | ⟨a, b⟩ <;> rcases h2 with c | ⟨c, d⟩
  · exact .inl (by omega)
  · exact .inl (by omega)
  · exact .inl (by omega)
  · exact .inr ⟨by omega, lexB_trans 6 0 b d⟩
theorem lexB_irr {u : Nat → Int} : ∀ (t c : Nat), lexB u u t c = false := by
  intro t
  induction t with
  | zero => intro c; rfl
  | succ t ih => intro c; unfold lexB; rw [if_pos rfl]; exact ih _
theorem vLt_irr (u : Nat → Int) : ¬ vLt u u := by
  rintro (h | ⟨_, h⟩)
  · omega
  · rw [lexB_irr] at h; cases h
theorem lexB_tri {u v : Nat → Int} : ∀ (t c : Nat), lexB u v t c = true ∨ lexB v u t c = true ∨ ∀ y, c ≤ y → y < c + t → u y = v y := by
  intro t
  induction t with
  | zero => intro c; exact .inr (.inr fun y h1 h2 => by omega)
  | succ t ih =>
    intro c
    unfold lexB
    by_cases e : u c = v c
    · rw [if_pos e, if_pos e.symm]
      rcases ih (c + 1) with h | h | h
      · exact .inl h
      · exact .inr (.inl h)
      · refine .inr (.inr fun y h1 h2 => ?_)
        by_cases z : y = c
        · rw [z]; exact e
        · exact h y (by omega) (by omega)
    · rw [if_neg e, if_neg (fun h => e h.symm)]
      rcases Int.lt_or_gt_of_ne e with h | h
      · exact .inl (by simpa using h)
      · exact .inr (.inl (by simpa using h))
theorem vLt_tri {u v : Nat → Int} (hu : vOk u) (hv : vOk v) : vLt u v ∨ vLt v u ∨ u = v := by
  rcases Int.lt_trichotomy (vSize u) (vSize v) with h | h | h
  · exact .inl (.inl h)
  · rcases lexB_tri (u := u) (v := v) 6 0 with a | a | a
    · exact .inl (.inr ⟨h, a⟩)
    · exact .inr (.inl (.inr ⟨h.symm, a⟩))
    · refine .inr (.inr (funext fun c => ?_))
      by_cases w : c < 6
      · exact a c (Nat.zero_le _) (by omega)
      · rw [hu.2 c (by omega), hv.2 c (by omega)]
  · exact .inr (.inl (.inl h))
def vIns (v : Nat → Int) : List (Nat → Int) → List (Nat → Int)
  | [] => [v]
  | u :: t => if vLt v u then v :: u :: t else u :: vIns v t
theorem vIns_at {v : Nat → Int} : ∀ (xs : List (Nat → Int)) (k : Nat), k ≤ xs.length → (∀ j u, j < k → xs[j]? = some u → ¬ vLt v u) → (∀ u, xs[k]? = some u → vLt v u) → vIns v xs = xs.take k ++ v :: xs.drop k := by
  intro xs
  induction xs with
  | nil => intro k hk _ _; have : k = 0 := by simpa using hk
           subst this; rfl
  | cons u t ih =>
    intro k hk h1 h2
    unfold vIns
    cases k with
    | zero => rw [if_pos (h2 u rfl)]; rfl
    | succ k =>
      rw [if_neg (h1 0 u (by omega) rfl), ih k (by simpa using hk) (fun j w hj e => h1 (j + 1) w (by omega) e) (fun w e => h2 w e)]
      rfl
abbrev vSort (xs : List (Nat → Int)) : Prop := xs.Pairwise vLt
theorem vIns_mem {v x : Nat → Int} : ∀ xs : List (Nat → Int), x ∈ vIns v xs ↔ x = v ∨ x ∈ xs := by
  intro xs
  induction xs with
  | nil => simp [vIns]
  | cons u t ih =>
    unfold vIns
    split
    · simp
    · rw [List.mem_cons, ih, List.mem_cons]
      constructor
      · rintro (h | h | h)
        · exact .inr (.inl h)
        · exact .inl h
        · exact .inr (.inr h)
      · rintro (h | h | h)
        · exact .inr (.inl h)
        · exact .inl h
        · exact .inr (.inr h)
theorem vIns_len (v : Nat → Int) : ∀ xs : List (Nat → Int), (vIns v xs).length = xs.length + 1 := by
  intro xs
  induction xs with
  | nil => rfl
  | cons u t ih =>
    unfold vIns
    split
    · simp
    · rw [List.length_cons, ih, List.length_cons]
theorem vIns_sort {v : Nat → Int} (hv : vOk v) : ∀ xs : List (Nat → Int), vSort xs → (∀ u, u ∈ xs → vOk u) → v ∉ xs → vSort (vIns v xs) := by
  intro xs
  induction xs with
  | nil => intro _ _ _; exact List.pairwise_singleton _ _
  | cons u t ih =>
    intro hs ho hn
    rw [vSort, List.pairwise_cons] at hs
    unfold vIns
    split
    · rename_i hl
      refine List.pairwise_cons.mpr ⟨fun x hx => ?_, List.pairwise_cons.mpr hs⟩
      rcases List.mem_cons.mp hx with e | e
      · rw [e]; exact hl
      · exact vLt_trans hl (hs.1 x e)
    · rename_i hl
      have hu : vLt u v := by
        rcases vLt_tri hv (ho u List.mem_cons_self) with a | a | a
        · exact absurd a hl
        · exact a
        · exact absurd (a ▸ List.mem_cons_self) hn
      refine List.pairwise_cons.mpr ⟨fun x hx => ?_, ih hs.2 (fun y hy => ho y (List.mem_cons_of_mem _ hy)) fun h => hn (List.mem_cons_of_mem _ h)⟩
      rcases (vIns_mem t).mp hx with e | e
      · rw [e]; exact hu
      · exact hs.1 x e
/-- where a vector belongs -/
theorem i_half (m : Nat) (h : m < 6001) : Int32.ofNat m / 2 = Int32.ofNat (m / 2) := by
  rw [i_ofN (m / 2), ← Int32.toInt_inj, Int32.toInt_div, i_nat (by omega), Int32.toInt_ofInt]
  rfl
theorem sp_X7_putL {ev ow : Nat → Nat} {i q lt ls ct cs a : Nat} {h : Hp} {T S : List Nat} {fb : Nat → Nat} {xs : List (Nat → Int)} {v : Nat → Int} {MC MS : Nat} {Q : Hp → Prop} (A : xShL ev ow i h q lt ls T S [a] fb xs ct cs) (V : xVc h a (fb a) v) (hs : vSort xs) (hT : xs.length < 2000) (mc : capN xs.length ct - ct ≤ MC) (ms : 4 * (capN xs.length ct - ct) ≤ MS) (k : ∀ ow2 h2 T2, sE i ow h ow2 h2 → xShL ev ow2 i h2 q lt ls T2 S [] fb (vIns v xs) (capN xs.length ct) cs → Q h2) : wp_X7_put ev h q a MC MS Q := by
  have A0 := A
  obtain ⟨H, at_, as_, ap, nd, po, len, cel⟩ := A
  obtain ⟨k1, k2, k3, k4, k5⟩ := H
  have ha : a ∈ T ++ S ++ [a] := by simp
  obtain ⟨p1, p2, p3, p4, p5, p6⟩ := po.1 a ha
  have U : xVec ow i h a v := ⟨p1, p2, fb a, p3, p4, p5, p6, V⟩
  have need := capN_need (m := xs.length) (c := ct) mc ms
  have srt : ∀ (j m : Nat) (y z : Nat → Int), j < m → xs[j]? = some y → xs[m]? = some z → vLt y z := by
    intro j m y z hjm e1 e2
    obtain ⟨l1, rfl⟩ := List.getElem?_eq_some_iff.mp e1
    obtain ⟨l2, rfl⟩ := List.getElem?_eq_some_iff.mp e2
    exact List.pairwise_iff_getElem.mp hs j m l1 l2 hjm
  -- at its place
  have fin : ∀ lo : Nat, lo ≤ xs.length → (∀ j u, j < lo → xs[j]? = some u → ¬ vLt v u) → (∀ u, xs[lo]? = some u → vLt v u) → wp_J6_add_3 ev h lt (Int32.ofNat lo) a MC MS (fun h7 => Q h7) := by
    intro lo hlo h1 h2
    refine sp_J6_add_3 at_ p1 (by omega) (by omega) (by rw [← len]; exact need.1) (by rw [← len]; exact need.2) fun ow2 h2' f2 at2 => ?_
    have f3 := lE_s f2 at_.1
    obtain ⟨as2, ap2⟩ := xAL_l f2 at_.1 (fun e => k5 e.symm) ap as_
    rw [← len] at at2
    have pm : ∀ x, x ∈ insAt T lo a ++ S ++ ([] : List Nat) ↔ x ∈ T ++ S ++ [a] := by
      intro x
      simp only [List.mem_append, insAt_mem, List.append_nil, List.mem_singleton]
      constructor
      · rintro ((h | h) | h)
        · exact .inr h
        · exact .inl (.inl h)
        · exact .inl (.inr h)
      · rintro ((h | h) | h)
        · exact .inl (.inr h)
        · exact .inr h
        · exact .inl (.inl h)
    refine k ow2 h2' (insAt T lo a) f3 ⟨xShL_head (ev := ev) f3 ⟨k1, k2, k3, k4, k5⟩, at2, as2, ap2, ?_, ⟨fun x hx => (xPo_s f3 po).1 x ((pm x).mp hx), fun x y hx hy => po.2 x y ((pm x).mp hx) ((pm y).mp hy)⟩, by rw [vIns_len, insAt_len (by omega), len], fun j x u e1 e2 => ?_⟩
    · have pr : (insAt T lo a ++ S ++ []).Perm (T ++ S ++ [a]) := by
        rw [List.append_nil]
        unfold insAt
        have c1 : (T.take lo ++ a :: T.drop lo ++ S).Perm (a :: (T.take lo ++ T.drop lo ++ S)) := by
          rw [List.append_assoc, List.append_assoc]
          exact List.perm_middle
        rw [List.take_append_drop] at c1
        exact c1.trans (List.perm_append_singleton a (T ++ S)).symm
      exact pr.nodup_iff.mpr nd
    · rw [vIns_at xs lo hlo h1 h2] at e2
      rw [insAt_get (by omega)] at e1
      have g : (xs.take lo ++ v :: xs.drop lo)[j]? = if j < lo then xs[j]? else if j = lo then some v else xs[j - 1]? := by
        by_cases w : j < lo
        · rw [if_pos w, List.getElem?_append_left (by rw [List.length_take]; omega), List.getElem?_take, if_pos w]
        · rw [if_neg w, List.getElem?_append_right (by rw [List.length_take]; omega), List.length_take, Nat.min_eq_left hlo]
          by_cases z : j = lo
          · rw [if_pos z, z, Nat.sub_self]; rfl
          · rw [if_neg z]
            obtain ⟨d, rfl⟩ : ∃ d, j = lo + 1 + d := ⟨j - lo - 1, by omega⟩
            rw [show lo + 1 + d - lo = d + 1 by omega, List.getElem?_cons_succ, List.getElem?_drop, show lo + 1 + d - 1 = lo + d by omega]
      rw [g] at e2
      by_cases w : j < lo
      · rw [if_pos w] at e1 e2
        exact xVc_s f3 po (List.mem_append_left _ (List.mem_append_left _ (List.mem_of_getElem? e1))) (cel j x u e1 e2)
      · rw [if_neg w] at e1 e2
        by_cases z : j = lo
        · rw [if_pos z] at e1 e2
          rw [← Option.some.inj e1, ← Option.some.inj e2]
          exact xVc_s f3 po ha V
        · rw [if_neg z] at e1 e2
          exact xVc_s f3 po (List.mem_append_left _ (List.mem_append_left _ (List.mem_of_getElem? e1))) (cel (j - 1) x u e1 e2)
  have go : ∀ (t lo hi : Nat), hi - lo < t → lo ≤ hi → hi ≤ xs.length → (∀ j u, j < lo → xs[j]? = some u → ¬ vLt v u) → (∀ j u, hi ≤ j → xs[j]? = some u → vLt v u) → wp_X7_put_10 ev Q t q a (Int32.ofNat lo) (Int32.ofNat hi) h MC MS := by
    intro t
    induction t with
    | zero => intro lo hi ht; omega
    | succ t ih =>
      intro lo hi ht hl hh h1 h2
      unfold wp_X7_put_10 wp_X7_put_54
      rw [i_le (by omega) (by omega)]
      refine ⟨fun w => ⟨k1, lt, k3, MC, MS, 0, 0, by omega, by omega, at_.1, ?_⟩, fun w x9 e9 => ⟨k1, lt, k3, at_.1, ?_⟩⟩
      · have : hi = lo := by omega
        subst this
        exact fin hi hh h1 fun u e => h2 hi u (Nat.le_refl _) e
      · rw [i_add, i_half _ (by omega)] at e9
        subst e9
        have mid : (lo + hi) / 2 < hi := by omega
        have mid2 : lo ≤ (lo + hi) / 2 := by omega
        generalize (lo + hi) / 2 = m at mid mid2
        refine sp_J6_get at_ (by omega) ?_
        obtain ⟨b, eb⟩ : ∃ b, T[m]? = some b := ⟨_, List.getElem?_eq_getElem (by omega)⟩
        obtain ⟨u, eu⟩ : ∃ u, xs[m]? = some u := ⟨_, List.getElem?_eq_getElem (by omega)⟩
        have hb : b ∈ T ++ S ++ [a] := List.mem_append_left _ (List.mem_append_left _ (List.mem_of_getElem? eb))
        obtain ⟨b1, b2, b3, b4, b5, b6⟩ := po.1 b hb
        refine ⟨fun y hy => ?_, b, eb, p1, ?_⟩
        · rw [eb] at hy; rw [← Option.some.inj hy]; exact b1
        refine sp_X12_isBefore U ⟨b1, b2, fb b, b3, b4, b5, b6, cel m b u eb eu⟩ (fun hn => ⟨fun _ x20 e20 => ?_, fun w => absurd rfl w⟩) fun hy => ⟨fun w => absurd w (by decide), fun _ => ?_⟩
        · subst e20
          rw [i_one]
          refine ih (m + 1) hi (by omega) (by omega) hh (fun j y hj e => ?_) h2
          by_cases z : j = m
          · rw [z, eu] at e; rw [← Option.some.inj e]; exact hn
          · exact fun w => hn (vLt_trans w (srt j m y u (by omega) e eu))
        · refine ih lo m (by omega) (by omega) (by omega) h1 fun j y hj e => ?_
          by_cases z : j = m
          · rw [z, eu] at e; rw [← Option.some.inj e]; exact hy
          · exact vLt_trans hy (srt m j u y (by omega) eu e)
  unfold wp_X7_put
  refine ⟨k1, lt, k3, at_.1, sp_J6_size at_ ⟨T.length + 1, ?_⟩⟩
  exact go (T.length + 1) 0 T.length (by omega) (Nat.zero_le _) (by omega) (fun j u hj => by omega) fun j u hj e => by
    have := (List.getElem?_eq_some_iff.mp e).1; omega
