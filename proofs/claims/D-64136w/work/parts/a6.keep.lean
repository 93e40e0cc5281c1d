/-! SHELVES: keep -/
theorem bE_E {i a b : Nat} {ow : Nat → Nat} {h h2 : Hp} (f : bE a b h h2) (ha : ow a = i) (hb : ow b = i) : hE (· = i) ow h ow h2 := by
  refine ⟨fun x hx => ⟨by rw [f.1]; exact hx, rfl, by rw [f.2.1], by rw [f.2.2.1]⟩, fun x hx hn => ?_⟩
  exact bE_same f (fun w => hn (w ▸ ha)) fun w => hn (w ▸ hb)
theorem xAL_b {ev ow : Nat → Nat} {i a b l cap : Nat} {els : List Nat} {h h2 : Hp} (f : bE a b h h2) (ha : hok h a 10) (hb : hok h b 21) (A : xAL ev ow i h l els cap) : xAL ev ow i h2 l els cap := by
  obtain ⟨a1, a2, a3, a4, a5, a6, arr, a7, a8⟩ := A
  have s := bE_same f (hok_ne a1 ha (by decide)) (hok_ne a1 hb (by decide))
  refine ⟨(bE_hok f _ _).mpr a1, a2, by rw [hI_same s]; exact a3, a4, a5, fun x hx => (bE_hok f _ _).mpr (a6 x hx), arr, by rw [hR_same s]; exact a7, ?_⟩
  rcases a8 with c | ⟨c1, c2, c3, c4, c5, c6⟩
  · exact .inl c
  · have s2 := bE_same f (hok_ne c3 ha (by decide)) (hok_ne c3 hb (by decide))
    exact .inr ⟨c1, c2, (bE_hok f _ _).mpr c3, c4, by unfold hN; rw [f.2.2.1]; exact c5, fun k hk => by rw [hO_same s2]; exact c6 k hk⟩
theorem xShL_b {ev ow : Nat → Nat} {i q lt ls ct cs a : Nat} {h h2 : Hp} {T S : List Nat} {fb : Nat → Nat} {xs : List (Nat → Int)} (A : xShL ev ow i h q lt ls T S [a] fb xs ct cs) (f : bE a (fb a) h h2) : xShL ev ow i h2 q lt ls T S [a] fb xs ct cs := by
  obtain ⟨⟨k1, k2, k3, k4, k5⟩, at_, as_, ap, nd, po, len, cel⟩ := A
  have ha : a ∈ T ++ S ++ [a] := by simp
  obtain ⟨p1, p2, p3, p4, p5, p6⟩ := po.1 a ha
  have rr : ∀ x j, hR h2 x j = hR h x j := fun x j => by unfold hR; rw [f.2.2.2.2.1]
  refine ⟨⟨(bE_hok f _ _).mpr k1, k2, by rw [rr]; exact k3, by rw [rr]; exact k4, k5⟩, xAL_b f p1 p4 at_, xAL_b f p1 p4 as_, fun b hb c1 c2 => ap b hb (by rwa [rr] at c1) (by rwa [rr] at c2), nd, ⟨fun x hx => ?_, po.2⟩, len, fun k x v e1 e2 => ?_⟩
  · obtain ⟨d1, d2, d3, d4, d5, d6⟩ := po.1 x hx
    exact ⟨(bE_hok f _ _).mpr d1, d2, by rw [rr]; exact d3, (bE_hok f _ _).mpr d4, d5, by unfold hN; rw [f.2.2.1]; exact d6⟩
  · have hx : x ∈ T ++ S ++ [a] := List.mem_append_left _ (List.mem_append_left _ (List.mem_of_getElem? e1))
    have xT : x ∈ T ++ S := List.mem_append_left _ (List.mem_of_getElem? e1)
    have xa : x ≠ a := by
      intro e; subst e
      rw [List.nodup_append] at nd
      exact nd.2.2 x xT x (by simp) rfl
    have xb : fb x ≠ fb a := fun e => xa (po.2 x a hx ha e)
    obtain ⟨d1, d2, d3, d4, d5, d6⟩ := po.1 x hx
    obtain ⟨v1, v2, v3⟩ := cel k x v e1 e2
    have s1 := bE_same f xa (hok_ne d1 p4 (by decide))
    have s2 := bE_same f (hok_ne d4 p1 (by decide)) xb
    exact ⟨by rw [hI_same s1]; exact v1, fun c hc => by rw [hA_same s2]; exact v2 c hc, v3⟩
theorem xA6_s {i p : Nat} {ow ow2 : Nat → Nat} {h h2 : Hp} {x : Nat → Int} (f : sE i ow h ow2 h2) (X : xA6 h p x) : xA6 h2 p x := by
  obtain ⟨x1, x2, x3⟩ := X
  obtain ⟨b1, b2, b3⟩ := hok_E f.1 x1
  exact ⟨b1, b3.trans x2, fun c hc => by rw [hA_same (f.2 p 20 x1 (by decide) (by decide))]; exact x3 c hc⟩
theorem sp_X1_keep {ev ow : Nat → Nat} {i q s ct cs p B : Nat} {h : Hp} {xs : List (Nat → Int)} {x : Nat → Int} {MC MS : Nat} {Q : Hp → Prop} (A : xSh ev ow i h q xs s ct cs) (X : xA6 h p x) (h0 : ∀ c, c < 6 → 0 ≤ x c ∧ x c ≤ 100) (hB : B < 64) (hs : vSort xs) (hT : xs.length < 2000) (mc : (if s = 0 then 2 else 0) + (capN xs.length ct - ct) ≤ MC) (ms : (if s = 0 then 8 else 0) + 4 * (capN xs.length ct - ct) ≤ MS) (k : ∀ ow2 h2, hE (· = i) ow h ow2 h2 → xSh ev ow2 i h2 q (vIns (vSg B x) xs) (s - 1) (capN xs.length ct) cs → Q h2) : wp_X1_keep ev h q p (Int32.ofNat B) MC MS Q := by
  obtain ⟨lt, ls, T, S, fb, A, es⟩ := A
  -- be and put
  have fin : ∀ (ow1 : Nat → Nat) (h1 : Hp) (a : Nat) (S1 : List Nat) (fb1 : Nat → Nat) (mc ms : Nat), hE (· = i) ow h ow1 h1 → xShL ev ow1 i h1 q lt ls T S1 [a] fb1 xs ct cs → xA6 h1 p x → S1.length = s - 1 → capN xs.length ct - ct ≤ mc → 4 * (capN xs.length ct - ct) ≤ ms → wp_X1_keep_23 ev Q q p (Int32.ofNat B) (some a) h1 mc ms := by
    intro ow1 h1 a S1 fb1 mc ms f L X1 el hmc hms
    have po := L.2.2.2.2.2.1
    have ha : a ∈ T ++ S1 ++ [a] := by simp
    obtain ⟨p1, p2, p3, p4, p5, p6⟩ := po.1 a ha
    unfold wp_X1_keep_23
    refine ⟨a, rfl, p1, sp_X11_be p1 p3 p4 p6 X1 h0 hB fun h2 f2 V => ⟨mc, ms, 0, 0, by omega, by omega, ?_, ?_⟩⟩
    · exact (xShL_b L f2).1.1
    · refine sp_X7_putL (xShL_b L f2) V hs hT hmc hms fun ow3 h3 T3 f3 L3 => k ow3 h3 (hE_trans f (hE_trans (bE_E f2 p2 p5) f3.1)) ⟨lt, ls, T3, S1, fb1, L3, el⟩
  unfold wp_X1_keep
  refine ⟨A.1.1, sp_X7_spareL A (fun e => ⟨fun b hb => (by cases hb), fun b hb => (by cases hb), fun _ => ?_⟩) fun a S' h2 e f2 L2 => ⟨fun b hb => ?_, fun b hb => ?_, fun w => (by cases w)⟩⟩
  · -- a new vector
    subst e
    have s0 : s = 0 := es.symm
    subst s0
    rw [if_pos rfl] at mc ms
    obtain ⟨H, at_, as_, ap, nd, po, len, cel⟩ := A
    refine ⟨MC - 1, MS - 2, by omega, by omega, fun q8 hq8 h9 e9 => ⟨1, 6, MC - 2, MS - 8, by omega, by omega, ?_⟩⟩
    subst e9
    unfold wp_X11_init
    refine ⟨0, 0, rfl, rfl, fun q4 hq4 h5 e5 => ?_⟩
    subst e5
    have k8 : hok (nO h q8 10) q8 10 := hok_nO
    have n84 : q8 ≠ q4 := hok_fresh k8 hq4
    have hq4' : q4 ∉ h.1 := fun w => hq4 (by rw [L_nO]; exact List.mem_append_left _ w)
    refine ⟨(hok_E (hE_nA (I := fun _ => False) (ow := ow) i hq4) k8).1, fun h6 e6 => ?_⟩
    -- all that was there is as it was
    have f : hE (fun _ => False) ow h (owS (owS ow q8 i) q4 i) h6 := by
      have f1 : hE (fun _ => False) ow h (owS ow q8 i) (nO h q8 10) := hE_nO i hq8
      have f2 : hE (fun _ => False) (owS ow q8 i) (nO h q8 10) (owS (owS ow q8 i) q4 i) (nA (nO h q8 10) q4 21 6) := hE_nA i hq4
      have f3 := hE_trans f1 f2
      rw [e6]
      refine ⟨f3.1, fun b hb _ => ?_⟩
      have b8 : b ≠ q8 := fun w => hq8 (w ▸ hb)
      obtain ⟨s1, s2, s3, s4, s5⟩ := f3.2 b hb id
      refine ⟨s1, ?_, s3, s4, s5⟩
      rw [← s2]
      simp [uR, va_up, b8]
    have fi : hE (· = i) ow h (owS (owS ow q8 i) q4 i) h6 := hE_mono f fun _ w => w.elim
    have k8' : hok h6 q8 10 := by rw [e6, hok_uR]; exact (hok_E (hE_nA (I := fun _ => False) (ow := ow) i hq4) k8).1
    have k4' : hok h6 q4 21 := by rw [e6, hok_uR]; exact hok_nA
    have r8 : hR h6 q8 0 = some q4 := by rw [e6, hR_uR, if_pos ⟨rfl, rfl⟩]
    have n4 : hN h6 q4 = 6 := by rw [e6, hN_uR, hN_nA, if_pos rfl]
    obtain ⟨k1, k2, k3, k4, k5⟩ := H
    have nf : ∀ j, ¬ (fun _ : Nat => False) j := fun _ w => w
    obtain ⟨b1, b2, b3⟩ := hok_E f k1
    have old : ∀ a, a ∈ T ++ [] ++ ([] : List Nat) → a ∈ h.1 ∧ fb a ∈ h.1 := fun a ha => ⟨(po.1 a ha).1.1, (po.1 a ha).2.2.2.1.1⟩
    have mem : ∀ a, a ∈ T ++ [] ++ [q8] → a = q8 ∨ a ∈ T ++ [] ++ ([] : List Nat) := by
      intro a ha
      rw [List.mem_append, List.mem_singleton] at ha
      rcases ha with w | w
      · exact .inr (List.mem_append_left _ w)
      · exact .inl w
    refine fin _ h6 q8 [] (owS fb q8 q4) (MC - 2) (MS - 8) fi ⟨⟨b1, b2.trans k2, by rw [hR_E f k1 (nf 0)]; exact k3, by rw [hR_E f k1 (nf 0)]; exact k4, k5⟩, xAL_E f (nf 0) at_, xAL_E f (nf 0) as_, fun b hb c1 c2 => ?_, ?_, ⟨fun a ha => ?_, fun a c ha hc e => ?_⟩, len, fun k a v e1 e2 => ?_⟩ ?_ rfl (by omega) (by omega)
    · rw [hR_E f at_.1 (nf 0)] at c1
      rw [hR_E f as_.1 (nf 0)] at c2
      exact ap b hb c1 c2
    · rw [List.nodup_append]
      rw [List.append_nil] at nd
      refine ⟨nd, List.pairwise_singleton _ _, fun a ha c hc e => ?_⟩
      rw [List.mem_singleton] at hc
      exact hq8 (by rw [← hc, ← e]; exact (old a (List.mem_append_left _ ha)).1)
    · rcases mem a ha with w | w
      · subst w
        rw [owS_q]
        exact ⟨k8', by rw [owS_ne _ n84, owS_q], r8, k4', owS_q _ _ _, n4⟩
      · obtain ⟨d1, d2, d3, d4, d5, d6⟩ := po.1 a w
        have ne : a ≠ q8 := fun z => hq8 (z ▸ d1.1)
        obtain ⟨c1, c2, c3⟩ := hok_E f d1
        obtain ⟨g1, g2, g3⟩ := hok_E f d4
        rw [owS_ne fb ne]
        exact ⟨c1, c2.trans d2, by rw [hR_E f d1 (nf 0)]; exact d3, g1, g2.trans d5, g3.trans d6⟩
    · rcases mem a ha with w | w <;> rcases mem c hc with y | y
      · rw [w, y]
      · have ne : c ≠ q8 := fun z => hq8 (z ▸ (old c y).1)
        rw [w, owS_q, owS_ne fb ne] at e
        exact absurd (old c y).2 (by rw [← e]; exact hq4')
      · have ne : a ≠ q8 := fun z => hq8 (z ▸ (old a w).1)
        rw [y, owS_q, owS_ne fb ne] at e
        exact absurd (old a w).2 (by rw [e]; exact hq4')
      · have ne : a ≠ q8 := fun z => hq8 (z ▸ (old a w).1)
        have ne2 : c ≠ q8 := fun z => hq8 (z ▸ (old c y).1)
        rw [owS_ne fb ne, owS_ne fb ne2] at e
        exact po.2 a c w y e
    · have hT' : a ∈ T ++ [] ++ ([] : List Nat) := List.mem_append_left _ (List.mem_append_left _ (List.mem_of_getElem? e1))
      obtain ⟨d1, d2, d3, d4, d5, d6⟩ := po.1 a hT'
      have ne : a ≠ q8 := fun z => hq8 (z ▸ d1.1)
      rw [owS_ne fb ne]
      obtain ⟨v1, v2, v3⟩ := cel k a v e1 e2
      exact ⟨by rw [hI_E f d1 (nf 0)]; exact v1, fun c hc => by rw [hA_E f d4 (nf 0)]; exact v2 c hc, v3⟩
    · obtain ⟨x1, x2, x3⟩ := X
      obtain ⟨c1, c2, c3⟩ := hok_E f x1
      exact ⟨c1, c3.trans x2, fun c hc => by rw [hA_E f x1 (nf 0)]; exact x3 c hc⟩
  · rw [← Option.some.inj hb]
    exact (L2.2.2.2.2.2.1.1 a (by simp)).1
  · rw [← Option.some.inj hb]
    have el : S'.length = s - 1 := by rw [← es, e]; simp
    have s1 : s ≠ 0 := by rw [← es, e]; simp
    rw [if_neg s1] at mc ms
    exact fin ow h2 a S' fb MC MS f2.1 L2 (xA6_s f2 X) el (by omega) (by omega)
