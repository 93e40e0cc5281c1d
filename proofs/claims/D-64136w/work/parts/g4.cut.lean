/-! READING: the twin's cut -/
theorem tSk_sp {tx : Nat → Int} {len i : Nat} (hi : i < len) (w : tCh tx len i = 32) : tSk tx len (len + 1) i = tSk tx len (len + 1) (i + 1) := by
  have e : tSk tx len (len + 1) i = tSk tx len len (i + 1) := if_pos w
  rw [e]; exact tSk_f tx len len (len + 1) (i + 1) (by omega) (by omega) (by omega)
theorem tSk_no {tx : Nat → Int} {len i : Nat} (w : tCh tx len i ≠ 32) : tSk tx len (len + 1) i = i := if_neg w
theorem tWs_f (tx : Nat → Int) (len : Nat) (F : tFine tx len) : ∀ (f g i : Nat), i ≤ len → len < i + f → len < i + g → tWs tx len f i = tWs tx len g i := by
  intro f
  induction f with
  | zero => intro g i h1 h2; omega
  | succ f ih =>
    intro g i h1 h2 h3
    cases g with
    | zero => omega
    | succ g =>
      unfold tWs
      have sb := tSk_b tx len (len + 1) i h1 (by omega)
      generalize tSk tx len (len + 1) i = j at sb
      by_cases w : (tTok tx len j).1 = 0 ∨ (tTok tx len j).1 = 10
      · rw [if_pos w, if_pos w]
      · rw [if_neg w, if_neg w]
        have jl : j < len := by
          apply Classical.byContradiction
          intro y
          apply w
          left
          have e : tCh tx len j = -1 := if_neg y
          have nd : ¬ tDg tx len j = true := fun d => by have := (tDg_iff tx len j).mp d; omega
          unfold tTok
          rw [if_neg nd, if_neg (by omega), if_pos e]
        rcases tTok_b (tx := tx) jl (fun h => w (.inr h)) with ⟨a, b, _⟩ | a
        · rw [ih g (tTok tx len j).2.2 b (by omega) (by omega)]
        · have := F j jl; omega
theorem sp_cut {len : Nat} {tx : Nat → Int} {σ : St} {Q : St → Prop} (T : mTx σ len tx) (F : tFine tx len) (hl : len ≤ 300) (q : ∀ σ2, mFc σ σ2 → mWs σ2 (tWs tx len (len + 1) 0) → Q σ2) : wp_cut σ Q := by
  unfold wp_cut
  intro σ1 e1
  refine ⟨len + 1 + 1 + 1, ?_⟩
  have go : ∀ (f i : Nat) (D : List (Nat × Nat × Int)) (σ2 : St), len < i + f → i ≤ len → mFc σ σ2 → mWs σ2 D → D.length ≤ i → D ++ tWs tx len (len + 1) i = tWs tx len (len + 1) 0 → wp_cut_9 Q (f + 1) (Int32.ofNat i) 1 σ2 := by
    intro f
    induction f with
    | zero => intro i D σ2 h1 h2; omega
    | succ f ih =>
      intro i D σ2 hf hil fr W hD eW
      have T2 := mTx_Fc fr T
      unfold wp_cut_9
      rw [T2.1, i_le (by omega) (by omega)]
      refine ⟨fun z => absurd z (by decide), fun _ => ⟨fun w => ?_, fun w => ?_⟩⟩
      · -- the end
        have il : i = len := by omega
        subst il
        have e : tCh tx i i = -1 := if_neg (Nat.lt_irrefl i)
        have nd : ¬ tDg tx i i = true := fun d => by have := (tDg_iff tx i i).mp d; omega
        have et : tTok tx i i = (0, -1, i + 1) := by unfold tTok; rw [if_neg nd, if_neg (by omega), if_pos e, e]
        have es : tSk tx i (i + 1) i = i := tSk_no (by rw [e]; decide)
        have ew : tWs tx i (i + 1) i = [(0, i, -1)] := by
          unfold tWs; rw [es, et]; rfl
        rw [ew] at eW
        unfold wp_cut_295 wp_cut_309
        refine ⟨fun z => absurd z (by decide), fun _ => ?_⟩
        rw [T2.1, i_0]
        refine sp_word (k := 0) (x := -1) W (by omega) (fun h => by omega) fun σ3 f3 W3 => q σ3 (mFc_trans fr f3) ?_
        rw [← eW]; exact W3
      · have il : i < len := by omega
        have ec : tCh tx len i = tx i := if_pos il
        have fb := F i il
        refine ⟨(i_in (by omega)).mpr (by omega), fun x1 e1 x2 e2 => ?_⟩
        rw [gA_nat σ2 1 (by omega), T2.2 i il] at e1
        rw [i_one] at e2
        subst e1 e2
        by_cases sp : tx i = 32
        · -- a space
          have nx : wp_cut_9 Q (f + 1) (Int32.ofNat (i + 1)) 1 σ2 := by
            refine ih (i + 1) D σ2 (by omega) (by omega) fr W (by omega) ?_
            rw [← eW]
            congr 1
            unfold tWs
            rw [tSk_sp il (by rw [ec]; exact sp)]
          rw [sp]
          refine ⟨fun _ => ⟨fun _ => ?_, fun z => absurd (by decide) z⟩, fun z => absurd (by decide) z⟩
          refine ⟨fun z => absurd z (by decide), fun _ => ⟨fun _ => ⟨fun _ => ⟨fun _ => ⟨fun _ => ⟨fun _ => ⟨fun _ => ?_, fun z => absurd z (by decide)⟩, fun z => absurd z (by decide)⟩, fun z => absurd z (by decide)⟩, fun z => absurd z (by decide)⟩, fun z => absurd z (by decide)⟩, fun z => absurd z (by decide)⟩⟩
          exact ⟨fun _ => nx, fun z => absurd rfl z⟩
        · -- a word
          have es : tSk tx len (len + 1) i = i := tSk_no (by rw [ec]; exact sp)
          have word : ∀ (u : Int32) (e : Nat), (tTok tx len i).1 ≤ 10 → ((tTok tx len i).1 = 1 ∨ (tTok tx len i).1 = 2 → u = Int32.ofInt (tTok tx len i).2.1) → ((tTok tx len i).1 ≠ 10 → e = (tTok tx len i).2.2) → wp_cut_261 Q (wp_cut_9 Q (f + 1)) (Int32.ofNat i) 1 (Int32.ofInt (tx i)) (Int32.ofNat e) u (Int32.ofNat (tTok tx len i).1) σ2 := by
            intro u e hk hu he
            refine sp_cut_261 (x := (tTok tx len i).2.1) W (by omega) hk hu sp (by omega) fun σ3 f3 W3 => ?_
            have ewu : tWs tx len (len + 1) i = if (tTok tx len i).1 = 0 ∨ (tTok tx len i).1 = 10 then [((tTok tx len i).1, i, (tTok tx len i).2.1)] else ((tTok tx len i).1, i, (tTok tx len i).2.1) :: tWs tx len len (tTok tx len i).2.2 := by
              have : tWs tx len (len + 1) i = if (tTok tx len (tSk tx len (len + 1) i)).1 = 0 ∨ (tTok tx len (tSk tx len (len + 1) i)).1 = 10 then [((tTok tx len (tSk tx len (len + 1) i)).1, tSk tx len (len + 1) i, (tTok tx len (tSk tx len (len + 1) i)).2.1)] else ((tTok tx len (tSk tx len (len + 1) i)).1, tSk tx len (len + 1) i, (tTok tx len (tSk tx len (len + 1) i)).2.1) :: tWs tx len len (tTok tx len (tSk tx len (len + 1) i)).2.2 := rfl
              rw [this, es]
            by_cases k10 : (tTok tx len i).1 = 10
            · rw [if_pos k10]
              rw [ewu, if_pos (.inr k10)] at eW
              unfold wp_cut_9 wp_cut_295 wp_cut_309
              exact ⟨fun _ => ⟨fun _ => q σ3 (mFc_trans fr f3) (by rw [← eW]; exact W3), fun z => absurd rfl z⟩, fun z => absurd rfl z⟩
            · rw [if_neg k10]
              rcases tTok_b (tx := tx) il k10 with ⟨b1, b2, b3⟩ | b1
              · rw [ewu, if_neg (by rintro (h | h); exact b3 h; exact k10 h)] at eW
                rw [he k10]
                refine ih _ (D ++ [((tTok tx len i).1, i, (tTok tx len i).2.1)]) σ3 (by omega) b2 (mFc_trans fr f3) W3 (by rw [List.length_append, List.length_singleton]; omega) ?_
                rw [← eW, List.append_assoc, List.singleton_append, tWs_f tx len F len (len + 1) _ b2 (by omega) (by omega)]
              · omega
          have lit : ∀ k : Int, k.natAbs < 1000 → (Int32.ofInt (tx i) = Int32.ofInt k ↔ tx i = k) := fun k hk => i_eqI (by omega) (by omega)
          have c48 : (48 : Int32) = Int32.ofInt 48 := rfl
          have c57 : (57 : Int32) = Int32.ofInt 57 := rfl
          have c97 : (97 : Int32) = Int32.ofInt 97 := rfl
          have c122 : (122 : Int32) = Int32.ofInt 122 := rfl
          -- no digit
          have nodig : ¬ (48 ≤ tx i ∧ tx i ≤ 57) → wp_cut_132 Q (wp_cut_9 Q (f + 1)) (Int32.ofNat i) 1 (Int32.ofInt (tx i)) (Int32.ofNat (i + 1)) 0 σ2 := by
            intro nd
            have nd' : ¬ tDg tx len i = true := fun d => nd (by have := (tDg_iff tx len i).mp d; rw [ec] at this; exact this)
            unfold tTok at word
            rw [if_neg nd', ec] at word
            have nolet : ¬ (97 ≤ tx i ∧ tx i ≤ 122) → wp_cut_153 Q (wp_cut_9 Q (f + 1)) (Int32.ofNat i) 1 (Int32.ofInt (tx i)) (Int32.ofNat (i + 1)) 0 σ2 := by
              intro nl
              rw [if_neg nl, if_neg (show ¬ tx i = -1 by omega)] at word
              have two : (tx i = 60 ∨ tx i = 62) → wp_cut_165 Q (wp_cut_9 Q (f + 1)) (Int32.ofNat i) 1 (Int32.ofInt (tx i)) 0 σ2 := by
                intro hc
                rw [if_neg (by omega), if_neg (by omega), if_neg (by omega), if_neg (by omega), if_neg (by omega)] at word
                have e61 : tC0 tx len (i + 1) = 61 ↔ tCh tx len (i + 1) = 61 := by
                  unfold tC0 tCh
                  by_cases y : i + 1 < len
                  · rw [if_pos y, if_pos y]
                  · rw [if_neg y, if_neg y]; omega
                have bb : (tC0 tx len (i + 1)).natAbs ≤ 126 := by
                  unfold tC0
                  by_cases y : i + 1 < len
                  · rw [if_pos y]; have := F (i + 1) y; omega
                  · rw [if_neg y]; decide
                unfold wp_cut_165 wp_cut_195
                rw [i_one]
                refine sp_letter0 T2 hl (by omega) ?_
                rw [show (61 : Int32) = Int32.ofInt 61 from rfl, i_eqI (by omega) (by decide), show (60 : Int32) = Int32.ofInt 60 from rfl, lit 60 (by decide), e61]
                have e2 : Int32.ofNat i + 2 = Int32.ofNat (i + 2) := i_add i 2
                refine ⟨fun z x1 ex => ?_, fun z => ⟨fun z2 x1 ex => ?_, fun z2 x1 ex => ?_⟩⟩
                · rw [if_neg (fun t => z t.2), if_neg (fun t => z t.2)] at word
                  rw [ex, e2]
                  exact word 0 (i + 2) (Nat.le_refl _) (fun h => by simp at h) fun h => absurd rfl h
                · rw [if_neg (fun t => z2 t.1), if_pos ⟨by omega, z⟩] at word
                  rw [ex, e2]
                  exact word 0 (i + 2) (by simp) (fun h => by simp at h) fun _ => rfl
                · rw [if_pos ⟨z2, z⟩] at word
                  rw [ex, e2]
                  exact word 0 (i + 2) (by simp) (fun h => by simp at h) fun _ => rfl
              unfold wp_cut_153 wp_cut_259
              rw [show (60 : Int32) = Int32.ofInt 60 from rfl, show (62 : Int32) = Int32.ofInt 62 from rfl, show (43 : Int32) = Int32.ofInt 43 from rfl, show (45 : Int32) = Int32.ofInt 45 from rfl, show (42 : Int32) = Int32.ofInt 42 from rfl, show (59 : Int32) = Int32.ofInt 59 from rfl, show (61 : Int32) = Int32.ofInt 61 from rfl, lit 60 (by decide), lit 62 (by decide), lit 43 (by decide), lit 45 (by decide), lit 42 (by decide), lit 59 (by decide), lit 61 (by decide)]
              refine ⟨fun z => two (.inl z), fun z1 => ⟨fun z2 => ⟨fun z3 => ⟨fun z4 => ⟨fun z5 => ⟨fun z6 => ⟨fun z7 => ?_, fun z => ?_⟩, fun z => ?_⟩, fun z => ?_⟩, fun z => ?_⟩, fun z => ?_⟩, fun z => two (.inr z)⟩⟩
              · rw [if_neg z5, if_neg z3, if_neg z4, if_neg z6, if_neg z7, if_neg (fun t => z1 t.1), if_neg (fun t => z2 t.1)] at word
                exact word 0 (i + 1) (Nat.le_refl _) (fun h => by simp at h) fun h => absurd rfl h
              · rw [if_neg z5, if_neg z3, if_neg z4, if_neg z6, if_pos z] at word
                exact word 0 (i + 1) (by simp) (fun h => by simp at h) fun _ => rfl
              · rw [if_neg z5, if_neg z3, if_neg z4, if_pos z] at word
                exact word 0 (i + 1) (by simp) (fun h => by simp at h) fun _ => rfl
              · rw [if_pos z] at word
                exact word 0 (i + 1) (by simp) (fun h => by simp at h) fun _ => rfl
              · rw [if_neg (by omega), if_neg (by omega), if_pos z] at word
                exact word 0 (i + 1) (by simp) (fun h => by simp at h) fun _ => rfl
              · rw [if_neg (by omega), if_pos z] at word
                exact word 0 (i + 1) (by simp) (fun h => by simp at h) fun _ => rfl
            unfold wp_cut_132
            rw [c97, i_ltI (by omega) (by decide), c122, i_ltI (by decide) (by omega)]
            refine ⟨fun z => nolet (by omega), fun z => ⟨fun z2 => nolet (by omega), fun z2 => ?_⟩⟩
            rw [if_pos ⟨by omega, by omega⟩] at word
            exact word (Int32.ofInt (tx i)) (i + 1) (by simp) (fun _ => rfl) fun _ => rfl
          rw [c48, i_ltI (by omega) (by decide), c57, i_ltI (by decide) (by omega)]
          refine ⟨fun z => nodig (by omega), fun z => ⟨fun z2 => nodig (by omega), fun z2 => ⟨len + 1 + 1, ?_⟩⟩⟩
          have dg : tDg tx len i = true := (tDg_iff tx len i).mpr (by rw [ec]; exact ⟨by omega, by omega⟩)
          refine sp_cut_55 T2 F hl (tRun tx len (len + 1) i 0) (fun u hu => ?_) (len + 1) i 0 0 (by omega) (Nat.le_refl _) hil rfl fun _ => rfl
          unfold tTok at word
          rw [if_pos dg] at word
          by_cases w4 : (tRun tx len (len + 1) i 0).1 ≤ i + 4
          · rw [if_pos w4] at word ⊢
            exact word u _ (by simp) (fun _ => hu w4) fun _ => rfl
          · rw [if_neg w4] at word ⊢
            exact word u _ (Nat.le_refl _) (fun h => by simp at h) fun h => absurd rfl h
  refine go (len + 1 + 1) 0 [] σ1 (by omega) (Nat.zero_le _) ⟨fun k hk => by rw [e1, gI_sI, if_neg hk], by rw [e1]; rfl, fun j _ _ _ => by rw [e1]; rfl⟩ ⟨by rw [e1, gI_sI, if_pos rfl]; rfl, fun m w h => by simp at h⟩ (Nat.zero_le _) rfl
