/-! READING: the component's scanner, on to the next word -/
def tSk (tx : Nat → Int) (len : Nat) : Nat → Nat → Nat
  | 0, i => i
  | f + 1, i => if tCh tx len i = 32 then tSk tx len f (i + 1) else i
theorem tSk_b (tx : Nat → Int) (len : Nat) : ∀ (f i : Nat), i ≤ len → len < i + f → i ≤ tSk tx len f i ∧ tSk tx len f i ≤ len ∧ tCh tx len (tSk tx len f i) ≠ 32 := by
  intro f
  induction f with
  | zero => intro i h1 h2; omega
  | succ f ih =>
    intro i h1 h2
    unfold tSk
    by_cases w : tCh tx len i = 32
    · rw [if_pos w]
      have : i < len := by
        apply Classical.byContradiction
        intro y
        unfold tCh at w
        rw [if_neg y] at w; omega
      have := ih (i + 1) (by omega) (by omega)
      exact ⟨by omega, this.2⟩
    · rw [if_neg w]; exact ⟨Nat.le_refl _, h1, w⟩
/-- the scanner stands at a word -/
def xWd (ev ow : Nat → Nat) (h : Hp) (s len : Nat) (tx : Nat → Int) (j : Nat) : Prop := xSc ow h s len tx (tTok tx len j).2.2 j (tTok tx len j).2.1 ∧ hR h s 3 = some (ev (evK (tTok tx len j).1))
theorem sp_X2_advance {ev ow : Nat → Nat} {h : Hp} {s len i pl : Nat} {tx : Nat → Int} {v0 : Int} {Q : Hp → Prop} (T : xSc ow h s len tx i pl v0) (F : tFine tx len) (hl : len ≤ 300) (hi : i ≤ len) (q : ∀ h2, hE (· = 2) ow h ow h2 → xWd ev ow h2 s len tx (tSk tx len (len + 1) i) → Q h2) : wp_X2_advance ev h s Q := by
  have s2 := T.1.2.1
  have go : ∀ (f i : Nat) (h1 : Hp), len < i + f → i ≤ len → hE (· = 2) ow h ow h1 → xSc ow h1 s len tx i pl v0 → tSk tx len f i = tSk tx len (len + 1) (tSk tx len 0 i) ∨ True → (∀ h2, hE (· = 2) ow h ow h2 → xWd ev ow h2 s len tx (tSk tx len f i) → Q h2) → wp_X2_advance_0 ev Q (f + 1) s h1 := by
    intro f
    induction f with
    | zero => intro i h1 h2 h3; omega
    | succ f ih =>
      intro i h1 hf hil fr T1 _ q
      have b := tCh_b F i
      unfold tSk at q
      unfold wp_X2_advance_0
      rw [T1.2.1]
      refine ⟨T1.1.1, T1.1.1, sp_X2_at T1.1 (by omega) ?_⟩
      rw [show (32 : Int32) = Int32.ofInt 32 from rfl, i_eqI (by omega) (by decide)]
      refine ⟨fun w => ⟨T1.1.1, T1.1.1, fun h6 e6 => ?_⟩, fun w => ⟨T1.1.1, T1.1.1, fun h15 e15 => ?_⟩⟩
      · rw [if_neg w] at q
        rw [T1.2.1] at e6
        have T6 : xSc ow h6 s len tx i i v0 := by rw [e6]; exact xSc_4 T1 _
        have f6 : hE (· = 2) ow h1 ow h6 := by rw [e6]; exact hE_uI h1 s2 4 _
        refine ⟨T6.1.1, sp_X2_scan T6 F hl hil fun h8 f8 T8 => ⟨_, rfl, T8.1.1, fun h12 e12 => ?_⟩⟩
        have f12 : hE (· = 2) ow h8 ow h12 := by rw [e12]; exact hE_uR h8 s2 3 _
        refine q h12 (hE_trans fr (hE_trans f6 (hE_trans f8 f12))) ⟨?_, by rw [e12, hR_uR, if_pos ⟨rfl, rfl⟩]⟩
        rw [e12]
        exact ⟨xScn_uR T8.1 (by omega) _, T8.2.1, T8.2.2.1, T8.2.2.2⟩
      · rw [if_pos w] at q
        rw [T1.2.1, i_one] at e15
        have il : i < len := by
          apply Classical.byContradiction
          intro y
          unfold tCh at w
          rw [if_neg y] at w; omega
        have T15 : xSc ow h15 s len tx (i + 1) pl v0 := by rw [e15]; exact xSc_2 T1 _
        have f15 : hE (· = 2) ow h1 ow h15 := by rw [e15]; exact hE_uI h1 s2 2 _
        exact ih (i + 1) h15 (by omega) (by omega) (hE_trans fr f15) T15 (.inr trivial) q
  exact ⟨len + 1 + 1, go (len + 1) i h (by omega) hi (hE_refl _ _ _) T (.inr trivial) q⟩
theorem sp_X2_begin {ev ow : Nat → Nat} {h : Hp} {s len i pl : Nat} {tx : Nat → Int} {v0 : Int} {Q : Hp → Prop} (T : xSc ow h s len tx i pl v0) (F : tFine tx len) (hl : len ≤ 300) (q : ∀ h2, hE (· = 2) ow h ow h2 → xWd ev ow h2 s len tx (tSk tx len (len + 1) 0) → Q h2) : wp_X2_begin ev h s Q := by
  unfold wp_X2_begin
  refine ⟨T.1.1, fun h1 e1 => ?_⟩
  have T1 : xSc ow h1 s len tx 0 pl v0 := by rw [e1]; exact xSc_2 T 0
  have f1 : hE (· = 2) ow h ow h1 := by rw [e1]; exact hE_uI h T.1.2.1 2 _
  exact ⟨T1.1.1, sp_X2_advance T1 F hl (Nat.zero_le _) fun h2 f2 W => q h2 (hE_trans f1 f2) W⟩
