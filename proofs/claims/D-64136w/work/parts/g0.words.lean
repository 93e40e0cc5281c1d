/-! READING: all words of a text, plain -/
theorem tSk_f (tx : Nat → Int) (len : Nat) : ∀ (f g i : Nat), i ≤ len → len < i + f → len < i + g → tSk tx len f i = tSk tx len g i := by
  intro f
  induction f with
  | zero => intro g i h1 h2; omega
  | succ f ih =>
    intro g i h1 h2 h3
    cases g with
    | zero => omega
    | succ g =>
      unfold tSk
      by_cases w : tCh tx len i = 32
      · rw [if_pos w, if_pos w]
        have : i < len := by
          apply Classical.byContradiction
          intro y
          unfold tCh at w
          rw [if_neg y] at w; omega
        exact ih g (i + 1) (by omega) (by omega) (by omega)
      · rw [if_neg w, if_neg w]
/-- a word reaches farther, and not beyond the text but at its end -/
theorem tTok_b {tx : Nat → Int} {len i : Nat} (hi : i < len) (hr : (tTok tx len i).1 ≠ 10) : i < (tTok tx len i).2.2 ∧ (tTok tx len i).2.2 ≤ len ∧ (tTok tx len i).1 ≠ 0 ∨ tx i = -1 := by
  have e : tCh tx len i = tx i := if_pos hi
  by_cases z : tx i = -1
  · exact .inr z
  · left
    have two : tCh tx len (i + 1) = 61 → i + 2 ≤ len := by
      intro h
      apply Classical.byContradiction
      intro w
      unfold tCh at h
      rw [if_neg (by omega)] at h; omega
    unfold tTok at hr ⊢
    by_cases d : tDg tx len i = true
    · rw [if_pos d] at hr ⊢
      have b := tRun_b tx len len (i + 1) (10 * 0 + tCh tx len i - 48) (by omega)
      have er : tRun tx len (len + 1) i 0 = tRun tx len len (i + 1) (10 * 0 + tCh tx len i - 48) := if_pos d
      simp only
      rw [er]
      refine ⟨by omega, by omega, ?_⟩
      split <;> decide
    · rw [if_neg d] at hr ⊢
      rw [e] at hr ⊢
      by_cases c1 : 97 ≤ tx i ∧ tx i ≤ 122
      · rw [if_pos c1]; exact ⟨Nat.lt_succ_self i, hi, (by decide : (2 : Nat) ≠ 0)⟩
      rw [if_neg c1] at hr ⊢
      rw [if_neg z] at hr ⊢
      by_cases c2 : tx i = 42
      · rw [if_pos c2]; exact ⟨Nat.lt_succ_self i, hi, (by decide : (5 : Nat) ≠ 0)⟩
      rw [if_neg c2] at hr ⊢
      by_cases c3 : tx i = 43
      · rw [if_pos c3]; exact ⟨Nat.lt_succ_self i, hi, (by decide : (3 : Nat) ≠ 0)⟩
      rw [if_neg c3] at hr ⊢
      by_cases c4 : tx i = 45
      · rw [if_pos c4]; exact ⟨Nat.lt_succ_self i, hi, (by decide : (4 : Nat) ≠ 0)⟩
      rw [if_neg c4] at hr ⊢
      by_cases c5 : tx i = 59
      · rw [if_pos c5]; exact ⟨Nat.lt_succ_self i, hi, (by decide : (6 : Nat) ≠ 0)⟩
      rw [if_neg c5] at hr ⊢
      by_cases c6 : tx i = 61
      · rw [if_pos c6]; exact ⟨Nat.lt_succ_self i, hi, (by decide : (7 : Nat) ≠ 0)⟩
      rw [if_neg c6] at hr ⊢
      by_cases c7 : tx i = 60 ∧ tCh tx len (i + 1) = 61
      · rw [if_pos c7]; exact ⟨Nat.lt_add_of_pos_right (by decide : 0 < 2), two c7.2, (by decide : (8 : Nat) ≠ 0)⟩
      rw [if_neg c7] at hr ⊢
      by_cases c8 : tx i = 62 ∧ tCh tx len (i + 1) = 61
      · rw [if_pos c8]; exact ⟨Nat.lt_add_of_pos_right (by decide : 0 < 2), two c8.2, (by decide : (9 : Nat) ≠ 0)⟩
      rw [if_neg c8] at hr ⊢
      exact absurd rfl hr
def tWs (tx : Nat → Int) (len : Nat) : Nat → Nat → List (Nat × Nat × Int)
  | 0, _ => []
  | f + 1, i => if (tTok tx len (tSk tx len (len + 1) i)).1 = 0 ∨ (tTok tx len (tSk tx len (len + 1) i)).1 = 10 then [((tTok tx len (tSk tx len (len + 1) i)).1, tSk tx len (len + 1) i, (tTok tx len (tSk tx len (len + 1) i)).2.1)] else ((tTok tx len (tSk tx len (len + 1) i)).1, tSk tx len (len + 1) i, (tTok tx len (tSk tx len (len + 1) i)).2.1) :: tWs tx len f (tTok tx len (tSk tx len (len + 1) i)).2.2
