/-! READING: the component's scanner, numbers -/
def xSc (ow : Nat → Nat) (h : Hp) (s len : Nat) (tx : Nat → Int) (nx pl : Nat) (v : Int) : Prop := xScn ow h s len tx ∧ hI h s 2 = Int32.ofNat nx ∧ hI h s 4 = Int32.ofNat pl ∧ hI h s 5 = Int32.ofInt v
theorem xSc_2 {ow : Nat → Nat} {h : Hp} {s len nx pl : Nat} {tx : Nat → Int} {v : Int} (T : xSc ow h s len tx nx pl v) (n : Nat) : xSc ow (uI h s 2 (Int32.ofNat n)) s len tx n pl v := by
  obtain ⟨t1, t2, t3, t4⟩ := T
  exact ⟨xScn_uI t1 (by omega) _, by rw [hI_uI, if_pos ⟨rfl, rfl⟩], by rw [hI_uI, if_neg (by omega)]; exact t3, by rw [hI_uI, if_neg (by omega)]; exact t4⟩
theorem xSc_4 {ow : Nat → Nat} {h : Hp} {s len nx pl : Nat} {tx : Nat → Int} {v : Int} (T : xSc ow h s len tx nx pl v) (n : Nat) : xSc ow (uI h s 4 (Int32.ofNat n)) s len tx nx n v := by
  obtain ⟨t1, t2, t3, t4⟩ := T
  exact ⟨xScn_uI t1 (by omega) _, by rw [hI_uI, if_neg (by omega)]; exact t2, by rw [hI_uI, if_pos ⟨rfl, rfl⟩], by rw [hI_uI, if_neg (by omega)]; exact t4⟩
theorem xSc_5 {ow : Nat → Nat} {h : Hp} {s len nx pl : Nat} {tx : Nat → Int} {v : Int} (T : xSc ow h s len tx nx pl v) (n : Int) : xSc ow (uI h s 5 (Int32.ofInt n)) s len tx nx pl n := by
  obtain ⟨t1, t2, t3, t4⟩ := T
  exact ⟨xScn_uI t1 (by omega) _, by rw [hI_uI, if_neg (by omega)]; exact t2, by rw [hI_uI, if_neg (by omega)]; exact t3, by rw [hI_uI, if_pos ⟨rfl, rfl⟩]⟩
theorem sp_X2_number {ev ow : Nat → Nat} {h : Hp} {s len pl : Nat} {tx : Nat → Int} {v0 : Int} {Q : Option Nat → Hp → Prop} (T : xSc ow h s len tx pl pl v0) (F : tFine tx len) (hl : len ≤ 300) (hp : pl ≤ len) (q : ∀ h2, hE (· = 2) ow h ow h2 → xSc ow h2 s len tx (tRun tx len (len + 1) pl 0).1 pl (tRun tx len (len + 1) pl 0).2 → Q (some (ev (if (tRun tx len (len + 1) pl 0).1 ≤ pl + 4 then 0 else 10))) h2) : wp_X2_number ev h s Q := by
  have s2 := T.1.2.1
  have c10 : (10 : Int32) = Int32.ofInt 10 := rfl
  have c48 : (48 : Int32) = Int32.ofInt 48 := rfl
  have four : (4 : Int32) = Int32.ofNat 4 := rfl
  unfold wp_X2_number
  refine ⟨T.1.1, fun h1 e1 => ⟨len + 1 + 1, ?_⟩⟩
  have go : ∀ (f i : Nat) (v : Int) (h1 : Hp), len < i + f → pl ≤ i → i ≤ len → hE (· = 2) ow h ow h1 → xSc ow h1 s len tx i pl v → tRun tx len f i v = tRun tx len (len + 1) pl 0 → wp_X2_number_5 ev Q (f + 1) s h1 := by
    intro f
    induction f with
    | zero => intro i v h1 h2 h3 h4; omega
    | succ f ih =>
      intro i v h1 hf hpi hil fr T1 er
      obtain ⟨t1, t2, t3, t4⟩ := T1
      have T1' : xSc ow h1 s len tx i pl v := ⟨t1, t2, t3, t4⟩
      have eu : tRun tx len (f + 1) i v = if tDg tx len i = true then tRun tx len f (i + 1) (10 * v + tCh tx len i - 48) else (i, v) := rfl
      rw [eu] at er
      unfold wp_X2_number_5 wp_X2_number_74
      rw [t2]
      refine ⟨t1.1, t1.1, sp_X2_isDigit t1 F (by omega) ?_⟩
      rw [bI_0]
      refine ⟨fun y => ⟨t1.1, t1.1, ?_⟩, fun y => ?_⟩
      · rw [if_neg (by rw [y]; simp)] at er
        rw [← er] at q
        rw [t2, t3, i_sub hpi, four, i_le (by omega) (by omega)]
        have qq := q h1 fr T1'
        simp only at qq
        refine ⟨fun w => ?_, fun w => ?_⟩
        · rw [if_pos (by omega)] at qq; exact qq
        · rw [if_neg (by omega)] at qq; exact qq
      · have y := b_t y
        rw [if_pos y] at er
        have il : i < len := by
          apply Classical.byContradiction
          intro w
          have := (tDg_iff tx len i).mp y
          unfold tCh at this
          rw [if_neg w] at this; omega
        refine ⟨t1.1, t1.1, t1.1, ?_⟩
        rw [t2]
        refine sp_X2_at t1 (by omega) ⟨t1.1, fun h12 e12 => ?_⟩
        rw [t4, c10, i_mulI, i_addI, c48, i_subI] at e12
        have T2 : xSc ow h12 s len tx i pl (10 * v + tCh tx len i - 48) := by rw [e12]; exact xSc_5 T1' _
        refine ⟨T2.1.1, T2.1.1, fun h15 e15 => ?_⟩
        rw [T2.2.1, i_one] at e15
        have T3 : xSc ow h15 s len tx (i + 1) pl (10 * v + tCh tx len i - 48) := by rw [e15]; exact xSc_2 T2 _
        have f12 : hE (· = 2) ow h1 ow h12 := by rw [e12]; exact hE_uI h1 s2 5 _
        have f15 : hE (· = 2) ow h12 ow h15 := by rw [e15]; exact hE_uI h12 s2 2 _
        exact ih (i + 1) _ h15 (by omega) (by omega) (by omega) (hE_trans fr (hE_trans f12 f15)) T3 er
  have T1 : xSc ow h1 s len tx pl pl 0 := by rw [e1]; exact xSc_5 T 0
  exact go (len + 1) pl 0 h1 (by omega) (Nat.le_refl _) hp (by rw [e1]; exact hE_uI h s2 5 0) T1 rfl
