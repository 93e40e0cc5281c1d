/-! READING: the component's scanner, words -/
/-- the word at a place that is no space: kind (by the twin's numbers), value, behind -/
def tTok (tx : Nat → Int) (len i : Nat) : Nat × Int × Nat :=
  if tDg tx len i = true then ((if (tRun tx len (len + 1) i 0).1 ≤ i + 4 then 1 else 10), (tRun tx len (len + 1) i 0).2, (tRun tx len (len + 1) i 0).1)
  else if 97 ≤ tCh tx len i ∧ tCh tx len i ≤ 122 then (2, tCh tx len i, i + 1)
  else if tCh tx len i = -1 then (0, tCh tx len i, i + 1)
  else if tCh tx len i = 42 then (5, tCh tx len i, i + 1)
  else if tCh tx len i = 43 then (3, tCh tx len i, i + 1)
  else if tCh tx len i = 45 then (4, tCh tx len i, i + 1)
  else if tCh tx len i = 59 then (6, tCh tx len i, i + 1)
  else if tCh tx len i = 61 then (7, tCh tx len i, i + 1)
  else if tCh tx len i = 60 ∧ tCh tx len (i + 1) = 61 then (8, tCh tx len i, i + 2)
  else if tCh tx len i = 62 ∧ tCh tx len (i + 1) = 61 then (9, tCh tx len i, i + 2)
  else (10, tCh tx len i, i + 1)
/-- the component's constant of a kind -/
def evK : Nat → Nat
  | 0 => 9
  | 1 => 0
  | 2 => 1
  | 3 => 2
  | 4 => 3
  | 5 => 4
  | 6 => 8
  | 7 => 5
  | 8 => 6
  | 9 => 7
  | _ => 10
theorem sp_X2_scan {ev ow : Nat → Nat} {h : Hp} {s len i : Nat} {tx : Nat → Int} {v0 : Int} {Q : Option Nat → Hp → Prop} (T : xSc ow h s len tx i i v0) (F : tFine tx len) (hl : len ≤ 300) (hi : i ≤ len) (q : ∀ h2, hE (· = 2) ow h ow h2 → xSc ow h2 s len tx (tTok tx len i).2.2 i (tTok tx len i).2.1 → Q (some (ev (evK (tTok tx len i).1))) h2) : wp_X2_scan ev h s Q := by
  have s2 := T.1.2.1
  have b := tCh_b F i
  have b1 := tCh_b F (i + 1)
  unfold wp_X2_scan
  rw [T.2.1]
  refine ⟨T.1.1, T.1.1, sp_X2_isDigit T.1 F (by omega) ?_⟩
  rw [bI_0]
  unfold tTok at q
  refine ⟨fun y => ⟨T.1.1, fun x6 e6 => ⟨T.1.1, fun h7 e7 => ?_⟩⟩, fun y => ⟨T.1.1, sp_X2_number T F hl hi fun h2 f2 T2 => ⟨_, rfl, ?_⟩⟩⟩
  · rw [if_neg (by rw [y]; simp)] at q
    rw [T.2.1] at e6
    rw [e6, i_one] at e7
    subst e6
    have T7 : xSc ow h7 s len tx (i + 1) i v0 := by rw [e7]; exact xSc_2 T _
    have f7 : hE (· = 2) ow h ow h7 := by rw [e7]; exact hE_uI h s2 2 _
    refine ⟨T7.1.1, sp_X2_at T7.1 (by omega) ⟨T7.1.1, fun h12 e12 => ?_⟩⟩
    have T12 : xSc ow h12 s len tx (i + 1) i (tCh tx len i) := by rw [e12]; exact xSc_5 T7 _
    have f12' : hE (· = 2) ow h7 ow h12 := by rw [e12]; exact hE_uI h7 s2 5 _
    have f12 := hE_trans f7 f12'
    have lit : ∀ k : Int, k.natAbs < 1000 → (Int32.ofInt (tCh tx len i) = Int32.ofInt k ↔ tCh tx len i = k) := fun k hk => i_eqI (by omega) (by omega)
    have c97 : (97 : Int32) = Int32.ofInt 97 := rfl
    have c122 : (122 : Int32) = Int32.ofInt 122 := rfl
    -- no letter
    have rest : ¬ (97 ≤ tCh tx len i ∧ tCh tx len i ≤ 122) → wp_X2_scan_53 ev Q s (Int32.ofInt (tCh tx len i)) h12 := by
      intro nl
      rw [if_neg nl] at q
      unfold wp_X2_scan_53
      rw [T12.2.1]
      refine ⟨T12.1.1, T12.1.1, sp_X2_at T12.1 (by omega) ?_⟩
      have main : ∀ u : Bool, u = decide (tCh tx len (i + 1) = 61) → wp_X2_scan_71 ev Q s (Int32.ofInt (tCh tx len i)) (bI u) h12 := by
        intro u hu
        have two : (tCh tx len i = 60 ∨ tCh tx len i = 62) → wp_X2_scan_172 ev Q s (Int32.ofInt (tCh tx len i)) (bI u) h12 := by
          intro hc
          rw [if_neg (by omega), if_neg (by omega), if_neg (by omega), if_neg (by omega), if_neg (by omega), if_neg (by omega)] at q
          unfold wp_X2_scan_172 wp_X2_scan_186 wp_X2_scan_215
          rw [T12.2.1, bI_0, show (60 : Int32) = Int32.ofInt 60 from rfl, lit 60 (by decide)]
          refine ⟨T12.1.1, fun z => ⟨T12.1.1, fun h1 e1 => ?_⟩, fun z => ⟨T12.1.1, fun h1 e1 => ?_⟩⟩
          · have ne : ¬ tCh tx len (i + 1) = 61 := of_decide_eq_false (by rw [← hu]; exact z)
            rw [if_neg (fun w => ne w.2), if_neg (fun w => ne w.2)] at q
            have T1 : xSc ow h1 s len tx (i + 1) i (tCh tx len i) := by rw [e1, show Int32.ofNat (i + 1) + 0 = Int32.ofNat (i + 1) from Int32.add_zero _]; exact xSc_2 T12 _
            have f1 : hE (· = 2) ow h12 ow h1 := by rw [e1]; exact hE_uI h12 s2 2 _
            exact ⟨fun w => absurd z w, fun _ => q h1 (hE_trans f12 f1) T1⟩
          · have ye : tCh tx len (i + 1) = 61 := of_decide_eq_true (by rw [← hu]; exact b_t z)
            have T1 : xSc ow h1 s len tx (i + 2) i (tCh tx len i) := by rw [e1, i_one]; exact xSc_2 T12 _
            have f1 : hE (· = 2) ow h12 ow h1 := by rw [e1]; exact hE_uI h12 s2 2 _
            refine ⟨fun _ => ⟨fun w => ?_, fun w => ?_⟩, fun w => absurd w z⟩
            · rw [if_neg (fun t => w t.1), if_pos ⟨by omega, ye⟩] at q
              exact q h1 (hE_trans f12 f1) T1
            · rw [if_pos ⟨w, ye⟩] at q
              exact q h1 (hE_trans f12 f1) T1
        unfold wp_X2_scan_71
        rw [show (-1 : Int32) = Int32.ofInt (-1) from rfl, show (42 : Int32) = Int32.ofInt 42 from rfl, show (43 : Int32) = Int32.ofInt 43 from rfl, show (45 : Int32) = Int32.ofInt 45 from rfl, show (59 : Int32) = Int32.ofInt 59 from rfl, show (60 : Int32) = Int32.ofInt 60 from rfl, show (61 : Int32) = Int32.ofInt 61 from rfl, show (62 : Int32) = Int32.ofInt 62 from rfl, lit (-1) (by decide), lit 42 (by decide), lit 43 (by decide), lit 45 (by decide), lit 59 (by decide), lit 60 (by decide), lit 61 (by decide), lit 62 (by decide)]
        refine ⟨fun w => ?_, fun w1 => ⟨fun w => ?_, fun w2 => ⟨fun w => ?_, fun w3 => ⟨fun w => ?_, fun w4 => ⟨fun w => ?_, fun w5 => ⟨fun w => two (.inl w), fun w6 => ⟨fun w => ?_, fun w7 => ⟨fun w => two (.inr w), fun w8 => ?_⟩⟩⟩⟩⟩⟩⟩⟩
        · rw [if_pos w] at q; exact q h12 f12 T12
        · rw [if_neg w1, if_pos w] at q; exact q h12 f12 T12
        · rw [if_neg w1, if_neg w2, if_pos w] at q; exact q h12 f12 T12
        · rw [if_neg w1, if_neg w2, if_neg w3, if_pos w] at q; exact q h12 f12 T12
        · rw [if_neg w1, if_neg w2, if_neg w3, if_neg w4, if_pos w] at q; exact q h12 f12 T12
        · rw [if_neg w1, if_neg w2, if_neg w3, if_neg w4, if_neg w5, if_pos w] at q; exact q h12 f12 T12
        · rw [if_neg w1, if_neg w2, if_neg w3, if_neg w4, if_neg w5, if_neg w7, if_neg (fun t => w6 t.1), if_neg (fun t => w8 t.1)] at q; exact q h12 f12 T12
      rw [show (61 : Int32) = Int32.ofInt 61 from rfl, i_eqI (by omega) (by decide)]
      exact ⟨fun w => main false (by simp [w]), fun w => main true (by simp [w])⟩
    rw [c97, i_ltI (by omega) (by decide), c122, i_ltI (by decide) (by omega)]
    refine ⟨fun w => rest (by omega), fun w => ⟨fun w2 => rest (by omega), fun w2 => ?_⟩⟩
    rw [if_pos ⟨by omega, by omega⟩] at q
    exact q h12 f12 T12
  · rw [if_pos (b_t y)] at q
    have := q h2 f2 T2
    simp only at this
    by_cases w : (tRun tx len (len + 1) i 0).1 ≤ i + 4
    · rw [if_pos w] at this ⊢; exact this
    · rw [if_neg w] at this ⊢; exact this
