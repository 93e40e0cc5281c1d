/-! WORK: which arguments are fair; the whole of both sides -/
theorem i_ex {x : Int32} (h : ¬ x < 0) : ∃ n, n < 2147483648 ∧ x = Int32.ofNat n := by
  have h1 : 0 ≤ x.toInt := by
    apply Classical.byContradiction
    intro w
    exact h (Int32.lt_iff_toInt_lt.mpr (by rw [show (0 : Int32).toInt = 0 from rfl]; omega))
  have h2 := Int32.toInt_lt x
  refine ⟨x.toInt.toNat, by omega, ?_⟩
  rw [i_ofN, show ((x.toInt.toNat : Nat) : Int) = x.toInt by omega, i_ofI]
def wBad (p1 p2 : Int32) : Prop := p1 < 0 ∨ 2 < p1 ∨ p2 < 0 ∨ (¬ p1 = 2 ∧ ¬ p2 ≤ 16) ∨ (p1 = 2 ∧ ¬ p2 ≤ 10)
theorem work_ex (p1 p2 : Int32) : wBad p1 p2 ∨ ∃ wh bd, p1 = Int32.ofNat wh ∧ p2 = Int32.ofNat bd ∧ wh < 3 ∧ bd ≤ 16 ∧ (wh = 2 → bd ≤ 10) := by
  by_cases h : wBad p1 p2
  · exact .inl h
  · right
    unfold wBad at h
    simp only [not_or] at h
    obtain ⟨h1, h2, h3, h4, h5⟩ := h
    obtain ⟨wh, w1, rfl⟩ := i_ex h1
    obtain ⟨bd, w2, rfl⟩ := i_ex h3
    rw [show (2 : Int32) = Int32.ofNat 2 from rfl] at h2 h4 h5
    rw [i_lt (by omega) w1] at h2
    rw [i_eq w1 (by omega), show (16 : Int32) = Int32.ofNat 16 from rfl, i_le w2 (by omega)] at h4
    rw [i_eq w1 (by omega), show (10 : Int32) = Int32.ofNat 10 from rfl, i_le w2 (by omega)] at h5
    refine ⟨wh, bd, rfl, rfl, by omega, ?_, fun w => ?_⟩
    · by_cases z : wh = 2
      · have : ¬ ¬ bd ≤ 10 := fun y => h5 ⟨z, y⟩
        omega
      · have : ¬ ¬ bd ≤ 16 := fun y => h4 ⟨z, y⟩
        omega
    · have : ¬ ¬ bd ≤ 10 := fun y => h5 ⟨w, y⟩
      omega
theorem sp_X1_work_no {ev : Nat → Nat} {h : Hp} {a0 MC MS : Nat} {p1 p2 : Int32} {Q : Int32 → Hp → Prop} {Xr : String → Hp → Prop} (b : wBad p1 p2) (mc : 1 ≤ MC) (ms : 6 ≤ MS) (x : Xr eIAE h) : wp_X1_work ev h a0 p1 p2 MC MS Q Xr := by
  have bad : wp_X1_work_33 ev Q Xr a0 p1 p2 h MC MS := by
    unfold wp_X1_work_33 wp_X1_work_34
    exact ⟨fun z => absurd rfl z, fun _ => ⟨MC - 1, MS - 6, by omega, by omega, x⟩⟩
  unfold wBad at b
  have b26 : ∀ u0 u1 : Int32, ¬ u0 ≤ u1 → wp_X1_work_26 ev Q Xr a0 p1 p2 u0 u1 h MC MS := by
    intro u0 u1 hn
    unfold wp_X1_work_26
    exact ⟨fun _ => bad, fun z => absurd (Int32.not_lt.mp z) hn⟩
  unfold wp_X1_work
  refine ⟨fun _ => bad, fun a => ⟨fun _ => bad, fun a2 => ⟨fun _ => bad, fun a3 => ⟨fun a4 => b26 _ _ ?_, fun a4 => b26 _ _ ?_⟩⟩⟩⟩
  · rcases b with w | w | w | w | w
    · exact absurd w a
    · exact absurd w a2
    · exact absurd w a3
    · exact w.2
    · exact absurd w.1 a4
  · rcases b with w | w | w | w | w
    · exact absurd w a
    · exact absurd w a2
    · exact absurd w a3
    · exact absurd a4 w.1
    · exact w.2
/-- fair arguments come to the list's work -/
theorem sp_X1_work_34 {ev : Nat → Nat} {h : Hp} {a0 wh bd MC MS : Nat} {Q : Int32 → Hp → Prop} {Xr : String → Hp → Prop} (hw : wh < 3) (hb : bd ≤ 16) (h2 : wh = 2 → bd ≤ 10) (k : wp_X1_work_34 ev Q Xr a0 (Int32.ofNat wh) (Int32.ofNat bd) 1 h MC MS) : wp_X1_work ev h a0 (Int32.ofNat wh) (Int32.ofNat bd) MC MS Q Xr := by
  have two : (2 : Int32) = Int32.ofNat 2 := rfl
  have b26 : ∀ u1 : Nat, bd ≤ u1 → u1 < 100 → wp_X1_work_26 ev Q Xr a0 (Int32.ofNat wh) (Int32.ofNat bd) (Int32.ofNat bd) (Int32.ofNat u1) h MC MS := by
    intro u1 hu hl
    unfold wp_X1_work_26
    rw [i_lt (by omega) (by omega)]
    exact ⟨fun z => by omega, fun _ => k⟩
  unfold wp_X1_work
  rw [two, i_lt (by omega) (by omega), i_eq (by omega) (by omega)]
  exact ⟨fun z => absurd z (i_nneg (by omega)), fun _ => ⟨fun z => by omega, fun _ => ⟨fun z => absurd z (i_nneg (by omega)), fun _ => ⟨fun _ => b26 16 hb (by omega), fun z => b26 10 (h2 z) (by omega)⟩⟩⟩⟩
theorem sp_X1_work_un {ev ow : Nat → Nat} {h : Hp} {a0 wh bd MC MS : Nat} {rf fd sh : Nat → Nat} {Q : Int32 → Hp → Prop} {Xr : String → Hp → Prop} (hw : wh < 3) (hb : bd ≤ 16) (h2 : wh = 2 → bd ≤ 10) (D : xDk ow h a0 rf fd sh) (k8 : hI h a0 8 = 0) (mc : 1 ≤ MC) (ms : 6 ≤ MS) (x : Xr eISE h) : wp_X1_work ev h a0 (Int32.ofNat wh) (Int32.ofNat bd) MC MS Q Xr := by
  refine sp_X1_work_34 hw hb h2 ?_
  unfold wp_X1_work_34 wp_X1_needSystem
  exact ⟨fun _ => ⟨MC, MS, 0, 0, by omega, by omega, D.1, D.1, fun z => absurd k8 z, fun _ => ⟨MC - 1, MS - 6, by omega, by omega, x⟩⟩, fun z => absurd z (by decide)⟩
theorem sp_X1_work {ev ow : Nat → Nat} {h : Hp} {a0 i m R n vr wh bd MC MS : Nat} {rf fd sh : Nat → Nat} {A : Nat → Nat → Int} {Lt : Nat → Int32} {S : LW} {dv : Bool} {Q : Int32 → Hp → Prop} {Xr : String → Hp → Prop} (D : xDk ow h a0 rf fd sh) (em : rf 2 = m) (W : xLW ev ow h rf sh S) (ok : lwOk S) (M : xMo ow i h m R n vr A Lt) (hi : ¬ Iw8 i) (hw : wh < 3) (hb : bd ≤ 16) (hb2 : wh = 2 → bd ≤ 10) (k8 : hI h a0 8 ≠ 0) (b12 : hI h a0 12 = bI dv) (mc : lwC (wWork wh A R n bd S).1 ≤ MC + lwC S) (ms : lwS (wWork wh A R n bd S).1 ≤ MS + lwS S)
    (q : ∀ ow2 h2, hE Iw8 ow h ow2 h2 → xDk ow2 h2 a0 rf fd sh → xLW ev ow2 h2 rf sh (wWork wh A R n bd S).1 → lwOk (wWork wh A R n bd S).1 → (∀ k, k ≠ 12 → hI h2 a0 k = hI h a0 k) → hI h2 a0 12 = bI (dv && decide (wh = 2)) → (∀ w, w < 3 → hI h2 (fd w) 1 = if w = wh then (if (wWork wh A R n bd S).2 = true then Int32.ofNat bd else -1) else hI h (fd w) 1) → Q (if (wWork wh A R n bd S).2 = true then Int32.ofNat ((wWork wh A R n bd S).1.2.2.2.1 wh).1.length else -1) h2) : wp_X1_work ev h a0 (Int32.ofNat wh) (Int32.ofNat bd) MC MS Q Xr := by
  have hw3 := hw
  have e1 : (wWork wh A R n bd S).1 = (if (wRun wh A R n bd (wPut S wh)).2 = true then (wRun wh A R n bd (wPut S wh)).1 else wPut (wRun wh A R n bd (wPut S wh)).1 wh) := by
    unfold wWork; simp only; split <;> rfl
  have e2 : (wWork wh A R n bd S).2 = (wRun wh A R n bd (wPut S wh)).2 := by
    unfold wWork; simp only; split
    · rfl
    · rename_i y; simp at y; exact y.symm
  have e3 : (if (wWork wh A R n bd S).2 = true then Int32.ofNat ((wWork wh A R n bd S).1.2.2.2.1 wh).1.length else -1) = (if (wRun wh A R n bd (wPut S wh)).2 = true then Int32.ofNat ((wRun wh A R n bd (wPut S wh)).1.2.2.2.1 wh).1.length else -1) := by
    rw [e2]
    by_cases y : (wRun wh A R n bd (wPut S wh)).2 = true
    · rw [if_pos y, if_pos y, e1, if_pos y]
    · rw [if_neg y, if_neg y]
  rw [e3, e1, e2] at q
  rw [e1] at mc ms
  have pc := wPut_C S hw
  have rc := wRun_C wh A R n bd (wPut S wh)
  have cl := shClear_C (S.2.2.2.1 wh)
  have fc : lwC (wPut S wh) ≤ lwC (if (wRun wh A R n bd (wPut S wh)).2 = true then (wRun wh A R n bd (wPut S wh)).1 else wPut (wRun wh A R n bd (wPut S wh)).1 wh) ∧ lwS (wPut S wh) ≤ lwS (if (wRun wh A R n bd (wPut S wh)).2 = true then (wRun wh A R n bd (wPut S wh)).1 else wPut (wRun wh A R n bd (wPut S wh)).1 wh) := by
    have c := wPut_C (wRun wh A R n bd (wPut S wh)).1 hw
    split <;> omega
  obtain ⟨fsh, W1, W2, W3, W4⟩ := W
  refine sp_X1_work_34 hw hb hb2 ?_
  unfold wp_X1_work_34 wp_X1_needSystem
  refine ⟨fun _ => ⟨0, 0, MC, MS, by omega, by omega, D.1, D.1, fun _ => ⟨D.1, rf 7, D.2.2.1 7 (by omega) (by omega) (by omega) (by omega) (by omega), D.2.2.2.1.1, ?_, fd wh, (D.2.2.2.2.1 wh hw).1, shC (shClear (S.2.2.2.1 wh)) - shC (S.2.2.2.1 wh), shS (shClear (S.2.2.2.1 wh)) - shS (S.2.2.2.1 wh), MC - (shC (shClear (S.2.2.2.1 wh)) - shC (S.2.2.2.1 wh)), MS - (shS (shClear (S.2.2.2.1 wh)) - shS (S.2.2.2.1 wh)), by omega, by omega, (D.2.2.2.2.1 wh hw).2.1, ?_⟩, fun z => absurd z k8⟩, fun z => absurd z (by decide)⟩
  · rw [i_in (by omega), D.2.2.2.1.2.2]; exact hw
  refine sp_X9_clear D hw (W3 wh hw) (ok.2.1 wh hw) (Nat.le_refl _) (Nat.le_refl _) fun ow3 h3 f3 S3 D3 => ?_
  have g3 := (D3.2.2.2.2.1 wh hw).2.2.1
  have f4 : hE (· = 6) ow3 h3 ow3 (uI h3 (fd wh) 1 (-1)) := hE_uI h3 g3 1 _
  have F : hE Iw8 ow h ow3 (uI h3 (fd wh) 1 (-1)) := hE_trans (hE_mono f3 fun j w => .inl (by rw [w]; exact Iwk_6 hw)) (hE_mono f4 fun _ w => .inr (.inr w))
  have fdne : ∀ w, w < 3 → fd w ≠ a0 := fun w hw e => by
    have := (D.2.2.2.2.1 w hw).2.1
    rw [e] at this
    exact hok_ne this D.1 (by decide) rfl
  have hI3 : ∀ c k, hI (uI h3 (fd wh) 1 (-1)) c k = if c = fd wh ∧ k = 1 then -1 else hI h3 c k := fun c k => hI_uI _ _ _ _ _ _
  have k3 : ∀ k, hI (uI h3 (fd wh) 1 (-1)) a0 k = hI h a0 k := fun k => by
    rw [hI3, if_neg (fun z => fdne wh hw3 z.1.symm)]
    exact hI_E f3 D.1 (by rw [D.2.1]; omega) k
  have kf3 : ∀ w, w < 3 → w ≠ wh → hI (uI h3 (fd wh) 1 (-1)) (fd w) 1 = hI h (fd w) 1 := fun w hw hne => by
    rw [hI3, if_neg (fun u => hne (D.2.2.2.2.2.1 w wh hw hw3 u.1))]
    exact hI_E f3 (D.2.2.2.2.1 w hw).2.1 (by rw [(D.2.2.2.2.1 w hw).2.2.1]; omega) 1
  have go : wp_X1_work_79 ev Q Xr a0 (Int32.ofNat wh) (Int32.ofNat bd) (fd wh) a0 (bI dv) (bI (decide (wh = 2))) (uI h3 (fd wh) 1 (-1)) (MC - (shC (shClear (S.2.2.2.1 wh)) - shC (S.2.2.2.1 wh))) (MS - (shS (shClear (S.2.2.2.1 wh)) - shS (S.2.2.2.1 wh))) := by
    refine sp_X1_work_79 (S := wPut S wh) D3 em ⟨fsh, gTop_E f4 (by omega) (gTop_E f3 (by omega) W1), xSh_E f4 (by omega) (xSh_E f3 (by omega) W2), fun w hw => ?_, xSh_E f4 (by omega) (xSh_E f3 (by omega) W4)⟩ (wPut_ok ok wh) (xMo_E F hi M) hi hw hb (wPut_e S wh) ((k3 12).trans b12) (by omega) (by omega) fun ow5 h5 f5 D5 X5 so5 k5 k512 kf5 => ?_
    · show xShS ev ow3 (60 + w) _ (sh w) (if w = wh then _ else S.2.2.2.1 w)
      by_cases z : w = wh
      · rw [if_pos z, z]; exact S3
      · rw [if_neg z]; exact xSh_E f4 (by omega) (xSh_E f3 (by omega) (W3 w hw))
    · refine q ow5 h5 (hE_trans F f5) D5 X5 so5 (fun k hk => (k5 k hk).trans (k3 k)) k512 fun w hw => ?_
      rw [kf5 w hw]
      by_cases z : w = wh
      · rw [if_pos z, if_pos z]
      · rw [if_neg z, if_neg z, kf3 w hw z]
  refine ⟨D3.1, fun z => ?_, fun z => ?_⟩
  · rw [show (2 : Int32) = Int32.ofNat 2 from rfl, i_eq (by omega) (by omega)] at z
    rw [k3, b12]
    have e : bI (decide (wh = 2)) = 0 := by rw [show decide (wh = 2) = false by simp [z]]; rfl
    rw [e] at go; exact go
  · rw [show (2 : Int32) = Int32.ofNat 2 from rfl, i_eq (by omega) (by omega)] at z
    rw [k3, b12]
    have e : bI (decide (wh = 2)) = 1 := by rw [show decide (wh = 2) = true by simp [z]]; rfl
    rw [e] at go; exact go
