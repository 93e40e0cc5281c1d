/-! THE DESK: work, stepped through -/
theorem Iw8_wk {i : Nat} (h : Iwk i) : Iw8 i := .inl h
theorem Iwk_6 {w : Nat} (hw : w < 3) : Iwk (60 + w) := by unfold Iwk; omega
/-- from the choice of a list on -/
theorem sp_X1_work_79 {ev ow : Nat → Nat} {h : Hp} {a0 i m R n vr wh bd mc ms : Nat} {rf fd sh : Nat → Nat} {A : Nat → Nat → Int} {Lt : Nat → Int32} {S : LW} {dv : Bool} {Q : Int32 → Hp → Prop} {Xr : String → Hp → Prop} (D : xDk ow h a0 rf fd sh) (em : rf 2 = m) (W : xLW ev ow h rf sh S) (ok : lwOk S) (M : xMo ow i h m R n vr A Lt) (hi : ¬ Iw8 i) (hw : wh < 3) (hb : bd ≤ 16) (e0 : (S.2.2.2.1 wh).1 = []) (b12 : hI h a0 12 = bI dv)
    (mcC : lwC (if (wRun wh A R n bd S).2 = true then (wRun wh A R n bd S).1 else wPut (wRun wh A R n bd S).1 wh) ≤ mc + lwC S) (msC : lwS (if (wRun wh A R n bd S).2 = true then (wRun wh A R n bd S).1 else wPut (wRun wh A R n bd S).1 wh) ≤ ms + lwS S)
    (q : ∀ ow2 h2, hE Iw8 ow h ow2 h2 → xDk ow2 h2 a0 rf fd sh → xLW ev ow2 h2 rf sh (if (wRun wh A R n bd S).2 = true then (wRun wh A R n bd S).1 else wPut (wRun wh A R n bd S).1 wh) → lwOk (if (wRun wh A R n bd S).2 = true then (wRun wh A R n bd S).1 else wPut (wRun wh A R n bd S).1 wh) → (∀ k, k ≠ 12 → hI h2 a0 k = hI h a0 k) → hI h2 a0 12 = bI (dv && decide (wh = 2)) → (∀ w, w < 3 → hI h2 (fd w) 1 = if w = wh then (if (wRun wh A R n bd S).2 = true then Int32.ofNat bd else -1) else hI h (fd w) 1) → Q (if (wRun wh A R n bd S).2 = true then Int32.ofNat ((wRun wh A R n bd S).1.2.2.2.1 wh).1.length else -1) h2) :
    wp_X1_work_79 ev Q Xr a0 (Int32.ofNat wh) (Int32.ofNat bd) (fd wh) a0 (bI dv) (bI (decide (wh = 2))) h mc ms := by
  have hik : ¬ Iwk i := fun w => hi (.inl w)
  have mono := wRun_C wh A R n bd S
  have hw3 := hw
  unfold wp_X1_work_79
  rw [bI_and]
  refine ⟨D.1, bI_B _, fun h1 e1 => ?_⟩
  have F1 : hE Iw8 ow h ow h1 := by rw [e1]; exact hE_uI h (by rw [D.2.1]; exact .inr (.inl rfl)) 12 _
  have F1' : hE (· = 1) ow h ow h1 := by rw [e1]; exact hE_uI h D.2.1 12 _
  have D1 : xDk ow h1 a0 rf fd sh := by rw [e1]; exact xDk_uI D
  obtain ⟨fsh, W1, W2, W3, W4⟩ := W
  have W' : xLW ev ow h1 rf sh S := ⟨fsh, gTop_E F1' (by omega) W1, xSh_E F1' (by omega) W2, fun w hw => xSh_E F1' (by omega) (W3 w hw), xSh_E F1' (by omega) W4⟩
  have M1 : xMo ow i h1 m R n vr A Lt := xMo_E F1 hi M
  have hI1 : ∀ k, hI h1 a0 k = if k = 12 then bI (dv && decide (wh = 2)) else hI h a0 k := fun k => by
    rw [e1, hI_uI]
    by_cases y : k = 12
    · rw [if_pos ⟨rfl, y⟩, if_pos y]
    · rw [if_neg (fun z => y z.2), if_neg y]
  have fdne : ∀ w, w < 3 → fd w ≠ a0 := fun w hw e => by
    have := (D.2.2.2.2.1 w hw).2.1
    rw [e] at this
    exact hok_ne this D.1 (by decide) rfl
  have hF1 : ∀ w, w < 3 → hI h1 (fd w) 1 = hI h (fd w) 1 := fun w hw => by
    rw [e1, hI_uI, if_neg (fun z => fdne w hw z.1)]
  -- behind the lists' work
  have fin : ∀ (ow2 : Nat → Nat) (h2 : Hp) (mc2 ms2 : Nat), hE Iwk ow h1 ow2 h2 → xLW ev ow2 h2 rf sh (wRun wh A R n bd S).1 → lwOk (wRun wh A R n bd S).1 → lwC (if (wRun wh A R n bd S).2 = true then (wRun wh A R n bd S).1 else wPut (wRun wh A R n bd S).1 wh) ≤ mc2 + lwC (wRun wh A R n bd S).1 → lwS (if (wRun wh A R n bd S).2 = true then (wRun wh A R n bd S).1 else wPut (wRun wh A R n bd S).1 wh) ≤ ms2 + lwS (wRun wh A R n bd S).1 → wp_X1_work_119 ev Q Xr a0 (Int32.ofNat bd) (fd wh) (if (wRun wh A R n bd S).2 = true then 1 else 0) h2 mc2 ms2 := by
    intro ow2 h2 mc2 ms2 f2 X2 so2 hmc hms
    generalize wRun wh A R n bd S = T at q X2 so2 hmc hms
    have D2 := xDk_E f2 (by unfold Iwk; omega) (by unfold Iwk; omega) D1
    obtain ⟨g1, g2, g3, g4⟩ := D2.2.2.2.2.1 wh hw
    have F2 := hE_trans F1 (hE_mono f2 fun _ w => Iw8_wk w)
    have k2 : ∀ k, hI h2 a0 k = hI h1 a0 k := fun k => hI_E f2 D1.1 (by rw [D1.2.1]; unfold Iwk; omega) k
    have kf : ∀ w, w < 3 → hI h2 (fd w) 1 = hI h1 (fd w) 1 := fun w hw => hI_E f2 (D1.2.2.2.2.1 w hw).2.1 (by rw [(D1.2.2.2.2.1 w hw).2.2.1]; unfold Iwk; omega) 1
    obtain ⟨fs2, X21, X22, X23, X24⟩ := X2
    have n6 : ∀ j, j ≠ 6 → ¬ (j = 6) := fun j h => h
    unfold wp_X1_work_119
    by_cases y : T.2 = true
    · rw [if_pos y] at hmc hms ⊢
      simp only [if_pos y] at q
      refine ⟨fun _ => ⟨g2, fun h3 e3 => ?_⟩, fun z => absurd z (by decide)⟩
      have f3 : hE (· = 6) ow2 h2 ow2 h3 := by rw [e3]; exact hE_uI h2 g3 1 _
      have D3 : xDk ow2 h3 a0 rf fd sh := by rw [e3]; exact xDk_uI D2
      have hI3 : ∀ c k, hI h3 c k = if c = fd wh ∧ k = 1 then Int32.ofNat bd else hI h2 c k := fun c k => by rw [e3, hI_uI]
      obtain ⟨t1, t2, t3, t4⟩ := D3.2.2.2.2.1 wh hw
      have X33 : ∀ w, w < 3 → xShS ev ow2 (60 + w) h3 (sh w) (T.1.2.2.2.1 w) := fun w hw => xSh_E f3 (by omega) (X23 w hw)
      refine ⟨t2, sh wh, t4, xSh_len (X33 wh hw), sp_X7_size (X33 wh hw) ?_⟩
      refine q ow2 h3 (hE_trans F2 (hE_mono f3 fun _ w => .inr (.inr w))) D3 ⟨fs2, gTop_E f3 (by omega) X21, xSh_E f3 (by omega) X22, X33, xSh_E f3 (by omega) X24⟩ so2 (fun k hk => ?_) ?_ fun w hw => ?_
      · rw [hI3, if_neg (fun z => fdne wh hw3 z.1.symm), k2, hI1, if_neg hk]
      · rw [hI3, if_neg (fun z => fdne wh hw3 z.1.symm), k2, hI1, if_pos rfl]
      · rw [hI3]
        by_cases z : w = wh
        · rw [if_pos ⟨by rw [z], rfl⟩, if_pos z]
        · rw [if_neg (fun u => z (D2.2.2.2.2.2.1 w wh hw hw3 u.1)), if_neg z, kf w hw, hF1 w hw]
    · rw [if_neg y] at hmc hms ⊢
      simp only [if_neg y] at q
      have pc := wPut_C T.1 hw
      refine ⟨fun z => absurd rfl z, fun _ => ⟨shC (shClear (T.1.2.2.2.1 wh)) - shC (T.1.2.2.2.1 wh), shS (shClear (T.1.2.2.2.1 wh)) - shS (T.1.2.2.2.1 wh), mc2 - (shC (shClear (T.1.2.2.2.1 wh)) - shC (T.1.2.2.2.1 wh)), ms2 - (shS (shClear (T.1.2.2.2.1 wh)) - shS (T.1.2.2.2.1 wh)), by omega, by omega, g2, ?_⟩⟩
      refine sp_X9_clear D2 hw (X23 wh hw) (so2.2.1 wh hw) (Nat.le_refl _) (Nat.le_refl _) fun ow3 h3 f3 S3 D3 => ?_
      have f4 : hE (· = 6) ow3 h3 ow3 (uI h3 (fd wh) 1 (-1)) := hE_uI h3 ((D3.2.2.2.2.1 wh hw).2.2.1) 1 _
      have hI3 : ∀ c k, hI (uI h3 (fd wh) 1 (-1)) c k = if c = fd wh ∧ k = 1 then -1 else hI h3 c k := fun c k => hI_uI _ _ _ _ _ _
      have k3 : ∀ k, hI h3 a0 k = hI h2 a0 k := fun k => hI_E f3 D2.1 (by rw [D2.2.1]; omega) k
      have kf3 : ∀ w, w < 3 → hI h3 (fd w) 1 = hI h2 (fd w) 1 := fun w hw => hI_E f3 (D2.2.2.2.2.1 w hw).2.1 (by rw [(D2.2.2.2.2.1 w hw).2.2.1]; omega) 1
      refine q ow3 _ (hE_trans F2 (hE_trans (hE_mono f3 fun j w => .inl (by rw [w]; exact Iwk_6 hw)) (hE_mono f4 fun _ w => .inr (.inr w)))) D3 ⟨fs2, gTop_E f4 (by omega) (gTop_E f3 (by omega) X21), xSh_E f4 (by omega) (xSh_E f3 (by omega) X22), fun w hw => ?_, xSh_E f4 (by omega) (xSh_E f3 (by omega) X24)⟩ (wPut_ok so2 wh) (fun k hk => ?_) ?_ fun w hw => ?_
      · show xShS ev ow3 (60 + w) _ (sh w) (if w = wh then _ else T.1.2.2.2.1 w)
        by_cases z : w = wh
        · rw [if_pos z, z]; exact S3
        · rw [if_neg z]; exact xSh_E f4 (by omega) (xSh_E f3 (by omega) (X23 w hw))
      · rw [hI3, if_neg (fun z => fdne wh hw3 z.1.symm), k3, k2, hI1, if_neg hk]
      · rw [hI3, if_neg (fun z => fdne wh hw3 z.1.symm), k3, k2, hI1, if_pos rfl]
      · rw [hI3]
        by_cases z : w = wh
        · rw [if_pos ⟨by rw [z], rfl⟩, if_pos z]
        · rw [if_neg (fun u => z (D2.2.2.2.2.2.1 w wh hw hw3 u.1)), if_neg z, kf3 w hw, kf w hw, hF1 w hw]
  -- enough room
  have more : lwC (wRun wh A R n bd S).1 ≤ lwC (if (wRun wh A R n bd S).2 = true then (wRun wh A R n bd S).1 else wPut (wRun wh A R n bd S).1 wh) ∧ lwS (wRun wh A R n bd S).1 ≤ lwS (if (wRun wh A R n bd S).2 = true then (wRun wh A R n bd S).1 else wPut (wRun wh A R n bd S).1 wh) := by
    have pc := wPut_C (wRun wh A R n bd S).1 hw
    split <;> omega
  have two : (2 : Int32) = Int32.ofNat 2 := rfl
  have cc : wh = 0 ∨ wh = 1 ∨ wh = 2 := by omega
  generalize eC : lwC (wRun wh A R n bd S).1 - lwC S = C1
  generalize eS : lwS (wRun wh A R n bd S).1 - lwS S = S1
  refine ⟨fun nz => ⟨fun no => ?_, fun yo => ?_⟩, fun yz => ?_⟩
  · have : wh = 2 := by
      rcases cc with r | r | r
      · subst r; exact absurd rfl nz
      · subst r; exact absurd rfl no
      · exact r
    subst this
    refine ⟨C1, S1, mc - C1, ms - S1, by omega, by omega, D1.1, ?_⟩
    refine sp_X1_signed D1 em W' ok e0 M1 hik hb (by show lwC (wRun 2 A R n bd S).1 ≤ _; omega) (by show lwS (wRun 2 A R n bd S).1 ≤ _; omega) fun ow2 h2 f2 X2 so2 => ?_
    exact fin ow2 h2 _ _ f2 X2 so2 (by omega) (by omega)
  · have : wh = 1 := by
      rcases cc with r | r | r
      · subst r; exact absurd rfl nz
      · exact r
      · subst r; exact absurd yo (by decide)
    subst this
    refine ⟨C1, S1, mc - C1, ms - S1, by omega, by omega, D1.1, ?_⟩
    refine sp_X1_least D1 em W' ok e0 M1 hik hb (by show lwC (wRun 1 A R n bd S).1 ≤ _; omega) (by show lwS (wRun 1 A R n bd S).1 ≤ _; omega) fun ow2 h2 f2 X2 so2 => ?_
    exact fin ow2 h2 _ _ f2 X2 so2 (by omega) (by omega)
  · have : wh = 0 := by
      rcases cc with r | r | r
      · exact r
      · subst r; exact absurd yz (by decide)
      · subst r; exact absurd yz (by decide)
    subst this
    refine ⟨C1, S1, mc - C1, ms - S1, by omega, by omega, D1.1, ?_⟩
    refine sp_X1_summands D1 em W' ok e0 M1 hik hb (by show lwC (wRun 0 A R n bd S).1 ≤ _; omega) (by show lwS (wRun 0 A R n bd S).1 ≤ _; omega) fun ow2 h2 f2 X2 so2 => ?_
    exact fin ow2 h2 _ _ f2 X2 so2 (by omega) (by omega)
