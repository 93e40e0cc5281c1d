/-! THE DESK: work whole -/
theorem xDk_uI {ow : Nat → Nat} {h : Hp} {a0 q k : Nat} {x : Int32} {rf fd sh : Nat → Nat} (D : xDk ow h a0 rf fd sh) : xDk ow (uI h q k x) a0 rf fd sh := D
/-- owners that work touches, with the desk and the lists' own cells -/
def Iw8 : Nat → Prop := fun i => Iwk i ∨ i = 1 ∨ i = 6
theorem sp_X9_clear {ev ow : Nat → Nat} {h : Hp} {a0 w MC MS : Nat} {rf fd sh : Nat → Nat} {s : Sh} {Q : Hp → Prop} (D : xDk ow h a0 rf fd sh) (hw : w < 3) (S : xShS ev ow (60 + w) h (sh w) s) (so : shOk s) (mc : shC (shClear s) - shC s ≤ MC) (ms : shS (shClear s) - shS s ≤ MS) (q : ∀ ow2 h2, hE (· = 60 + w) ow h ow2 h2 → xShS ev ow2 (60 + w) (uI h2 (fd w) 1 (-1)) (sh w) (shClear s) → xDk ow2 (uI h2 (fd w) 1 (-1)) a0 rf fd sh → Q (uI h2 (fd w) 1 (-1))) : wp_X9_clear ev h (fd w) MC MS Q := by
  obtain ⟨e2, e3, e4, e5⟩ := D.2.2.2.2.1 w hw
  have cl := shClear_C s
  have sl := so.1
  unfold wp_X9_clear
  refine ⟨e3, sh w, e5, MC, MS, 0, 0, by omega, by omega, xSh_len S, ?_⟩
  refine sp_X7_clear S (by omega) (Nat.le_trans cl.2.2.1 mc) (Nat.le_trans cl.2.2.2 ms) fun ow2 h2 f2 _ S2 => ?_
  have D2 := xDk_E f2 (by omega) (by omega) D
  refine ⟨(D2.2.2.2.2.1 w hw).2.1, fun h9 e9 => ?_⟩
  subst e9
  refine q ow2 h2 f2 ?_ (xDk_uI D2)
  exact xSh_E (I := (· = 6)) (hE_uI h2 ((D2.2.2.2.2.1 w hw).2.2.1) 1 (-1)) (by omega) S2
/-- one list as it was worked out -/
def wPut (S : LW) (w : Nat) : LW := (S.1, S.2.1, S.2.2.1, lwU S.2.2.2.1 w (shClear (S.2.2.2.1 w)), S.2.2.2.2)
def wRun (wh : Nat) (A : Nat → Nat → Int) (R n bd : Nat) (S : LW) : LW × Bool := if wh = 0 then wSum A R n bd S else if wh = 1 then wLea A R n bd S else sgAll A R n bd (2 ^ n) 0 S
def wWork (wh : Nat) (A : Nat → Nat → Int) (R n bd : Nat) (S : LW) : LW × Bool :=
  let T := wRun wh A R n bd (wPut S wh)
  if T.2 = true then T else (wPut T.1 wh, false)
theorem wPut_C (S : LW) {w : Nat} (hw : w < 3) : lwC S + (shC (shClear (S.2.2.2.1 w)) - shC (S.2.2.2.1 w)) = lwC (wPut S w) ∧ lwS S + (shS (shClear (S.2.2.2.1 w)) - shS (S.2.2.2.1 w)) = lwS (wPut S w) := by
  obtain ⟨f, hc, nc, l, be⟩ := S
  have : w = 0 ∨ w = 1 ∨ w = 2 := by omega
  rcases this with rfl | rfl | rfl
  · have c := shClear_C (l 0)
    have e : lwC (wPut (f, hc, nc, l, be) 0) = shC f + hc / 224 + nc / 224 + (shC (shClear (l 0)) + shC (l 1) + shC (l 2)) + shC be ∧ lwS (wPut (f, hc, nc, l, be) 0) = shS f + 2 * hc + 2 * nc + (shS (shClear (l 0)) + shS (l 1) + shS (l 2)) + shS be := ⟨rfl, rfl⟩
    rw [e.1, e.2]; simp only [lwC, lwS]; omega
  · have c := shClear_C (l 1)
    have e : lwC (wPut (f, hc, nc, l, be) 1) = shC f + hc / 224 + nc / 224 + (shC (l 0) + shC (shClear (l 1)) + shC (l 2)) + shC be ∧ lwS (wPut (f, hc, nc, l, be) 1) = shS f + 2 * hc + 2 * nc + (shS (l 0) + shS (shClear (l 1)) + shS (l 2)) + shS be := ⟨rfl, rfl⟩
    rw [e.1, e.2]; simp only [lwC, lwS]; omega
  · have c := shClear_C (l 2)
    have e : lwC (wPut (f, hc, nc, l, be) 2) = shC f + hc / 224 + nc / 224 + (shC (l 0) + shC (l 1) + shC (shClear (l 2))) + shC be ∧ lwS (wPut (f, hc, nc, l, be) 2) = shS f + 2 * hc + 2 * nc + (shS (l 0) + shS (l 1) + shS (shClear (l 2))) + shS be := ⟨rfl, rfl⟩
    rw [e.1, e.2]; simp only [lwC, lwS]; omega
theorem wPut_ok {S : LW} (ok : lwOk S) (w : Nat) : lwOk (wPut S w) := by
  obtain ⟨o1, o2, o3⟩ := ok
  refine ⟨o1, fun u hu => ?_, o3⟩
  show shOk (if u = w then shClear (S.2.2.2.1 w) else S.2.2.2.1 u)
  by_cases y : u = w
  · rw [if_pos y, ← y]; exact shClear_ok (o2 u hu)
  · rw [if_neg y]; exact o2 u hu
theorem wPut_e (S : LW) (w : Nat) : ((wPut S w).2.2.2.1 w).1 = [] := by
  show (if w = w then shClear (S.2.2.2.1 w) else _).1 = []
  rw [if_pos rfl]; rfl
theorem wSum_C (A : Nat → Nat → Int) (R n bd : Nat) (S : LW) : lwC S ≤ lwC (wSum A R n bd S).1 ∧ lwS S ≤ lwS (wSum A R n bd S).1 := by
  obtain ⟨f, hc, nc, l, be⟩ := S
  have kC := gKer_C A R n 0 bd f hc nc
  unfold wSum
  simp only
  generalize gKer A R n 0 bd f hc nc = T at kC
  simp only [gC, gSl] at kC
  have c := shCp_C T.1.1 (l 0)
  split
  · simp only [lwC, lwS]; omega
  · have e : ∀ y, lwC (T.1, T.2.2.2.1, T.2.2.2.2, lwU l 0 y, be) = shC T.1 + T.2.2.2.1 / 224 + T.2.2.2.2 / 224 + (shC y + shC (l 1) + shC (l 2)) + shC be ∧ lwS (T.1, T.2.2.2.1, T.2.2.2.2, lwU l 0 y, be) = shS T.1 + 2 * T.2.2.2.1 + 2 * T.2.2.2.2 + (shS y + shS (l 1) + shS (l 2)) + shS be := fun y => ⟨rfl, rfl⟩
    rw [(e _).1, (e _).2]; simp only [lwC, lwS]; omega
theorem wLea_C (A : Nat → Nat → Int) (R n bd : Nat) (S : LW) : lwC S ≤ lwC (wLea A R n bd S).1 ∧ lwS S ≤ lwS (wLea A R n bd S).1 := by
  obtain ⟨f, hc, nc, l, be⟩ := S
  have kC := gKer_C A R n 0 bd f hc nc
  unfold wLea
  simp only
  generalize gKer A R n 0 bd f hc nc = T at kC
  simp only [gC, gSl] at kC
  have c := shClear_C be
  have c2 := shCp_C T.1.1 (shClear be)
  generalize eb : (if T.2.1 = true then shClear be else shCp (shClear be) T.1.1) = b2
  have b2C : shC be ≤ shC b2 ∧ shS be ≤ shS b2 := by
    rw [← eb]; split <;> omega
  have sC := gSlv_C A R n bd b2.1 T.1 T.2.2.2.1 T.2.2.2.2
  generalize gSlv A R n bd b2.1 T.1 T.2.2.2.1 T.2.2.2.2 = U at sC
  simp only [gC, gSl] at sC
  have c := shCp_C U.1.1 (l 1)
  split
  · simp only [lwC, lwS]; omega
  · have e : ∀ y, lwC (U.1, U.2.2.2.1, U.2.2.2.2, lwU l 1 y, b2) = shC U.1 + U.2.2.2.1 / 224 + U.2.2.2.2 / 224 + (shC (l 0) + shC y + shC (l 2)) + shC b2 ∧ lwS (U.1, U.2.2.2.1, U.2.2.2.2, lwU l 1 y, b2) = shS U.1 + 2 * U.2.2.2.1 + 2 * U.2.2.2.2 + (shS (l 0) + shS y + shS (l 2)) + shS b2 := fun y => ⟨rfl, rfl⟩
    rw [(e _).1, (e _).2]; simp only [lwC, lwS]; omega
theorem wRun_C (wh : Nat) (A : Nat → Nat → Int) (R n bd : Nat) (S : LW) : lwC S ≤ lwC (wRun wh A R n bd S).1 ∧ lwS S ≤ lwS (wRun wh A R n bd S).1 := by
  unfold wRun
  split
  · exact wSum_C A R n bd S
  · split
    · exact wLea_C A R n bd S
    · exact sgAll_C A R n bd _ 0 S
theorem wWork_C {wh : Nat} (hw : wh < 3) (A : Nat → Nat → Int) (R n bd : Nat) (S : LW) : lwC S ≤ lwC (wWork wh A R n bd S).1 ∧ lwS S ≤ lwS (wWork wh A R n bd S).1 := by
  have a := wPut_C S hw
  have b := wRun_C wh A R n bd (wPut S wh)
  unfold wWork
  simp only
  generalize wRun wh A R n bd (wPut S wh) = T at b
  have c := wPut_C T.1 hw
  split
  · omega
  · show lwC S ≤ lwC (wPut T.1 wh) ∧ lwS S ≤ lwS (wPut T.1 wh)
    omega
/-- what work says of the list -/
theorem wWork_all {wh : Nat} {A : Nat → Nat → Int} {R n bd : Nat} {S : LW} (hw : wh < 3) (hn : n ≤ 6) (hb : bd ≤ 16) (ok : lwOk S) : (∀ w, w ≠ wh → (wWork wh A R n bd S).1.2.2.2.1 w = S.2.2.2.1 w) ∧ ((wWork wh A R n bd S).2 = true → tLst wh A R n bd ((wWork wh A R n bd S).1.2.2.2.1 wh).1) ∧ ((wWork wh A R n bd S).2 = false → tBig wh A R n bd ∧ ((wWork wh A R n bd S).1.2.2.2.1 wh).1 = []) := by
  have ok2 := wPut_ok ok wh
  have em := wPut_e S wh
  have key : (∀ w, w ≠ wh → (wRun wh A R n bd (wPut S wh)).1.2.2.2.1 w = (wPut S wh).2.2.2.1 w) ∧ ((wRun wh A R n bd (wPut S wh)).2 = true → tLst wh A R n bd ((wRun wh A R n bd (wPut S wh)).1.2.2.2.1 wh).1) ∧ ((wRun wh A R n bd (wPut S wh)).2 = false → tBig wh A R n bd) := by
    have : wh = 0 ∨ wh = 1 ∨ wh = 2 := by omega
    rcases this with rfl | rfl | rfl
    · exact wSum_all hn hb ok2 em
    · exact wLea_all hn hb ok2 em
    · exact sgAll_all hn hb ok2 em
  unfold wWork
  simp only
  generalize wRun wh A R n bd (wPut S wh) = T at key
  obtain ⟨k1, k2, k3⟩ := key
  have oth : ∀ (X : LW) w, w ≠ wh → (wPut X wh).2.2.2.1 w = X.2.2.2.1 w := fun X w hne => if_neg hne
  by_cases y : T.2 = true
  · rw [if_pos y]
    exact ⟨fun w hne => (k1 w hne).trans (oth S w hne), k2, fun h => by rw [y] at h; cases h⟩
  · rw [if_neg y]
    exact ⟨fun w hne => ((oth T.1 w hne).trans (k1 w hne)).trans (oth S w hne), fun h => (by cases h), fun _ => ⟨k3 (by simpa using y), wPut_e T.1 wh⟩⟩
