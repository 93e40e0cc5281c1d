/-! TABLES of sizes, by number of leads and leads done (printed by gen56.py) -/
def qXt : Nat → Nat
  | 1 => 3840000
  | 2 => 3840000
  | 3 => 48000
  | 4 => 800
  | 5 => 20
  | _ => 0
def qPt : Nat → Nat
  | 1 => 48000
  | 2 => 48000
  | 3 => 800
  | 4 => 20
  | 5 => 1
  | _ => 0
def qCt : Nat → Nat
  | 4 => 206825
  | 5 => 442
  | _ => 0
def qEt : Nat → Nat → Nat
  | 1, 0 => 7680000
  | 1, 1 => 0
  | 2, 0 => 7680000
  | 2, 1 => 7680000
  | 2, 2 => 0
  | 3, 0 => 96000
  | 3, 1 => 36864000000
  | 3, 2 => 96000
  | 3, 3 => 0
  | 4, 0 => 1600
  | 4, 1 => 413650
  | 4, 2 => 226346368
  | 4, 3 => 1600
  | 4, 4 => 0
  | 5, 0 => 40
  | 5, 1 => 884
  | 5, 2 => 3125824
  | 5, 3 => 62053016
  | 5, 4 => 40
  | 5, 5 => 0
  | _, _ => 0
def qDt : Nat → Nat → Nat
  | 1, 0 => 0
  | 2, 0 => 3840000
  | 2, 1 => 0
  | 3, 0 => 18432000000
  | 3, 1 => 48000
  | 3, 2 => 0
  | 4, 0 => 206825
  | 4, 1 => 113173184
  | 4, 2 => 800
  | 4, 3 => 0
  | 5, 0 => 442
  | 5, 1 => 1562912
  | 5, 2 => 31026508
  | 5, 3 => 20
  | 5, 4 => 0
  | _, _ => 0
def qRt2 : Nat → Nat → Nat
  | 1, 0 => 7680000
  | 2, 0 => 7680000
  | 2, 1 => 7680000
  | 3, 0 => 36864000000
  | 3, 1 => 36864000000
  | 3, 2 => 96000
  | 4, 0 => 413650
  | 4, 1 => 226346368
  | 4, 2 => 226346368
  | 4, 3 => 1600
  | 5, 0 => 884
  | 5, 1 => 3125824
  | 5, 2 => 62053016
  | 5, 3 => 62053016
  | 5, 4 => 40
  | _, _ => 0
def qKt : Nat → Nat → Nat
  | 3, 0 => 1769472000000000
  | 3, 1 => 48000
  | 4, 0 => 75192625934708800
  | 4, 1 => 181077094400
  | 4, 2 => 800
  | 5, 0 => 3592267010506162320
  | 5, 1 => 3879437963166400
  | 5, 2 => 1241060320
  | 5, 3 => 20
  | _, _ => 0
def qBt : Nat → Nat → Nat → Nat
  | 3, 0, 0 => 190191009
  | 3, 0, 1 => 190191009
  | 3, 0, 2 => 190191009
  | 3, 1, 0 => 164325031776000
  | 3, 1, 1 => 797506320148
  | 3, 1, 2 => 797506320148
  | 4, 0, 0 => 275767
  | 4, 0, 1 => 275767
  | 4, 0, 2 => 275767
  | 4, 0, 3 => 275767
  | 4, 1, 0 => 5294726400
  | 4, 1, 1 => 113173184
  | 4, 1, 2 => 113173184
  | 4, 1, 3 => 113173184
  | 4, 2, 0 => 19711472178240000
  | 4, 2, 1 => 421326788054400
  | 4, 2, 2 => 1256595642036
  | 4, 2, 3 => 1256595642036
  | 5, 0, 0 => 2400
  | 5, 0, 1 => 2400
  | 5, 0, 2 => 2400
  | 5, 0, 3 => 2400
  | 5, 0, 4 => 2400
  | 5, 1, 0 => 1440000
  | 5, 1, 1 => 112282
  | 5, 1, 2 => 112282
  | 5, 1, 3 => 112282
  | 5, 1, 4 => 112282
  | 5, 2, 0 => 15275520000
  | 5, 2, 1 => 1191087456
  | 5, 2, 2 => 31026508
  | 5, 2, 3 => 31026508
  | 5, 2, 4 => 31026508
  | 5, 3, 0 => 429737283256320000
  | 5, 3, 1 => 33508167804573696
  | 5, 3, 2 => 872850630083328
  | 5, 3, 3 => 1326597706693
  | 5, 3, 4 => 1326597706693
  | _, _, _ => 0
def qYt : Nat → Nat → Nat → Nat
  | 1, 1, 0 => 7680000
  | 2, 1, 0 => 7680000
  | 2, 2, 0 => 117964807680000
  | 2, 2, 1 => 7680000
  | 3, 1, 0 => 36864000000
  | 3, 2, 0 => 1935392044512296
  | 3, 2, 1 => 1935392044512296
  | 3, 3, 0 => 185799571683656928296
  | 3, 3, 1 => 185799571683656928296
  | 3, 3, 2 => 96000
  | 4, 1, 0 => 413650
  | 4, 2, 0 => 93990329725650
  | 4, 2, 1 => 226346368
  | 4, 3, 0 => 95752140225817744
  | 4, 3, 1 => 95752140225817744
  | 4, 3, 2 => 95752140225817744
  | 4, 4, 0 => 153299176501544448144
  | 4, 4, 1 => 153299176501544448144
  | 4, 4, 2 => 153299176501544448144
  | 4, 4, 3 => 1600
  | 5, 1, 0 => 884
  | 5, 2, 0 => 2888262260
  | 5, 2, 1 => 3125824
  | 5, 3, 0 => 179225392084479700
  | 5, 3, 1 => 193971774052288
  | 5, 3, 2 => 62053016
  | 5, 4, 0 => 4100281525564190808
  | 5, 4, 1 => 4100281525564190808
  | 5, 4, 2 => 4100281525564190808
  | 5, 4, 3 => 4100281525564190808
  | 5, 5, 0 => 168111542548131835928
  | 5, 5, 1 => 168111542548131835928
  | 5, 5, 2 => 168111542548131835928
  | 5, 5, 3 => 168111542548131835928
  | 5, 5, 4 => 40
  | _, _, _ => 0
/-! THE LEADS: one step of all, with the tables -/
def qSS (R s z : Nat) (x : Nat → Int) (W V : Nat → Nat → Int) : Prop := qLS R s z x W V ∧ qLE R s z V (qEt R s) ∧ qLY R s z V (qYt R s) ∧ (3 ≤ R → s + 2 ≤ R → qLT R s z (x R) V (qBt R s)) ∧ (4 ≤ R → s = 0 → ∀ i, 0 < i → i < R → qPr z (z + R) 16 (16 + i) V (qCt R))
/-- what is asked of numbers at a step that is not the last but one (or has few leads) -/
def qNa (R s : Nat) : Prop := 2 * qDt R s ≤ qEt R (s + 1) ∧ qEt R s ≤ qRt2 R s ∧ 2 * qDt R s ≤ qRt2 R s
def qNy (R s : Nat) : Prop := (∀ l, l < s → qYt R s l + (2 ^ s * qXt R + qYt R s l) * qRt2 R s ≤ qYt R (s + 1) l) ∧ qRt2 R s ≤ qYt R (s + 1) s
def qNb (R s : Nat) : Prop := (∀ m, m < R → s < m → (2 * ((R - s - 1) * qBt R s m)) ^ 3 * qEt R s ^ 2 < (2 * (qBt R (s + 1) m + 1)) ^ 3) ∧ ∀ m, m < s + 1 → qBt R s m ≤ qBt R (s + 1) m ∧ 3 * ((R - s) * (qEt R s * qBt R s m)) ≤ qBt R (s + 1) m
def qNp (R s : Nat) : Prop := (∀ m, m < s → qXt R * qYt R s m + (if m + 1 < s then 2 * qXt R * qYt R s (m + 1) else 0) + (if m + 2 < s then 3 * (2 ^ (m + 2) * (qXt R * qXt R)) * qYt R s (m + 2) else 0) ≤ qKt R m) ∧ qXt R ≤ qKt R s ∧ (∀ l, l < s + 1 → ∀ n, n < s + 2 → qS (fun m => ((2 ^ m * (qKt R m + qBt R s m) : Nat) : Int)) n ≤ qYt R (s + 1) l)
theorem qSS_gen {R s z : Nat} {x : Nat → Int} {W V V2 : Nat → Nat → Int} {q : Nat → Int} (h : qSS R s z x W V) (hs : s < R) (hR : R ≤ 5) (hx : x R ≠ 0) (hX : (x R).natAbs ≤ qXt R) (hW : qW R W) (g : qGath (z + s) (z + R) (16 + s) V V2) (pos : 0 < V2 (z + s) (16 + s)) (rd : ∀ l, l < s → 0 ≤ qS (fun h => qRed z s q V2 (z + l) (16 + h) * W h s) (s + 1) ∧ qS (fun h => qRed z s q V2 (z + l) (16 + h) * W h s) (s + 1) < W s s * V2 (z + s) (16 + s)) (hd : ∀ i, s < i → i < R → qPr (z + s) (z + R) (16 + s) (16 + i) V (qDt R s)) (na : qNa R s) (ny : s + 2 ≠ R ∨ R ≤ 2 → s + 1 < R → qNy R s) (nb : 3 ≤ R → s + 3 ≤ R → qNb R s) (np : 3 ≤ R → s + 2 = R → qNp R s) : qSS R (s + 1) z x W (qRed z s q V2) := by
  obtain ⟨hS, hE, hY, hT, hC⟩ := h
  have S2 := qLS_step hS hs g pos rd
  obtain ⟨E1, E2⟩ := qLE_step hS g hE hd na.1 na.2.1 na.2.2
  have hpi : (V2 (z + s) (16 + s)).natAbs ≤ qXt R := by
    have := (qLS_pi S2 (by omega) hx).1 s (by omega)
    rw [qRed_ge (.inr (Nat.le_refl _))] at this
    omega
  refine ⟨S2, ?_, ?_, ?_, ?_⟩
  · intro j j1 j2 i hi
    rw [qRed_ge (.inr (by omega))]; exact E1 j (by omega) j2 i hi
  · by_cases c : s + 1 < R
    · by_cases c2 : s + 2 ≠ R ∨ R ≤ 2
      · obtain ⟨n1, n2⟩ := ny c2 c
        exact qLY_step hS hs hx hX hW g pos hpi rd hY E2 n1 n2
      · have e : s + 2 = R := by omega
        obtain ⟨n1, n2, n3⟩ := np (by omega) e
        intro l i hl i1 i2
        have : i = s + 1 := by omega
        subst this
        exact qLY_pen hS e (by omega) hx hX hW g pos rd hY (hT (by omega) (by omega)) n1 n2 (fun n hn => n3 l hl n (by omega)) l hl
    · intro l i hl i1 i2; omega
  · intro r1 r2
    obtain ⟨n1, n2⟩ := nb r1 (by omega)
    exact qLT_step q hS hs g hE (hT r1 (by omega)) (by omega) (fun m m1 m2 => n1 m m2 m1) (fun m hm => n2 m (by omega))
  · intro _ k; omega
theorem qSS_step {R s z : Nat} {x : Nat → Int} {W V V2 : Nat → Nat → Int} {q : Nat → Int} (h : qSS R s z x W V) (hs : s < R) (hR : R ≤ 5) (hx : x R ≠ 0) (hX : (x R).natAbs ≤ qXt R) (hW : qW R W) (g : qGath (z + s) (z + R) (16 + s) V V2) (pos : 0 < V2 (z + s) (16 + s)) (rd : ∀ l, l < s → 0 ≤ qS (fun h => qRed z s q V2 (z + l) (16 + h) * W h s) (s + 1) ∧ qS (fun h => qRed z s q V2 (z + l) (16 + h) * W h s) (s + 1) < W s s * V2 (z + s) (16 + s)) : qSS R (s + 1) z x W (qRed z s q V2) := by
  have mono : ∀ {f m c d : Nat} {V : Nat → Nat → Int} {D D2 : Nat}, qPr f m c d V D → D ≤ D2 → qPr f m c d V D2 := fun hp l i j i1 i2 j1 j2 => Nat.le_trans (hp i j i1 i2 j1 j2) l
  have two : s + 2 = R → (x R).natAbs ≤ qDt R s → ∀ i, s < i → i < R → qPr (z + s) (z + R) (16 + s) (16 + i) V (qDt R s) := by
    intro e l i i1 i2
    have : i = s + 1 := by omega
    subst this
    exact mono (qPr_2 h.1 e hx) l
  have three : s + 3 = R → 3 ≤ R → qBt R s (s + 1) ≤ qDt R s → qBt R s (s + 2) ≤ qDt R s → ∀ i, s < i → i < R → qPr (z + s) (z + R) (16 + s) (16 + i) V (qDt R s) := by
    intro e r l1 l2
    obtain ⟨t, t1, t2⟩ := h.2.2.2.1 r (by omega)
    exact qPr_3 h.1 e hx (t1 _ (by omega)) (t1 _ (by omega)) (fun j j1 j2 => Nat.le_trans (t2 _ j (by omega) j1 j2) l1) (fun j j1 j2 => Nat.le_trans (t2 _ j (by omega) j1 j2) l2)
  have crude : 2 * (qEt R s * qEt R s) ≤ qDt R s → ∀ i, s < i → i < R → qPr (z + s) (z + R) (16 + s) (16 + i) V (qDt R s) := fun l i i1 i2 => mono (qPr_crude h.2.1 hs i2) l
  have first : s = 0 → 4 ≤ R → qCt R ≤ qDt R s → ∀ i, s < i → i < R → qPr (z + s) (z + R) (16 + s) (16 + i) V (qDt R s) := by
    intro e r l i i1 i2
    subst e
    exact mono (h.2.2.2.2 r rfl i i1 i2) l
  have cs : (R = 1 ∧ s = 0) ∨ (R = 2 ∧ s = 0) ∨ (R = 2 ∧ s = 1) ∨ (R = 3 ∧ s = 0) ∨ (R = 3 ∧ s = 1) ∨ (R = 3 ∧ s = 2) ∨ (R = 4 ∧ s = 0) ∨ (R = 4 ∧ s = 1) ∨ (R = 4 ∧ s = 2) ∨ (R = 4 ∧ s = 3) ∨ (R = 5 ∧ s = 0) ∨ (R = 5 ∧ s = 1) ∨ (R = 5 ∧ s = 2) ∨ (R = 5 ∧ s = 3) ∨ (R = 5 ∧ s = 4) := by omega
  rcases cs with ⟨rfl, rfl⟩ | ⟨rfl, rfl⟩ | ⟨rfl, rfl⟩ | ⟨rfl, rfl⟩ | ⟨rfl, rfl⟩ | ⟨rfl, rfl⟩ | ⟨rfl, rfl⟩ | ⟨rfl, rfl⟩ | ⟨rfl, rfl⟩ | ⟨rfl, rfl⟩ | ⟨rfl, rfl⟩ | ⟨rfl, rfl⟩ | ⟨rfl, rfl⟩ | ⟨rfl, rfl⟩ | ⟨rfl, rfl⟩
  · exact qSS_gen h hs hR hx hX hW g pos rd (fun i i1 i2 => by omega) (by unfold qNa; decide +kernel) (fun _ k => by omega) (fun k => by omega) (fun k => by omega)
  · exact qSS_gen h hs hR hx hX hW g pos rd (two rfl hX) (by unfold qNa; decide +kernel) (fun _ _ => by unfold qNy; decide +kernel) (fun k => by omega) (fun k => by omega)
  · exact qSS_gen h hs hR hx hX hW g pos rd (fun i i1 i2 => by omega) (by unfold qNa; decide +kernel) (fun _ k => by omega) (fun k => by omega) (fun k => by omega)
  · exact qSS_gen h hs hR hx hX hW g pos rd (crude (by decide +kernel)) (by unfold qNa; decide +kernel) (fun _ _ => by unfold qNy; decide +kernel) (fun _ _ => by unfold qNb; decide +kernel) (fun _ k => by omega)
  · exact qSS_gen h hs hR hx hX hW g pos rd (two rfl hX) (by unfold qNa; decide +kernel) (fun k => by omega) (fun _ k => by omega) (fun _ _ => by unfold qNp; decide +kernel)
  · exact qSS_gen h hs hR hx hX hW g pos rd (fun i i1 i2 => by omega) (by unfold qNa; decide +kernel) (fun _ k => by omega) (fun _ k => by omega) (fun _ k => by omega)
  · exact qSS_gen h hs hR hx hX hW g pos rd (first rfl (by omega) (by decide +kernel)) (by unfold qNa; decide +kernel) (fun _ _ => by unfold qNy; decide +kernel) (fun _ _ => by unfold qNb; decide +kernel) (fun _ k => by omega)
  · exact qSS_gen h hs hR hx hX hW g pos rd (three rfl (by omega) (by decide +kernel) (by decide +kernel)) (by unfold qNa; decide +kernel) (fun _ _ => by unfold qNy; decide +kernel) (fun _ _ => by unfold qNb; decide +kernel) (fun _ k => by omega)
  · exact qSS_gen h hs hR hx hX hW g pos rd (two rfl hX) (by unfold qNa; decide +kernel) (fun k => by omega) (fun _ k => by omega) (fun _ _ => by unfold qNp; decide +kernel)
  · exact qSS_gen h hs hR hx hX hW g pos rd (fun i i1 i2 => by omega) (by unfold qNa; decide +kernel) (fun _ k => by omega) (fun _ k => by omega) (fun _ k => by omega)
  · exact qSS_gen h hs hR hx hX hW g pos rd (first rfl (by omega) (by decide +kernel)) (by unfold qNa; decide +kernel) (fun _ _ => by unfold qNy; decide +kernel) (fun _ _ => by unfold qNb; decide +kernel) (fun _ k => by omega)
  · exact qSS_gen h hs hR hx hX hW g pos rd (crude (by decide +kernel)) (by unfold qNa; decide +kernel) (fun _ _ => by unfold qNy; decide +kernel) (fun _ _ => by unfold qNb; decide +kernel) (fun _ k => by omega)
  · exact qSS_gen h hs hR hx hX hW g pos rd (three rfl (by omega) (by decide +kernel) (by decide +kernel)) (by unfold qNa; decide +kernel) (fun _ _ => by unfold qNy; decide +kernel) (fun _ _ => by unfold qNb; decide +kernel) (fun _ k => by omega)
  · exact qSS_gen h hs hR hx hX hW g pos rd (two rfl hX) (by unfold qNa; decide +kernel) (fun k => by omega) (fun _ k => by omega) (fun _ _ => by unfold qNp; decide +kernel)
  · exact qSS_gen h hs hR hx hX hW g pos rd (fun i i1 i2 => by omega) (by unfold qNa; decide +kernel) (fun _ k => by omega) (fun _ k => by omega) (fun _ k => by omega)
/-- what steers fits in 63 bits -/
theorem qSS_fit {R s z : Nat} {x : Nat → Int} {W V : Nat → Nat → Int} (h : qSS R s z x W V) (hs : s < R) (hR : R ≤ 5) (hx : x R ≠ 0) (hX : (x R).natAbs ≤ qXt R) (hW : qW R W) (hP : (W s s).natAbs ≤ qPt R) : (∀ j, z + s ≤ j → j < z + R → (V j (16 + s)).natAbs * (W s s).natAbs < 2 ^ 63) ∧ ∀ l, l < s → (qS (fun k => V (z + l) (16 + k) * W k s) (s + 1)).natAbs < 2 ^ 63 := by
  have num : qEt R s * qPt R < 2 ^ 63 ∧ ∀ l, l < s → (2 ^ s * qXt R + qYt R s l) * qPt R < 2 ^ 63 := by
    have cs : (R = 1 ∧ s = 0) ∨ (R = 2 ∧ s = 0) ∨ (R = 2 ∧ s = 1) ∨ (R = 3 ∧ s = 0) ∨ (R = 3 ∧ s = 1) ∨ (R = 3 ∧ s = 2) ∨ (R = 4 ∧ s = 0) ∨ (R = 4 ∧ s = 1) ∨ (R = 4 ∧ s = 2) ∨ (R = 4 ∧ s = 3) ∨ (R = 5 ∧ s = 0) ∨ (R = 5 ∧ s = 1) ∨ (R = 5 ∧ s = 2) ∨ (R = 5 ∧ s = 3) ∨ (R = 5 ∧ s = 4) := by omega
    clear h hx hX hW hP hs hR
    rcases cs with ⟨rfl, rfl⟩ | ⟨rfl, rfl⟩ | ⟨rfl, rfl⟩ | ⟨rfl, rfl⟩ | ⟨rfl, rfl⟩ | ⟨rfl, rfl⟩ | ⟨rfl, rfl⟩ | ⟨rfl, rfl⟩ | ⟨rfl, rfl⟩ | ⟨rfl, rfl⟩ | ⟨rfl, rfl⟩ | ⟨rfl, rfl⟩ | ⟨rfl, rfl⟩ | ⟨rfl, rfl⟩ | ⟨rfl, rfl⟩ <;> decide +kernel
  constructor
  · intro j j1 j2
    exact Nat.lt_of_le_of_lt (Nat.mul_le_mul (h.2.1 j j1 j2 s hs) hP) num.1
  · intro l hl
    have a := qLY_val h.1 hs hx hX hW hl (h.2.2.1 l s hl (Nat.le_refl _) hs)
    have b := Nat.mul_le_mul_left (2 ^ s * qXt R + qYt R s l) hP
    have c := num.2 l hl
    omega
