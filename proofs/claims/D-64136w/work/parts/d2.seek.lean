/-! THE BEST ONE: the seeker, looking -/
def xSk (ow : Nat → Nat) (h : Hp) (k m ca xa ba : Nat) (co x : Vc) (fo : Bool) (bv : Vc) : Prop :=
  hok h k 7 ∧ ow k = 7 ∧ (hR h k 0 = some m ∧ hR h k 1 = some ca ∧ hR h k 2 = some xa ∧ hR h k 3 = some ba) ∧
  (hok h ca 20 ∧ ow ca = 7 ∧ hN h ca = 6) ∧ (hok h xa 20 ∧ ow xa = 7 ∧ hN h xa = 6) ∧ (hok h ba 20 ∧ ow ba = 7 ∧ hN h ba = 6) ∧ (ca ≠ xa ∧ ca ≠ ba ∧ xa ≠ ba) ∧
  (∀ c, c < 6 → hA h ca (Int32.ofNat c) = Int32.ofInt (co c)) ∧ (∀ c, c < 6 → hA h xa (Int32.ofNat c) = Int32.ofInt (x c)) ∧ (∀ c, c < 6 → hA h ba (Int32.ofNat c) = Int32.ofInt (bv c)) ∧
  hI h k 5 = bI fo ∧ (fo = true → hI h k 4 = Int32.ofInt (bCo co bv))
/-- a system's numbers, read -/
theorem xMo_rd {ow : Nat → Nat} {i : Nat} {h : Hp} {m R n vr : Nat} {A : Nat → Nat → Int} {Lt : Nat → Int32} (M : xMo ow i h m R n vr A Lt) : hok h m 3 ∧ hI h m 0 = Int32.ofNat R ∧ hI h m 1 = Int32.ofNat n ∧ R ≤ 4 ∧ n ≤ 6 ∧ ∃ ao ab, hR h m 4 = some ao ∧ hok h ao 24 ∧ hN h ao = 4 ∧ hR h m 5 = some ab ∧ hok h ab 20 ∧ hN h ab = 4 ∧ (∀ r, r < 4 → ∃ b, hO h ao (Int32.ofNat r) = some b ∧ hok h b 20 ∧ hN h b = 6 ∧ ∀ c, r < R → c < n → hA h b (Int32.ofNat c) = Int32.ofInt (A r c)) ∧ (∀ r, r < R → hA h ab (Int32.ofNat r) = Int32.ofInt (-A r 6)) ∧ ∀ r, qRow n (A r) := by
  obtain ⟨⟨m1, m2, m3, m4, m5, ⟨ao, q1, q2, q3, q4⟩, ⟨ab, r1, r2, r3, r4⟩, m6, m7, m8⟩, _⟩ := M
  refine ⟨m1, m2, m3, m4, m5, ao, ab, q1, q2, q3, r1, r2, r3, fun r hr => ?_, fun r hr => ?_, m8⟩
  · obtain ⟨b, b1, b2, b3, b4⟩ := q4 r hr
    exact ⟨b, b1, b2, b3, fun c h1 h2 => by rw [← b4 c h1 h2, i_ofI]⟩
  · rw [← r4 r hr, i_ofI]
theorem sp_X8_left {ev ow : Nat → Nat} {i : Nat} {h : Hp} {k m ca xa ba R n vr r c : Nat} {co x bv : Vc} {fo : Bool} {A : Nat → Nat → Int} {Lt : Nat → Int32} {Q : Int32 → Hp → Prop} (K : xSk ow h k m ca xa ba co x fo bv) (M : xMo ow i h m R n vr A Lt) (hr : r < R) (hc : c ≤ n) (q : Q (Int32.ofInt (bLf A r x c)) h) : wp_X8_left ev h k (Int32.ofNat r) (Int32.ofNat c) Q := by
  obtain ⟨k1, k2, ⟨k3, k4, k5, k6⟩, c1, x1, b1, ne, hco, hx, hb, f1, f2⟩ := K
  obtain ⟨m1, m2, m3, m4, m5, ao, ab, a1, a2, a3, a4, a5, a6, rows, rhs, qr⟩ := xMo_rd M
  obtain ⟨b, g1, g2, g3, g4⟩ := rows r (by omega)
  unfold wp_X8_left
  refine ⟨k1, m, k3, m1, ab, a4, a5, (i_in (by omega)).mpr (by omega), fun x7 e7 => ⟨c + 1, ?_⟩⟩
  rw [rhs r hr] at e7
  have go : ∀ (t j : Nat), j + t = c → wp_X8_left_13 ev Q (t + 1) k (Int32.ofNat r) (Int32.ofNat c) (Int32.ofInt (bLf A r x j)) (Int32.ofNat j) h := by
    intro t
    induction t with
    | zero =>
      intro j hj
      have : j = c := by omega
      subst this
      unfold wp_X8_left_13
      rw [i_le (by omega) (by omega)]
      exact ⟨fun _ => q, fun w => by omega⟩
    | succ t ih =>
      intro j hj
      unfold wp_X8_left_13
      rw [i_le (by omega) (by omega)]
      refine ⟨fun w => by omega, fun _ => ⟨k1, m, k3, m1, ao, a1, a2, (i_in (by omega)).mpr (by omega), b, g1, g2, (i_in (by omega)).mpr (by omega), k1, xa, k5, x1.1, (i_in (by omega)).mpr (by omega), fun x14 e14 x15 e15 => ?_⟩⟩
      rw [g4 j hr (by omega), hx j (by omega), i_mulI, i_subI] at e14
      rw [e15, i_one, e14]
      have : bLf A r x j - A r j * x j = bLf A r x (j + 1) := by unfold bLf; simp only [qS]; omega
      rw [this]
      exact ih (j + 1) (by omega)
  have e0 : x7 = Int32.ofInt (bLf A r x 0) := by rw [e7]; unfold bLf; simp [qS]
  rw [e0]
  exact go c 0 (by omega)
theorem sp_X8_canCome {ev ow : Nat → Nat} {i : Nat} {h : Hp} {k m ca xa ba R n vr c sz : Nat} {co x bv : Vc} {fo : Bool} {A : Nat → Nat → Int} {Lt : Nat → Int32} {Q : Int32 → Hp → Prop} (K : xSk ow h k m ca xa ba co x fo bv) (M : xMo ow i h m R n vr A Lt) (hc : c ≤ n) (hs : sz ≤ 16) (hx0 : ∀ c, c < 6 → 0 ≤ x c ∧ x c ≤ 16) (q1 : (∀ r, r < R → bCan A n r x c sz) → Q 1 h) (q0 : (∃ r, r < R ∧ ¬ bCan A n r x c sz) → Q 0 h) : wp_X8_canCome ev h k (Int32.ofNat c) (Int32.ofNat sz) Q := by
  have K0 := K
  obtain ⟨k1, k2, ⟨k3, k4, k5, k6⟩, c1, x1, b1, ne, hco, hx, hb, f1, f2⟩ := K
  obtain ⟨m1, m2, m3, m4, m5, ao, ab, a1, a2, a3, a4, a5, a6, rows, rhs, qr⟩ := xMo_rd M
  have lfb : ∀ r, r < R → (bLf A r x c).natAbs ≤ 5000 := by
    intro r hr
    have q := qr r
    have t : ∀ c', c' ≤ n → (qS (fun j => A r j * x j) c').natAbs ≤ 400 * c' := by
      intro c'
      induction c' with
      | zero => intro _; exact Nat.zero_le _
      | succ c' ih =>
        intro h'
        have := ih (by omega)
        have a := q.1 c' (by omega)
        have b := hx0 c' (by omega)
        have e : qS (fun j => A r j * x j) (c' + 1) = qS (fun j => A r j * x j) c' + A r c' * x c' := rfl
        have p : (A r c' * x c').natAbs ≤ 20 * 16 := by rw [Int.natAbs_mul]; exact Nat.mul_le_mul a (by omega)
        rw [e]; omega
    have := t c hc
    have := q.2
    unfold bLf; omega
  unfold wp_X8_canCome
  refine ⟨R + 1, ?_⟩
  have stop : ∀ (t r : Nat), (∃ r, r < R ∧ ¬ bCan A n r x c sz) → wp_X8_canCome_5 ev Q (t + 1) k (Int32.ofNat c) (Int32.ofNat sz) 0 (Int32.ofNat r) h := by
    intro t r e
    unfold wp_X8_canCome_5 wp_X8_canCome_127
    exact ⟨k1, m, k3, m1, fun _ => ⟨isB_0, q0 e⟩, fun _ => ⟨fun _ => ⟨isB_0, q0 e⟩, fun z => absurd rfl z⟩⟩
  have go : ∀ (t r : Nat), r + t = R → (∀ r', r' < r → bCan A n r' x c sz) → wp_X8_canCome_5 ev Q (t + 1) k (Int32.ofNat c) (Int32.ofNat sz) 1 (Int32.ofNat r) h := by
    intro t
    induction t with
    | zero =>
      intro r hr all
      unfold wp_X8_canCome_5 wp_X8_canCome_127
      refine ⟨k1, m, k3, m1, ?_⟩
      rw [m2, i_le (by omega) (by omega)]
      exact ⟨fun _ => ⟨isB_1, q1 fun r' h' => all r' (by omega)⟩, fun w => by omega⟩
    | succ t ih =>
      intro r hr all
      unfold wp_X8_canCome_5
      refine ⟨k1, m, k3, m1, ?_⟩
      rw [m2, i_le (by omega) (by omega)]
      refine ⟨fun w => by omega, fun _ => ⟨fun z => absurd z (by decide), fun _ => ⟨n - c + 1, ?_⟩⟩⟩
      obtain ⟨b, g1, g2, g3, g4⟩ := rows r (by omega)
      have inner : ∀ (u j : Nat), j + u = n - c → wp_X8_canCome_30 ev Q (wp_X8_canCome_5 ev Q (t + 1)) (u + 1) k (Int32.ofNat c) (Int32.ofNat sz) (Int32.ofNat r) (Int32.ofInt (bLo (A r) c j)) (Int32.ofInt (bHi (A r) c j)) (Int32.ofNat (c + j)) h := by
        intro u
        induction u with
        | zero =>
          intro j hj
          unfold wp_X8_canCome_30
          refine ⟨k1, m, k3, m1, ?_⟩
          rw [m3, i_le (by omega) (by omega)]
          refine ⟨fun _ => ⟨k1, sp_X8_left K0 M (by omega) hc ?_⟩, fun w => by omega⟩
          have ej : j = n - c := by omega
          subst ej
          have bd := bLo_bd (a := A r) (c := c) (t := n - c) fun j hj => (qr r).1 _ (by omega)
          have lf := lfb r (by omega)
          have p1 : (bLo (A r) c (n - c) * (sz : Int)).natAbs ≤ 20 * 16 := by rw [Int.natAbs_mul]; exact Nat.mul_le_mul bd.1 (by omega)
          have p2 : (bHi (A r) c (n - c) * (sz : Int)).natAbs ≤ 20 * 16 := by rw [Int.natAbs_mul]; exact Nat.mul_le_mul bd.2 (by omega)
          rw [i_ofN sz, i_mulI, i_mulI, i_ltI (by omega) (by omega), i_ltI (by omega) (by omega)]
          unfold wp_X8_canCome_119 wp_X8_canCome_120
          rw [← i_ofN sz]
          have no : ¬ bCan A n r x c sz → ∀ (x1 : Int32), x1 = Int32.ofNat r + 1 → wp_X8_canCome_5 ev Q (t + 1) k (Int32.ofNat c) (Int32.ofNat sz) 0 x1 h := by
            intro nb x1 e1
            rw [e1, i_one]
            exact stop t (r + 1) ⟨r, by omega, nb⟩
          refine ⟨fun w => no (fun b => by unfold bCan at b; omega), fun w => ⟨fun y => no (fun b => by unfold bCan at b; omega), fun y x1 e1 => ?_⟩⟩
          rw [e1, i_one]
          refine ih (r + 1) (by omega) fun r' h' => ?_
          by_cases z : r' = r
          · rw [z]; unfold bCan; omega
          · exact all r' (by omega)
        | succ u ihu =>
          intro j hj
          have bd := bLo_bd (a := A r) (c := c) (t := j) fun j hj => (qr r).1 _ (by omega)
          have aj := (qr r).1 (c + j) (by omega)
          unfold wp_X8_canCome_30
          refine ⟨k1, m, k3, m1, ?_⟩
          rw [m3, i_le (by omega) (by omega)]
          refine ⟨fun w => by omega, fun _ => ⟨k1, m, k3, m1, ao, a1, a2, (i_in (by omega)).mpr (by omega), b, g1, g2, (i_in (by omega)).mpr (by omega), ?_⟩⟩
          rw [g4 (c + j) (by omega) (by omega)]
          have nx : wp_X8_canCome_30 ev Q (wp_X8_canCome_5 ev Q (t + 1)) (u + 1) k (Int32.ofNat c) (Int32.ofNat sz) (Int32.ofNat r) (Int32.ofInt (bLo (A r) c (j + 1))) (Int32.ofInt (bHi (A r) c (j + 1))) (Int32.ofNat (c + j) + 1) h := by
            rw [i_one]; exact ihu (j + 1) (by omega)
          have e : bLo (A r) c (j + 1) = min (bLo (A r) c j) (A r (c + j)) := rfl
          have e2 : bHi (A r) c (j + 1) = max (bHi (A r) c j) (A r (c + j)) := rfl
          have hi : ∀ lo : Int32, lo = Int32.ofInt (bLo (A r) c (j + 1)) → (hok h k 7 ∧ ∃ b19 : Nat, hR h k 0 = some b19 ∧ hok h b19 3 ∧ ∃ b21 : Nat, hR h b19 4 = some b21 ∧ hok h b21 24 ∧ vp_in (Int32.ofNat r) (hN h b21) ∧ ∃ b24 : Nat, hO h b21 (Int32.ofNat r) = some b24 ∧ hok h b24 20 ∧ vp_in (Int32.ofNat (c + j)) (hN h b24) ∧ wp_J7_max ev h (Int32.ofInt (bHi (A r) c j)) (hA h b24 (Int32.ofNat (c + j))) (fun (x28 : Int32) (h27 : Hp) => ∀ (x29 : Int32), x29 = Int32.ofNat (c + j) + 1 → wp_X8_canCome_30 ev Q (wp_X8_canCome_5 ev Q (t + 1)) (u + 1) k (Int32.ofNat c) (Int32.ofNat sz) (Int32.ofNat r) lo x28 x29 h27)) := by
            intro lo el
            subst el
            refine ⟨k1, m, k3, m1, ao, a1, a2, (i_in (by omega)).mpr (by omega), b, g1, g2, (i_in (by omega)).mpr (by omega), ?_⟩
            rw [g4 (c + j) (by omega) (by omega)]
            unfold wp_J7_max wp_J7_max_10
            rw [i_ltI (by omega) (by omega)]
            refine ⟨fun w x29 e29 => ?_, fun w x29 e29 => ?_⟩
            · rw [e29, show A r (c + j) = bHi (A r) c (j + 1) by omega]; exact nx
            · rw [e29, show bHi (A r) c j = bHi (A r) c (j + 1) by omega]; exact nx
          unfold wp_J7_min wp_J7_min_10
          rw [i_ltI (by omega) (by omega)]
          exact ⟨fun w => hi _ (by rw [show A r (c + j) = bLo (A r) c (j + 1) by omega]), fun w => hi _ (by rw [show bLo (A r) c j = bLo (A r) c (j + 1) by omega])⟩
      have := inner (n - c) 0 (by omega)
      exact this
  exact go R 0 (by omega) fun r' h' => by omega
