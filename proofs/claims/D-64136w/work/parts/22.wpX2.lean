set_option maxRecDepth 100000
def wp_X12_isBefore_15 (ev : Nat → Nat) (Qr : Int32 → Hp → Prop) (a0 : Nat) (u0 : Int32) (h : Hp) : Prop :=
  isB u0 ∧ Qr u0 h
/-- LeastSolutions$Ranked.isBefore(Ljava/lang/Object;)Z -/
def wp_X12_isBefore (ev : Nat → Nat) (h : Hp) (a0 : Nat) (p1 : Nat) (Qr : Int32 → Hp → Prop) : Prop :=
  hok h a0 10 ∧
  wp_X11_against ev h a0 p1 (fun (x3 : Int32) (h2 : Hp) =>
    (0 ≤ x3 →
      wp_X12_isBefore_15 ev Qr  a0 0 h2) ∧
    (¬ 0 ≤ x3 →
      wp_X12_isBefore_15 ev Qr  a0 1 h2))
def wp_X7_put_54 (ev : Nat → Nat) (Qr : Hp → Prop) (K10 : Nat → Nat → Int32 → Int32 → Hp → Nat → Nat → Prop) (a0 : Nat) (v1 : Nat) (v2 : Int32) (v3 : Int32) (h : Hp) (mc ms : Nat) : Prop :=
  K10 a0 v1 v2 v3 h mc ms
def wp_X7_put_10 (ev : Nat → Nat) (Qr : Hp → Prop) : Nat → Nat → Nat → Int32 → Int32 → Hp → Nat → Nat → Prop
  | 0, _, _, _, _, _, _, _ => False
  | n10 + 1, a0, v1, v2, v3, h, mc, ms =>
    (v3 ≤ v2 →
      hok h a0 6 ∧
      ∃ b2 : Nat, hR h a0 0 = some b2 ∧
      ∃ c3 d4 mc5 ms6 : Nat, mc = c3 + mc5 ∧ ms = d4 + ms6 ∧
      hok h b2 11 ∧
      wp_J6_add_3 ev h b2 v2 v1 c3 d4 (fun (h7 : Hp) =>
        Qr h7)) ∧
    (¬ v3 ≤ v2 →
      ∀ (x9 : Int32), x9 = ((v2 + v3) / 2) →
      hok h a0 6 ∧
      ∃ b11 : Nat, hR h a0 0 = some b11 ∧
      hok h b11 11 ∧
      wp_J6_get ev h b11 x9 (fun (r13 : Option Nat) (h12 : Hp) =>
        (∀ b : Nat, r13 = some b → hok h12 b 10) ∧
        ∃ b16 : Nat, r13 = some b16 ∧
        hok h12 v1 10 ∧
        wp_X12_isBefore ev h12 v1 b16 (fun (x19 : Int32) (h18 : Hp) =>
          (x19 = 0 →
            ∀ (x20 : Int32), x20 = (x9 + 1) →
            wp_X7_put_54 ev Qr (wp_X7_put_10 ev Qr n10) a0 v1 x20 v3 h18 mc ms) ∧
          (¬ x19 = 0 →
            wp_X7_put_54 ev Qr (wp_X7_put_10 ev Qr n10) a0 v1 v2 x9 h18 mc ms))))
/-- LeastSolutions$Shelf.put(LLeastSolutions$Ranked;)V -/
def wp_X7_put (ev : Nat → Nat) (h : Hp) (a0 : Nat) (p1 : Nat) (MC MS : Nat) (Qr : Hp → Prop) : Prop :=
  hok h a0 6 ∧
  ∃ b2 : Nat, hR h a0 0 = some b2 ∧
  hok h b2 11 ∧
  wp_J6_size ev h b2 (fun (x4 : Int32) (h3 : Hp) =>
    ∃ n10, wp_X7_put_10 ev Qr  n10 a0 p1 0 x4 h3 MC MS)
def wp_X8_seek_65 (ev : Nat → Nat) (RK : Hp → Nat → Int32 → Int32 → Int32 → (Hp → Prop) → Prop) (Qr : Hp → Prop) : Nat → Nat → Int32 → Int32 → Int32 → Int32 → Hp → Prop
  | 0, _, _, _, _, _, _ => False
  | n65 + 1, a0, v1, v2, v3, v4, h =>
    (v2 < v4 →
      hok h a0 7 ∧
      ∃ b2 : Nat, hR h a0 2 = some b2 ∧
      hok h b2 20 ∧
      vp_in v1 (hN h b2) ∧
      ∀ (h3 : Hp), h3 = uA h b2 v1 0 →
      Qr h3) ∧
    (¬ v2 < v4 →
      hok h a0 7 ∧
      ∃ b7 : Nat, hR h a0 2 = some b7 ∧
      hok h b7 20 ∧
      vp_in v1 (hN h b7) ∧
      ∀ (h8 : Hp), h8 = uA h b7 v1 v4 →
      hok h8 a0 7 ∧
      ∃ b12 : Nat, hR h8 a0 1 = some b12 ∧
      hok h8 b12 20 ∧
      vp_in v1 (hN h8 b12) ∧
      hok h8 a0 7 ∧
      RK h8 a0 (v1 + 1) (v2 - v4) (v3 + (v4 * (hA h8 b12 v1))) (fun (h15 : Hp) =>
        ∀ (x17 : Int32), x17 = v4 + 1 →
        wp_X8_seek_65 ev RK Qr n65 a0 v1 v2 v3 x17 h15))
def wp_X8_seek_61 (ev : Nat → Nat) (RK : Hp → Nat → Int32 → Int32 → Int32 → (Hp → Prop) → Prop) (Qr : Hp → Prop) (a0 : Nat) (h : Hp) : Prop :=
  Qr h
def wp_X8_seek_36 (ev : Nat → Nat) (RK : Hp → Nat → Int32 → Int32 → Int32 → (Hp → Prop) → Prop) (Qr : Hp → Prop) (a0 : Nat) (v3 : Int32) (h : Hp) : Prop :=
  hok h a0 7 ∧
  ∀ (h1 : Hp), h1 = uI h a0 5 1 →
  hok h1 a0 7 ∧
  ∀ (h3 : Hp), h3 = uI h1 a0 4 v3 →
  hok h3 a0 7 ∧
  ∃ b6 : Nat, hR h3 a0 2 = some b6 ∧
  hok h3 a0 7 ∧
  ∃ b8 : Nat, hR h3 a0 3 = some b8 ∧
  hok h3 b6 20 ∧
  hok h3 b8 20 ∧
  (¬ (0 : Int32) < 0 ∧ ¬ (0 : Int32) < 0 ∧ ¬ (6 : Int32) < 0 ∧ (0 : Int32).toNatClampNeg + (6 : Int32).toNatClampNeg ≤ hN h3 b6 ∧ (0 : Int32).toNatClampNeg + (6 : Int32).toNatClampNeg ≤ hN h3 b8) ∧
  ∀ (h9 : Hp), h9 = uAf h3 b8 (va_cpy (h3.2.2.2.2.2.1 b6) (h3.2.2.2.2.2.1 b8) (0 : Int32).toNatClampNeg (0 : Int32).toNatClampNeg (6 : Int32).toNatClampNeg) →
  wp_X8_seek_61 ev RK Qr  a0 h9
/-- LeastSolutions$Seeker.seek(III)V -/
def wp_X8_seek (ev : Nat → Nat) : Nat → Hp → Nat → Int32 → Int32 → Int32 → (Hp → Prop) → Prop
  | 0, _, _, _, _, _, _ => False
  | dd + 1, h, a0, p1, p2, p3, Qr =>
    hok h a0 7 ∧
    wp_X8_canCome ev h a0 p1 p2 (fun (x2 : Int32) (h1 : Hp) =>
      (¬ x2 = 0 →
        hok h1 a0 7 ∧
        ∃ b5 : Nat, hR h1 a0 0 = some b5 ∧
        hok h1 b5 3 ∧
        (¬ p1 = (hI h1 b5 1) →
          ∃ n65, wp_X8_seek_65 ev (wp_X8_seek ev dd) Qr  n65 a0 p1 p2 p3 0 h1) ∧
        (p1 = (hI h1 b5 1) →
          hok h1 a0 7 ∧
          ((hI h1 a0 5) = 0 →
            wp_X8_seek_36 ev (wp_X8_seek ev dd) Qr  a0 p3 h1) ∧
          (¬ (hI h1 a0 5) = 0 →
            hok h1 a0 7 ∧
            ((hI h1 a0 4) ≤ p3 →
              wp_X8_seek_61 ev (wp_X8_seek ev dd) Qr  a0 h1) ∧
            (¬ (hI h1 a0 4) ≤ p3 →
              wp_X8_seek_36 ev (wp_X8_seek ev dd) Qr  a0 p3 h1)))) ∧
      (x2 = 0 →
        Qr h1))
/-- LeastSolutions$Seeker.work(LLeastSolutions$Model;I)Z -/
def wp_X8_work (ev : Nat → Nat) (h : Hp) (a0 : Nat) (p1 : Nat) (p2 : Int32) (Qr : Int32 → Hp → Prop) : Prop :=
  hok h a0 7 ∧
  ∀ (h1 : Hp), h1 = uR h a0 0 (some p1) →
  hok h1 a0 7 ∧
  ∀ (h3 : Hp), h3 = uI h1 a0 5 0 →
  hok h3 a0 7 ∧
  wp_X8_seek ev 8 h3 a0 0 p2 0 (fun (h5 : Hp) =>
    hok h5 a0 7 ∧
    isB (hI h5 a0 5) ∧ Qr (hI h5 a0 5) h5)
def wp_X1_keep_23 (ev : Nat → Nat) (Qr : Hp → Prop) (v0 : Nat) (v1 : Nat) (v2 : Int32) (u0 : Option Nat) (h : Hp) (mc ms : Nat) : Prop :=
  ∃ b1 : Nat, u0 = some b1 ∧
  hok h b1 10 ∧
  wp_X11_be ev h b1 v1 v2 (fun (h2 : Hp) =>
    ∃ c4 d5 mc6 ms7 : Nat, mc = c4 + mc6 ∧ ms = d5 + ms7 ∧
    hok h2 v0 6 ∧
    wp_X7_put ev h2 v0 b1 c4 d5 (fun (h8 : Hp) =>
      Qr h8))
/-- LeastSolutions.keep(LLeastSolutions$Shelf;[II)V -/
def wp_X1_keep (ev : Nat → Nat) (h : Hp) (p0 : Nat) (p1 : Nat) (p2 : Int32) (MC MS : Nat) (Qr : Hp → Prop) : Prop :=
  hok h p0 6 ∧
  wp_X7_spare ev h p0 (fun (r2 : Option Nat) (h1 : Hp) =>
    (∀ b : Nat, r2 = some b → hok h1 b 10) ∧
    (∀ b5 : Nat, r2 = some b5 →
      wp_X1_keep_23 ev Qr  p0 p1 p2 (some b5) h1 MC MS) ∧
    (r2 = none →
      ∃ mc6 ms7 : Nat, MC = 1 + mc6 ∧ MS = 2 + ms7 ∧
      ∀ (q8 : Nat), q8 ∉ h1.1 → ∀ (h9 : Hp), h9 = nO h1 q8 10 →
      ∃ c10 d11 mc12 ms13 : Nat, mc6 = c10 + mc12 ∧ ms7 = d11 + ms13 ∧
      wp_X11_init ev h9 q8 c10 d11 (fun (h14 : Hp) =>
        wp_X1_keep_23 ev Qr  p0 p1 p2 (some q8) h14 mc12 ms13)))
def wp_X6_look_24 (ev : Nat → Nat) (Qr : Hp → Prop) (a0 : Nat) (h : Hp) (mc ms : Nat) : Prop :=
  Qr h
/-- LeastSolutions$Grower.look(IZ)V -/
def wp_X6_look (ev : Nat → Nat) (h : Hp) (a0 : Nat) (p1 : Int32) (p2 : Int32) (MC MS : Nat) (Qr : Hp → Prop) : Prop :=
  hok h a0 5 ∧
  wp_X6_take ev h a0 p1 (fun (h1 : Hp) =>
    hok h1 a0 5 ∧
    wp_X6_make ev h1 a0 p2 (fun (x4 : Int32) (h3 : Hp) =>
      (x4 = 0 →
        wp_X6_look_24 ev Qr  a0 h3 MC MS) ∧
      (¬ x4 = 0 →
        hok h3 a0 5 ∧
        ∃ b7 : Nat, hR h3 a0 2 = some b7 ∧
        hok h3 a0 5 ∧
        wp_X6_hasBelow ev h3 a0 b7 (fun (x9 : Int32) (h8 : Hp) =>
          (x9 = 0 →
            hok h8 a0 5 ∧
            ∃ b12 : Nat, hR h8 a0 2 = some b12 ∧
            hok h8 b12 6 ∧
            wp_X7_size ev h8 b12 (fun (x14 : Int32) (h13 : Hp) =>
              (¬ x14 = 2000 →
                hok h13 a0 5 ∧
                ∃ b17 : Nat, hR h13 a0 2 = some b17 ∧
                hok h13 a0 5 ∧
                ∃ b19 : Nat, hR h13 a0 7 = some b19 ∧
                ∃ c20 d21 mc22 ms23 : Nat, MC = c20 + mc22 ∧ MS = d21 + ms23 ∧
                wp_X1_keep ev h13 b17 b19 0 c20 d21 (fun (h24 : Hp) =>
                  Qr h24)) ∧
              (x14 = 2000 →
                hok h13 a0 5 ∧
                ∀ (h25 : Hp), h25 = uI h13 a0 10 1 →
                Qr h25))) ∧
          (¬ x9 = 0 →
            wp_X6_look_24 ev Qr  a0 h8 MC MS)))))
def wp_X6_spread_123 (ev : Nat → Nat) (Qr : Hp → Prop) (K13 : Nat → Int32 → Int32 → Int32 → Int32 → Hp → Nat → Nat → Prop) (a0 : Nat) (v1 : Int32) (v2 : Int32) (v3 : Int32) (v4 : Int32) (h : Hp) (mc ms : Nat) : Prop :=
  ∀ (x1 : Int32), x1 = v4 + 1 →
  K13 a0 v1 v2 v3 x1 h mc ms
def wp_X6_spread_107 (ev : Nat → Nat) (Qr : Hp → Prop) (K13 : Nat → Int32 → Int32 → Int32 → Int32 → Hp → Nat → Nat → Prop) (a0 : Nat) (v1 : Int32) (v2 : Int32) (v3 : Int32) (v4 : Int32) (h : Hp) (mc ms : Nat) : Prop :=
  hok h a0 5 ∧
  ∃ b2 : Nat, hR h a0 7 = some b2 ∧
  ∃ c3 d4 mc5 ms6 : Nat, mc = c3 + mc5 ∧ ms = d4 + ms6 ∧
  hok h a0 5 ∧
  wp_X6_come ev h a0 b2 v3 c3 d4 (fun (h7 : Hp) =>
    ∀ (x9 : Int32), x9 = (v3 ||| (1 <<< (v4 &&& 31))) →
    wp_X6_spread_123 ev Qr K13 a0 v1 v2 x9 v4 h7 mc5 ms6)
def wp_X6_spread_13 (ev : Nat → Nat) (Qr : Hp → Prop) : Nat → Nat → Int32 → Int32 → Int32 → Int32 → Hp → Nat → Nat → Prop
  | 0, _, _, _, _, _, _, _, _ => False
  | n13 + 1, a0, v1, v2, v3, v4, h, mc, ms =>
    hok h a0 5 ∧
    ∃ b2 : Nat, hR h a0 0 = some b2 ∧
    hok h b2 3 ∧
    ((hI h b2 1) ≤ v4 →
      Qr h) ∧
    (¬ (hI h b2 1) ≤ v4 →
      (¬ ((v3 >>> (v4 &&& 31)) &&& 1) = 1 →
        hok h a0 5 ∧
        wp_X6_take ev h a0 v1 (fun (h4 : Hp) =>
          hok h4 a0 5 ∧
          wp_X6_make ev h4 a0 v2 (fun (x7 : Int32) (h6 : Hp) =>
            (¬ x7 = 0 →
              wp_X6_spread_123 ev Qr (wp_X6_spread_13 ev Qr n13) a0 v1 v2 v3 v4 h6 mc ms) ∧
            (x7 = 0 →
              hok h6 a0 5 ∧
              wp_X6_turns ev h6 a0 v4 (fun (x10 : Int32) (h9 : Hp) =>
                (x10 < 0 →
                  hok h9 a0 5 ∧
                  ∃ b13 : Nat, hR h9 a0 7 = some b13 ∧
                  hok h9 b13 20 ∧
                  vp_in v4 (hN h9 b13) ∧
                  hok h9 b13 20 ∧
                  vp_in v4 (hN h9 b13) ∧
                  ∀ (h16 : Hp), h16 = uA h9 b13 v4 ((hA h9 b13 v4) + 1) →
                  hok h16 a0 5 ∧
                  ∃ b20 : Nat, hR h16 a0 2 = some b20 ∧
                  hok h16 a0 5 ∧
                  wp_X6_hasBelow ev h16 a0 b20 (fun (x22 : Int32) (h21 : Hp) =>
                    (¬ x22 = 0 →
                      wp_X6_spread_123 ev Qr (wp_X6_spread_13 ev Qr n13) a0 v1 v2 v3 v4 h21 mc ms) ∧
                    (x22 = 0 →
                      hok h21 a0 5 ∧
                      ((hR h21 a0 9) = none →
                        wp_X6_spread_107 ev Qr (wp_X6_spread_13 ev Qr n13) a0 v1 v2 v3 v4 h21 mc ms) ∧
                      (∀ b25 : Nat, (hR h21 a0 9) = some b25 →
                        hok h21 a0 5 ∧
                        ∃ b27 : Nat, (hR h21 a0 9) = some b27 ∧
                        hok h21 a0 5 ∧
                        wp_X6_hasBelow ev h21 a0 b27 (fun (x29 : Int32) (h28 : Hp) =>
                          (¬ x29 = 0 →
                            wp_X6_spread_123 ev Qr (wp_X6_spread_13 ev Qr n13) a0 v1 v2 v3 v4 h28 mc ms) ∧
                          (x29 = 0 →
                            wp_X6_spread_107 ev Qr (wp_X6_spread_13 ev Qr n13) a0 v1 v2 v3 v4 h28 mc ms)))))) ∧
                (¬ x10 < 0 →
                  wp_X6_spread_123 ev Qr (wp_X6_spread_13 ev Qr n13) a0 v1 v2 v3 v4 h9 mc ms)))))) ∧
      (((v3 >>> (v4 &&& 31)) &&& 1) = 1 →
        wp_X6_spread_123 ev Qr (wp_X6_spread_13 ev Qr n13) a0 v1 v2 v3 v4 h mc ms))
/-- LeastSolutions$Grower.spread(IZ)V -/
def wp_X6_spread (ev : Nat → Nat) (h : Hp) (a0 : Nat) (p1 : Int32) (p2 : Int32) (MC MS : Nat) (Qr : Hp → Prop) : Prop :=
  hok h a0 5 ∧
  ∃ b2 : Nat, hR h a0 3 = some b2 ∧
  hok h b2 20 ∧
  vp_in (p1 + 6) (hN h b2) ∧
  ∀ (x5 : Int32), x5 = (hA h b2 (p1 + 6)) →
  ∃ n13, wp_X6_spread_13 ev Qr  n13 a0 p1 p2 x5 0 h MC MS
def wp_X6_grow_132 (ev : Nat → Nat) (Qr : Hp → Prop) (a0 : Nat) (h : Hp) (mc ms : Nat) : Prop :=
  Qr h
def wp_X6_grow_126 (ev : Nat → Nat) (Qr : Hp → Prop) (K3 : Nat → Int32 → Int32 → Int32 → Hp → Nat → Nat → Prop) (a0 : Nat) (v2 : Int32) (v3 : Int32) (v4 : Int32) (h : Hp) (mc ms : Nat) : Prop :=
  ∀ (x1 : Int32), x1 = v4 + 1 →
  K3 a0 v2 v3 x1 h mc ms
def wp_X6_grow_91 (ev : Nat → Nat) (Qr : Hp → Prop) (K3 : Nat → Int32 → Int32 → Int32 → Hp → Nat → Nat → Prop) : Nat → Nat → Int32 → Int32 → Int32 → Int32 → Hp → Nat → Nat → Prop
  | 0, _, _, _, _, _, _, _, _ => False
  | n91 + 1, a0, v2, v3, v4, v6, h, mc, ms =>
    hok h a0 5 ∧
    ((hI h a0 5) ≤ v6 →
      wp_X6_grow_126 ev Qr K3 a0 v2 v3 v4 h mc ms) ∧
    (¬ (hI h a0 5) ≤ v6 →
      hok h a0 5 ∧
      (¬ (hI h a0 10) = 0 →
        wp_X6_grow_126 ev Qr K3 a0 v2 v3 v4 h mc ms) ∧
      ((hI h a0 10) = 0 →
        (v2 ≤ v4 →
          wp_X6_grow_126 ev Qr K3 a0 v2 v3 v4 h mc ms) ∧
        (¬ v2 ≤ v4 →
          ∃ c3 d4 mc5 ms6 : Nat, mc = c3 + mc5 ∧ ms = d4 + ms6 ∧
          hok h a0 5 ∧
          wp_X6_spread ev h a0 v6 v3 c3 d4 (fun (h7 : Hp) =>
            ∀ (x9 : Int32), x9 = v6 + 7 →
            wp_X6_grow_91 ev Qr K3 n91 a0 v2 v3 v4 x9 h7 mc5 ms6))))
def wp_X6_grow_88 (ev : Nat → Nat) (Qr : Hp → Prop) (K3 : Nat → Int32 → Int32 → Int32 → Hp → Nat → Nat → Prop) (a0 : Nat) (v2 : Int32) (v3 : Int32) (v4 : Int32) (h : Hp) (mc ms : Nat) : Prop :=
  ∃ n91, wp_X6_grow_91 ev Qr K3 n91 a0 v2 v3 v4 0 h mc ms
def wp_X6_grow_59 (ev : Nat → Nat) (Qr : Hp → Prop) (K3 : Nat → Int32 → Int32 → Int32 → Hp → Nat → Nat → Prop) : Nat → Nat → Int32 → Int32 → Int32 → Int32 → Hp → Nat → Nat → Prop
  | 0, _, _, _, _, _, _, _, _ => False
  | n59 + 1, a0, v2, v3, v4, v6, h, mc, ms =>
    hok h a0 5 ∧
    ((hI h a0 5) ≤ v6 →
      wp_X6_grow_88 ev Qr K3 a0 v2 v3 v4 h mc ms) ∧
    (¬ (hI h a0 5) ≤ v6 →
      hok h a0 5 ∧
      (¬ (hI h a0 10) = 0 →
        wp_X6_grow_88 ev Qr K3 a0 v2 v3 v4 h mc ms) ∧
      ((hI h a0 10) = 0 →
        ∃ c3 d4 mc5 ms6 : Nat, mc = c3 + mc5 ∧ ms = d4 + ms6 ∧
        hok h a0 5 ∧
        wp_X6_look ev h a0 v6 v3 c3 d4 (fun (h7 : Hp) =>
          ∀ (x9 : Int32), x9 = v6 + 7 →
          wp_X6_grow_59 ev Qr K3 n59 a0 v2 v3 v4 x9 h7 mc5 ms6)))
def wp_X6_grow_3 (ev : Nat → Nat) (Qr : Hp → Prop) : Nat → Nat → Int32 → Int32 → Int32 → Hp → Nat → Nat → Prop
  | 0, _, _, _, _, _, _, _ => False
  | n3 + 1, a0, v2, v3, v4, h, mc, ms =>
    (v2 < v4 →
      wp_X6_grow_132 ev Qr  a0 h mc ms) ∧
    (¬ v2 < v4 →
      hok h a0 5 ∧
      ((hI h a0 6) ≤ 0 →
        wp_X6_grow_132 ev Qr  a0 h mc ms) ∧
      (¬ (hI h a0 6) ≤ 0 →
        hok h a0 5 ∧
        (¬ (hI h a0 10) = 0 →
          wp_X6_grow_132 ev Qr  a0 h mc ms) ∧
        ((hI h a0 10) = 0 →
          hok h a0 5 ∧
          ∃ b4 : Nat, hR h a0 3 = some b4 ∧
          hok h a0 5 ∧
          ∃ b6 : Nat, hR h a0 4 = some b6 ∧
          hok h a0 5 ∧
          ∀ (h7 : Hp), h7 = uR h a0 3 (some b6) →
          hok h7 a0 5 ∧
          ∀ (h9 : Hp), h9 = uR h7 a0 4 (some b4) →
          hok h9 a0 5 ∧
          hok h9 a0 5 ∧
          ∀ (h12 : Hp), h12 = uI h9 a0 5 (hI h9 a0 6) →
          hok h12 a0 5 ∧
          ∀ (h14 : Hp), h14 = uI h12 a0 6 0 →
          ∃ n59, wp_X6_grow_59 ev Qr (wp_X6_grow_3 ev Qr n3) n59 a0 v2 v3 v4 0 h14 mc ms)))
/-- LeastSolutions$Grower.grow(IIZ)V -/
def wp_X6_grow (ev : Nat → Nat) (h : Hp) (a0 : Nat) (p1 : Int32) (p2 : Int32) (p3 : Int32) (MC MS : Nat) (Qr : Hp → Prop) : Prop :=
  ∃ n3, wp_X6_grow_3 ev Qr  n3 a0 p2 p3 p1 h MC MS
def wp_X6_kernel_104 (ev : Nat → Nat) (Qr : Int32 → Hp → Prop) (a0 : Nat) (u0 : Int32) (h : Hp) (mc ms : Nat) : Prop :=
  isB u0 ∧ Qr u0 h
def wp_X6_kernel_79 (ev : Nat → Nat) (Qr : Int32 → Hp → Prop) (K14 : Nat → Int32 → Int32 → Hp → Nat → Nat → Prop) (a0 : Nat) (v3 : Int32) (v4 : Int32) (h : Hp) (mc ms : Nat) : Prop :=
  ∀ (x1 : Int32), x1 = v4 + 1 →
  K14 a0 v3 x1 h mc ms
def wp_X6_kernel_54 (ev : Nat → Nat) (Qr : Int32 → Hp → Prop) (K14 : Nat → Int32 → Int32 → Hp → Nat → Nat → Prop) (K29 : Nat → Int32 → Int32 → Int32 → Hp → Nat → Nat → Prop) (a0 : Nat) (v3 : Int32) (v4 : Int32) (v5 : Int32) (u0 : Nat) (u1 : Int32) (u2 : Int32) (h : Hp) (mc ms : Nat) : Prop :=
  hok h u0 20 ∧
  vp_in u1 (hN h u0) ∧
  ∀ (h1 : Hp), h1 = uA h u0 u1 u2 →
  ∀ (x4 : Int32), x4 = v5 + 1 →
  K29 a0 v3 v4 x4 h1 mc ms
def wp_X6_kernel_29 (ev : Nat → Nat) (Qr : Int32 → Hp → Prop) (K14 : Nat → Int32 → Int32 → Hp → Nat → Nat → Prop) : Nat → Nat → Int32 → Int32 → Int32 → Hp → Nat → Nat → Prop
  | 0, _, _, _, _, _, _, _ => False
  | n29 + 1, a0, v3, v4, v5, h, mc, ms =>
    (6 ≤ v5 →
      (v3 ≤ 0 →
        wp_X6_kernel_79 ev Qr K14 a0 v3 v4 h mc ms) ∧
      (¬ v3 ≤ 0 →
        hok h a0 5 ∧
        ∃ b2 : Nat, hR h a0 7 = some b2 ∧
        ∃ c3 d4 mc5 ms6 : Nat, mc = c3 + mc5 ∧ ms = d4 + ms6 ∧
        hok h a0 5 ∧
        wp_X6_come ev h a0 b2 ((1 <<< (v4 &&& 31)) - 1) c3 d4 (fun (h7 : Hp) =>
          wp_X6_kernel_79 ev Qr K14 a0 v3 v4 h7 mc5 ms6))) ∧
    (¬ 6 ≤ v5 →
      hok h a0 5 ∧
      ∃ b10 : Nat, hR h a0 7 = some b10 ∧
      (¬ v5 = v4 →
        wp_X6_kernel_54 ev Qr K14 (wp_X6_kernel_29 ev Qr K14 n29) a0 v3 v4 v5 b10 v5 0 h mc ms) ∧
      (v5 = v4 →
        wp_X6_kernel_54 ev Qr K14 (wp_X6_kernel_29 ev Qr K14 n29) a0 v3 v4 v5 b10 v5 1 h mc ms))
def wp_X6_kernel_14 (ev : Nat → Nat) (Qr : Int32 → Hp → Prop) : Nat → Nat → Int32 → Int32 → Hp → Nat → Nat → Prop
  | 0, _, _, _, _, _, _ => False
  | n14 + 1, a0, v3, v4, h, mc, ms =>
    hok h a0 5 ∧
    ∃ b2 : Nat, hR h a0 0 = some b2 ∧
    hok h b2 3 ∧
    ((hI h b2 1) ≤ v4 →
      ∃ c4 d5 mc6 ms7 : Nat, mc = c4 + mc6 ∧ ms = d5 + ms7 ∧
      hok h a0 5 ∧
      wp_X6_grow ev h a0 1 v3 0 c4 d5 (fun (h8 : Hp) =>
        hok h8 a0 5 ∧
        (¬ (hI h8 a0 10) = 0 →
          wp_X6_kernel_104 ev Qr  a0 0 h8 mc6 ms7) ∧
        ((hI h8 a0 10) = 0 →
          wp_X6_kernel_104 ev Qr  a0 1 h8 mc6 ms7))) ∧
    (¬ (hI h b2 1) ≤ v4 →
      ∃ n29, wp_X6_kernel_29 ev Qr (wp_X6_kernel_14 ev Qr n14) n29 a0 v3 v4 0 h mc ms)
/-- LeastSolutions$Grower.kernel(LLeastSolutions$Model;II)Z -/
def wp_X6_kernel (ev : Nat → Nat) (h : Hp) (a0 : Nat) (p1 : Nat) (p2 : Int32) (p3 : Int32) (MC MS : Nat) (Qr : Int32 → Hp → Prop) : Prop :=
  ∃ c1 d2 mc3 ms4 : Nat, MC = c1 + mc3 ∧ MS = d2 + ms4 ∧
  hok h a0 5 ∧
  wp_X6_begin ev h a0 p1 p2 c1 d2 (fun (h5 : Hp) =>
    hok h5 a0 5 ∧
    ∀ (h7 : Hp), h7 = uR h5 a0 9 none →
    ∃ n14, wp_X6_kernel_14 ev Qr  n14 a0 p3 0 h7 mc3 ms4)
def wp_X6_solutions_63 (ev : Nat → Nat) (Qr : Int32 → Hp → Prop) (a0 : Nat) (u0 : Int32) (h : Hp) (mc ms : Nat) : Prop :=
  isB u0 ∧ Qr u0 h
def wp_X6_solutions_14 (ev : Nat → Nat) (Qr : Int32 → Hp → Prop) : Nat → Nat → Int32 → Int32 → Hp → Nat → Nat → Prop
  | 0, _, _, _, _, _, _ => False
  | n14 + 1, a0, v3, v4, h, mc, ms =>
    (6 ≤ v4 →
      hok h a0 5 ∧
      ∃ b2 : Nat, hR h a0 7 = some b2 ∧
      ∃ c3 d4 mc5 ms6 : Nat, mc = c3 + mc5 ∧ ms = d4 + ms6 ∧
      hok h a0 5 ∧
      wp_X6_come ev h a0 b2 0 c3 d4 (fun (h7 : Hp) =>
        ∃ c9 d10 mc11 ms12 : Nat, mc5 = c9 + mc11 ∧ ms6 = d10 + ms12 ∧
        hok h7 a0 5 ∧
        wp_X6_grow ev h7 a0 0 v3 1 c9 d10 (fun (h13 : Hp) =>
          hok h13 a0 5 ∧
          (¬ (hI h13 a0 10) = 0 →
            wp_X6_solutions_63 ev Qr  a0 0 h13 mc11 ms12) ∧
          ((hI h13 a0 10) = 0 →
            wp_X6_solutions_63 ev Qr  a0 1 h13 mc11 ms12)))) ∧
    (¬ 6 ≤ v4 →
      hok h a0 5 ∧
      ∃ b17 : Nat, hR h a0 7 = some b17 ∧
      hok h b17 20 ∧
      vp_in v4 (hN h b17) ∧
      ∀ (h18 : Hp), h18 = uA h b17 v4 0 →
      ∀ (x21 : Int32), x21 = v4 + 1 →
      wp_X6_solutions_14 ev Qr n14 a0 v3 x21 h18 mc ms)
/-- LeastSolutions$Grower.solutions(LLeastSolutions$Model;LLeastSolutions$Shelf;I)Z -/
def wp_X6_solutions (ev : Nat → Nat) (h : Hp) (a0 : Nat) (p1 : Nat) (p2 : Nat) (p3 : Int32) (MC MS : Nat) (Qr : Int32 → Hp → Prop) : Prop :=
  ∃ c1 d2 mc3 ms4 : Nat, MC = c1 + mc3 ∧ MS = d2 + ms4 ∧
  hok h a0 5 ∧
  wp_X6_begin ev h a0 p1 0 c1 d2 (fun (h5 : Hp) =>
    hok h5 a0 5 ∧
    ∀ (h7 : Hp), h7 = uR h5 a0 9 (some p2) →
    ∃ n14, wp_X6_solutions_14 ev Qr  n14 a0 p3 0 h7 mc3 ms4)
/-- LeastSolutions.copy(ILLeastSolutions$Shelf;I)V -/
def wp_X1_copy (ev : Nat → Nat) (h : Hp) (a0 : Nat) (p1 : Int32) (p2 : Nat) (p3 : Int32) (MC MS : Nat) (Qr : Hp → Prop) : Prop :=
  hok h a0 0 ∧
  ∃ b2 : Nat, hR h a0 5 = some b2 ∧
  hok h b2 5 ∧
  ∃ b4 : Nat, hR h b2 2 = some b4 ∧
  hok h b4 6 ∧
  wp_X7_get ev h b4 p1 (fun (r6 : Option Nat) (h5 : Hp) =>
    (∀ b : Nat, r6 = some b → hok h5 b 10) ∧
    hok h5 a0 0 ∧
    ∃ b10 : Nat, hR h5 a0 15 = some b10 ∧
    ∃ b11 : Nat, r6 = some b11 ∧
    hok h5 b11 10 ∧
    wp_X11_show ev h5 b11 b10 (fun (h12 : Hp) =>
      hok h12 a0 0 ∧
      ∃ b15 : Nat, hR h12 a0 15 = some b15 ∧
      ∃ c16 d17 mc18 ms19 : Nat, MC = c16 + mc18 ∧ MS = d17 + ms19 ∧
      wp_X1_keep ev h12 p2 b15 p3 c16 d17 (fun (h20 : Hp) =>
        Qr h20)))
def wp_X1_summands_53 (ev : Nat → Nat) (Qr : Int32 → Hp → Prop) (a0 : Nat) (v3 : Int32) (h : Hp) (mc ms : Nat) : Prop :=
  isB v3 ∧ Qr v3 h
def wp_X1_summands_17 (ev : Nat → Nat) (Qr : Int32 → Hp → Prop) : Nat → Nat → Nat → Int32 → Int32 → Hp → Nat → Nat → Prop
  | 0, _, _, _, _, _, _, _ => False
  | n17 + 1, a0, v1, v3, v4, h, mc, ms =>
    hok h a0 0 ∧
    ∃ b2 : Nat, hR h a0 5 = some b2 ∧
    hok h b2 5 ∧
    ∃ b4 : Nat, hR h b2 2 = some b4 ∧
    hok h b4 6 ∧
    wp_X7_size ev h b4 (fun (x6 : Int32) (h5 : Hp) =>
      (x6 ≤ v4 →
        wp_X1_summands_53 ev Qr  a0 v3 h5 mc ms) ∧
      (¬ x6 ≤ v4 →
        (v3 = 0 →
          wp_X1_summands_53 ev Qr  a0 v3 h5 mc ms) ∧
        (¬ v3 = 0 →
          hok h5 v1 8 ∧
          ∃ b9 : Nat, hR h5 v1 0 = some b9 ∧
          ∃ c10 d11 mc12 ms13 : Nat, mc = c10 + mc12 ∧ ms = d11 + ms13 ∧
          hok h5 a0 0 ∧
          wp_X1_copy ev h5 a0 v4 b9 0 c10 d11 (fun (h14 : Hp) =>
            ∀ (x16 : Int32), x16 = v4 + 1 →
            wp_X1_summands_17 ev Qr n17 a0 v1 v3 x16 h14 mc12 ms13))))
/-- LeastSolutions.summands(LLeastSolutions$Found;I)Z -/
def wp_X1_summands (ev : Nat → Nat) (h : Hp) (a0 : Nat) (p1 : Nat) (p2 : Int32) (MC MS : Nat) (Qr : Int32 → Hp → Prop) : Prop :=
  hok h a0 0 ∧
  ∃ b2 : Nat, hR h a0 5 = some b2 ∧
  hok h a0 0 ∧
  ∃ b4 : Nat, hR h a0 2 = some b4 ∧
  ∃ c5 d6 mc7 ms8 : Nat, MC = c5 + mc7 ∧ MS = d6 + ms8 ∧
  hok h b2 5 ∧
  wp_X6_kernel ev h b2 b4 0 p2 c5 d6 (fun (x10 : Int32) (h9 : Hp) =>
    ∃ n17, wp_X1_summands_17 ev Qr  n17 a0 p1 x10 0 h9 mc7 ms8)
def wp_X1_least_111 (ev : Nat → Nat) (Qr : Int32 → Hp → Prop) (a0 : Nat) (v3 : Int32) (h : Hp) (mc ms : Nat) : Prop :=
  isB v3 ∧ Qr v3 h
def wp_X1_least_75 (ev : Nat → Nat) (Qr : Int32 → Hp → Prop) : Nat → Nat → Nat → Int32 → Int32 → Hp → Nat → Nat → Prop
  | 0, _, _, _, _, _, _, _ => False
  | n75 + 1, a0, v1, v3, v4, h, mc, ms =>
    hok h a0 0 ∧
    ∃ b2 : Nat, hR h a0 5 = some b2 ∧
    hok h b2 5 ∧
    ∃ b4 : Nat, hR h b2 2 = some b4 ∧
    hok h b4 6 ∧
    wp_X7_size ev h b4 (fun (x6 : Int32) (h5 : Hp) =>
      (x6 ≤ v4 →
        wp_X1_least_111 ev Qr  a0 v3 h5 mc ms) ∧
      (¬ x6 ≤ v4 →
        (v3 = 0 →
          wp_X1_least_111 ev Qr  a0 v3 h5 mc ms) ∧
        (¬ v3 = 0 →
          hok h5 v1 8 ∧
          ∃ b9 : Nat, hR h5 v1 0 = some b9 ∧
          ∃ c10 d11 mc12 ms13 : Nat, mc = c10 + mc12 ∧ ms = d11 + ms13 ∧
          hok h5 a0 0 ∧
          wp_X1_copy ev h5 a0 v4 b9 0 c10 d11 (fun (h14 : Hp) =>
            ∀ (x16 : Int32), x16 = v4 + 1 →
            wp_X1_least_75 ev Qr n75 a0 v1 v3 x16 h14 mc12 ms13))))
def wp_X1_least_55 (ev : Nat → Nat) (Qr : Int32 → Hp → Prop) (a0 : Nat) (v1 : Nat) (v2 : Int32) (h : Hp) (mc ms : Nat) : Prop :=
  hok h a0 0 ∧
  ∃ b2 : Nat, hR h a0 5 = some b2 ∧
  hok h a0 0 ∧
  ∃ b4 : Nat, hR h a0 2 = some b4 ∧
  hok h a0 0 ∧
  ∃ b6 : Nat, hR h a0 14 = some b6 ∧
  ∃ c7 d8 mc9 ms10 : Nat, mc = c7 + mc9 ∧ ms = d8 + ms10 ∧
  hok h b2 5 ∧
  wp_X6_solutions ev h b2 b4 b6 v2 c7 d8 (fun (x12 : Int32) (h11 : Hp) =>
    ∃ n75, wp_X1_least_75 ev Qr  n75 a0 v1 x12 0 h11 mc9 ms10)
def wp_X1_least_25 (ev : Nat → Nat) (Qr : Int32 → Hp → Prop) : Nat → Nat → Nat → Int32 → Int32 → Hp → Nat → Nat → Prop
  | 0, _, _, _, _, _, _, _ => False
  | n25 + 1, a0, v1, v2, v3, h, mc, ms =>
    hok h a0 0 ∧
    ∃ b2 : Nat, hR h a0 5 = some b2 ∧
    hok h b2 5 ∧
    ∃ b4 : Nat, hR h b2 2 = some b4 ∧
    hok h b4 6 ∧
    wp_X7_size ev h b4 (fun (x6 : Int32) (h5 : Hp) =>
      (x6 ≤ v3 →
        wp_X1_least_55 ev Qr  a0 v1 v2 h5 mc ms) ∧
      (¬ x6 ≤ v3 →
        hok h5 a0 0 ∧
        ∃ b9 : Nat, hR h5 a0 14 = some b9 ∧
        ∃ c10 d11 mc12 ms13 : Nat, mc = c10 + mc12 ∧ ms = d11 + ms13 ∧
        hok h5 a0 0 ∧
        wp_X1_copy ev h5 a0 v3 b9 0 c10 d11 (fun (h14 : Hp) =>
          ∀ (x16 : Int32), x16 = v3 + 1 →
          wp_X1_least_25 ev Qr n25 a0 v1 v2 x16 h14 mc12 ms13)))
/-- LeastSolutions.least(LLeastSolutions$Found;I)Z -/
def wp_X1_least (ev : Nat → Nat) (h : Hp) (a0 : Nat) (p1 : Nat) (p2 : Int32) (MC MS : Nat) (Qr : Int32 → Hp → Prop) : Prop :=
  hok h a0 0 ∧
  ∃ b2 : Nat, hR h a0 14 = some b2 ∧
  ∃ c3 d4 mc5 ms6 : Nat, MC = c3 + mc5 ∧ MS = d4 + ms6 ∧
  hok h b2 6 ∧
  wp_X7_clear ev h b2 c3 d4 (fun (h7 : Hp) =>
    hok h7 a0 0 ∧
    ∃ b10 : Nat, hR h7 a0 5 = some b10 ∧
    hok h7 a0 0 ∧
    ∃ b12 : Nat, hR h7 a0 2 = some b12 ∧
    ∃ c13 d14 mc15 ms16 : Nat, mc5 = c13 + mc15 ∧ ms6 = d14 + ms16 ∧
    hok h7 b10 5 ∧
    wp_X6_kernel ev h7 b10 b12 0 p2 c13 d14 (fun (x18 : Int32) (h17 : Hp) =>
      (x18 = 0 →
        wp_X1_least_55 ev Qr  a0 p1 p2 h17 mc15 ms16) ∧
      (¬ x18 = 0 →
        ∃ n25, wp_X1_least_25 ev Qr  n25 a0 p1 p2 0 h17 mc15 ms16)))
def wp_X1_signed_106 (ev : Nat → Nat) (Qr : Int32 → Hp → Prop) (K2 : Nat → Nat → Int32 → Int32 → Hp → Nat → Nat → Prop) (K36 : Nat → Nat → Int32 → Int32 → Int32 → Hp → Nat → Nat → Prop) (a0 : Nat) (v1 : Nat) (v2 : Int32) (v3 : Int32) (v4 : Int32) (h : Hp) (mc ms : Nat) : Prop :=
  ∀ (x1 : Int32), x1 = v4 + 1 →
  K36 a0 v1 v2 v3 x1 h mc ms
def wp_X1_signed_36 (ev : Nat → Nat) (Qr : Int32 → Hp → Prop) (K2 : Nat → Nat → Int32 → Int32 → Hp → Nat → Nat → Prop) : Nat → Nat → Nat → Int32 → Int32 → Int32 → Hp → Nat → Nat → Prop
  | 0, _, _, _, _, _, _, _, _ => False
  | n36 + 1, a0, v1, v2, v3, v4, h, mc, ms =>
    hok h a0 0 ∧
    ∃ b2 : Nat, hR h a0 5 = some b2 ∧
    hok h b2 5 ∧
    ∃ b4 : Nat, hR h b2 2 = some b4 ∧
    hok h b4 6 ∧
    wp_X7_size ev h b4 (fun (x6 : Int32) (h5 : Hp) =>
      (x6 ≤ v4 →
        ∀ (x8 : Int32), x8 = v3 + 1 →
        K2 a0 v1 v2 x8 h5 mc ms) ∧
      (¬ x6 ≤ v4 →
        hok h5 a0 0 ∧
        ∃ b10 : Nat, hR h5 a0 5 = some b10 ∧
        hok h5 b10 5 ∧
        ∃ b12 : Nat, hR h5 b10 2 = some b12 ∧
        hok h5 b12 6 ∧
        wp_X7_get ev h5 b12 v4 (fun (r14 : Option Nat) (h13 : Hp) =>
          (∀ b : Nat, r14 = some b → hok h13 b 10) ∧
          ∃ b17 : Nat, r14 = some b17 ∧
          hok h13 b17 10 ∧
          ∃ b19 : Nat, hR h13 b17 0 = some b19 ∧
          wp_X1_belongs ev h13 b19 v3 (fun (x21 : Int32) (h20 : Hp) =>
            (x21 = 0 →
              wp_X1_signed_106 ev Qr K2 (wp_X1_signed_36 ev Qr K2 n36) a0 v1 v2 v3 v4 h20 mc ms) ∧
            (¬ x21 = 0 →
              hok h20 v1 8 ∧
              ∃ b23 : Nat, hR h20 v1 0 = some b23 ∧
              hok h20 b23 6 ∧
              wp_X7_size ev h20 b23 (fun (x25 : Int32) (h24 : Hp) =>
                (¬ x25 = 2000 →
                  hok h24 v1 8 ∧
                  ∃ b28 : Nat, hR h24 v1 0 = some b28 ∧
                  ∃ c29 d30 mc31 ms32 : Nat, mc = c29 + mc31 ∧ ms = d30 + ms32 ∧
                  hok h24 a0 0 ∧
                  wp_X1_copy ev h24 a0 v4 b28 v3 c29 d30 (fun (h33 : Hp) =>
                    wp_X1_signed_106 ev Qr K2 (wp_X1_signed_36 ev Qr K2 n36) a0 v1 v2 v3 v4 h33 mc31 ms32)) ∧
                (x25 = 2000 →
                  isB 0 ∧ Qr 0 h24)))))))
def wp_X1_signed_2 (ev : Nat → Nat) (Qr : Int32 → Hp → Prop) : Nat → Nat → Nat → Int32 → Int32 → Hp → Nat → Nat → Prop
  | 0, _, _, _, _, _, _, _ => False
  | n2 + 1, a0, v1, v2, v3, h, mc, ms =>
    hok h a0 0 ∧
    ∃ b2 : Nat, hR h a0 2 = some b2 ∧
    hok h b2 3 ∧
    ((1 <<< ((hI h b2 1) &&& 31)) ≤ v3 →
      isB 1 ∧ Qr 1 h) ∧
    (¬ (1 <<< ((hI h b2 1) &&& 31)) ≤ v3 →
      hok h a0 0 ∧
      ∃ b5 : Nat, hR h a0 5 = some b5 ∧
      hok h a0 0 ∧
      ∃ b7 : Nat, hR h a0 2 = some b7 ∧
      ∃ c8 d9 mc10 ms11 : Nat, mc = c8 + mc10 ∧ ms = d9 + ms11 ∧
      hok h b5 5 ∧
      wp_X6_kernel ev h b5 b7 v3 v2 c8 d9 (fun (x13 : Int32) (h12 : Hp) =>
        (¬ x13 = 0 →
          ∃ n36, wp_X1_signed_36 ev Qr (wp_X1_signed_2 ev Qr n2) n36 a0 v1 v2 v3 0 h12 mc10 ms11) ∧
        (x13 = 0 →
          isB 0 ∧ Qr 0 h12)))
/-- LeastSolutions.signed(LLeastSolutions$Found;I)Z -/
def wp_X1_signed (ev : Nat → Nat) (h : Hp) (a0 : Nat) (p1 : Nat) (p2 : Int32) (MC MS : Nat) (Qr : Int32 → Hp → Prop) : Prop :=
  ∃ n2, wp_X1_signed_2 ev Qr  n2 a0 p1 p2 0 h MC MS
