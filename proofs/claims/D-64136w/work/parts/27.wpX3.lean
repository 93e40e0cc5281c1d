set_option maxRecDepth 100000
/-- LeastSolutions$Reader.stop(II)V -/
def wp_X3_stop (ev : Nat → Nat) (h : Hp) (a0 : Nat) (p1 : Int32) (p2 : Int32) (Qr : Hp → Prop) (Xr : String → Hp → Prop) : Prop :=
  hok h a0 2 ∧
  ∀ (h1 : Hp), h1 = uI h a0 8 p1 →
  hok h1 a0 2 ∧
  ∀ (h3 : Hp), h3 = uI h1 a0 9 p2 →
  hok h3 a0 2 ∧
  ∃ b6 : Nat, hR h3 a0 1 = some b6 ∧
  hok h3 b6 12 ∧
  Xr eIAE h3
def wp_X3_check_17 (ev : Nat → Nat) (Qr : Hp → Prop) (Xr : String → Hp → Prop) (a0 : Nat) (h : Hp) : Prop :=
  Qr h
/-- LeastSolutions$Reader.check(ZII)V -/
def wp_X3_check (ev : Nat → Nat) (h : Hp) (a0 : Nat) (p1 : Int32) (p2 : Int32) (p3 : Int32) (Qr : Hp → Prop) (Xr : String → Hp → Prop) : Prop :=
  hok h a0 2 ∧
  ((hI h a0 7) = 0 →
    wp_X3_check_17 ev Qr Xr  a0 h) ∧
  (¬ (hI h a0 7) = 0 →
    (¬ p1 = 0 →
      wp_X3_check_17 ev Qr Xr  a0 h) ∧
    (p1 = 0 →
      hok h a0 2 ∧
      wp_X3_stop ev h a0 p2 p3 (fun (h2 : Hp) =>
        wp_X3_check_17 ev Qr Xr  a0 h2) Xr))
def wp_X3_require_16 (ev : Nat → Nat) (Qr : Hp → Prop) (Xr : String → Hp → Prop) (a0 : Nat) (h : Hp) : Prop :=
  Qr h
/-- LeastSolutions$Reader.require(Z)V -/
def wp_X3_require (ev : Nat → Nat) (h : Hp) (a0 : Nat) (p1 : Int32) (Qr : Hp → Prop) (Xr : String → Hp → Prop) : Prop :=
  (¬ p1 = 0 →
    wp_X3_require_16 ev Qr Xr  a0 h) ∧
  (p1 = 0 →
    hok h a0 2 ∧
    ∃ b2 : Nat, hR h a0 0 = some b2 ∧
    hok h b2 1 ∧
    hok h a0 2 ∧
    wp_X3_stop ev h a0 1 (hI h b2 4) (fun (h4 : Hp) =>
      wp_X3_require_16 ev Qr Xr  a0 h4) Xr)
def wp_X3_column_100 (ev : Nat → Nat) (Qr : Int32 → Hp → Prop) (Xr : String → Hp → Prop) (a0 : Nat) (v2 : Int32) (h : Hp) : Prop :=
  Qr v2 h
def wp_X3_column_66 (ev : Nat → Nat) (Qr : Int32 → Hp → Prop) (Xr : String → Hp → Prop) (a0 : Nat) (v1 : Int32) (v2 : Int32) (u0 : Nat) (u1 : Int32) (h : Hp) : Prop :=
  hok h a0 2 ∧
  ∃ b2 : Nat, hR h a0 0 = some b2 ∧
  hok h b2 1 ∧
  hok h u0 2 ∧
  wp_X3_check ev h u0 u1 2 (hI h b2 4) (fun (h4 : Hp) =>
    hok h4 a0 2 ∧
    ∃ b8 : Nat, hR h4 a0 6 = some b8 ∧
    hok h4 b8 3 ∧
    ∃ b10 : Nat, hR h4 b8 3 = some b10 ∧
    hok h4 a0 2 ∧
    ∃ b12 : Nat, hR h4 a0 6 = some b12 ∧
    hok h4 b12 3 ∧
    ∀ (x14 : Int32), x14 = (hI h4 b12 2) →
    hok h4 b12 3 ∧
    ∀ (h15 : Hp), h15 = uI h4 b12 2 (x14 + 1) →
    hok h15 b10 20 ∧
    vp_in x14 (hN h15 b10) ∧
    ∀ (h17 : Hp), h17 = uA h15 b10 x14 v1 →
    wp_X3_column_100 ev Qr Xr  a0 v2 h17) Xr
def wp_X3_column_32 (ev : Nat → Nat) (Qr : Int32 → Hp → Prop) (Xr : String → Hp → Prop) (a0 : Nat) (v1 : Int32) (v2 : Int32) (h : Hp) : Prop :=
  hok h a0 2 ∧
  ∃ b2 : Nat, hR h a0 6 = some b2 ∧
  hok h b2 3 ∧
  (¬ v2 = (hI h b2 2) →
    wp_X3_column_100 ev Qr Xr  a0 v2 h) ∧
  (v2 = (hI h b2 2) →
    hok h a0 2 ∧
    ∃ b5 : Nat, hR h a0 6 = some b5 ∧
    hok h b5 3 ∧
    hok h a0 2 ∧
    (6 ≤ ((hI h b5 2) + (hI h a0 3)) →
      wp_X3_column_66 ev Qr Xr  a0 v1 v2 a0 0 h) ∧
    (¬ 6 ≤ ((hI h b5 2) + (hI h a0 3)) →
      wp_X3_column_66 ev Qr Xr  a0 v1 v2 a0 1 h))
def wp_X3_column_2 (ev : Nat → Nat) (Qr : Int32 → Hp → Prop) (Xr : String → Hp → Prop) : Nat → Nat → Int32 → Int32 → Hp → Prop
  | 0, _, _, _, _ => False
  | n2 + 1, a0, v1, v2, h =>
    hok h a0 2 ∧
    ∃ b2 : Nat, hR h a0 6 = some b2 ∧
    hok h b2 3 ∧
    ((hI h b2 2) ≤ v2 →
      wp_X3_column_32 ev Qr Xr  a0 v1 v2 h) ∧
    (¬ (hI h b2 2) ≤ v2 →
      hok h a0 2 ∧
      ∃ b5 : Nat, hR h a0 6 = some b5 ∧
      hok h b5 3 ∧
      ∃ b7 : Nat, hR h b5 3 = some b7 ∧
      hok h b7 20 ∧
      vp_in v2 (hN h b7) ∧
      ((hA h b7 v2) = v1 →
        wp_X3_column_32 ev Qr Xr  a0 v1 v2 h) ∧
      (¬ (hA h b7 v2) = v1 →
        ∀ (x10 : Int32), x10 = v2 + 1 →
        wp_X3_column_2 ev Qr Xr n2 a0 v1 x10 h))
/-- LeastSolutions$Reader.column(I)I -/
def wp_X3_column (ev : Nat → Nat) (h : Hp) (a0 : Nat) (p1 : Int32) (Qr : Int32 → Hp → Prop) (Xr : String → Hp → Prop) : Prop :=
  ∃ n2, wp_X3_column_2 ev Qr Xr  n2 a0 p1 0 h
def wp_X3_term_174 (ev : Nat → Nat) (Qr : Hp → Prop) (Xr : String → Hp → Prop) (a0 : Nat) (h : Hp) : Prop :=
  Qr h
def wp_X3_term_152 (ev : Nat → Nat) (Qr : Hp → Prop) (Xr : String → Hp → Prop) (a0 : Nat) (h : Hp) : Prop :=
  hok h a0 2 ∧
  ∃ b2 : Nat, hR h a0 0 = some b2 ∧
  hok h b2 1 ∧
  wp_X2_advance ev h b2 (fun (h3 : Hp) =>
    wp_X3_term_174 ev Qr Xr  a0 h3)
def wp_X3_term_107 (ev : Nat → Nat) (Qr : Hp → Prop) (Xr : String → Hp → Prop) (a0 : Nat) (v1 : Int32) (v2 : Int32) (u0 : Nat) (u1 : Int32) (h : Hp) : Prop :=
  hok h u0 2 ∧
  wp_X3_require ev h u0 u1 (fun (h1 : Hp) =>
    hok h1 a0 2 ∧
    ∃ b5 : Nat, hR h1 a0 0 = some b5 ∧
    hok h1 b5 1 ∧
    ∃ b7 : Nat, hR h1 b5 3 = some b7 ∧
    (¬ b7 = (ev 1) →
      hok h1 a0 2 ∧
      hok h1 a0 2 ∧
      ∀ (h9 : Hp), h9 = uI h1 a0 5 ((hI h1 a0 5) + (v1 * v2)) →
      wp_X3_term_174 ev Qr Xr  a0 h9) ∧
    (b7 = (ev 1) →
      hok h1 a0 2 ∧
      ((hI h1 a0 7) = 0 →
        wp_X3_term_152 ev Qr Xr  a0 h1) ∧
      (¬ (hI h1 a0 7) = 0 →
        hok h1 a0 2 ∧
        ∃ b13 : Nat, hR h1 a0 4 = some b13 ∧
        hok h1 a0 2 ∧
        ∃ b15 : Nat, hR h1 a0 0 = some b15 ∧
        hok h1 b15 1 ∧
        hok h1 a0 2 ∧
        wp_X3_column ev h1 a0 (hI h1 b15 5) (fun (x18 : Int32) (h17 : Hp) =>
          hok h17 b13 20 ∧
          vp_in x18 (hN h17 b13) ∧
          hok h17 b13 20 ∧
          vp_in x18 (hN h17 b13) ∧
          ∀ (h23 : Hp), h23 = uA h17 b13 x18 ((hA h17 b13 x18) + (v1 * v2)) →
          wp_X3_term_152 ev Qr Xr  a0 h23) Xr))) Xr
def wp_X3_term_102 (ev : Nat → Nat) (Qr : Hp → Prop) (Xr : String → Hp → Prop) (a0 : Nat) (v1 : Int32) (v2 : Int32) (u0 : Nat) (h : Hp) : Prop :=
  wp_X3_term_107 ev Qr Xr  a0 v1 v2 u0 1 h
def wp_X3_term_83 (ev : Nat → Nat) (Qr : Hp → Prop) (Xr : String → Hp → Prop) (a0 : Nat) (v1 : Int32) (v2 : Int32) (v4 : Int32) (h : Hp) : Prop :=
  (v4 = 0 →
    wp_X3_term_102 ev Qr Xr  a0 v1 v2 a0 h) ∧
  (¬ v4 = 0 →
    hok h a0 2 ∧
    ∃ b2 : Nat, hR h a0 0 = some b2 ∧
    hok h b2 1 ∧
    ∃ b4 : Nat, hR h b2 3 = some b4 ∧
    (¬ b4 = (ev 1) →
      wp_X3_term_107 ev Qr Xr  a0 v1 v2 a0 0 h) ∧
    (b4 = (ev 1) →
      wp_X3_term_102 ev Qr Xr  a0 v1 v2 a0 h))
def wp_X3_term_69 (ev : Nat → Nat) (Qr : Hp → Prop) (Xr : String → Hp → Prop) (a0 : Nat) (v1 : Int32) (v2 : Int32) (u0 : Int32) (h : Hp) : Prop :=
  (u0 = 0 →
    wp_X3_term_83 ev Qr Xr  a0 v1 v2 u0 h) ∧
  (¬ u0 = 0 →
    hok h a0 2 ∧
    ∃ b2 : Nat, hR h a0 0 = some b2 ∧
    hok h b2 1 ∧
    wp_X2_advance ev h b2 (fun (h3 : Hp) =>
      wp_X3_term_83 ev Qr Xr  a0 v1 v2 u0 h3))
def wp_X3_term_30 (ev : Nat → Nat) (Qr : Hp → Prop) (Xr : String → Hp → Prop) (a0 : Nat) (v1 : Int32) (v2 : Int32) (v3 : Int32) (u0 : Int32) (h : Hp) : Prop :=
  (v3 = 0 →
    wp_X3_term_83 ev Qr Xr  a0 v1 v2 u0 h) ∧
  (¬ v3 = 0 →
    hok h a0 2 ∧
    ∃ b2 : Nat, hR h a0 0 = some b2 ∧
    hok h b2 1 ∧
    ∀ (x4 : Int32), x4 = (hI h b2 5) →
    hok h a0 2 ∧
    ∃ b6 : Nat, hR h a0 0 = some b6 ∧
    hok h b6 1 ∧
    wp_X2_advance ev h b6 (fun (h7 : Hp) =>
      hok h7 a0 2 ∧
      ∃ b11 : Nat, hR h7 a0 0 = some b11 ∧
      hok h7 b11 1 ∧
      ∃ b13 : Nat, hR h7 b11 3 = some b13 ∧
      (¬ b13 = (ev 4) →
        wp_X3_term_69 ev Qr Xr  a0 v1 x4 0 h7) ∧
      (b13 = (ev 4) →
        wp_X3_term_69 ev Qr Xr  a0 v1 x4 1 h7)))
def wp_X3_term_20 (ev : Nat → Nat) (Qr : Hp → Prop) (Xr : String → Hp → Prop) (a0 : Nat) (v1 : Int32) (v2 : Int32) (u0 : Int32) (h : Hp) : Prop :=
  (¬ u0 = 0 →
    wp_X3_term_30 ev Qr Xr  a0 v1 v2 u0 0 h) ∧
  (u0 = 0 →
    wp_X3_term_30 ev Qr Xr  a0 v1 v2 u0 1 h)
/-- LeastSolutions$Reader.term(I)V -/
def wp_X3_term (ev : Nat → Nat) (h : Hp) (a0 : Nat) (p1 : Int32) (Qr : Hp → Prop) (Xr : String → Hp → Prop) : Prop :=
  hok h a0 2 ∧
  ∃ b2 : Nat, hR h a0 0 = some b2 ∧
  hok h b2 1 ∧
  ∃ b4 : Nat, hR h b2 3 = some b4 ∧
  (¬ b4 = (ev 0) →
    wp_X3_term_20 ev Qr Xr  a0 p1 1 0 h) ∧
  (b4 = (ev 0) →
    wp_X3_term_20 ev Qr Xr  a0 p1 1 1 h)
def wp_X3_sum_89 (ev : Nat → Nat) (Qr : Hp → Prop) (Xr : String → Hp → Prop) (K44 : Nat → Int32 → Hp → Prop) (a0 : Nat) (v1 : Int32) (u0 : Int32) (h : Hp) : Prop :=
  hok h a0 2 ∧
  ∃ b2 : Nat, hR h a0 0 = some b2 ∧
  hok h b2 1 ∧
  wp_X2_advance ev h b2 (fun (h3 : Hp) =>
    hok h3 a0 2 ∧
    wp_X3_term ev h3 a0 u0 (fun (h6 : Hp) =>
      K44 a0 v1 h6) Xr)
def wp_X3_sum_70 (ev : Nat → Nat) (Qr : Hp → Prop) (Xr : String → Hp → Prop) (K44 : Nat → Int32 → Hp → Prop) (a0 : Nat) (v1 : Int32) (h : Hp) : Prop :=
  hok h a0 2 ∧
  ∃ b2 : Nat, hR h a0 0 = some b2 ∧
  hok h b2 1 ∧
  ∃ b4 : Nat, hR h b2 3 = some b4 ∧
  (¬ b4 = (ev 2) →
    wp_X3_sum_89 ev Qr Xr K44 a0 v1 ((-v1)) h) ∧
  (b4 = (ev 2) →
    wp_X3_sum_89 ev Qr Xr K44 a0 v1 v1 h)
def wp_X3_sum_44 (ev : Nat → Nat) (Qr : Hp → Prop) (Xr : String → Hp → Prop) : Nat → Nat → Int32 → Hp → Prop
  | 0, _, _, _ => False
  | n44 + 1, a0, v1, h =>
    hok h a0 2 ∧
    ∃ b2 : Nat, hR h a0 0 = some b2 ∧
    hok h b2 1 ∧
    ∃ b4 : Nat, hR h b2 3 = some b4 ∧
    (b4 = (ev 2) →
      wp_X3_sum_70 ev Qr Xr (wp_X3_sum_44 ev Qr Xr n44) a0 v1 h) ∧
    (¬ b4 = (ev 2) →
      hok h a0 2 ∧
      ∃ b6 : Nat, hR h a0 0 = some b6 ∧
      hok h b6 1 ∧
      ∃ b8 : Nat, hR h b6 3 = some b8 ∧
      (¬ b8 = (ev 3) →
        Qr h) ∧
      (b8 = (ev 3) →
        wp_X3_sum_70 ev Qr Xr (wp_X3_sum_44 ev Qr Xr n44) a0 v1 h))
def wp_X3_sum_41 (ev : Nat → Nat) (Qr : Hp → Prop) (Xr : String → Hp → Prop) (a0 : Nat) (v1 : Int32) (u0 : Nat) (u1 : Int32) (h : Hp) : Prop :=
  hok h u0 2 ∧
  wp_X3_term ev h u0 u1 (fun (h1 : Hp) =>
    ∃ n44, wp_X3_sum_44 ev Qr Xr  n44 a0 v1 h1) Xr
def wp_X3_sum_30 (ev : Nat → Nat) (Qr : Hp → Prop) (Xr : String → Hp → Prop) (a0 : Nat) (v1 : Int32) (v2 : Int32) (h : Hp) : Prop :=
  (v2 = 0 →
    wp_X3_sum_41 ev Qr Xr  a0 v1 a0 v1 h) ∧
  (¬ v2 = 0 →
    wp_X3_sum_41 ev Qr Xr  a0 v1 a0 ((-v1)) h)
def wp_X3_sum_18 (ev : Nat → Nat) (Qr : Hp → Prop) (Xr : String → Hp → Prop) (a0 : Nat) (v1 : Int32) (u0 : Int32) (h : Hp) : Prop :=
  (u0 = 0 →
    wp_X3_sum_30 ev Qr Xr  a0 v1 u0 h) ∧
  (¬ u0 = 0 →
    hok h a0 2 ∧
    ∃ b2 : Nat, hR h a0 0 = some b2 ∧
    hok h b2 1 ∧
    wp_X2_advance ev h b2 (fun (h3 : Hp) =>
      wp_X3_sum_30 ev Qr Xr  a0 v1 u0 h3))
/-- LeastSolutions$Reader.sum(I)V -/
def wp_X3_sum (ev : Nat → Nat) (h : Hp) (a0 : Nat) (p1 : Int32) (Qr : Hp → Prop) (Xr : String → Hp → Prop) : Prop :=
  hok h a0 2 ∧
  ∃ b2 : Nat, hR h a0 0 = some b2 ∧
  hok h b2 1 ∧
  ∃ b4 : Nat, hR h b2 3 = some b4 ∧
  (¬ b4 = (ev 3) →
    wp_X3_sum_18 ev Qr Xr  a0 p1 0 h) ∧
  (b4 = (ev 3) →
    wp_X3_sum_18 ev Qr Xr  a0 p1 1 h)
def wp_X3_keep_127 (ev : Nat → Nat) (Qr : Hp → Prop) (Xr : String → Hp → Prop) (K93 : Nat → Int32 → Int32 → Int32 → Int32 → Hp → Prop) (a0 : Nat) (v2 : Int32) (v3 : Int32) (v5 : Int32) (u0 : Int32) (u1 : Int32) (h : Hp) : Prop :=
  ∀ (x1 : Int32), x1 = (u0 &&& u1) →
  hok h a0 2 ∧
  ∃ b3 : Nat, hR h a0 6 = some b3 ∧
  hok h b3 3 ∧
  ∃ b5 : Nat, hR h b3 4 = some b5 ∧
  hok h a0 2 ∧
  ∃ b7 : Nat, hR h a0 6 = some b7 ∧
  hok h b7 3 ∧
  hok h b5 24 ∧
  vp_in (hI h b7 0) (hN h b5) ∧
  ∃ b11 : Nat, hO h b5 (hI h b7 0) = some b11 ∧
  hok h a0 2 ∧
  ∃ b13 : Nat, hR h a0 4 = some b13 ∧
  hok h b13 20 ∧
  vp_in v5 (hN h b13) ∧
  hok h b11 20 ∧
  vp_in v5 (hN h b11) ∧
  ∀ (h16 : Hp), h16 = uA h b11 v5 (hA h b13 v5) →
  ∀ (x19 : Int32), x19 = v5 + 1 →
  K93 a0 v2 v3 x1 x19 h16
def wp_X3_keep_93 (ev : Nat → Nat) (Qr : Hp → Prop) (Xr : String → Hp → Prop) : Nat → Nat → Int32 → Int32 → Int32 → Int32 → Hp → Prop
  | 0, _, _, _, _, _, _ => False
  | n93 + 1, a0, v2, v3, v4, v5, h =>
    hok h a0 2 ∧
    ∃ b2 : Nat, hR h a0 6 = some b2 ∧
    hok h b2 3 ∧
    ((hI h b2 2) ≤ v5 →
      hok h a0 2 ∧
      wp_X3_check ev h a0 v4 3 v2 (fun (h4 : Hp) =>
        hok h4 a0 2 ∧
        ∃ b8 : Nat, hR h4 a0 6 = some b8 ∧
        hok h4 b8 3 ∧
        ∃ b10 : Nat, hR h4 b8 5 = some b10 ∧
        hok h4 a0 2 ∧
        ∃ b12 : Nat, hR h4 a0 6 = some b12 ∧
        hok h4 b12 3 ∧
        hok h4 a0 2 ∧
        hok h4 b10 20 ∧
        vp_in (hI h4 b12 0) (hN h4 b10) ∧
        ∀ (h15 : Hp), h15 = uA h4 b10 (hI h4 b12 0) (-(hI h4 a0 5)) →
        hok h15 a0 2 ∧
        ∃ b19 : Nat, hR h15 a0 2 = some b19 ∧
        hok h15 a0 2 ∧
        ∃ b21 : Nat, hR h15 a0 6 = some b21 ∧
        hok h15 b21 3 ∧
        ∀ (x23 : Int32), x23 = (hI h15 b21 0) →
        hok h15 b21 3 ∧
        ∀ (h24 : Hp), h24 = uI h15 b21 0 (x23 + 1) →
        hok h24 b19 20 ∧
        vp_in x23 (hN h24 b19) ∧
        ∀ (h26 : Hp), h26 = uA h24 b19 x23 v3 →
        Qr h26) Xr) ∧
    (¬ (hI h b2 2) ≤ v5 →
      hok h a0 2 ∧
      ∃ b30 : Nat, hR h a0 4 = some b30 ∧
      hok h b30 20 ∧
      vp_in v5 (hN h b30) ∧
      wp_J7_abs ev h (hA h b30 v5) (fun (x34 : Int32) (h33 : Hp) =>
        (20 < x34 →
          wp_X3_keep_127 ev Qr Xr (wp_X3_keep_93 ev Qr Xr n93) a0 v2 v3 v5 v4 0 h33) ∧
        (¬ 20 < x34 →
          wp_X3_keep_127 ev Qr Xr (wp_X3_keep_93 ev Qr Xr n93) a0 v2 v3 v5 v4 1 h33)))
def wp_X3_keep_88 (ev : Nat → Nat) (Qr : Hp → Prop) (Xr : String → Hp → Prop) (a0 : Nat) (v2 : Int32) (v3 : Int32) (u0 : Int32) (h : Hp) : Prop :=
  ∃ n93, wp_X3_keep_93 ev Qr Xr  n93 a0 v2 v3 u0 0 h
def wp_X3_keep_65 (ev : Nat → Nat) (Qr : Hp → Prop) (Xr : String → Hp → Prop) (a0 : Nat) (v2 : Int32) (v3 : Int32) (u0 : Nat) (u1 : Int32) (h : Hp) : Prop :=
  hok h u0 2 ∧
  wp_X3_check ev h u0 u1 2 v2 (fun (h1 : Hp) =>
    hok h1 a0 2 ∧
    wp_J7_abs ev h1 (hI h1 a0 5) (fun (x6 : Int32) (h5 : Hp) =>
      (200 < x6 →
        wp_X3_keep_88 ev Qr Xr  a0 v2 v3 0 h5) ∧
      (¬ 200 < x6 →
        wp_X3_keep_88 ev Qr Xr  a0 v2 v3 1 h5))) Xr
def wp_X3_keep_38 (ev : Nat → Nat) (Qr : Hp → Prop) (Xr : String → Hp → Prop) (a0 : Nat) (v2 : Int32) (v3 : Int32) (u0 : Nat) (u1 : Int32) (u2 : Int32) (h : Hp) : Prop :=
  hok h u0 2 ∧
  ∀ (h1 : Hp), h1 = uI h u0 3 (u1 + u2) →
  hok h1 a0 2 ∧
  ∃ b4 : Nat, hR h1 a0 6 = some b4 ∧
  hok h1 b4 3 ∧
  hok h1 a0 2 ∧
  (6 < ((hI h1 b4 2) + (hI h1 a0 3)) →
    wp_X3_keep_65 ev Qr Xr  a0 v2 v3 a0 0 h1) ∧
  (¬ 6 < ((hI h1 b4 2) + (hI h1 a0 3)) →
    wp_X3_keep_65 ev Qr Xr  a0 v2 v3 a0 1 h1)
def wp_X3_keep_23 (ev : Nat → Nat) (Qr : Hp → Prop) (Xr : String → Hp → Prop) (a0 : Nat) (v2 : Int32) (u0 : Int32) (h : Hp) : Prop :=
  hok h a0 2 ∧
  (¬ u0 = 0 →
    wp_X3_keep_38 ev Qr Xr  a0 v2 u0 a0 ((hI h a0 3)) 1 h) ∧
  (u0 = 0 →
    wp_X3_keep_38 ev Qr Xr  a0 v2 u0 a0 ((hI h a0 3)) 0 h)
/-- LeastSolutions$Reader.keep(LLeastSolutions$Word;I)V -/
def wp_X3_keep (ev : Nat → Nat) (h : Hp) (a0 : Nat) (p1 : Nat) (p2 : Int32) (Qr : Hp → Prop) (Xr : String → Hp → Prop) : Prop :=
  (¬ p1 = (ev 5) →
    (¬ p1 = (ev 6) →
      wp_X3_keep_23 ev Qr Xr  a0 p2 (-1) h) ∧
    (p1 = (ev 6) →
      wp_X3_keep_23 ev Qr Xr  a0 p2 1 h)) ∧
  (p1 = (ev 5) →
    wp_X3_keep_23 ev Qr Xr  a0 p2 0 h)
def wp_X3_row_130 (ev : Nat → Nat) (Qr : Hp → Prop) (Xr : String → Hp → Prop) (a0 : Nat) (h : Hp) : Prop :=
  Qr h
def wp_X3_row_102 (ev : Nat → Nat) (Qr : Hp → Prop) (Xr : String → Hp → Prop) (a0 : Nat) (v1 : Nat) (v2 : Int32) (u0 : Nat) (u1 : Int32) (h : Hp) : Prop :=
  hok h u0 2 ∧
  wp_X3_require ev h u0 u1 (fun (h1 : Hp) =>
    hok h1 a0 2 ∧
    ∃ b5 : Nat, hR h1 a0 0 = some b5 ∧
    hok h1 b5 1 ∧
    wp_X2_advance ev h1 b5 (fun (h6 : Hp) =>
      hok h6 a0 2 ∧
      wp_X3_sum ev h6 a0 (-1) (fun (h9 : Hp) =>
        hok h9 a0 2 ∧
        ((hI h9 a0 7) = 0 →
          wp_X3_row_130 ev Qr Xr  a0 h9) ∧
        (¬ (hI h9 a0 7) = 0 →
          hok h9 a0 2 ∧
          wp_X3_keep ev h9 a0 v1 v2 (fun (h13 : Hp) =>
            wp_X3_row_130 ev Qr Xr  a0 h13) Xr)) Xr)) Xr
def wp_X3_row_97 (ev : Nat → Nat) (Qr : Hp → Prop) (Xr : String → Hp → Prop) (a0 : Nat) (v1 : Nat) (v2 : Int32) (u0 : Nat) (h : Hp) : Prop :=
  wp_X3_row_102 ev Qr Xr  a0 v1 v2 u0 1 h
def wp_X3_row_30 (ev : Nat → Nat) (Qr : Hp → Prop) (Xr : String → Hp → Prop) : Nat → Nat → Int32 → Hp → Prop
  | 0, _, _, _ => False
  | n30 + 1, a0, v1, h =>
    (6 ≤ v1 →
      hok h a0 2 ∧
      ∀ (h1 : Hp), h1 = uI h a0 5 0 →
      hok h1 a0 2 ∧
      wp_X3_sum ev h1 a0 1 (fun (h3 : Hp) =>
        hok h3 a0 2 ∧
        ∃ b7 : Nat, hR h3 a0 0 = some b7 ∧
        hok h3 b7 1 ∧
        ∃ b9 : Nat, hR h3 b7 3 = some b9 ∧
        hok h3 a0 2 ∧
        ∃ b11 : Nat, hR h3 a0 0 = some b11 ∧
        hok h3 b11 1 ∧
        ∀ (x13 : Int32), x13 = (hI h3 b11 4) →
        (b9 = (ev 5) →
          wp_X3_row_97 ev Qr Xr  a0 b9 x13 a0 h3) ∧
        (¬ b9 = (ev 5) →
          (b9 = (ev 6) →
            wp_X3_row_97 ev Qr Xr  a0 b9 x13 a0 h3) ∧
          (¬ b9 = (ev 6) →
            (¬ b9 = (ev 7) →
              wp_X3_row_102 ev Qr Xr  a0 b9 x13 a0 0 h3) ∧
            (b9 = (ev 7) →
              wp_X3_row_97 ev Qr Xr  a0 b9 x13 a0 h3)))) Xr) ∧
    (¬ 6 ≤ v1 →
      hok h a0 2 ∧
      ∃ b15 : Nat, hR h a0 4 = some b15 ∧
      hok h b15 20 ∧
      vp_in v1 (hN h b15) ∧
      ∀ (h16 : Hp), h16 = uA h b15 v1 0 →
      ∀ (x19 : Int32), x19 = v1 + 1 →
      wp_X3_row_30 ev Qr Xr n30 a0 x19 h16)
def wp_X3_row_17 (ev : Nat → Nat) (Qr : Hp → Prop) (Xr : String → Hp → Prop) (a0 : Nat) (u0 : Nat) (u1 : Int32) (h : Hp) : Prop :=
  hok h a0 2 ∧
  ∃ b2 : Nat, hR h a0 0 = some b2 ∧
  hok h b2 1 ∧
  hok h u0 2 ∧
  wp_X3_check ev h u0 u1 2 (hI h b2 4) (fun (h4 : Hp) =>
    ∃ n30, wp_X3_row_30 ev Qr Xr  n30 a0 0 h4) Xr
/-- LeastSolutions$Reader.row()V -/
def wp_X3_row (ev : Nat → Nat) (h : Hp) (a0 : Nat) (Qr : Hp → Prop) (Xr : String → Hp → Prop) : Prop :=
  hok h a0 2 ∧
  ∃ b2 : Nat, hR h a0 6 = some b2 ∧
  hok h b2 3 ∧
  (4 ≤ (hI h b2 0) →
    wp_X3_row_17 ev Qr Xr  a0 a0 0 h) ∧
  (¬ 4 ≤ (hI h b2 0) →
    wp_X3_row_17 ev Qr Xr  a0 a0 1 h)
def wp_X3_system_57 (ev : Nat → Nat) (Qr : Hp → Prop) (Xr : String → Hp → Prop) (a0 : Nat) (u0 : Nat) (u1 : Int32) (h : Hp) : Prop :=
  hok h u0 2 ∧
  wp_X3_require ev h u0 u1 (fun (h1 : Hp) =>
    Qr h1) Xr
def wp_X3_system_11 (ev : Nat → Nat) (Qr : Hp → Prop) (Xr : String → Hp → Prop) : Nat → Nat → Hp → Prop
  | 0, _, _ => False
  | n11 + 1, a0, h =>
    hok h a0 2 ∧
    ∃ b2 : Nat, hR h a0 0 = some b2 ∧
    hok h b2 1 ∧
    ∃ b4 : Nat, hR h b2 3 = some b4 ∧
    (¬ b4 = (ev 8) →
      hok h a0 2 ∧
      ∃ b6 : Nat, hR h a0 0 = some b6 ∧
      hok h b6 1 ∧
      ∃ b8 : Nat, hR h b6 3 = some b8 ∧
      (¬ b8 = (ev 9) →
        wp_X3_system_57 ev Qr Xr  a0 a0 0 h) ∧
      (b8 = (ev 9) →
        wp_X3_system_57 ev Qr Xr  a0 a0 1 h)) ∧
    (b4 = (ev 8) →
      hok h a0 2 ∧
      ∃ b10 : Nat, hR h a0 0 = some b10 ∧
      hok h b10 1 ∧
      wp_X2_advance ev h b10 (fun (h11 : Hp) =>
        hok h11 a0 2 ∧
        wp_X3_row ev h11 a0 (fun (h14 : Hp) =>
          wp_X3_system_11 ev Qr Xr n11 a0 h14) Xr))
/-- LeastSolutions$Reader.system()V -/
def wp_X3_system (ev : Nat → Nat) (h : Hp) (a0 : Nat) (Qr : Hp → Prop) (Xr : String → Hp → Prop) : Prop :=
  hok h a0 2 ∧
  ∃ b2 : Nat, hR h a0 0 = some b2 ∧
  hok h b2 1 ∧
  wp_X2_begin ev h b2 (fun (h3 : Hp) =>
    hok h3 a0 2 ∧
    wp_X3_row ev h3 a0 (fun (h6 : Hp) =>
      ∃ n11, wp_X3_system_11 ev Qr Xr  n11 a0 h6) Xr)
def wp_X3_work_115 (ev : Nat → Nat) (Qr : Int32 → Hp → Prop) (Xr : String → Hp → Prop) (K65 : Nat → Int32 → Hp → Prop) (a0 : Nat) (v2 : Int32) (h : Hp) : Prop :=
  ∀ (x1 : Int32), x1 = v2 + 1 →
  K65 a0 x1 h
def wp_X3_work_65 (ev : Nat → Nat) (Qr : Int32 → Hp → Prop) (Xr : String → Hp → Prop) : Nat → Nat → Int32 → Hp → Prop
  | 0, _, _, _ => False
  | n65 + 1, a0, v2, h =>
    hok h a0 2 ∧
    ∃ b2 : Nat, hR h a0 6 = some b2 ∧
    hok h b2 3 ∧
    ((hI h b2 0) ≤ v2 →
      Qr 0 h) ∧
    (¬ (hI h b2 0) ≤ v2 →
      hok h a0 2 ∧
      ∃ b5 : Nat, hR h a0 2 = some b5 ∧
      hok h b5 20 ∧
      vp_in v2 (hN h b5) ∧
      ((hA h b5 v2) = 0 →
        wp_X3_work_115 ev Qr Xr (wp_X3_work_65 ev Qr Xr n65) a0 v2 h) ∧
      (¬ (hA h b5 v2) = 0 →
        hok h a0 2 ∧
        ∃ b9 : Nat, hR h a0 6 = some b9 ∧
        hok h b9 3 ∧
        ∃ b11 : Nat, hR h b9 4 = some b11 ∧
        hok h b11 24 ∧
        vp_in v2 (hN h b11) ∧
        ∃ b14 : Nat, hO h b11 v2 = some b14 ∧
        hok h a0 2 ∧
        ∃ b16 : Nat, hR h a0 6 = some b16 ∧
        hok h b16 3 ∧
        ∀ (x18 : Int32), x18 = (hI h b16 1) →
        hok h b16 3 ∧
        ∀ (h19 : Hp), h19 = uI h b16 1 (x18 + 1) →
        hok h19 a0 2 ∧
        ∃ b22 : Nat, hR h19 a0 2 = some b22 ∧
        hok h19 b22 20 ∧
        vp_in v2 (hN h19 b22) ∧
        hok h19 b14 20 ∧
        vp_in x18 (hN h19 b14) ∧
        ∀ (h25 : Hp), h25 = uA h19 b14 x18 (hA h19 b22 v2) →
        wp_X3_work_115 ev Qr Xr (wp_X3_work_65 ev Qr Xr n65) a0 v2 h25))
def wp_X3_work_43 (ev : Nat → Nat) (Qr : Int32 → Hp → Prop) (Xr : String → Hp → Prop) (a0 : Nat) (u0 : Nat) (h : Hp) : Prop :=
  hok h a0 2 ∧
  Qr (hI h a0 8) h
/-- LeastSolutions$Reader.work(LLeastSolutions$Model;)I -/
def wp_X3_work (ev : Nat → Nat) (h : Hp) (a0 : Nat) (p1 : Nat) (Qr : Int32 → Hp → Prop) (Xr : String → Hp → Prop) : Prop :=
  hok h a0 2 ∧
  ∀ (h1 : Hp), h1 = uR h a0 6 (some p1) →
  hok h1 a0 2 ∧
  ∀ (h3 : Hp), h3 = uI h1 a0 8 0 →
  hok h3 a0 2 ∧
  ∃ b6 : Nat, hR h3 a0 6 = some b6 ∧
  hok h3 b6 3 ∧
  wp_X4_clear ev h3 b6 (fun (h7 : Hp) =>
    hok h7 a0 2 ∧
    ∀ (h10 : Hp), h10 = uI h7 a0 3 0 →
    hok h10 a0 2 ∧
    ∀ (h12 : Hp), h12 = uI h10 a0 7 0 →
    hok h12 a0 2 ∧
    wp_X3_system ev h12 a0 (fun (h14 : Hp) =>
      hok h14 a0 2 ∧
      ∀ (h17 : Hp), h17 = uI h14 a0 7 1 →
      hok h17 a0 2 ∧
      wp_X3_system ev h17 a0 (fun (h19 : Hp) =>
        hok h19 a0 2 ∧
        ∃ b23 : Nat, hR h19 a0 6 = some b23 ∧
        hok h19 a0 2 ∧
        ∃ b25 : Nat, hR h19 a0 6 = some b25 ∧
        hok h19 b25 3 ∧
        hok h19 b23 3 ∧
        ∀ (h27 : Hp), h27 = uI h19 b23 1 (hI h19 b25 2) →
        ∃ n65, wp_X3_work_65 ev Qr Xr  n65 a0 0 h27)
        (fun (E : String) (h21 : Hp) =>
          (E = eIAE → ∀ (q9 : Nat),
            wp_X3_work_43 ev Qr Xr  a0 q9 h21) ∧
          (¬ E = eIAE →
            False)))
      (fun (E : String) (h16 : Hp) =>
        (E = eIAE → ∀ (q9 : Nat),
          wp_X3_work_43 ev Qr Xr  a0 q9 h16) ∧
        (¬ E = eIAE →
          False)))
/-- LeastSolutions.needSystem()V -/
def wp_X1_needSystem (ev : Nat → Nat) (h : Hp) (a0 : Nat) (MC MS : Nat) (Qr : Hp → Prop) (Xr : String → Hp → Prop) : Prop :=
  hok h a0 0 ∧
  (¬ (hI h a0 8) = 0 →
    Qr h) ∧
  ((hI h a0 8) = 0 →
    ∃ mc2 ms3 : Nat, MC = 1 + mc2 ∧ MS = 6 + ms3 ∧
    Xr eISE h)
def wp_X1_needNumber_12 (ev : Nat → Nat) (Qr : Hp → Prop) (Xr : String → Hp → Prop) (h : Hp) (mc ms : Nat) : Prop :=
  ∃ mc1 ms2 : Nat, mc = 1 + mc1 ∧ ms = 6 + ms2 ∧
  Xr eIAE h
/-- LeastSolutions.needNumber(I)V -/
def wp_X1_needNumber (ev : Nat → Nat) (h : Hp) (p0 : Int32) (MC MS : Nat) (Qr : Hp → Prop) (Xr : String → Hp → Prop) : Prop :=
  (p0 < (-99) →
    wp_X1_needNumber_12 ev Qr Xr   h MC MS) ∧
  (¬ p0 < (-99) →
    (p0 ≤ 99 →
      Qr h) ∧
    (¬ p0 ≤ 99 →
      wp_X1_needNumber_12 ev Qr Xr   h MC MS))
def wp_X1_number_72 (ev : Nat → Nat) (Qr : Int32 → Hp → Prop) (Xr : String → Hp → Prop) (a0 : Nat) (u0 : Int32) (h : Hp) (mc ms : Nat) : Prop :=
  Qr u0 h
def wp_X1_number_30 (ev : Nat → Nat) (Qr : Int32 → Hp → Prop) (Xr : String → Hp → Prop) (a0 : Nat) (h : Hp) (mc ms : Nat) : Prop :=
  ∃ mc1 ms2 : Nat, mc = 1 + mc1 ∧ ms = 6 + ms2 ∧
  Xr eIOB h
/-- LeastSolutions.number(II)I -/
def wp_X1_number (ev : Nat → Nat) (h : Hp) (a0 : Nat) (p1 : Int32) (p2 : Int32) (MC MS : Nat) (Qr : Int32 → Hp → Prop) (Xr : String → Hp → Prop) : Prop :=
  (p1 < 0 →
    wp_X1_number_30 ev Qr Xr  a0 h MC MS) ∧
  (¬ p1 < 0 →
    hok h a0 0 ∧
    ∃ b2 : Nat, hR h a0 2 = some b2 ∧
    hok h b2 3 ∧
    ((hI h b2 0) ≤ p1 →
      wp_X1_number_30 ev Qr Xr  a0 h MC MS) ∧
    (¬ (hI h b2 0) ≤ p1 →
      (p2 < 0 →
        wp_X1_number_30 ev Qr Xr  a0 h MC MS) ∧
      (¬ p2 < 0 →
        hok h a0 0 ∧
        ∃ b5 : Nat, hR h a0 2 = some b5 ∧
        hok h b5 3 ∧
        (p2 ≤ (hI h b5 1) →
          hok h a0 0 ∧
          ∃ b8 : Nat, hR h a0 2 = some b8 ∧
          hok h b8 3 ∧
          (¬ p2 = (hI h b8 1) →
            hok h a0 0 ∧
            ∃ b11 : Nat, hR h a0 2 = some b11 ∧
            hok h b11 3 ∧
            ∃ b13 : Nat, hR h b11 4 = some b13 ∧
            hok h b13 24 ∧
            vp_in p1 (hN h b13) ∧
            ∃ b16 : Nat, hO h b13 p1 = some b16 ∧
            hok h b16 20 ∧
            vp_in p2 (hN h b16) ∧
            wp_X1_number_72 ev Qr Xr  a0 ((hA h b16 p2)) h MC MS) ∧
          (p2 = (hI h b8 1) →
            hok h a0 0 ∧
            ∃ b20 : Nat, hR h a0 2 = some b20 ∧
            hok h b20 3 ∧
            ∃ b22 : Nat, hR h b20 5 = some b22 ∧
            hok h b22 20 ∧
            vp_in p1 (hN h b22) ∧
            wp_X1_number_72 ev Qr Xr  a0 ((hA h b22 p1)) h MC MS)) ∧
        (¬ p2 ≤ (hI h b5 1) →
          wp_X1_number_30 ev Qr Xr  a0 h MC MS))))
def wp_X1_solvable_19 (ev : Nat → Nat) (Qr : Int32 → Hp → Prop) (Xr : String → Hp → Prop) (a0 : Nat) (u0 : Int32) (h : Hp) (mc ms : Nat) : Prop :=
  Qr u0 h
/-- LeastSolutions.solvable()I -/
def wp_X1_solvable (ev : Nat → Nat) (h : Hp) (a0 : Nat) (MC MS : Nat) (Qr : Int32 → Hp → Prop) (Xr : String → Hp → Prop) : Prop :=
  ∃ c1 d2 mc3 ms4 : Nat, MC = c1 + mc3 ∧ MS = d2 + ms4 ∧
  hok h a0 0 ∧
  wp_X1_needSystem ev h a0 c1 d2 (fun (h5 : Hp) =>
    hok h5 a0 0 ∧
    ∃ b9 : Nat, hR h5 a0 4 = some b9 ∧
    hok h5 b9 4 ∧
    ((hI h5 b9 4) = 0 →
      wp_X1_solvable_19 ev Qr Xr  a0 0 h5 mc3 ms4) ∧
    (¬ (hI h5 b9 4) = 0 →
      wp_X1_solvable_19 ev Qr Xr  a0 1 h5 mc3 ms4)) Xr
/-- LeastSolutions.kernel()I -/
def wp_X1_kernel (ev : Nat → Nat) (h : Hp) (a0 : Nat) (MC MS : Nat) (Qr : Int32 → Hp → Prop) (Xr : String → Hp → Prop) : Prop :=
  ∃ c1 d2 mc3 ms4 : Nat, MC = c1 + mc3 ∧ MS = d2 + ms4 ∧
  hok h a0 0 ∧
  wp_X1_needSystem ev h a0 c1 d2 (fun (h5 : Hp) =>
    hok h5 a0 0 ∧
    ∃ b9 : Nat, hR h5 a0 4 = some b9 ∧
    hok h5 b9 4 ∧
    wp_X5_dimension ev h5 b9 (fun (x11 : Int32) (h10 : Hp) =>
      Qr x11 h10)) Xr
def wp_X1_kernelAt_23 (ev : Nat → Nat) (Qr : Int64 → Hp → Prop) (Xr : String → Hp → Prop) (a0 : Nat) (h : Hp) (mc ms : Nat) : Prop :=
  ∃ mc1 ms2 : Nat, mc = 1 + mc1 ∧ ms = 6 + ms2 ∧
  Xr eIOB h
/-- LeastSolutions.kernelAt(II)J -/
def wp_X1_kernelAt (ev : Nat → Nat) (h : Hp) (a0 : Nat) (p1 : Int32) (p2 : Int32) (MC MS : Nat) (Qr : Int64 → Hp → Prop) (Xr : String → Hp → Prop) : Prop :=
  (p1 < 0 →
    wp_X1_kernelAt_23 ev Qr Xr  a0 h MC MS) ∧
  (¬ p1 < 0 →
    hok h a0 0 ∧
    ∃ b2 : Nat, hR h a0 4 = some b2 ∧
    hok h b2 4 ∧
    wp_X5_dimension ev h b2 (fun (x4 : Int32) (h3 : Hp) =>
      (x4 ≤ p1 →
        wp_X1_kernelAt_23 ev Qr Xr  a0 h3 MC MS) ∧
      (¬ x4 ≤ p1 →
        hok h3 a0 0 ∧
        wp_X1_isColumn ev h3 a0 p2 (fun (x8 : Int32) (h7 : Hp) =>
          (¬ x8 = 0 →
            hok h7 a0 0 ∧
            ∃ b12 : Nat, hR h7 a0 4 = some b12 ∧
            hok h7 b12 4 ∧
            wp_X5_kernelAt ev h7 b12 p1 p2 (fun (y14 : Int64) (h13 : Hp) =>
              Qr y14 h13)) ∧
          (x8 = 0 →
            wp_X1_kernelAt_23 ev Qr Xr  a0 h7 MC MS)))))
def wp_X1_at_54 (ev : Nat → Nat) (Qr : Int32 → Hp → Prop) (Xr : String → Hp → Prop) (a0 : Nat) (v1 : Int32) (v2 : Int32) (v3 : Int32) (u0 : Int32) (h : Hp) (mc ms : Nat) : Prop :=
  (¬ u0 = 0 →
    hok h a0 0 ∧
    ∃ b2 : Nat, hR h a0 7 = some b2 ∧
    hok h b2 27 ∧
    vp_in v1 (hN h b2) ∧
    ∃ b5 : Nat, hO h b2 v1 = some b5 ∧
    hok h b5 8 ∧
    ∃ b7 : Nat, hR h b5 0 = some b7 ∧
    hok h b7 6 ∧
    wp_X7_get ev h b7 v2 (fun (r9 : Option Nat) (h8 : Hp) =>
      (∀ b : Nat, r9 = some b → hok h8 b 10) ∧
      ∃ b13 : Nat, r9 = some b13 ∧
      hok h8 b13 10 ∧
      ∃ b15 : Nat, hR h8 b13 0 = some b15 ∧
      hok h8 b15 21 ∧
      vp_in v3 (hN h8 b15) ∧
      Qr (hA h8 b15 v3) h8)) ∧
  (u0 = 0 →
    ∃ mc18 ms19 : Nat, mc = 1 + mc18 ∧ ms = 6 + ms19 ∧
    Xr eIOB h)
def wp_X1_at_53 (ev : Nat → Nat) (Qr : Int32 → Hp → Prop) (Xr : String → Hp → Prop) (a0 : Nat) (v1 : Int32) (v2 : Int32) (v3 : Int32) (h : Hp) (mc ms : Nat) : Prop :=
  wp_X1_at_54 ev Qr Xr  a0 v1 v2 v3 0 h mc ms
/-- LeastSolutions.at(III)I -/
def wp_X1_at (ev : Nat → Nat) (h : Hp) (a0 : Nat) (p1 : Int32) (p2 : Int32) (p3 : Int32) (MC MS : Nat) (Qr : Int32 → Hp → Prop) (Xr : String → Hp → Prop) : Prop :=
  (p1 < 0 →
    wp_X1_at_53 ev Qr Xr  a0 p1 p2 p3 h MC MS) ∧
  (¬ p1 < 0 →
    (2 < p1 →
      wp_X1_at_53 ev Qr Xr  a0 p1 p2 p3 h MC MS) ∧
    (¬ 2 < p1 →
      hok h a0 0 ∧
      ∃ b2 : Nat, hR h a0 7 = some b2 ∧
      hok h b2 27 ∧
      vp_in p1 (hN h b2) ∧
      ∃ b5 : Nat, hO h b2 p1 = some b5 ∧
      hok h b5 8 ∧
      wp_X9_isThere ev h b5 (fun (x7 : Int32) (h6 : Hp) =>
        (x7 = 0 →
          wp_X1_at_53 ev Qr Xr  a0 p1 p2 p3 h6 MC MS) ∧
        (¬ x7 = 0 →
          (p2 < 0 →
            wp_X1_at_53 ev Qr Xr  a0 p1 p2 p3 h6 MC MS) ∧
          (¬ p2 < 0 →
            hok h6 a0 0 ∧
            ∃ b11 : Nat, hR h6 a0 7 = some b11 ∧
            hok h6 b11 27 ∧
            vp_in p1 (hN h6 b11) ∧
            ∃ b14 : Nat, hO h6 b11 p1 = some b14 ∧
            hok h6 b14 8 ∧
            ∃ b16 : Nat, hR h6 b14 0 = some b16 ∧
            hok h6 b16 6 ∧
            wp_X7_size ev h6 b16 (fun (x18 : Int32) (h17 : Hp) =>
              (x18 ≤ p2 →
                wp_X1_at_53 ev Qr Xr  a0 p1 p2 p3 h17 MC MS) ∧
              (¬ x18 ≤ p2 →
                hok h17 a0 0 ∧
                wp_X1_isColumn ev h17 a0 p3 (fun (x22 : Int32) (h21 : Hp) =>
                  (x22 = 0 →
                    wp_X1_at_53 ev Qr Xr  a0 p1 p2 p3 h21 MC MS) ∧
                  (¬ x22 = 0 →
                    wp_X1_at_54 ev Qr Xr  a0 p1 p2 p3 1 h21 MC MS)))))))))
/-- LeastSolutions.tell(II)V -/
def wp_X1_tell (ev : Nat → Nat) (h : Hp) (a0 : Nat) (p1 : Int32) (p2 : Int32) (MC MS : Nat) (Qr : Hp → Prop) (Xr : String → Hp → Prop) : Prop :=
  hok h a0 0 ∧
  wp_X1_isColumn ev h a0 p1 (fun (x2 : Int32) (h1 : Hp) =>
    (¬ x2 = 0 →
      ∃ c5 d6 mc7 ms8 : Nat, MC = c5 + mc7 ∧ MS = d6 + ms8 ∧
      wp_X1_needNumber ev h1 p2 c5 d6 (fun (h9 : Hp) =>
        hok h9 a0 0 ∧
        ∃ b12 : Nat, hR h9 a0 10 = some b12 ∧
        hok h9 b12 20 ∧
        vp_in p1 (hN h9 b12) ∧
        ∀ (h13 : Hp), h13 = uA h9 b12 p1 p2 →
        Qr h13) Xr) ∧
    (x2 = 0 →
      ∃ mc16 ms17 : Nat, MC = 1 + mc16 ∧ MS = 6 + ms17 ∧
      Xr eIOB h1))
def wp_X1_holds_192 (ev : Nat → Nat) (Qr : Int32 → Hp → Prop) (Xr : String → Hp → Prop) (a0 : Nat) (u0 : Int32) (u1 : Int32) (h : Hp) (mc ms : Nat) : Prop :=
  Qr (u0 + u1) h
def wp_X1_holds_182 (ev : Nat → Nat) (Qr : Int32 → Hp → Prop) (Xr : String → Hp → Prop) (a0 : Nat) (v3 : Int32) (u0 : Int32) (u1 : Int32) (h : Hp) (mc ms : Nat) : Prop :=
  (v3 = 0 →
    wp_X1_holds_192 ev Qr Xr  a0 ((u0 + u1)) 0 h mc ms) ∧
  (¬ v3 = 0 →
    wp_X1_holds_192 ev Qr Xr  a0 ((u0 + u1)) 4 h mc ms)
def wp_X1_holds_173 (ev : Nat → Nat) (Qr : Int32 → Hp → Prop) (Xr : String → Hp → Prop) (a0 : Nat) (v2 : Int32) (v3 : Int32) (u0 : Int32) (h : Hp) (mc ms : Nat) : Prop :=
  (v2 = 0 →
    wp_X1_holds_182 ev Qr Xr  a0 v3 u0 0 h mc ms) ∧
  (¬ v2 = 0 →
    wp_X1_holds_182 ev Qr Xr  a0 v3 u0 2 h mc ms)
def wp_X1_holds_156 (ev : Nat → Nat) (Qr : Int32 → Hp → Prop) (Xr : String → Hp → Prop) (K131 : Nat → Int32 → Int32 → Int32 → Nat → Int32 → Int32 → Hp → Nat → Nat → Prop) (a0 : Nat) (v1 : Int32) (v2 : Int32) (v4 : Nat) (v5 : Int32) (v6 : Int32) (u0 : Int32) (u1 : Int32) (h : Hp) (mc ms : Nat) : Prop :=
  ∀ (x1 : Int32), x1 = (u0 &&& u1) →
  ∀ (x2 : Int32), x2 = v6 + 1 →
  K131 a0 v1 v2 x1 v4 v5 x2 h mc ms
def wp_X1_holds_131 (ev : Nat → Nat) (Qr : Int32 → Hp → Prop) (Xr : String → Hp → Prop) : Nat → Nat → Int32 → Int32 → Int32 → Nat → Int32 → Int32 → Hp → Nat → Nat → Prop
  | 0, _, _, _, _, _, _, _, _, _, _ => False
  | n131 + 1, a0, v1, v2, v3, v4, v5, v6, h, mc, ms =>
    (v5 ≤ v6 →
      (v1 = 0 →
        wp_X1_holds_173 ev Qr Xr  a0 v2 v3 0 h mc ms) ∧
      (¬ v1 = 0 →
        wp_X1_holds_173 ev Qr Xr  a0 v2 v3 1 h mc ms)) ∧
    (¬ v5 ≤ v6 →
      hok h v4 20 ∧
      vp_in v6 (hN h v4) ∧
      ∀ (x3 : Int32), x3 = (hA h v4 v6) →
      (x3 < 0 →
        wp_X1_holds_156 ev Qr Xr (wp_X1_holds_131 ev Qr Xr n131) a0 v1 v2 v4 v5 v6 v3 0 h mc ms) ∧
      (¬ x3 < 0 →
        wp_X1_holds_156 ev Qr Xr (wp_X1_holds_131 ev Qr Xr n131) a0 v1 v2 v4 v5 v6 v3 1 h mc ms))
def wp_X1_holds_109 (ev : Nat → Nat) (Qr : Int32 → Hp → Prop) (Xr : String → Hp → Prop) (K13 : Nat → Int32 → Int32 → Int32 → Int32 → Hp → Nat → Nat → Prop) (a0 : Nat) (v1 : Int32) (v3 : Int32) (v4 : Int32) (u0 : Int32) (u1 : Int32) (h : Hp) (mc ms : Nat) : Prop :=
  ∀ (x1 : Int32), x1 = (u0 &&& u1) →
  ∀ (x2 : Int32), x2 = v4 + 1 →
  K13 a0 v1 x1 v3 x2 h mc ms
def wp_X1_holds_96 (ev : Nat → Nat) (Qr : Int32 → Hp → Prop) (Xr : String → Hp → Prop) (K13 : Nat → Int32 → Int32 → Int32 → Int32 → Hp → Nat → Nat → Prop) (a0 : Nat) (v2 : Int32) (v3 : Int32) (v4 : Int32) (v5 : Int32) (u0 : Int32) (u1 : Int32) (h : Hp) (mc ms : Nat) : Prop :=
  ∀ (x1 : Int32), x1 = (u0 &&& u1) →
  (¬ v5 = 0 →
    wp_X1_holds_109 ev Qr Xr K13 a0 x1 v3 v4 v2 0 h mc ms) ∧
  (v5 = 0 →
    wp_X1_holds_109 ev Qr Xr K13 a0 x1 v3 v4 v2 1 h mc ms)
def wp_X1_holds_31 (ev : Nat → Nat) (Qr : Int32 → Hp → Prop) (Xr : String → Hp → Prop) (K13 : Nat → Int32 → Int32 → Int32 → Int32 → Hp → Nat → Nat → Prop) : Nat → Nat → Int32 → Int32 → Int32 → Int32 → Int32 → Int32 → Hp → Nat → Nat → Prop
  | 0, _, _, _, _, _, _, _, _, _, _ => False
  | n31 + 1, a0, v1, v2, v3, v4, v5, v6, h, mc, ms =>
    hok h a0 0 ∧
    ∃ b2 : Nat, hR h a0 2 = some b2 ∧
    hok h b2 3 ∧
    ((hI h b2 1) ≤ v6 →
      hok h a0 0 ∧
      ∃ b5 : Nat, hR h a0 2 = some b5 ∧
      hok h b5 3 ∧
      ∃ b7 : Nat, hR h b5 5 = some b7 ∧
      hok h b7 20 ∧
      vp_in v4 (hN h b7) ∧
      (¬ v5 = (hA h b7 v4) →
        wp_X1_holds_96 ev Qr Xr K13 a0 v2 v3 v4 v5 v1 0 h mc ms) ∧
      (v5 = (hA h b7 v4) →
        wp_X1_holds_96 ev Qr Xr K13 a0 v2 v3 v4 v5 v1 1 h mc ms)) ∧
    (¬ (hI h b2 1) ≤ v6 →
      hok h a0 0 ∧
      ∃ b11 : Nat, hR h a0 2 = some b11 ∧
      hok h b11 3 ∧
      ∃ b13 : Nat, hR h b11 4 = some b13 ∧
      hok h b13 24 ∧
      vp_in v4 (hN h b13) ∧
      ∃ b16 : Nat, hO h b13 v4 = some b16 ∧
      hok h b16 20 ∧
      vp_in v6 (hN h b16) ∧
      hok h a0 0 ∧
      ∃ b20 : Nat, hR h a0 10 = some b20 ∧
      hok h b20 20 ∧
      vp_in v6 (hN h b20) ∧
      ∀ (x23 : Int32), x23 = (v5 + ((hA h b16 v6) * (hA h b20 v6))) →
      ∀ (x24 : Int32), x24 = v6 + 1 →
      wp_X1_holds_31 ev Qr Xr K13 n31 a0 v1 v2 v3 v4 x23 x24 h mc ms)
def wp_X1_holds_13 (ev : Nat → Nat) (Qr : Int32 → Hp → Prop) (Xr : String → Hp → Prop) : Nat → Nat → Int32 → Int32 → Int32 → Int32 → Hp → Nat → Nat → Prop
  | 0, _, _, _, _, _, _, _, _ => False
  | n13 + 1, a0, v1, v2, v3, v4, h, mc, ms =>
    hok h a0 0 ∧
    ∃ b2 : Nat, hR h a0 2 = some b2 ∧
    hok h b2 3 ∧
    ((hI h b2 0) ≤ v4 →
      hok h a0 0 ∧
      ∃ b5 : Nat, hR h a0 10 = some b5 ∧
      hok h b5 20 ∧
      ∀ (x7 : Int32), x7 = (nI (hN h b5)) →
      ∃ n131, wp_X1_holds_131 ev Qr Xr  n131 a0 v1 v2 v3 b5 x7 0 h mc ms) ∧
    (¬ (hI h b2 0) ≤ v4 →
      ∃ n31, wp_X1_holds_31 ev Qr Xr (wp_X1_holds_13 ev Qr Xr n13) n31 a0 v1 v2 v3 v4 0 0 h mc ms)
/-- LeastSolutions.holds()I -/
def wp_X1_holds (ev : Nat → Nat) (h : Hp) (a0 : Nat) (MC MS : Nat) (Qr : Int32 → Hp → Prop) (Xr : String → Hp → Prop) : Prop :=
  ∃ c1 d2 mc3 ms4 : Nat, MC = c1 + mc3 ∧ MS = d2 + ms4 ∧
  hok h a0 0 ∧
  wp_X1_needSystem ev h a0 c1 d2 (fun (h5 : Hp) =>
    ∃ n13, wp_X1_holds_13 ev Qr Xr  n13 a0 1 1 1 0 h5 mc3 ms4) Xr
/-- LeastSolutions.cost(II)V -/
def wp_X1_cost (ev : Nat → Nat) (h : Hp) (a0 : Nat) (p1 : Int32) (p2 : Int32) (MC MS : Nat) (Qr : Hp → Prop) (Xr : String → Hp → Prop) : Prop :=
  hok h a0 0 ∧
  wp_X1_isColumn ev h a0 p1 (fun (x2 : Int32) (h1 : Hp) =>
    (¬ x2 = 0 →
      ∃ c5 d6 mc7 ms8 : Nat, MC = c5 + mc7 ∧ MS = d6 + ms8 ∧
      wp_X1_needNumber ev h1 p2 c5 d6 (fun (h9 : Hp) =>
        hok h9 a0 0 ∧
        ∃ b12 : Nat, hR h9 a0 6 = some b12 ∧
        hok h9 b12 7 ∧
        ∃ b14 : Nat, hR h9 b12 1 = some b14 ∧
        hok h9 b14 20 ∧
        vp_in p1 (hN h9 b14) ∧
        ∀ (h15 : Hp), h15 = uA h9 b14 p1 p2 →
        Qr h15) Xr) ∧
    (x2 = 0 →
      ∃ mc18 ms19 : Nat, MC = 1 + mc18 ∧ MS = 6 + ms19 ∧
      Xr eIOB h1))
def wp_X1_best_10 (ev : Nat → Nat) (Qr : Int32 → Hp → Prop) (Xr : String → Hp → Prop) (a0 : Nat) (h : Hp) (mc ms : Nat) : Prop :=
  ∃ mc1 ms2 : Nat, mc = 1 + mc1 ∧ ms = 6 + ms2 ∧
  Xr eIAE h
/-- LeastSolutions.best(I)I -/
def wp_X1_best (ev : Nat → Nat) (h : Hp) (a0 : Nat) (p1 : Int32) (MC MS : Nat) (Qr : Int32 → Hp → Prop) (Xr : String → Hp → Prop) : Prop :=
  (p1 < 0 →
    wp_X1_best_10 ev Qr Xr  a0 h MC MS) ∧
  (¬ p1 < 0 →
    (p1 ≤ 16 →
      ∃ c1 d2 mc3 ms4 : Nat, MC = c1 + mc3 ∧ MS = d2 + ms4 ∧
      hok h a0 0 ∧
      wp_X1_needSystem ev h a0 c1 d2 (fun (h5 : Hp) =>
        hok h5 a0 0 ∧
        ∃ b9 : Nat, hR h5 a0 6 = some b9 ∧
        hok h5 a0 0 ∧
        ∃ b11 : Nat, hR h5 a0 2 = some b11 ∧
        hok h5 b9 7 ∧
        wp_X8_work ev h5 b9 b11 p1 (fun (x13 : Int32) (h12 : Hp) =>
          (¬ x13 = 0 →
            hok h12 a0 0 ∧
            ∀ (h16 : Hp), h16 = uI h12 a0 13 1 →
            hok h16 a0 0 ∧
            ∃ b19 : Nat, hR h16 a0 6 = some b19 ∧
            hok h16 b19 7 ∧
            Qr (hI h16 b19 4) h16) ∧
          (x13 = 0 →
            ∃ mc21 ms22 : Nat, mc3 = 1 + mc21 ∧ ms4 = 6 + ms22 ∧
            Xr eNSE h12))) Xr) ∧
    (¬ p1 ≤ 16 →
      wp_X1_best_10 ev Qr Xr  a0 h MC MS))
def wp_X1_work_119 (ev : Nat → Nat) (Qr : Int32 → Hp → Prop) (Xr : String → Hp → Prop) (a0 : Nat) (v2 : Int32) (v4 : Nat) (u0 : Int32) (h : Hp) (mc ms : Nat) : Prop :=
  (¬ u0 = 0 →
    hok h v4 8 ∧
    ∀ (h1 : Hp), h1 = uI h v4 1 v2 →
    hok h1 v4 8 ∧
    ∃ b4 : Nat, hR h1 v4 0 = some b4 ∧
    hok h1 b4 6 ∧
    wp_X7_size ev h1 b4 (fun (x6 : Int32) (h5 : Hp) =>
      Qr x6 h5)) ∧
  (u0 = 0 →
    ∃ c9 d10 mc11 ms12 : Nat, mc = c9 + mc11 ∧ ms = d10 + ms12 ∧
    hok h v4 8 ∧
    wp_X9_clear ev h v4 c9 d10 (fun (h13 : Hp) =>
      Qr (-1) h13))
def wp_X1_work_79 (ev : Nat → Nat) (Qr : Int32 → Hp → Prop) (Xr : String → Hp → Prop) (a0 : Nat) (v1 : Int32) (v2 : Int32) (v4 : Nat) (u0 : Nat) (u1 : Int32) (u2 : Int32) (h : Hp) (mc ms : Nat) : Prop :=
  hok h u0 0 ∧
  isB (u1 &&& u2) ∧
  ∀ (h1 : Hp), h1 = uI h u0 12 (u1 &&& u2) →
  (¬ v1 = 0 →
    (¬ v1 = 1 →
      ∃ c4 d5 mc6 ms7 : Nat, mc = c4 + mc6 ∧ ms = d5 + ms7 ∧
      hok h1 a0 0 ∧
      wp_X1_signed ev h1 a0 v4 v2 c4 d5 (fun (x9 : Int32) (h8 : Hp) =>
        wp_X1_work_119 ev Qr Xr  a0 v2 v4 x9 h8 mc6 ms7)) ∧
    (v1 = 1 →
      ∃ c12 d13 mc14 ms15 : Nat, mc = c12 + mc14 ∧ ms = d13 + ms15 ∧
      hok h1 a0 0 ∧
      wp_X1_least ev h1 a0 v4 v2 c12 d13 (fun (x17 : Int32) (h16 : Hp) =>
        wp_X1_work_119 ev Qr Xr  a0 v2 v4 x17 h16 mc14 ms15))) ∧
  (v1 = 0 →
    ∃ c20 d21 mc22 ms23 : Nat, mc = c20 + mc22 ∧ ms = d21 + ms23 ∧
    hok h1 a0 0 ∧
    wp_X1_summands ev h1 a0 v4 v2 c20 d21 (fun (x25 : Int32) (h24 : Hp) =>
      wp_X1_work_119 ev Qr Xr  a0 v2 v4 x25 h24 mc22 ms23))
def wp_X1_work_34 (ev : Nat → Nat) (Qr : Int32 → Hp → Prop) (Xr : String → Hp → Prop) (a0 : Nat) (v1 : Int32) (v2 : Int32) (u0 : Int32) (h : Hp) (mc ms : Nat) : Prop :=
  (¬ u0 = 0 →
    ∃ c1 d2 mc3 ms4 : Nat, mc = c1 + mc3 ∧ ms = d2 + ms4 ∧
    hok h a0 0 ∧
    wp_X1_needSystem ev h a0 c1 d2 (fun (h5 : Hp) =>
      hok h5 a0 0 ∧
      ∃ b9 : Nat, hR h5 a0 7 = some b9 ∧
      hok h5 b9 27 ∧
      vp_in v1 (hN h5 b9) ∧
      ∃ b12 : Nat, hO h5 b9 v1 = some b12 ∧
      ∃ c13 d14 mc15 ms16 : Nat, mc3 = c13 + mc15 ∧ ms4 = d14 + ms16 ∧
      hok h5 b12 8 ∧
      wp_X9_clear ev h5 b12 c13 d14 (fun (h17 : Hp) =>
        hok h17 a0 0 ∧
        (¬ v1 = 2 →
          wp_X1_work_79 ev Qr Xr  a0 v1 v2 b12 a0 ((hI h17 a0 12)) 0 h17 mc15 ms16) ∧
        (v1 = 2 →
          wp_X1_work_79 ev Qr Xr  a0 v1 v2 b12 a0 ((hI h17 a0 12)) 1 h17 mc15 ms16))) Xr) ∧
  (u0 = 0 →
    ∃ mc21 ms22 : Nat, mc = 1 + mc21 ∧ ms = 6 + ms22 ∧
    Xr eIAE h)
def wp_X1_work_33 (ev : Nat → Nat) (Qr : Int32 → Hp → Prop) (Xr : String → Hp → Prop) (a0 : Nat) (v1 : Int32) (v2 : Int32) (h : Hp) (mc ms : Nat) : Prop :=
  wp_X1_work_34 ev Qr Xr  a0 v1 v2 0 h mc ms
def wp_X1_work_26 (ev : Nat → Nat) (Qr : Int32 → Hp → Prop) (Xr : String → Hp → Prop) (a0 : Nat) (v1 : Int32) (v2 : Int32) (u0 : Int32) (u1 : Int32) (h : Hp) (mc ms : Nat) : Prop :=
  (u1 < u0 →
    wp_X1_work_33 ev Qr Xr  a0 v1 v2 h mc ms) ∧
  (¬ u1 < u0 →
    wp_X1_work_34 ev Qr Xr  a0 v1 v2 1 h mc ms)
/-- LeastSolutions.work(II)I -/
def wp_X1_work (ev : Nat → Nat) (h : Hp) (a0 : Nat) (p1 : Int32) (p2 : Int32) (MC MS : Nat) (Qr : Int32 → Hp → Prop) (Xr : String → Hp → Prop) : Prop :=
  (p1 < 0 →
    wp_X1_work_33 ev Qr Xr  a0 p1 p2 h MC MS) ∧
  (¬ p1 < 0 →
    (2 < p1 →
      wp_X1_work_33 ev Qr Xr  a0 p1 p2 h MC MS) ∧
    (¬ 2 < p1 →
      (p2 < 0 →
        wp_X1_work_33 ev Qr Xr  a0 p1 p2 h MC MS) ∧
      (¬ p2 < 0 →
        (¬ p1 = 2 →
          wp_X1_work_26 ev Qr Xr  a0 p1 p2 p2 16 h MC MS) ∧
        (p1 = 2 →
          wp_X1_work_26 ev Qr Xr  a0 p1 p2 p2 10 h MC MS))))
