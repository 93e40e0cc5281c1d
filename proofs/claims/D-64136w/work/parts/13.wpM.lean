set_option maxRecDepth 100000
/-- public int thrown(); -/
def wp_thrown (σ : St) (Qr : Int32 → St → Prop) : Prop :=
  Qr (gI σ 0) σ
def wp_type_105 (Qr : Int32 → St → Prop) : Nat → Int64 → Int32 → St → Prop
  | 0, _, _, _ => False
  | n105 + 1, v1, v5, σ =>
    (v5 < 0 →
      Qr (gI σ 2) σ) ∧
    (¬ v5 < 0 →
      vp_in (gI σ 2) 300 ∧
      ∀ (σ1 : St), σ1 = sA σ 1 (gI σ 2) ((((v1 >>> ((8 * v5).toInt64 &&& 63)) &&& 255)).toInt32) →
      ∀ (σ2 : St), σ2 = sI σ1 2 ((gI σ1 2) + 1) →
      ∀ (x3 : Int32), x3 = v5 + (-1) →
      wp_type_105 Qr n105 v1 x3 σ2)
def wp_type_93 (Qr : Int32 → St → Prop) (v1 : Int64) (v3 : Int32) (v4 : Int32) (σ : St) : Prop :=
  (¬ v4 = 0 →
    ∀ (x1 : Int32), x1 = (v3 - 1) →
    ∃ n105, wp_type_105 Qr  n105 v1 x1 σ) ∧
  (v4 = 0 →
    Qr (-1) σ)
def wp_type_85 (Qr : Int32 → St → Prop) (K38 : Int64 → Int32 → Int32 → Int32 → St → Prop) (v1 : Int64) (v3 : Int32) (v5 : Int32) (u0 : Int32) (σ : St) : Prop :=
  ∀ (x1 : Int32), x1 = v5 + 1 →
  K38 v1 v3 u0 x1 σ
def wp_type_84 (Qr : Int32 → St → Prop) (K38 : Int64 → Int32 → Int32 → Int32 → St → Prop) (v1 : Int64) (v3 : Int32) (v5 : Int32) (σ : St) : Prop :=
  wp_type_85 Qr K38 v1 v3 v5 0 σ
def wp_type_38 (Qr : Int32 → St → Prop) : Nat → Int64 → Int32 → Int32 → Int32 → St → Prop
  | 0, _, _, _, _, _ => False
  | n38 + 1, v1, v3, v4, v5, σ =>
    (v4 = 0 →
      wp_type_93 Qr  v1 v3 v4 σ) ∧
    (¬ v4 = 0 →
      (v3 ≤ v5 →
        wp_type_93 Qr  v1 v3 v4 σ) ∧
      (¬ v3 ≤ v5 →
        ∀ (y1 : Int64), y1 = ((v1 >>> ((8 * v5).toInt64 &&& 63)) &&& 255) →
        ((lg_cmp y1 32) < 0 →
          wp_type_84 Qr (wp_type_38 Qr n38) v1 v3 v5 σ) ∧
        (¬ (lg_cmp y1 32) < 0 →
          (0 < (lg_cmp y1 126) →
            wp_type_84 Qr (wp_type_38 Qr n38) v1 v3 v5 σ) ∧
          (¬ 0 < (lg_cmp y1 126) →
            wp_type_85 Qr (wp_type_38 Qr n38) v1 v3 v5 1 σ))))
def wp_type_33 (Qr : Int32 → St → Prop) (v1 : Int64) (v3 : Int32) (u0 : Int32) (σ : St) : Prop :=
  ∃ n38, wp_type_38 Qr  n38 v1 v3 u0 0 σ
def wp_type_32 (Qr : Int32 → St → Prop) (v1 : Int64) (v3 : Int32) (σ : St) : Prop :=
  wp_type_33 Qr  v1 v3 0 σ
/-- public int type(long, int); -/
def wp_type (p1 : Int64) (p3 : Int32) (σ : St) (Qr : Int32 → St → Prop) : Prop :=
  ∀ (σ1 : St), σ1 = sI σ 0 0 →
  (p3 < 1 →
    wp_type_32 Qr  p1 p3 σ1) ∧
  (¬ p3 < 1 →
    (8 < p3 →
      wp_type_32 Qr  p1 p3 σ1) ∧
    (¬ 8 < p3 →
      (300 < ((gI σ1 2) + p3) →
        wp_type_32 Qr  p1 p3 σ1) ∧
      (¬ 300 < ((gI σ1 2) + p3) →
        wp_type_33 Qr  p1 p3 1 σ1)))
def wp_letter0_18 (Qr : Int32 → St → Prop) (u0 : Int32) (σ : St) : Prop :=
  Qr u0 σ
/-- private int letter0(int); -/
def wp_letter0 (p1 : Int32) (σ : St) (Qr : Int32 → St → Prop) : Prop :=
  ((gI σ 2) ≤ p1 →
    wp_letter0_18 Qr  0 σ) ∧
  (¬ (gI σ 2) ≤ p1 →
    vp_in p1 300 ∧
    wp_letter0_18 Qr  ((gA σ 1 p1)) σ)
/-- private void word(int, int, int); -/
def wp_word (p1 : Int32) (p2 : Int32) (p3 : Int32) (σ : St) (Qr : St → Prop) : Prop :=
  vp_in (gI σ 7) 301 ∧
  ∀ (σ1 : St), σ1 = sA σ 4 (gI σ 7) p1 →
  vp_in (gI σ1 7) 301 ∧
  ∀ (σ2 : St), σ2 = sA σ1 5 (gI σ1 7) p2 →
  vp_in (gI σ2 7) 301 ∧
  ∀ (σ3 : St), σ3 = sA σ2 6 (gI σ2 7) p3 →
  ∀ (σ4 : St), σ4 = sI σ3 7 ((gI σ3 7) + 1) →
  Qr σ4
def wp_cut_309 (Qr : St → Prop) (σ : St) : Prop :=
  Qr σ
def wp_cut_295 (Qr : St → Prop) (v2 : Int32) (σ : St) : Prop :=
  (v2 = 0 →
    wp_cut_309 Qr   σ) ∧
  (¬ v2 = 0 →
    wp_word 0 (gI σ 2) 0 σ (fun (σ1 : St) =>
      wp_cut_309 Qr   σ1))
def wp_cut_289 (Qr : St → Prop) (K9 : Int32 → Int32 → St → Prop) (v2 : Int32) (v4 : Int32) (σ : St) : Prop :=
  K9 v4 v2 σ
def wp_cut_288 (Qr : St → Prop) (K9 : Int32 → Int32 → St → Prop) (v4 : Int32) (u0 : Int32) (σ : St) : Prop :=
  wp_cut_289 Qr K9 u0 v4 σ
def wp_cut_261 (Qr : St → Prop) (K9 : Int32 → Int32 → St → Prop) (v1 : Int32) (v2 : Int32) (v3 : Int32) (v4 : Int32) (v5 : Int32) (v6 : Int32) (σ : St) : Prop :=
  (v3 = 32 →
    wp_cut_289 Qr K9 v2 v4 σ) ∧
  (¬ v3 = 32 →
    wp_word v6 v1 v5 σ (fun (σ1 : St) =>
      (v6 = 10 →
        wp_cut_288 Qr K9 v4 0 σ1) ∧
      (¬ v6 = 10 →
        wp_cut_288 Qr K9 v4 1 σ1)))
def wp_cut_259 (Qr : St → Prop) (K9 : Int32 → Int32 → St → Prop) (v1 : Int32) (v2 : Int32) (v3 : Int32) (v4 : Int32) (v5 : Int32) (u0 : Int32) (σ : St) : Prop :=
  wp_cut_261 Qr K9 v1 v2 v3 v4 v5 u0 σ
def wp_cut_195 (Qr : St → Prop) (K9 : Int32 → Int32 → St → Prop) (v1 : Int32) (v2 : Int32) (v3 : Int32) (v5 : Int32) (u0 : Int32) (σ : St) : Prop :=
  ∀ (x1 : Int32), x1 = (v1 + 2) →
  wp_cut_261 Qr K9 v1 v2 v3 x1 v5 u0 σ
def wp_cut_165 (Qr : St → Prop) (K9 : Int32 → Int32 → St → Prop) (v1 : Int32) (v2 : Int32) (v3 : Int32) (v5 : Int32) (σ : St) : Prop :=
  wp_letter0 (v1 + 1) σ (fun (x2 : Int32) (σ1 : St) =>
    (¬ x2 = 61 →
      wp_cut_195 Qr K9 v1 v2 v3 v5 10 σ1) ∧
    (x2 = 61 →
      (¬ v3 = 60 →
        wp_cut_195 Qr K9 v1 v2 v3 v5 9 σ1) ∧
      (v3 = 60 →
        wp_cut_195 Qr K9 v1 v2 v3 v5 8 σ1)))
def wp_cut_153 (Qr : St → Prop) (K9 : Int32 → Int32 → St → Prop) (v1 : Int32) (v2 : Int32) (v3 : Int32) (v4 : Int32) (v5 : Int32) (σ : St) : Prop :=
  (v3 = 60 →
    wp_cut_165 Qr K9 v1 v2 v3 v5 σ) ∧
  (¬ v3 = 60 →
    (¬ v3 = 62 →
      (¬ v3 = 43 →
        (¬ v3 = 45 →
          (¬ v3 = 42 →
            (¬ v3 = 59 →
              (¬ v3 = 61 →
                wp_cut_259 Qr K9 v1 v2 v3 v4 v5 10 σ) ∧
              (v3 = 61 →
                wp_cut_259 Qr K9 v1 v2 v3 v4 v5 7 σ)) ∧
            (v3 = 59 →
              wp_cut_259 Qr K9 v1 v2 v3 v4 v5 6 σ)) ∧
          (v3 = 42 →
            wp_cut_259 Qr K9 v1 v2 v3 v4 v5 5 σ)) ∧
        (v3 = 45 →
          wp_cut_259 Qr K9 v1 v2 v3 v4 v5 4 σ)) ∧
      (v3 = 43 →
        wp_cut_259 Qr K9 v1 v2 v3 v4 v5 3 σ)) ∧
    (v3 = 62 →
      wp_cut_165 Qr K9 v1 v2 v3 v5 σ))
def wp_cut_132 (Qr : St → Prop) (K9 : Int32 → Int32 → St → Prop) (v1 : Int32) (v2 : Int32) (v3 : Int32) (v4 : Int32) (v5 : Int32) (σ : St) : Prop :=
  (v3 < 97 →
    wp_cut_153 Qr K9 v1 v2 v3 v4 v5 σ) ∧
  (¬ v3 < 97 →
    (122 < v3 →
      wp_cut_153 Qr K9 v1 v2 v3 v4 v5 σ) ∧
    (¬ 122 < v3 →
      wp_cut_261 Qr K9 v1 v2 v3 v4 v3 2 σ))
def wp_cut_127 (Qr : St → Prop) (K9 : Int32 → Int32 → St → Prop) (v1 : Int32) (v2 : Int32) (v3 : Int32) (v4 : Int32) (v5 : Int32) (u0 : Int32) (σ : St) : Prop :=
  wp_cut_261 Qr K9 v1 v2 v3 v4 v5 u0 σ
def wp_cut_113 (Qr : St → Prop) (K9 : Int32 → Int32 → St → Prop) (v1 : Int32) (v2 : Int32) (v3 : Int32) (v4 : Int32) (v5 : Int32) (σ : St) : Prop :=
  ((v4 - v1) ≤ 4 →
    wp_cut_127 Qr K9 v1 v2 v3 v4 v5 1 σ) ∧
  (¬ (v4 - v1) ≤ 4 →
    wp_cut_127 Qr K9 v1 v2 v3 v4 v5 10 σ)
def wp_cut_105 (Qr : St → Prop) (K9 : Int32 → Int32 → St → Prop) (K55 : Int32 → Int32 → Int32 → Int32 → Int32 → St → Prop) (v1 : Int32) (v2 : Int32) (v3 : Int32) (v4 : Int32) (u0 : Int32) (σ : St) : Prop :=
  ∀ (x1 : Int32), x1 = v4 + 1 →
  K55 v1 v2 v3 x1 u0 σ
def wp_cut_55 (Qr : St → Prop) (K9 : Int32 → Int32 → St → Prop) : Nat → Int32 → Int32 → Int32 → Int32 → Int32 → St → Prop
  | 0, _, _, _, _, _, _ => False
  | n55 + 1, v1, v2, v3, v4, v5, σ =>
    wp_letter0 v4 σ (fun (x2 : Int32) (σ1 : St) =>
      (x2 < 48 →
        wp_cut_113 Qr K9 v1 v2 v3 v4 v5 σ1) ∧
      (¬ x2 < 48 →
        wp_letter0 v4 σ1 (fun (x4 : Int32) (σ3 : St) =>
          (57 < x4 →
            wp_cut_113 Qr K9 v1 v2 v3 v4 v5 σ3) ∧
          (¬ 57 < x4 →
            (5 ≤ (v4 - v1) →
              wp_cut_105 Qr K9 (wp_cut_55 Qr K9 n55) v1 v2 v3 v4 v5 σ3) ∧
            (¬ 5 ≤ (v4 - v1) →
              wp_letter0 v4 σ3 (fun (x6 : Int32) (σ5 : St) =>
                wp_cut_105 Qr K9 (wp_cut_55 Qr K9 n55) v1 v2 v3 v4 ((((10 * v5) + x6) - 48)) σ5))))))
def wp_cut_9 (Qr : St → Prop) : Nat → Int32 → Int32 → St → Prop
  | 0, _, _, _ => False
  | n9 + 1, v1, v2, σ =>
    (v2 = 0 →
      wp_cut_295 Qr  v2 σ) ∧
    (¬ v2 = 0 →
      ((gI σ 2) ≤ v1 →
        wp_cut_295 Qr  v2 σ) ∧
      (¬ (gI σ 2) ≤ v1 →
        vp_in v1 300 ∧
        ∀ (x1 : Int32), x1 = (gA σ 1 v1) →
        ∀ (x2 : Int32), x2 = (v1 + 1) →
        (x1 < 48 →
          wp_cut_132 Qr (wp_cut_9 Qr n9) v1 v2 x1 x2 0 σ) ∧
        (¬ x1 < 48 →
          (57 < x1 →
            wp_cut_132 Qr (wp_cut_9 Qr n9) v1 v2 x1 x2 0 σ) ∧
          (¬ 57 < x1 →
            ∃ n55, wp_cut_55 Qr (wp_cut_9 Qr n9) n55 v1 v2 x1 v1 0 σ))))
/-- private void cut(); -/
def wp_cut (σ : St) (Qr : St → Prop) : Prop :=
  ∀ (σ1 : St), σ1 = sI σ 7 0 →
  ∃ n9, wp_cut_9 Qr  n9 0 1 σ1
def wp_bad_203 (Qr : Int32 → St → Prop) (K6 : Int32 → Int32 → Int32 → St → Prop) (v1 : Int32) (v2 : Int32) (v3 : Int32) (σ : St) : Prop :=
  ∀ (x1 : Int32), x1 = v3 + 1 →
  K6 v1 v2 x1 σ
def wp_bad_201 (Qr : Int32 → St → Prop) (v3 : Int32) (σ : St) : Prop :=
  Qr v3 σ
def wp_bad_187 (Qr : Int32 → St → Prop) (K6 : Int32 → Int32 → Int32 → St → Prop) (v1 : Int32) (v2 : Int32) (v3 : Int32) (v4 : Int32) (v5 : Int32) (σ : St) : Prop :=
  (v5 = 0 →
    wp_bad_201 Qr  v3 σ) ∧
  (¬ v5 = 0 →
    (v2 = 0 →
      wp_bad_201 Qr  v3 σ) ∧
    (¬ v2 = 0 →
      (v4 = 0 →
        wp_bad_203 Qr K6 v1 v2 v3 σ) ∧
      (¬ v4 = 0 →
        wp_bad_201 Qr  v3 σ)))
def wp_bad_164 (Qr : Int32 → St → Prop) (K6 : Int32 → Int32 → Int32 → St → Prop) (v1 : Int32) (v2 : Int32) (v3 : Int32) (v4 : Int32) (v5 : Int32) (σ : St) : Prop :=
  (v5 = 0 →
    wp_bad_187 Qr K6 v1 v2 v3 v4 v5 σ) ∧
  (¬ v5 = 0 →
    (v2 = 0 →
      wp_bad_187 Qr K6 v1 v2 v3 v4 v5 σ) ∧
    (¬ v2 = 0 →
      (¬ v4 = 6 →
        wp_bad_187 Qr K6 v1 v2 v3 v4 v5 σ) ∧
      (v4 = 6 →
        wp_bad_203 Qr K6 0 0 v3 σ)))
def wp_bad_134 (Qr : Int32 → St → Prop) (K6 : Int32 → Int32 → Int32 → St → Prop) (v1 : Int32) (v2 : Int32) (v3 : Int32) (v4 : Int32) (v5 : Int32) (σ : St) : Prop :=
  (v5 = 0 →
    wp_bad_164 Qr K6 v1 v2 v3 v4 v5 σ) ∧
  (¬ v5 = 0 →
    (¬ v2 = 0 →
      wp_bad_164 Qr K6 v1 v2 v3 v4 v5 σ) ∧
    (v2 = 0 →
      (v4 < 7 →
        wp_bad_164 Qr K6 v1 v2 v3 v4 v5 σ) ∧
      (¬ v4 < 7 →
        (9 < v4 →
          wp_bad_164 Qr K6 v1 v2 v3 v4 v5 σ) ∧
        (¬ 9 < v4 →
          wp_bad_203 Qr K6 0 1 v3 σ))))
def wp_bad_129 (Qr : Int32 → St → Prop) (K6 : Int32 → Int32 → Int32 → St → Prop) (v2 : Int32) (v3 : Int32) (σ : St) : Prop :=
  wp_bad_203 Qr K6 1 v2 v3 σ
def wp_bad_112 (Qr : Int32 → St → Prop) (K6 : Int32 → Int32 → Int32 → St → Prop) (v1 : Int32) (v2 : Int32) (v3 : Int32) (v4 : Int32) (v5 : Int32) (σ : St) : Prop :=
  (v5 = 0 →
    wp_bad_134 Qr K6 v1 v2 v3 v4 v5 σ) ∧
  (¬ v5 = 0 →
    (v4 = 3 →
      wp_bad_129 Qr K6 v2 v3 σ) ∧
    (¬ v4 = 3 →
      (¬ v4 = 4 →
        wp_bad_134 Qr K6 v1 v2 v3 v4 v5 σ) ∧
      (v4 = 4 →
        wp_bad_129 Qr K6 v2 v3 σ)))
def wp_bad_96 (Qr : Int32 → St → Prop) (K6 : Int32 → Int32 → Int32 → St → Prop) (v1 : Int32) (v2 : Int32) (v3 : Int32) (v4 : Int32) (v5 : Int32) (σ : St) : Prop :=
  (¬ v1 = 2 →
    wp_bad_112 Qr K6 v1 v2 v3 v4 v5 σ) ∧
  (v1 = 2 →
    (¬ v4 = 5 →
      wp_bad_112 Qr K6 v1 v2 v3 v4 v5 σ) ∧
    (v4 = 5 →
      wp_bad_203 Qr K6 3 v2 v3 σ))
def wp_bad_81 (Qr : Int32 → St → Prop) (K6 : Int32 → Int32 → Int32 → St → Prop) (v1 : Int32) (v2 : Int32) (v3 : Int32) (v4 : Int32) (v5 : Int32) (σ : St) : Prop :=
  (¬ v1 = 0 →
    wp_bad_96 Qr K6 v1 v2 v3 v4 v5 σ) ∧
  (v1 = 0 →
    (¬ v4 = 4 →
      wp_bad_96 Qr K6 v1 v2 v3 v4 v5 σ) ∧
    (v4 = 4 →
      wp_bad_203 Qr K6 1 v2 v3 σ))
def wp_bad_70 (Qr : Int32 → St → Prop) (K6 : Int32 → Int32 → Int32 → St → Prop) (v1 : Int32) (v2 : Int32) (v3 : Int32) (v4 : Int32) (v5 : Int32) (σ : St) : Prop :=
  (¬ v4 = 2 →
    wp_bad_81 Qr K6 v1 v2 v3 v4 v5 σ) ∧
  (v4 = 2 →
    wp_bad_203 Qr K6 4 v2 v3 σ)
def wp_bad_55 (Qr : Int32 → St → Prop) (K6 : Int32 → Int32 → Int32 → St → Prop) (v1 : Int32) (v2 : Int32) (v3 : Int32) (v4 : Int32) (v5 : Int32) (σ : St) : Prop :=
  (v1 < 2 →
    wp_bad_70 Qr K6 v1 v2 v3 v4 v5 σ) ∧
  (¬ v1 < 2 →
    (v1 = 2 →
      wp_bad_70 Qr K6 v1 v2 v3 v4 v5 σ) ∧
    (¬ v1 = 2 →
      (¬ v1 = 3 →
        wp_bad_81 Qr K6 v1 v2 v3 v4 v5 σ) ∧
      (v1 = 3 →
        wp_bad_70 Qr K6 v1 v2 v3 v4 v5 σ)))
def wp_bad_37 (Qr : Int32 → St → Prop) (K6 : Int32 → Int32 → Int32 → St → Prop) (v1 : Int32) (v2 : Int32) (v3 : Int32) (v4 : Int32) (u0 : Int32) (σ : St) : Prop :=
  (2 ≤ v1 →
    wp_bad_55 Qr K6 v1 v2 v3 v4 u0 σ) ∧
  (¬ 2 ≤ v1 →
    (¬ v4 = 1 →
      wp_bad_55 Qr K6 v1 v2 v3 v4 u0 σ) ∧
    (v4 = 1 →
      wp_bad_203 Qr K6 2 v2 v3 σ))
def wp_bad_32 (Qr : Int32 → St → Prop) (K6 : Int32 → Int32 → Int32 → St → Prop) (v1 : Int32) (v2 : Int32) (v3 : Int32) (v4 : Int32) (σ : St) : Prop :=
  wp_bad_37 Qr K6 v1 v2 v3 v4 1 σ
def wp_bad_6 (Qr : Int32 → St → Prop) : Nat → Int32 → Int32 → Int32 → St → Prop
  | 0, _, _, _, _ => False
  | n6 + 1, v1, v2, v3, σ =>
    ((gI σ 7) ≤ v3 →
      Qr (-1) σ) ∧
    (¬ (gI σ 7) ≤ v3 →
      vp_in v3 301 ∧
      ∀ (x1 : Int32), x1 = (gA σ 4 v3) →
      (v1 = 2 →
        wp_bad_32 Qr (wp_bad_6 Qr n6) v1 v2 v3 x1 σ) ∧
      (¬ v1 = 2 →
        (¬ v1 = 4 →
          wp_bad_37 Qr (wp_bad_6 Qr n6) v1 v2 v3 x1 0 σ) ∧
        (v1 = 4 →
          wp_bad_32 Qr (wp_bad_6 Qr n6) v1 v2 v3 x1 σ)))
/-- private int bad(); -/
def wp_bad (σ : St) (Qr : Int32 → St → Prop) : Prop :=
  ∃ n6, wp_bad_6 Qr  n6 0 0 0 σ
/-- private int fault(int, int); -/
def wp_fault (p1 : Int32) (p2 : Int32) (σ : St) (Qr : Int32 → St → Prop) : Prop :=
  ∀ (σ1 : St), σ1 = sI σ 3 p2 →
  Qr p1 σ1
def wp_draftColumn_27 (Qr : Int32 → St → Prop) (K4 : Int32 → Int32 → Int32 → St → Prop) (v1 : Int32) (v3 : Int32) (u0 : Int32) (σ : St) : Prop :=
  ∀ (x1 : Int32), x1 = v3 + 1 →
  K4 v1 u0 x1 σ
def wp_draftColumn_4 (Qr : Int32 → St → Prop) : Nat → Int32 → Int32 → Int32 → St → Prop
  | 0, _, _, _, _ => False
  | n4 + 1, v1, v2, v3, σ =>
    ((gI σ 9) ≤ v3 →
      Qr v2 σ) ∧
    (¬ (gI σ 9) ≤ v3 →
      vp_in v3 6 ∧
      (¬ (gA σ 8 v3) = v1 →
        wp_draftColumn_27 Qr (wp_draftColumn_4 Qr n4) v1 v3 v2 σ) ∧
      ((gA σ 8 v3) = v1 →
        wp_draftColumn_27 Qr (wp_draftColumn_4 Qr n4) v1 v3 v3 σ))
/-- private int draftColumn(int); -/
def wp_draftColumn (p1 : Int32) (σ : St) (Qr : Int32 → St → Prop) : Prop :=
  ∃ n4, wp_draftColumn_4 Qr  n4 p1 (-1) 0 σ
def wp_build_600 (Qr : Int32 → St → Prop) (K38 : Int32 → St → Prop) (u0 : Int32) (σ : St) : Prop :=
  K38 u0 σ
def wp_build_553 (Qr : Int32 → St → Prop) (v4 : Int32) (σ : St) : Prop :=
  vp_in v4 301 ∧
  wp_fault 3 (gA σ 5 v4) σ (fun (x2 : Int32) (σ1 : St) =>
    Qr x2 σ1)
def wp_build_536 (Qr : Int32 → St → Prop) (K38 : Int32 → St → Prop) (K497 : Int32 → Int32 → Int32 → St → Prop) (v1 : Int32) (v4 : Int32) (v6 : Int32) (v7 : Int32) (u0 : Int32) (σ : St) : Prop :=
  (u0 < v7 →
    wp_build_553 Qr  v4 σ) ∧
  (¬ u0 < v7 →
    ((-u0) ≤ v7 →
      ∀ (x1 : Int32), x1 = v6 + 1 →
      K497 v1 v4 x1 σ) ∧
    (¬ (-u0) ≤ v7 →
      wp_build_553 Qr  v4 σ))
def wp_build_497 (Qr : Int32 → St → Prop) (K38 : Int32 → St → Prop) : Nat → Int32 → Int32 → Int32 → St → Prop
  | 0, _, _, _, _ => False
  | n497 + 1, v1, v4, v6, σ =>
    (7 ≤ v6 →
      ∀ (σ1 : St), σ1 = sI σ 11 ((gI σ 11) + 1) →
      vp_in v1 301 ∧
      (¬ (gA σ1 4 v1) = 6 →
        wp_build_600 Qr K38 v1 σ1) ∧
      ((gA σ1 4 v1) = 6 →
        wp_build_600 Qr K38 ((v1 + 1)) σ1)) ∧
    (¬ 7 ≤ v6 →
      vp_in ((7 * (gI σ 11)) + v6) 28 ∧
      ∀ (x2 : Int32), x2 = (gA σ 12 ((7 * (gI σ 11)) + v6)) →
      (¬ v6 = 6 →
        wp_build_536 Qr K38 (wp_build_497 Qr K38 n497) v1 v4 v6 x2 20 σ) ∧
      (v6 = 6 →
        wp_build_536 Qr K38 (wp_build_497 Qr K38 n497) v1 v4 v6 x2 200 σ))
def wp_build_494 (Qr : Int32 → St → Prop) (K38 : Int32 → St → Prop) (v1 : Int32) (v4 : Int32) (σ : St) : Prop :=
  ∃ n497, wp_build_497 Qr K38 n497 v1 v4 0 σ
def wp_build_449 (Qr : Int32 → St → Prop) (K38 : Int32 → St → Prop) (v1 : Int32) (v4 : Int32) (v5 : Int32) (u1 : Int32) (u2 : Int32) (σ : St) : Prop :=
  vp_in u1 4 ∧
  ∀ (σ1 : St), σ1 = sA σ 13 u1 u2 →
  (v5 = 7 →
    wp_build_494 Qr K38 v1 v4 σ1) ∧
  (¬ v5 = 7 →
    (¬ ((gI σ1 9) + (gI σ1 10)) = 6 →
      ∀ (σ2 : St), σ2 = sI σ1 10 ((gI σ1 10) + 1) →
      wp_build_494 Qr K38 v1 v4 σ2) ∧
    (((gI σ1 9) + (gI σ1 10)) = 6 →
      vp_in v4 301 ∧
      wp_fault 2 (gA σ1 5 v4) σ1 (fun (x4 : Int32) (σ3 : St) =>
        Qr x4 σ3)))
def wp_build_409 (Qr : Int32 → St → Prop) (K38 : Int32 → St → Prop) (v1 : Int32) (v4 : Int32) (σ : St) : Prop :=
  vp_in v4 301 ∧
  ∀ (x1 : Int32), x1 = (gA σ 4 v4) →
  (¬ x1 = 8 →
    (¬ x1 = 9 →
      wp_build_449 Qr K38 v1 v4 x1 ((gI σ 11)) 0 σ) ∧
    (x1 = 9 →
      wp_build_449 Qr K38 v1 v4 x1 ((gI σ 11)) (-1) σ)) ∧
  (x1 = 8 →
    wp_build_449 Qr K38 v1 v4 x1 ((gI σ 11)) 1 σ)
def wp_build_403 (Qr : Int32 → St → Prop) (K38 : Int32 → St → Prop) (K74 : Int32 → Int32 → Int32 → Int32 → St → Prop) (v1 : Int32) (v2 : Int32) (v3 : Int32) (v4 : Int32) (σ : St) : Prop :=
  ∀ (x1 : Int32), x1 = v1 + 1 →
  K74 x1 v2 v3 v4 σ
def wp_build_364 (Qr : Int32 → St → Prop) (K38 : Int32 → St → Prop) (K74 : Int32 → Int32 → Int32 → Int32 → St → Prop) (v1 : Int32) (v2 : Int32) (v3 : Int32) (v4 : Int32) (v6 : Int32) (u0 : Int32) (σ : St) : Prop :=
  vp_in ((7 * (gI σ 11)) + v6) 28 ∧
  vp_in ((7 * (gI σ 11)) + v6) 28 ∧
  ∀ (σ1 : St), σ1 = sA σ 12 ((7 * (gI σ 11)) + v6) ((gA σ 12 ((7 * (gI σ 11)) + v6)) + ((v3 * v2) * u0)) →
  wp_build_403 Qr K38 K74 v1 v2 v3 v4 σ1
def wp_build_363 (Qr : Int32 → St → Prop) (K38 : Int32 → St → Prop) (K74 : Int32 → Int32 → Int32 → Int32 → St → Prop) (v1 : Int32) (v2 : Int32) (v3 : Int32) (v4 : Int32) (v6 : Int32) (σ : St) : Prop :=
  wp_build_364 Qr K38 K74 v1 v2 v3 v4 v6 1 σ
def wp_build_335 (Qr : Int32 → St → Prop) (K38 : Int32 → St → Prop) (K74 : Int32 → Int32 → Int32 → Int32 → St → Prop) (v1 : Int32) (v2 : Int32) (v3 : Int32) (v4 : Int32) (v6 : Int32) (u0 : Int32) (σ : St) : Prop :=
  (u0 < 0 →
    wp_build_363 Qr K38 K74 v1 v2 v3 v4 v6 σ) ∧
  (¬ u0 < 0 →
    vp_in u0 301 ∧
    (¬ (gA σ 4 u0) = 1 →
      wp_build_363 Qr K38 K74 v1 v2 v3 v4 v6 σ) ∧
    ((gA σ 4 u0) = 1 →
      vp_in u0 301 ∧
      wp_build_364 Qr K38 K74 v1 v2 v3 v4 v6 ((gA σ 6 u0)) σ))
def wp_build_332 (Qr : Int32 → St → Prop) (K38 : Int32 → St → Prop) (K74 : Int32 → Int32 → Int32 → Int32 → St → Prop) (v1 : Int32) (v2 : Int32) (v3 : Int32) (v4 : Int32) (v6 : Int32) (σ : St) : Prop :=
  wp_build_335 Qr K38 K74 v1 v2 v3 v4 v6 ((v1 - 1)) σ
def wp_build_310 (Qr : Int32 → St → Prop) (K38 : Int32 → St → Prop) (K74 : Int32 → Int32 → Int32 → Int32 → St → Prop) (v1 : Int32) (v2 : Int32) (v3 : Int32) (v4 : Int32) (v6 : Int32) (σ : St) : Prop :=
  (v1 ≤ 0 →
    wp_build_332 Qr K38 K74 v1 v2 v3 v4 v6 σ) ∧
  (¬ v1 ≤ 0 →
    vp_in (v1 - 1) 301 ∧
    (¬ (gA σ 4 (v1 - 1)) = 5 →
      wp_build_332 Qr K38 K74 v1 v2 v3 v4 v6 σ) ∧
    ((gA σ 4 (v1 - 1)) = 5 →
      wp_build_335 Qr K38 K74 v1 v2 v3 v4 v6 ((v1 - 2)) σ))
def wp_build_229 (Qr : Int32 → St → Prop) (K38 : Int32 → St → Prop) (K74 : Int32 → Int32 → Int32 → Int32 → St → Prop) (v1 : Int32) (v2 : Int32) (v3 : Int32) (v4 : Int32) (σ : St) : Prop :=
  wp_build_403 Qr K38 K74 v1 v2 v3 v4 σ
def wp_build_181 (Qr : Int32 → St → Prop) (K38 : Int32 → St → Prop) (K74 : Int32 → Int32 → Int32 → Int32 → St → Prop) (v1 : Int32) (v2 : Int32) (v3 : Int32) (v4 : Int32) (u0 : Int32) (σ : St) : Prop :=
  (u0 = 0 →
    wp_build_229 Qr K38 K74 v1 v2 v3 v4 σ) ∧
  (¬ u0 = 0 →
    vp_in ((7 * (gI σ 11)) + 6) 28 ∧
    vp_in v1 301 ∧
    vp_in ((7 * (gI σ 11)) + 6) 28 ∧
    ∀ (σ1 : St), σ1 = sA σ 12 ((7 * (gI σ 11)) + 6) ((gA σ 12 ((7 * (gI σ 11)) + 6)) - ((v3 * v2) * (gA σ 6 v1))) →
    wp_build_229 Qr K38 K74 v1 v2 v3 v4 σ1)
def wp_build_180 (Qr : Int32 → St → Prop) (K38 : Int32 → St → Prop) (K74 : Int32 → Int32 → Int32 → Int32 → St → Prop) (v1 : Int32) (v2 : Int32) (v3 : Int32) (v4 : Int32) (σ : St) : Prop :=
  wp_build_181 Qr K38 K74 v1 v2 v3 v4 0 σ
def wp_build_125 (Qr : Int32 → St → Prop) (K38 : Int32 → St → Prop) (K74 : Int32 → Int32 → Int32 → Int32 → St → Prop) (v1 : Int32) (v3 : Int32) (v4 : Int32) (u0 : Int32) (σ : St) : Prop :=
  wp_build_403 Qr K38 K74 v1 u0 v3 v4 σ
def wp_build_114 (Qr : Int32 → St → Prop) (K38 : Int32 → St → Prop) (K74 : Int32 → Int32 → Int32 → Int32 → St → Prop) (v1 : Int32) (v3 : Int32) (v4 : Int32) (v5 : Int32) (σ : St) : Prop :=
  (¬ v5 = 3 →
    wp_build_125 Qr K38 K74 v1 v3 v4 (-1) σ) ∧
  (v5 = 3 →
    wp_build_125 Qr K38 K74 v1 v3 v4 1 σ)
def wp_build_74 (Qr : Int32 → St → Prop) (K38 : Int32 → St → Prop) : Nat → Int32 → Int32 → Int32 → Int32 → St → Prop
  | 0, _, _, _, _, _ => False
  | n74 + 1, v1, v2, v3, v4, σ =>
    vp_in v1 301 ∧
    ((gA σ 4 v1) = 6 →
      wp_build_409 Qr K38 v1 v4 σ) ∧
    (¬ (gA σ 4 v1) = 6 →
      vp_in v1 301 ∧
      ((gA σ 4 v1) = 0 →
        wp_build_409 Qr K38 v1 v4 σ) ∧
      (¬ (gA σ 4 v1) = 0 →
        vp_in v1 301 ∧
        ∀ (x1 : Int32), x1 = (gA σ 4 v1) →
        (x1 = 3 →
          wp_build_114 Qr K38 (wp_build_74 Qr K38 n74) v1 v3 v4 x1 σ) ∧
        (¬ x1 = 3 →
          (¬ x1 = 4 →
            (x1 < 7 →
              (¬ x1 = 1 →
                (¬ x1 = 2 →
                  wp_build_403 Qr K38 (wp_build_74 Qr K38 n74) v1 v2 v3 v4 σ) ∧
                (x1 = 2 →
                  vp_in v1 301 ∧
                  wp_draftColumn (gA σ 6 v1) σ (fun (x3 : Int32) (σ2 : St) =>
                    (0 ≤ x3 →
                      wp_build_310 Qr K38 (wp_build_74 Qr K38 n74) v1 v2 v3 v4 x3 σ2) ∧
                    (¬ 0 ≤ x3 →
                      (¬ ((gI σ2 9) + (gI σ2 10)) = 6 →
                        ∀ (x4 : Int32), x4 = (gI σ2 9) →
                        vp_in v1 301 ∧
                        vp_in x4 6 ∧
                        ∀ (σ5 : St), σ5 = sA σ2 8 x4 (gA σ2 6 v1) →
                        ∀ (σ6 : St), σ6 = sI σ5 9 ((gI σ5 9) + 1) →
                        wp_build_310 Qr K38 (wp_build_74 Qr K38 n74) v1 v2 v3 v4 x4 σ6) ∧
                      (((gI σ2 9) + (gI σ2 10)) = 6 →
                        vp_in v1 301 ∧
                        wp_fault 2 (gA σ2 5 v1) σ2 (fun (x8 : Int32) (σ7 : St) =>
                          Qr x8 σ7)))))) ∧
              (x1 = 1 →
                vp_in (v1 + 1) 301 ∧
                ((gA σ 4 (v1 + 1)) = 2 →
                  wp_build_180 Qr K38 (wp_build_74 Qr K38 n74) v1 v2 v3 v4 σ) ∧
                (¬ (gA σ 4 (v1 + 1)) = 2 →
                  vp_in (v1 + 1) 301 ∧
                  ((gA σ 4 (v1 + 1)) = 5 →
                    wp_build_180 Qr K38 (wp_build_74 Qr K38 n74) v1 v2 v3 v4 σ) ∧
                  (¬ (gA σ 4 (v1 + 1)) = 5 →
                    wp_build_181 Qr K38 (wp_build_74 Qr K38 n74) v1 v2 v3 v4 1 σ)))) ∧
            (¬ x1 < 7 →
              wp_build_403 Qr K38 (wp_build_74 Qr K38 n74) v1 1 (-1) v1 σ)) ∧
          (x1 = 4 →
            wp_build_114 Qr K38 (wp_build_74 Qr K38 n74) v1 v3 v4 x1 σ))))
def wp_build_38 (Qr : Int32 → St → Prop) : Nat → Int32 → St → Prop
  | 0, _, _ => False
  | n38 + 1, v1, σ =>
    vp_in v1 301 ∧
    ((gA σ 4 v1) = 0 →
      Qr 0 σ) ∧
    (¬ (gA σ 4 v1) = 0 →
      (¬ (gI σ 11) = 4 →
        ∃ n74, wp_build_74 Qr (wp_build_38 Qr n38) n74 v1 1 1 v1 σ) ∧
      ((gI σ 11) = 4 →
        vp_in v1 301 ∧
        wp_fault 2 (gA σ 5 v1) σ (fun (x2 : Int32) (σ1 : St) =>
          Qr x2 σ1)))
def wp_build_17 (Qr : Int32 → St → Prop) : Nat → Int32 → St → Prop
  | 0, _, _ => False
  | n17 + 1, v1, σ =>
    (28 ≤ v1 →
      ∃ n38, wp_build_38 Qr  n38 0 σ) ∧
    (¬ 28 ≤ v1 →
      vp_in v1 28 ∧
      ∀ (σ1 : St), σ1 = sA σ 12 v1 0 →
      ∀ (x2 : Int32), x2 = v1 + 1 →
      wp_build_17 Qr n17 x2 σ1)
/-- private int build(); -/
def wp_build (σ : St) (Qr : Int32 → St → Prop) : Prop :=
  ∀ (σ1 : St), σ1 = sI σ 9 0 →
  ∀ (σ2 : St), σ2 = sI σ1 10 0 →
  ∀ (σ3 : St), σ3 = sI σ2 11 0 →
  ∃ n17, wp_build_17 Qr  n17 0 σ3
def wp_take_233 (Qr : St → Prop) : Nat → Int32 → St → Prop
  | 0, _, _ => False
  | n233 + 1, v2, σ =>
    (3 ≤ v2 →
      ∀ (σ1 : St), σ1 = sI σ 26 0 →
      ∀ (σ2 : St), σ2 = sI σ1 28 0 →
      Qr σ2) ∧
    (¬ 3 ≤ v2 →
      vp_in v2 3 ∧
      ∀ (σ3 : St), σ3 = sA σ 20 v2 (vp_nar .boolean 0) →
      vp_in v2 3 ∧
      ∀ (σ4 : St), σ4 = sA σ3 22 v2 0 →
      ∀ (x5 : Int32), x5 = v2 + 1 →
      wp_take_233 Qr n233 x5 σ4)
def wp_take_210 (Qr : St → Prop) (K181 : Int32 → St → Prop) (v2 : Int32) (u1 : Int32) (u2 : Int32) (σ : St) : Prop :=
  vp_in u1 6 ∧
  ∀ (σ1 : St), σ1 = sA σ 18 u1 u2 →
  vp_in v2 6 ∧
  ∀ (σ2 : St), σ2 = sA σ1 24 v2 0 →
  vp_in v2 6 ∧
  ∀ (σ3 : St), σ3 = sA σ2 25 v2 0 →
  ∀ (x4 : Int32), x4 = v2 + 1 →
  K181 x4 σ3
def wp_take_181 (Qr : St → Prop) : Nat → Int32 → St → Prop
  | 0, _, _ => False
  | n181 + 1, v2, σ =>
    (6 ≤ v2 →
      ∃ n233, wp_take_233 Qr  n233 0 σ) ∧
    (¬ 6 ≤ v2 →
      ((gI σ 16) ≤ v2 →
        wp_take_210 Qr (wp_take_181 Qr n181) v2 v2 (-1) σ) ∧
      (¬ (gI σ 16) ≤ v2 →
        vp_in v2 6 ∧
        wp_take_210 Qr (wp_take_181 Qr n181) v2 v2 ((gA σ 8 v2)) σ))
def wp_take_147 (Qr : St → Prop) (K46 : Int32 → Int32 → St → Prop) (v1 : Int32) (v2 : Int32) (σ : St) : Prop :=
  vp_in ((7 * v2) + 6) 28 ∧
  vp_in ((7 * v2) + (gI σ 17)) 28 ∧
  ∀ (σ1 : St), σ1 = sA σ 19 ((7 * v2) + (gI σ 17)) (gA σ 12 ((7 * v2) + 6)) →
  ∀ (x2 : Int32), x2 = v2 + 1 →
  K46 v1 x2 σ1
def wp_take_82 (Qr : St → Prop) (K46 : Int32 → Int32 → St → Prop) : Nat → Int32 → Int32 → Int32 → St → Prop
  | 0, _, _, _, _ => False
  | n82 + 1, v1, v2, v3, σ =>
    ((gI σ 16) ≤ v3 →
      vp_in v2 4 ∧
      ((gA σ 13 v2) = 0 →
        wp_take_147 Qr K46 v1 v2 σ) ∧
      (¬ (gA σ 13 v2) = 0 →
        vp_in v2 4 ∧
        vp_in ((7 * v2) + v1) 28 ∧
        ∀ (σ1 : St), σ1 = sA σ 19 ((7 * v2) + v1) (gA σ 13 v2) →
        ∀ (x2 : Int32), x2 = v1 + 1 →
        wp_take_147 Qr K46 x2 v2 σ1)) ∧
    (¬ (gI σ 16) ≤ v3 →
      vp_in ((7 * v2) + v3) 28 ∧
      vp_in ((7 * v2) + v3) 28 ∧
      ∀ (σ3 : St), σ3 = sA σ 19 ((7 * v2) + v3) (gA σ 12 ((7 * v2) + v3)) →
      ∀ (x4 : Int32), x4 = v3 + 1 →
      wp_take_82 Qr K46 n82 v1 v2 x4 σ3)
def wp_take_56 (Qr : St → Prop) (K46 : Int32 → Int32 → St → Prop) : Nat → Int32 → Int32 → Int32 → St → Prop
  | 0, _, _, _, _ => False
  | n56 + 1, v1, v2, v3, σ =>
    (7 ≤ v3 →
      ∃ n82, wp_take_82 Qr K46 n82 v1 v2 0 σ) ∧
    (¬ 7 ≤ v3 →
      vp_in ((7 * v2) + v3) 28 ∧
      ∀ (σ1 : St), σ1 = sA σ 19 ((7 * v2) + v3) 0 →
      ∀ (x2 : Int32), x2 = v3 + 1 →
      wp_take_56 Qr K46 n56 v1 v2 x2 σ1)
def wp_take_46 (Qr : St → Prop) : Nat → Int32 → Int32 → St → Prop
  | 0, _, _, _ => False
  | n46 + 1, v1, v2, σ =>
    ((gI σ 15) ≤ v2 →
      ∃ n181, wp_take_181 Qr  n181 0 σ) ∧
    (¬ (gI σ 15) ≤ v2 →
      ∃ n56, wp_take_56 Qr (wp_take_46 Qr n46) n56 v1 v2 0 σ)
/-- private void take(); -/
def wp_take (σ : St) (Qr : St → Prop) : Prop :=
  ∀ (σ1 : St), σ1 = sI σ 3 (-1) →
  ∀ (σ2 : St), σ2 = sI σ1 14 1 →
  ∀ (σ3 : St), σ3 = sI σ2 15 (gI σ2 11) →
  ∀ (σ4 : St), σ4 = sI σ3 16 (gI σ3 9) →
  ∀ (σ5 : St), σ5 = sI σ4 17 ((gI σ4 9) + (gI σ4 10)) →
  ∀ (x6 : Int32), x6 = (gI σ5 9) →
  ∃ n46, wp_take_46 Qr  n46 x6 0 σ5
/-- public int read(); -/
def wp_read (σ : St) (Qr : Int32 → St → Prop) : Prop :=
  ∀ (σ1 : St), σ1 = sI σ 0 0 →
  wp_cut  σ1 (fun (σ2 : St) =>
    ∀ (σ3 : St), σ3 = sI σ2 2 0 →
    wp_bad  σ3 (fun (x5 : Int32) (σ4 : St) =>
      (x5 < 0 →
        wp_build  σ4 (fun (x7 : Int32) (σ6 : St) =>
          (x7 = 0 →
            wp_take  σ6 (fun (σ8 : St) =>
              Qr 0 σ8)) ∧
          (¬ x7 = 0 →
            Qr x7 σ6))) ∧
      (¬ x5 < 0 →
        vp_in x5 301 ∧
        wp_fault 1 (gA σ4 5 x5) σ4 (fun (x10 : Int32) (σ9 : St) =>
          Qr x10 σ9))))
/-- public int place(); -/
def wp_place (σ : St) (Qr : Int32 → St → Prop) : Prop :=
  ∀ (σ1 : St), σ1 = sI σ 0 0 →
  Qr (gI σ1 3) σ1
def wp_count_52 (Qr : Int32 → St → Prop) (u0 : Int32) (σ : St) : Prop :=
  Qr u0 σ
/-- public int count(int); -/
def wp_count (p1 : Int32) (σ : St) (Qr : Int32 → St → Prop) : Prop :=
  ∀ (σ1 : St), σ1 = sI σ 0 0 →
  (¬ (gI σ1 14) = 0 →
    (¬ p1 = 0 →
      (¬ p1 = 1 →
        (¬ p1 = 2 →
          wp_count_52 Qr  (-1) σ1) ∧
        (p1 = 2 →
          wp_count_52 Qr  ((gI σ1 16)) σ1)) ∧
      (p1 = 1 →
        wp_count_52 Qr  ((gI σ1 17)) σ1)) ∧
    (p1 = 0 →
      wp_count_52 Qr  ((gI σ1 15)) σ1)) ∧
  ((gI σ1 14) = 0 →
    wp_count_52 Qr  (-1) σ1)
def wp_letter_34 (Qr : Int32 → St → Prop) (u0 : Int32) (σ : St) : Prop :=
  Qr u0 σ
def wp_letter_33 (Qr : Int32 → St → Prop) (σ : St) : Prop :=
  wp_letter_34 Qr  (-1) σ
/-- public int letter(int); -/
def wp_letter (p1 : Int32) (σ : St) (Qr : Int32 → St → Prop) : Prop :=
  ∀ (σ1 : St), σ1 = sI σ 0 0 →
  ((gI σ1 14) = 0 →
    wp_letter_33 Qr   σ1) ∧
  (¬ (gI σ1 14) = 0 →
    (p1 < 0 →
      wp_letter_33 Qr   σ1) ∧
    (¬ p1 < 0 →
      ((gI σ1 16) ≤ p1 →
        wp_letter_33 Qr   σ1) ∧
      (¬ (gI σ1 16) ≤ p1 →
        vp_in p1 6 ∧
        wp_letter_34 Qr  ((gA σ1 18 p1)) σ1)))
def wp_number_62 (Qr : Int32 → St → Prop) (u0 : Int32) (σ : St) : Prop :=
  Qr u0 σ
def wp_number_37 (Qr : Int32 → St → Prop) (v1 : Int32) (v2 : Int32) (u1 : Int32) (σ : St) : Prop :=
  ∀ (σ1 : St), σ1 = sI σ 0 u1 →
  (¬ (gI σ1 0) = 0 →
    wp_number_62 Qr  0 σ1) ∧
  ((gI σ1 0) = 0 →
    vp_in ((7 * v1) + v2) 28 ∧
    wp_number_62 Qr  ((gA σ1 19 ((7 * v1) + v2))) σ1)
def wp_number_36 (Qr : Int32 → St → Prop) (v1 : Int32) (v2 : Int32) (σ : St) : Prop :=
  wp_number_37 Qr  v1 v2 1 σ
/-- public int number(int, int); -/
def wp_number (p1 : Int32) (p2 : Int32) (σ : St) (Qr : Int32 → St → Prop) : Prop :=
  ((gI σ 14) = 0 →
    wp_number_36 Qr  p1 p2 σ) ∧
  (¬ (gI σ 14) = 0 →
    (p1 < 0 →
      wp_number_36 Qr  p1 p2 σ) ∧
    (¬ p1 < 0 →
      ((gI σ 15) ≤ p1 →
        wp_number_36 Qr  p1 p2 σ) ∧
      (¬ (gI σ 15) ≤ p1 →
        (p2 < 0 →
          wp_number_36 Qr  p1 p2 σ) ∧
        (¬ p2 < 0 →
          ((gI σ 17) < p2 →
            wp_number_36 Qr  p1 p2 σ) ∧
          (¬ (gI σ 17) < p2 →
            wp_number_37 Qr  p1 p2 0 σ)))))
def wp_dot_30_6 (Qr : Int64 → St → Prop) : Nat → Int32 → Int32 → Int64 → Int32 → St → Prop
  | 0, _, _, _, _, _ => False
  | n6 + 1, v1, v3, v4, v6, σ =>
    ((gI σ 17) ≤ v6 →
      Qr v4 σ) ∧
    (¬ (gI σ 17) ≤ v6 →
      vp_in ((7 * v1) + v6) 28 ∧
      vp_in (v3 + v6) 36 ∧
      ∀ (y1 : Int64), y1 = (v4 + ((((gA σ 19 ((7 * v1) + v6))).toInt64) * (gL σ 30 (v3 + v6)))) →
      ∀ (x2 : Int32), x2 = v6 + 1 →
      wp_dot_30_6 Qr n6 v1 v3 y1 x2 σ)
/-- private long dot(int, long[], int); -/
def wp_dot_30 (p1 : Int32) (p3 : Int32) (σ : St) (Qr : Int64 → St → Prop) : Prop :=
  ∃ n6, wp_dot_30_6 Qr  n6 p1 p3 0 0 σ
def wp_size_12 (Qr : Int64 → St → Prop) (u0 : Int64) (σ : St) : Prop :=
  Qr u0 σ
/-- private static long size(long); -/
def wp_size (p0 : Int64) (σ : St) (Qr : Int64 → St → Prop) : Prop :=
  (0 ≤ (lg_cmp p0 0) →
    wp_size_12 Qr  p0 σ) ∧
  (¬ 0 ≤ (lg_cmp p0 0) →
    wp_size_12 Qr  ((-p0)) σ)
def wp_exchange_2 (Qr : St → Prop) : Nat → Int32 → Int32 → Int32 → St → Prop
  | 0, _, _, _, _ => False
  | n2 + 1, v1, v2, v3, σ =>
    ((gI σ 17) ≤ v3 →
      Qr σ) ∧
    (¬ (gI σ 17) ≤ v3 →
      vp_in ((6 * v1) + v3) 36 ∧
      ∀ (y1 : Int64), y1 = (gL σ 30 ((6 * v1) + v3)) →
      vp_in ((6 * v2) + v3) 36 ∧
      vp_in ((6 * v1) + v3) 36 ∧
      ∀ (σ2 : St), σ2 = sL σ 30 ((6 * v1) + v3) (gL σ 30 ((6 * v2) + v3)) →
      vp_in ((6 * v2) + v3) 36 ∧
      ∀ (σ3 : St), σ3 = sL σ2 30 ((6 * v2) + v3) y1 →
      ∀ (x4 : Int32), x4 = v3 + 1 →
      wp_exchange_2 Qr n2 v1 v2 x4 σ3)
/-- private void exchange(int, int); -/
def wp_exchange (p1 : Int32) (p2 : Int32) (σ : St) (Qr : St → Prop) : Prop :=
  ∃ n2, wp_exchange_2 Qr  n2 p1 p2 0 σ
def wp_lose_3 (Qr : St → Prop) : Nat → Int32 → Int32 → Int64 → Int32 → St → Prop
  | 0, _, _, _, _, _ => False
  | n3 + 1, v1, v2, v3, v5, σ =>
    ((gI σ 17) ≤ v5 →
      Qr σ) ∧
    (¬ (gI σ 17) ≤ v5 →
      vp_in ((6 * v1) + v5) 36 ∧
      vp_in ((6 * v2) + v5) 36 ∧
      vp_in ((6 * v1) + v5) 36 ∧
      ∀ (σ1 : St), σ1 = sL σ 30 ((6 * v1) + v5) ((gL σ 30 ((6 * v1) + v5)) - (v3 * (gL σ 30 ((6 * v2) + v5)))) →
      ∀ (x2 : Int32), x2 = v5 + 1 →
      wp_lose_3 Qr n3 v1 v2 v3 x2 σ1)
/-- private void lose(int, int, long); -/
def wp_lose (p1 : Int32) (p2 : Int32) (p3 : Int64) (σ : St) (Qr : St → Prop) : Prop :=
  ∃ n3, wp_lose_3 Qr  n3 p1 p2 p3 0 σ
def wp_dot_32_6 (Qr : Int64 → St → Prop) : Nat → Int32 → Int32 → Int64 → Int32 → St → Prop
  | 0, _, _, _, _, _ => False
  | n6 + 1, v1, v3, v4, v6, σ =>
    ((gI σ 17) ≤ v6 →
      Qr v4 σ) ∧
    (¬ (gI σ 17) ≤ v6 →
      vp_in ((7 * v1) + v6) 28 ∧
      vp_in (v3 + v6) 6 ∧
      ∀ (y1 : Int64), y1 = (v4 + ((((gA σ 19 ((7 * v1) + v6))).toInt64) * (gL σ 32 (v3 + v6)))) →
      ∀ (x2 : Int32), x2 = v6 + 1 →
      wp_dot_32_6 Qr n6 v1 v3 y1 x2 σ)
/-- private long dot(int, long[], int); -/
def wp_dot_32 (p1 : Int32) (p3 : Int32) (σ : St) (Qr : Int64 → St → Prop) : Prop :=
  ∃ n6, wp_dot_32_6 Qr  n6 p1 p3 0 0 σ
def wp_narrow_336 (Qr : St → Prop) : Nat → Int32 → St → Prop
  | 0, _, _ => False
  | n336 + 1, v8, σ =>
    ((6 * (gI σ 31)) ≤ v8 →
      Qr σ) ∧
    (¬ (6 * (gI σ 31)) ≤ v8 →
      vp_in (v8 + 6) 36 ∧
      vp_in v8 36 ∧
      ∀ (σ1 : St), σ1 = sL σ 30 v8 (gL σ 30 (v8 + 6)) →
      ∀ (x2 : Int32), x2 = v8 + 1 →
      wp_narrow_336 Qr n336 x2 σ1)
def wp_narrow_323 (Qr : St → Prop) (σ : St) : Prop :=
  ∀ (σ1 : St), σ1 = sI σ 31 ((gI σ 31) - 1) →
  ∃ n336, wp_narrow_336 Qr  n336 0 σ1
def wp_narrow_273 (Qr : St → Prop) : Nat → Int64 → Int64 → Int32 → St → Prop
  | 0, _, _, _, _ => False
  | n273 + 1, v4, v6, v8, σ =>
    ((gI σ 17) ≤ v8 →
      wp_narrow_323 Qr   σ) ∧
    (¬ (gI σ 17) ≤ v8 →
      ((gI σ 33) = 0 →
        wp_narrow_323 Qr   σ) ∧
      (¬ (gI σ 33) = 0 →
        vp_in v8 6 ∧
        ¬ v6 = 0 ∧
        vp_in v8 36 ∧
        vp_in v8 6 ∧
        ∀ (σ1 : St), σ1 = sL σ 32 v8 ((gL σ 32 v8) + ((v4 / v6) * (gL σ 30 v8))) →
        ∀ (x2 : Int32), x2 = v8 + 1 →
        wp_narrow_273 Qr n273 v4 v6 x2 σ1))
def wp_narrow_267 (Qr : St → Prop) (v4 : Int64) (v6 : Int64) (u1 : Int32) (σ : St) : Prop :=
  isB u1 ∧
  ∀ (σ1 : St), σ1 = sI σ 33 u1 →
  ∃ n273, wp_narrow_273 Qr  n273 v4 v6 0 σ1
def wp_narrow_266 (Qr : St → Prop) (v4 : Int64) (v6 : Int64) (σ : St) : Prop :=
  wp_narrow_267 Qr  v4 v6 0 σ
def wp_narrow_228 (Qr : St → Prop) (u1 : Int32) (σ : St) : Prop :=
  isB u1 ∧
  ∀ (σ1 : St), σ1 = sI σ 33 u1 →
  Qr σ1
def wp_narrow_227 (Qr : St → Prop) (σ : St) : Prop :=
  wp_narrow_228 Qr  0 σ
def wp_narrow_172 (Qr : St → Prop) (K4 : Int32 → Int32 → Int32 → St → Prop) (v1 : Int32) (v3 : Int32) (u0 : Int32) (σ : St) : Prop :=
  K4 v1 u0 v3 σ
def wp_narrow_162 (Qr : St → Prop) (K4 : Int32 → Int32 → Int32 → St → Prop) (v1 : Int32) (v3 : Int32) (σ : St) : Prop :=
  (v3 ≤ 1 →
    wp_narrow_172 Qr K4 v1 v3 0 σ) ∧
  (¬ v3 ≤ 1 →
    wp_narrow_172 Qr K4 v1 v3 1 σ)
def wp_narrow_123 (Qr : St → Prop) (K4 : Int32 → Int32 → Int32 → St → Prop) : Nat → Int32 → Int32 → Int64 → Int32 → St → Prop
  | 0, _, _, _, _, _ => False
  | n123 + 1, v1, v3, v5, v7, σ =>
    ((gI σ 31) ≤ v7 →
      wp_narrow_162 Qr K4 v1 v3 σ) ∧
    (¬ (gI σ 31) ≤ v7 →
      wp_dot_30 v1 (6 * v7) σ (fun (y2 : Int64) (σ1 : St) =>
        ¬ v5 = 0 ∧
        wp_lose v7 0 (y2 / v5) σ1 (fun (σ3 : St) =>
          ∀ (x4 : Int32), x4 = v7 + 1 →
          wp_narrow_123 Qr K4 n123 v1 v3 v5 x4 σ3)))
def wp_narrow_91 (Qr : St → Prop) (K4 : Int32 → Int32 → Int32 → St → Prop) (K16 : Int32 → Int32 → Int32 → Int32 → St → Prop) (v1 : Int32) (v3 : Int32) (v4 : Int32) (v5 : Int32) (σ : St) : Prop :=
  ∀ (x1 : Int32), x1 = v5 + 1 →
  K16 v1 v3 v4 x1 σ
def wp_narrow_89 (Qr : St → Prop) (K4 : Int32 → Int32 → Int32 → St → Prop) (K16 : Int32 → Int32 → Int32 → Int32 → St → Prop) (v1 : Int32) (v3 : Int32) (v5 : Int32) (u0 : Int32) (σ : St) : Prop :=
  wp_narrow_91 Qr K4 K16 v1 v3 u0 v5 σ
def wp_narrow_82 (Qr : St → Prop) (K4 : Int32 → Int32 → Int32 → St → Prop) (K16 : Int32 → Int32 → Int32 → Int32 → St → Prop) (v1 : Int32) (v3 : Int32) (v5 : Int32) (σ : St) : Prop :=
  wp_narrow_89 Qr K4 K16 v1 v3 v5 v5 σ
def wp_narrow_16 (Qr : St → Prop) (K4 : Int32 → Int32 → Int32 → St → Prop) : Nat → Int32 → Int32 → Int32 → Int32 → St → Prop
  | 0, _, _, _, _, _ => False
  | n16 + 1, v1, v3, v4, v5, σ =>
    ((gI σ 31) ≤ v5 →
      (v3 ≤ 0 →
        wp_narrow_162 Qr K4 v1 v3 σ) ∧
      (¬ v3 ≤ 0 →
        wp_exchange 0 v4 σ (fun (σ1 : St) =>
          wp_dot_30 v1 0 σ1 (fun (y3 : Int64) (σ2 : St) =>
            ∃ n123, wp_narrow_123 Qr K4 n123 v1 v3 y3 1 σ2)))) ∧
    (¬ (gI σ 31) ≤ v5 →
      wp_dot_30 v1 (6 * v5) σ (fun (y5 : Int64) (σ4 : St) =>
        wp_size y5 σ4 (fun (y7 : Int64) (σ6 : St) =>
          ((lg_cmp y7 0) = 0 →
            wp_narrow_91 Qr K4 (wp_narrow_16 Qr K4 n16) v1 v3 v4 v5 σ6) ∧
          (¬ (lg_cmp y7 0) = 0 →
            ∀ (x8 : Int32), x8 = v3 + 1 →
            (v4 < 0 →
              wp_narrow_82 Qr K4 (wp_narrow_16 Qr K4 n16) v1 x8 v5 σ6) ∧
            (¬ v4 < 0 →
              wp_dot_30 v1 (6 * v4) σ6 (fun (y10 : Int64) (σ9 : St) =>
                wp_size y10 σ9 (fun (y12 : Int64) (σ11 : St) =>
                  (0 ≤ (lg_cmp y7 y12) →
                    wp_narrow_89 Qr K4 (wp_narrow_16 Qr K4 n16) v1 x8 v5 v4 σ11) ∧
                  (¬ 0 ≤ (lg_cmp y7 y12) →
                    wp_narrow_82 Qr K4 (wp_narrow_16 Qr K4 n16) v1 x8 v5 σ11))))))))
def wp_narrow_4 (Qr : St → Prop) : Nat → Int32 → Int32 → Int32 → St → Prop
  | 0, _, _, _, _ => False
  | n4 + 1, v1, v2, v3, σ =>
    (v2 = 0 →
      vp_in ((7 * v1) + (gI σ 17)) 28 ∧
      wp_dot_32 v1 0 σ (fun (y2 : Int64) (σ1 : St) =>
        ∀ (y3 : Int64), y3 = ((((gA σ 19 ((7 * v1) + (gI σ 17)))).toInt64) - y2) →
        (¬ v3 = 0 →
          wp_dot_30 v1 0 σ1 (fun (y5 : Int64) (σ4 : St) =>
            ((gI σ4 33) = 0 →
              wp_narrow_266 Qr  y3 y5 σ4) ∧
            (¬ (gI σ4 33) = 0 →
              ¬ y5 = 0 ∧
              (¬ (lg_cmp (y3 - y3 / y5 * y5) 0) = 0 →
                wp_narrow_266 Qr  y3 y5 σ4) ∧
              ((lg_cmp (y3 - y3 / y5 * y5) 0) = 0 →
                wp_narrow_267 Qr  y3 y5 1 σ4)))) ∧
        (v3 = 0 →
          ((gI σ1 33) = 0 →
            wp_narrow_227 Qr   σ1) ∧
          (¬ (gI σ1 33) = 0 →
            (¬ (lg_cmp y3 0) = 0 →
              wp_narrow_227 Qr   σ1) ∧
            ((lg_cmp y3 0) = 0 →
              wp_narrow_228 Qr  1 σ1))))) ∧
    (¬ v2 = 0 →
      ∃ n16, wp_narrow_16 Qr (wp_narrow_4 Qr n4) n16 v1 0 (-1) 0 σ)
/-- private void narrow(int); -/
def wp_narrow (p1 : Int32) (σ : St) (Qr : St → Prop) : Prop :=
  ∃ n4, wp_narrow_4 Qr  n4 p1 1 0 σ
def wp_turn_2 (Qr : St → Prop) : Nat → Int32 → Int32 → St → Prop
  | 0, _, _, _ => False
  | n2 + 1, v1, v2, σ =>
    ((gI σ 17) ≤ v2 →
      Qr σ) ∧
    (¬ (gI σ 17) ≤ v2 →
      vp_in ((6 * v1) + v2) 36 ∧
      vp_in ((6 * v1) + v2) 36 ∧
      ∀ (σ1 : St), σ1 = sL σ 30 ((6 * v1) + v2) (-(gL σ 30 ((6 * v1) + v2))) →
      ∀ (x2 : Int32), x2 = v2 + 1 →
      wp_turn_2 Qr n2 v1 x2 σ1)
/-- private void turn(int); -/
def wp_turn (p1 : Int32) (σ : St) (Qr : St → Prop) : Prop :=
  ∃ n2, wp_turn_2 Qr  n2 p1 0 σ
def wp_gather_202 (Qr : Int32 → St → Prop) (K2 : Int32 → Int32 → Int32 → St → Prop) (v1 : Int32) (v2 : Int32) (u0 : Int32) (σ : St) : Prop :=
  K2 v1 v2 u0 σ
def wp_gather_145 (Qr : Int32 → St → Prop) (K2 : Int32 → Int32 → Int32 → St → Prop) : Nat → Int32 → Int32 → Int32 → Int32 → St → Prop
  | 0, _, _, _, _, _ => False
  | n145 + 1, v1, v2, v5, v6, σ =>
    ((gI σ 31) ≤ v6 →
      (v5 ≤ 1 →
        wp_gather_202 Qr K2 v1 v2 0 σ) ∧
      (¬ v5 ≤ 1 →
        wp_gather_202 Qr K2 v1 v2 1 σ)) ∧
    (¬ (gI σ 31) ≤ v6 →
      vp_in ((6 * v6) + v2) 36 ∧
      vp_in ((6 * v1) + v2) 36 ∧
      ¬ (gL σ 30 ((6 * v1) + v2)) = 0 ∧
      wp_lose v6 v1 ((gL σ 30 ((6 * v6) + v2)) / (gL σ 30 ((6 * v1) + v2))) σ (fun (σ1 : St) =>
        ∀ (x2 : Int32), x2 = v6 + 1 →
        wp_gather_145 Qr K2 n145 v1 v2 v5 x2 σ1))
def wp_gather_140 (Qr : Int32 → St → Prop) (K2 : Int32 → Int32 → Int32 → St → Prop) (v1 : Int32) (v2 : Int32) (v5 : Int32) (σ : St) : Prop :=
  ∀ (x1 : Int32), x1 = (v1 + 1) →
  ∃ n145, wp_gather_145 Qr K2 n145 v1 v2 v5 x1 σ
def wp_gather_99 (Qr : Int32 → St → Prop) (K2 : Int32 → Int32 → Int32 → St → Prop) (K15 : Int32 → Int32 → Int32 → Int32 → Int32 → St → Prop) (v1 : Int32) (v2 : Int32) (v4 : Int32) (v5 : Int32) (v6 : Int32) (σ : St) : Prop :=
  ∀ (x1 : Int32), x1 = v6 + 1 →
  K15 v1 v2 v4 v5 x1 σ
def wp_gather_97 (Qr : Int32 → St → Prop) (K2 : Int32 → Int32 → Int32 → St → Prop) (K15 : Int32 → Int32 → Int32 → Int32 → Int32 → St → Prop) (v1 : Int32) (v2 : Int32) (v5 : Int32) (v6 : Int32) (u0 : Int32) (σ : St) : Prop :=
  wp_gather_99 Qr K2 K15 v1 v2 u0 v5 v6 σ
def wp_gather_90 (Qr : Int32 → St → Prop) (K2 : Int32 → Int32 → Int32 → St → Prop) (K15 : Int32 → Int32 → Int32 → Int32 → Int32 → St → Prop) (v1 : Int32) (v2 : Int32) (v5 : Int32) (v6 : Int32) (σ : St) : Prop :=
  wp_gather_97 Qr K2 K15 v1 v2 v5 v6 v6 σ
def wp_gather_59 (Qr : Int32 → St → Prop) (K2 : Int32 → Int32 → Int32 → St → Prop) (K15 : Int32 → Int32 → Int32 → Int32 → Int32 → St → Prop) (v1 : Int32) (v2 : Int32) (v4 : Int32) (v5 : Int32) (v6 : Int32) (v7 : Int64) (u0 : Int64) (σ : St) : Prop :=
  ((lg_cmp v7 0) = 0 →
    wp_gather_99 Qr K2 K15 v1 v2 v4 v5 v6 σ) ∧
  (¬ (lg_cmp v7 0) = 0 →
    ∀ (x1 : Int32), x1 = v5 + 1 →
    (v4 < 0 →
      wp_gather_90 Qr K2 K15 v1 v2 x1 v6 σ) ∧
    (¬ v4 < 0 →
      wp_size v7 σ (fun (y3 : Int64) (σ2 : St) =>
        wp_size u0 σ2 (fun (y5 : Int64) (σ4 : St) =>
          (0 ≤ (lg_cmp y3 y5) →
            wp_gather_97 Qr K2 K15 v1 v2 x1 v6 v4 σ4) ∧
          (¬ 0 ≤ (lg_cmp y3 y5) →
            wp_gather_90 Qr K2 K15 v1 v2 x1 v6 σ4)))))
def wp_gather_15 (Qr : Int32 → St → Prop) (K2 : Int32 → Int32 → Int32 → St → Prop) : Nat → Int32 → Int32 → Int32 → Int32 → Int32 → St → Prop
  | 0, _, _, _, _, _, _ => False
  | n15 + 1, v1, v2, v4, v5, v6, σ =>
    ((gI σ 31) ≤ v6 →
      (¬ v5 = 0 →
        wp_exchange v1 v4 σ (fun (σ1 : St) =>
          vp_in ((6 * v1) + v2) 36 ∧
          (0 ≤ (lg_cmp (gL σ1 30 ((6 * v1) + v2)) 0) →
            wp_gather_140 Qr K2 v1 v2 v5 σ1) ∧
          (¬ 0 ≤ (lg_cmp (gL σ1 30 ((6 * v1) + v2)) 0) →
            wp_turn v1 σ1 (fun (σ2 : St) =>
              wp_gather_140 Qr K2 v1 v2 v5 σ2)))) ∧
      (v5 = 0 →
        isB 0 ∧ Qr 0 σ)) ∧
    (¬ (gI σ 31) ≤ v6 →
      vp_in ((6 * v6) + v2) 36 ∧
      ∀ (y3 : Int64), y3 = (gL σ 30 ((6 * v6) + v2)) →
      (0 ≤ v4 →
        vp_in ((6 * v4) + v2) 36 ∧
        wp_gather_59 Qr K2 (wp_gather_15 Qr K2 n15) v1 v2 v4 v5 v6 y3 ((gL σ 30 ((6 * v4) + v2))) σ) ∧
      (¬ 0 ≤ v4 →
        wp_gather_59 Qr K2 (wp_gather_15 Qr K2 n15) v1 v2 v4 v5 v6 y3 0 σ))
def wp_gather_2 (Qr : Int32 → St → Prop) : Nat → Int32 → Int32 → Int32 → St → Prop
  | 0, _, _, _, _ => False
  | n2 + 1, v1, v2, v3, σ =>
    (v3 = 0 →
      isB 1 ∧ Qr 1 σ) ∧
    (¬ v3 = 0 →
      ∃ n15, wp_gather_15 Qr (wp_gather_2 Qr n2) n15 v1 v2 (-1) 0 v1 σ)
/-- private boolean gather(int, int); -/
def wp_gather (p1 : Int32) (p2 : Int32) (σ : St) (Qr : Int32 → St → Prop) : Prop :=
  ∃ n2, wp_gather_2 Qr  n2 p1 p2 1 σ
def wp_order_110 (Qr : St → Prop) (σ : St) : Prop :=
  Qr σ
def wp_order_104 (Qr : St → Prop) (K4 : Int32 → Int32 → St → Prop) (v1 : Int32) (v2 : Int32) (σ : St) : Prop :=
  ∀ (x1 : Int32), x1 = v2 + 1 →
  K4 v1 x1 σ
def wp_order_92 (Qr : St → Prop) (K4 : Int32 → Int32 → St → Prop) (K31 : Int32 → Int32 → Int32 → St → Prop) (v1 : Int32) (v2 : Int32) (v3 : Int32) (u1 : Int32) (u2 : Int32) (u3 : Int64) (σ : St) : Prop :=
  wp_lose u1 u2 u3 σ (fun (σ1 : St) =>
    ∀ (x2 : Int32), x2 = v3 + 1 →
    K31 v1 v2 x2 σ1)
def wp_order_31 (Qr : St → Prop) (K4 : Int32 → Int32 → St → Prop) : Nat → Int32 → Int32 → Int32 → St → Prop
  | 0, _, _, _, _ => False
  | n31 + 1, v1, v2, v3, σ =>
    (v1 ≤ v3 →
      ∀ (x1 : Int32), x1 = v1 + 1 →
      wp_order_104 Qr K4 x1 v2 σ) ∧
    (¬ v1 ≤ v3 →
      vp_in ((6 * v3) + v2) 36 ∧
      ∀ (y2 : Int64), y2 = (gL σ 30 ((6 * v3) + v2)) →
      vp_in ((6 * v1) + v2) 36 ∧
      ∀ (y3 : Int64), y3 = (gL σ 30 ((6 * v1) + v2)) →
      ((lg_cmp y2 0) < 0 →
        ¬ y3 = 0 ∧
        wp_order_92 Qr K4 (wp_order_31 Qr K4 n31) v1 v2 v3 v3 v1 ((-((((-y2) + y3) - 1) / y3))) σ) ∧
      (¬ (lg_cmp y2 0) < 0 →
        ¬ y3 = 0 ∧
        wp_order_92 Qr K4 (wp_order_31 Qr K4 n31) v1 v2 v3 v3 v1 ((y2 / y3)) σ))
def wp_order_4 (Qr : St → Prop) : Nat → Int32 → Int32 → St → Prop
  | 0, _, _, _ => False
  | n4 + 1, v1, v2, σ =>
    ((gI σ 17) ≤ v2 →
      wp_order_110 Qr   σ) ∧
    (¬ (gI σ 17) ≤ v2 →
      ((gI σ 31) ≤ v1 →
        wp_order_110 Qr   σ) ∧
      (¬ (gI σ 31) ≤ v1 →
        wp_gather v1 v2 σ (fun (x2 : Int32) (σ1 : St) =>
          (x2 = 0 →
            wp_order_104 Qr (wp_order_4 Qr n4) v1 v2 σ1) ∧
          (¬ x2 = 0 →
            ∃ n31, wp_order_31 Qr (wp_order_4 Qr n4) n31 v1 v2 0 σ1))))
/-- private void order(); -/
def wp_order (σ : St) (Qr : St → Prop) : Prop :=
  ∃ n4, wp_order_4 Qr  n4 0 0 σ
def wp_shorten_56 (Qr : St → Prop) (K2 : Int32 → St → Prop) : Nat → Int32 → Int64 → Int32 → St → Prop
  | 0, _, _, _, _ => False
  | n56 + 1, v1, v3, v5, σ =>
    ((gI σ 17) ≤ v5 →
      ∀ (x1 : Int32), x1 = v1 + 1 →
      K2 x1 σ) ∧
    (¬ (gI σ 17) ≤ v5 →
      vp_in v5 6 ∧
      vp_in ((6 * v1) + v5) 36 ∧
      vp_in v5 6 ∧
      ∀ (σ2 : St), σ2 = sL σ 32 v5 ((gL σ 32 v5) - (v3 * (gL σ 30 ((6 * v1) + v5)))) →
      ∀ (x3 : Int32), x3 = v5 + 1 →
      wp_shorten_56 Qr K2 n56 v1 v3 x3 σ2)
def wp_shorten_12 (Qr : St → Prop) (K2 : Int32 → St → Prop) : Nat → Int32 → Int32 → St → Prop
  | 0, _, _, _ => False
  | n12 + 1, v1, v2, σ =>
    vp_in ((6 * v1) + v2) 36 ∧
    (¬ (lg_cmp (gL σ 30 ((6 * v1) + v2)) 0) = 0 →
      vp_in v2 6 ∧
      vp_in ((6 * v1) + v2) 36 ∧
      ¬ (gL σ 30 ((6 * v1) + v2)) = 0 ∧
      ∀ (y1 : Int64), y1 = ((gL σ 32 v2) / (gL σ 30 ((6 * v1) + v2))) →
      ∃ n56, wp_shorten_56 Qr K2 n56 v1 y1 0 σ) ∧
    ((lg_cmp (gL σ 30 ((6 * v1) + v2)) 0) = 0 →
      ∀ (x2 : Int32), x2 = v2 + 1 →
      wp_shorten_12 Qr K2 n12 v1 x2 σ)
def wp_shorten_2 (Qr : St → Prop) : Nat → Int32 → St → Prop
  | 0, _, _ => False
  | n2 + 1, v1, σ =>
    ((gI σ 31) ≤ v1 →
      Qr σ) ∧
    (¬ (gI σ 31) ≤ v1 →
      ∃ n12, wp_shorten_12 Qr (wp_shorten_2 Qr n2) n12 v1 0 σ)
/-- private void shorten(); -/
def wp_shorten (σ : St) (Qr : St → Prop) : Prop :=
  ∃ n2, wp_shorten_2 Qr  n2 0 σ
def wp_solveWhole_72 (Qr : St → Prop) : Nat → Int32 → St → Prop
  | 0, _, _ => False
  | n72 + 1, v1, σ =>
    ((gI σ 15) ≤ v1 →
      Qr σ) ∧
    (¬ (gI σ 15) ≤ v1 →
      wp_narrow v1 σ (fun (σ1 : St) =>
        wp_order  σ1 (fun (σ2 : St) =>
          wp_shorten  σ2 (fun (σ3 : St) =>
            ∀ (x4 : Int32), x4 = v1 + 1 →
            wp_solveWhole_72 Qr n72 x4 σ3))))
def wp_solveWhole_51 (Qr : St → Prop) : Nat → Int32 → St → Prop
  | 0, _, _ => False
  | n51 + 1, v1, σ =>
    (6 ≤ v1 →
      ∃ n72, wp_solveWhole_72 Qr  n72 0 σ) ∧
    (¬ 6 ≤ v1 →
      vp_in v1 6 ∧
      ∀ (σ1 : St), σ1 = sL σ 32 v1 0 →
      ∀ (x2 : Int32), x2 = v1 + 1 →
      wp_solveWhole_51 Qr n51 x2 σ1)
def wp_solveWhole_42 (Qr : St → Prop) (K15 : Int32 → St → Prop) (v1 : Int32) (u1 : Int32) (u2 : Int64) (σ : St) : Prop :=
  vp_in u1 36 ∧
  ∀ (σ1 : St), σ1 = sL σ 30 u1 u2 →
  ∀ (x2 : Int32), x2 = v1 + 1 →
  K15 x2 σ1
def wp_solveWhole_15 (Qr : St → Prop) : Nat → Int32 → St → Prop
  | 0, _, _ => False
  | n15 + 1, v1, σ =>
    (36 ≤ v1 →
      ∃ n51, wp_solveWhole_51 Qr  n51 0 σ) ∧
    (¬ 36 ≤ v1 →
      (¬ (v1 - v1 / 6 * 6) = (v1 / 6) →
        wp_solveWhole_42 Qr (wp_solveWhole_15 Qr n15) v1 v1 0 σ) ∧
      ((v1 - v1 / 6 * 6) = (v1 / 6) →
        wp_solveWhole_42 Qr (wp_solveWhole_15 Qr n15) v1 v1 1 σ))
/-- private void solveWhole(); -/
def wp_solveWhole (σ : St) (Qr : St → Prop) : Prop :=
  ∀ (σ1 : St), σ1 = sI σ 31 (gI σ 17) →
  ∀ (σ2 : St), σ2 = sI σ1 33 1 →
  ∃ n15, wp_solveWhole_15 Qr  n15 0 σ2
def wp_solvable_41 (Qr : Int32 → St → Prop) (u0 : Int32) (σ : St) : Prop :=
  Qr u0 σ
def wp_solvable_13 (Qr : Int32 → St → Prop) (u1 : Int32) (σ : St) : Prop :=
  ∀ (σ1 : St), σ1 = sI σ 0 u1 →
  ((gI σ1 0) ≤ 0 →
    wp_solveWhole  σ1 (fun (σ2 : St) =>
      ((gI σ2 33) = 0 →
        wp_solvable_41 Qr  0 σ2) ∧
      (¬ (gI σ2 33) = 0 →
        wp_solvable_41 Qr  1 σ2))) ∧
  (¬ (gI σ1 0) ≤ 0 →
    Qr 0 σ1)
/-- public int solvable(); -/
def wp_solvable (σ : St) (Qr : Int32 → St → Prop) : Prop :=
  ((gI σ 14) = 0 →
    wp_solvable_13 Qr  1 σ) ∧
  (¬ (gI σ 14) = 0 →
    wp_solvable_13 Qr  0 σ)
def wp_kernel_13 (Qr : Int32 → St → Prop) (u1 : Int32) (σ : St) : Prop :=
  ∀ (σ1 : St), σ1 = sI σ 0 u1 →
  ((gI σ1 0) ≤ 0 →
    wp_solveWhole  σ1 (fun (σ2 : St) =>
      Qr (gI σ2 31) σ2)) ∧
  (¬ (gI σ1 0) ≤ 0 →
    Qr 0 σ1)
/-- public int kernel(); -/
def wp_kernel (σ : St) (Qr : Int32 → St → Prop) : Prop :=
  ((gI σ 14) = 0 →
    wp_kernel_13 Qr  1 σ) ∧
  (¬ (gI σ 14) = 0 →
    wp_kernel_13 Qr  0 σ)
def wp_isColumn_24 (Qr : Int32 → St → Prop) (u0 : Int32) (σ : St) : Prop :=
  isB u0 ∧ Qr u0 σ
def wp_isColumn_23 (Qr : Int32 → St → Prop) (σ : St) : Prop :=
  wp_isColumn_24 Qr  0 σ
/-- private boolean isColumn(int); -/
def wp_isColumn (p1 : Int32) (σ : St) (Qr : Int32 → St → Prop) : Prop :=
  ((gI σ 14) = 0 →
    wp_isColumn_23 Qr   σ) ∧
  (¬ (gI σ 14) = 0 →
    (p1 < 0 →
      wp_isColumn_23 Qr   σ) ∧
    (¬ p1 < 0 →
      ((gI σ 17) ≤ p1 →
        wp_isColumn_23 Qr   σ) ∧
      (¬ (gI σ 17) ≤ p1 →
        wp_isColumn_24 Qr  1 σ)))
def wp_kernelAt_62 (Qr : Int64 → St → Prop) (u0 : Int64) (σ : St) : Prop :=
  Qr u0 σ
def wp_kernelAt_37 (Qr : Int64 → St → Prop) (v1 : Int32) (v2 : Int32) (u1 : Int32) (σ : St) : Prop :=
  ∀ (σ1 : St), σ1 = sI σ 0 u1 →
  (¬ (gI σ1 0) = 0 →
    wp_kernelAt_62 Qr  0 σ1) ∧
  ((gI σ1 0) = 0 →
    vp_in ((6 * v1) + v2) 36 ∧
    wp_kernelAt_62 Qr  ((gL σ1 30 ((6 * v1) + v2))) σ1)
def wp_kernelAt_17 (Qr : Int64 → St → Prop) (σ : St) : Prop :=
  Qr 0 σ
/-- public long kernelAt(int, int); -/
def wp_kernelAt (p1 : Int32) (p2 : Int32) (σ : St) (Qr : Int64 → St → Prop) : Prop :=
  ∀ (σ1 : St), σ1 = sI σ 0 1 →
  wp_isColumn p2 σ1 (fun (x3 : Int32) (σ2 : St) =>
    (x3 = 0 →
      wp_kernelAt_17 Qr   σ2) ∧
    (¬ x3 = 0 →
      (0 ≤ p1 →
        wp_solveWhole  σ2 (fun (σ4 : St) =>
          ((gI σ4 31) ≤ p1 →
            wp_kernelAt_37 Qr  p1 p2 1 σ4) ∧
          (¬ (gI σ4 31) ≤ p1 →
            wp_kernelAt_37 Qr  p1 p2 0 σ4))) ∧
      (¬ 0 ≤ p1 →
        wp_kernelAt_17 Qr   σ2)))
def wp_most_12 (Qr : Int32 → St → Prop) (u0 : Int32) (σ : St) : Prop :=
  Qr u0 σ
/-- private int most(int); -/
def wp_most (p1 : Int32) (σ : St) (Qr : Int32 → St → Prop) : Prop :=
  (¬ (gI σ 17) = 0 →
    wp_most_12 Qr  p1 σ) ∧
  ((gI σ 17) = 0 →
    wp_most_12 Qr  0 σ)
def wp_begin_55 (Qr : St → Prop) (σ : St) : Prop :=
  Qr σ
def wp_begin_2 (Qr : St → Prop) : Nat → Int32 → Int32 → Int32 → St → Prop
  | 0, _, _, _, _ => False
  | n2 + 1, v1, v2, v3, σ =>
    (6 ≤ v3 →
      (v2 = 0 →
        ((gI σ 17) ≤ 0 →
          wp_begin_55 Qr   σ) ∧
        (¬ (gI σ 17) ≤ 0 →
          vp_in ((gI σ 17) - 1) 6 ∧
          ∀ (σ1 : St), σ1 = sA σ 35 ((gI σ 17) - 1) v1 →
          wp_begin_55 Qr   σ1)) ∧
      (¬ v2 = 0 →
        vp_in 0 6 ∧
        ∀ (σ2 : St), σ2 = sA σ 35 0 (-v1) →
        wp_begin_55 Qr   σ2)) ∧
    (¬ 6 ≤ v3 →
      vp_in v3 6 ∧
      ∀ (σ3 : St), σ3 = sA σ 35 v3 0 →
      ∀ (x4 : Int32), x4 = v3 + 1 →
      wp_begin_2 Qr n2 v1 v2 x4 σ3)
/-- private void begin(int, boolean); -/
def wp_begin (p1 : Int32) (p2 : Int32) (σ : St) (Qr : St → Prop) : Prop :=
  ∃ n2, wp_begin_2 Qr  n2 p1 p2 0 σ
def wp_solves_35_102 (Qr : Int32 → St → Prop) (v3 : Int32) (σ : St) : Prop :=
  isB v3 ∧ Qr v3 σ
def wp_solves_35_95 (Qr : Int32 → St → Prop) (K5 : Int32 → Int32 → Int32 → St → Prop) (v2 : Int32) (v4 : Int32) (u0 : Int32) (σ : St) : Prop :=
  ∀ (x1 : Int32), x1 = v4 + 1 →
  K5 v2 u0 x1 σ
def wp_solves_35_87 (Qr : Int32 → St → Prop) (K5 : Int32 → Int32 → Int32 → St → Prop) (v2 : Int32) (v4 : Int32) (u0 : Int32) (u1 : Int32) (σ : St) : Prop :=
  (¬ u0 = u1 →
    wp_solves_35_95 Qr K5 v2 v4 0 σ) ∧
  (u0 = u1 →
    wp_solves_35_95 Qr K5 v2 v4 1 σ)
def wp_solves_35_24 (Qr : Int32 → St → Prop) (K5 : Int32 → Int32 → Int32 → St → Prop) : Nat → Int32 → Int32 → Int32 → Int32 → St → Prop
  | 0, _, _, _, _, _ => False
  | n24 + 1, v2, v4, v5, v6, σ =>
    ((gI σ 17) ≤ v6 →
      (v2 = 0 →
        wp_solves_35_87 Qr K5 v2 v4 v5 0 σ) ∧
      (¬ v2 = 0 →
        vp_in ((7 * v4) + (gI σ 17)) 28 ∧
        wp_solves_35_87 Qr K5 v2 v4 v5 ((gA σ 19 ((7 * v4) + (gI σ 17)))) σ)) ∧
    (¬ (gI σ 17) ≤ v6 →
      vp_in ((7 * v4) + v6) 28 ∧
      vp_in v6 6 ∧
      ∀ (x1 : Int32), x1 = (v5 + ((gA σ 19 ((7 * v4) + v6)) * (gA σ 35 v6))) →
      ∀ (x2 : Int32), x2 = v6 + 1 →
      wp_solves_35_24 Qr K5 n24 v2 v4 x1 x2 σ)
def wp_solves_35_5 (Qr : Int32 → St → Prop) : Nat → Int32 → Int32 → Int32 → St → Prop
  | 0, _, _, _, _ => False
  | n5 + 1, v2, v3, v4, σ =>
    ((gI σ 15) ≤ v4 →
      wp_solves_35_102 Qr  v3 σ) ∧
    (¬ (gI σ 15) ≤ v4 →
      (v3 = 0 →
        wp_solves_35_102 Qr  v3 σ) ∧
      (¬ v3 = 0 →
        ∃ n24, wp_solves_35_24 Qr (wp_solves_35_5 Qr n5) n24 v2 v4 0 0 σ))
/-- private boolean solves(int[], boolean); -/
def wp_solves_35 (p2 : Int32) (σ : St) (Qr : Int32 → St → Prop) : Prop :=
  ∃ n5, wp_solves_35_5 Qr  n5 p2 1 0 σ
def wp_isBelow_107 (Qr : Int32 → St → Prop) (v4 : Int32) (σ : St) : Prop :=
  isB v4 ∧ Qr v4 σ
def wp_isBelow_99 (Qr : Int32 → St → Prop) (K6 : Int32 → Int32 → Int32 → Int32 → Int32 → St → Prop) (v1 : Int32) (v2 : Int32) (v3 : Int32) (v5 : Int32) (u0 : Int32) (σ : St) : Prop :=
  ∀ (x1 : Int32), x1 = v5 + 1 →
  K6 v1 v2 v3 u0 x1 σ
def wp_isBelow_98 (Qr : Int32 → St → Prop) (K6 : Int32 → Int32 → Int32 → Int32 → Int32 → St → Prop) (v1 : Int32) (v2 : Int32) (v3 : Int32) (v5 : Int32) (σ : St) : Prop :=
  wp_isBelow_99 Qr K6 v1 v2 v3 v5 0 σ
def wp_isBelow_73 (Qr : Int32 → St → Prop) (K6 : Int32 → Int32 → Int32 → Int32 → Int32 → St → Prop) (v1 : Int32) (v2 : Int32) (v3 : Int32) (v5 : Int32) (σ : St) : Prop :=
  wp_isBelow_99 Qr K6 v1 v2 v3 v5 0 σ
def wp_isBelow_6 (Qr : Int32 → St → Prop) : Nat → Int32 → Int32 → Int32 → Int32 → Int32 → St → Prop
  | 0, _, _, _, _, _, _ => False
  | n6 + 1, v1, v2, v3, v4, v5, σ =>
    ((gI σ 17) ≤ v5 →
      wp_isBelow_107 Qr  v4 σ) ∧
    (¬ (gI σ 17) ≤ v5 →
      (v4 = 0 →
        wp_isBelow_107 Qr  v4 σ) ∧
      (¬ v4 = 0 →
        vp_in (((12000 * v1) + (6 * v2)) + v5) 36000 ∧
        ∀ (x1 : Int32), x1 = (v3 * (gA σ 23 (((12000 * v1) + (6 * v2)) + v5))) →
        vp_in v5 6 ∧
        ((gA σ 35 v5) < 0 →
          (0 < x1 →
            wp_isBelow_98 Qr (wp_isBelow_6 Qr n6) v1 v2 v3 v5 σ) ∧
          (¬ 0 < x1 →
            vp_in v5 6 ∧
            (x1 < (gA σ 35 v5) →
              wp_isBelow_98 Qr (wp_isBelow_6 Qr n6) v1 v2 v3 v5 σ) ∧
            (¬ x1 < (gA σ 35 v5) →
              wp_isBelow_99 Qr (wp_isBelow_6 Qr n6) v1 v2 v3 v5 1 σ))) ∧
        (¬ (gA σ 35 v5) < 0 →
          (x1 < 0 →
            wp_isBelow_73 Qr (wp_isBelow_6 Qr n6) v1 v2 v3 v5 σ) ∧
          (¬ x1 < 0 →
            vp_in v5 6 ∧
            ((gA σ 35 v5) < x1 →
              wp_isBelow_73 Qr (wp_isBelow_6 Qr n6) v1 v2 v3 v5 σ) ∧
            (¬ (gA σ 35 v5) < x1 →
              wp_isBelow_99 Qr (wp_isBelow_6 Qr n6) v1 v2 v3 v5 1 σ)))))
/-- private boolean isBelow(int, int, int); -/
def wp_isBelow (p1 : Int32) (p2 : Int32) (p3 : Int32) (σ : St) (Qr : Int32 → St → Prop) : Prop :=
  ∃ n6, wp_isBelow_6 Qr  n6 p1 p2 p3 1 0 σ
def wp_belongs_104 (Qr : Int32 → St → Prop) (σ : St) : Prop :=
  isB 0 ∧ Qr 0 σ
def wp_belongs_168 (Qr : Int32 → St → Prop) (v4 : Int32) (σ : St) : Prop :=
  isB v4 ∧ Qr v4 σ
def wp_belongs_160 (Qr : Int32 → St → Prop) (K112 : Int32 → Int32 → Int32 → St → Prop) (v1 : Int32) (v5 : Int32) (u0 : Int32) (σ : St) : Prop :=
  ∀ (x1 : Int32), x1 = v5 + 1 →
  K112 v1 u0 x1 σ
def wp_belongs_159 (Qr : Int32 → St → Prop) (K112 : Int32 → Int32 → Int32 → St → Prop) (v1 : Int32) (v5 : Int32) (σ : St) : Prop :=
  wp_belongs_160 Qr K112 v1 v5 0 σ
def wp_belongs_155 (Qr : Int32 → St → Prop) (K112 : Int32 → Int32 → Int32 → St → Prop) (v1 : Int32) (v5 : Int32) (σ : St) : Prop :=
  wp_belongs_160 Qr K112 v1 v5 1 σ
def wp_belongs_112 (Qr : Int32 → St → Prop) : Nat → Int32 → Int32 → Int32 → St → Prop
  | 0, _, _, _, _ => False
  | n112 + 1, v1, v4, v5, σ =>
    vp_in v1 3 ∧
    ((gA σ 22 v1) ≤ v5 →
      wp_belongs_168 Qr  v4 σ) ∧
    (¬ (gA σ 22 v1) ≤ v5 →
      (v4 = 0 →
        wp_belongs_168 Qr  v4 σ) ∧
      (¬ v4 = 0 →
        wp_isBelow v1 v5 1 σ (fun (x2 : Int32) (σ1 : St) =>
          (¬ x2 = 0 →
            wp_belongs_159 Qr (wp_belongs_112 Qr n112) v1 v5 σ1) ∧
          (x2 = 0 →
            (v1 < 2 →
              wp_belongs_155 Qr (wp_belongs_112 Qr n112) v1 v5 σ1) ∧
            (¬ v1 < 2 →
              wp_isBelow v1 v5 (-1) σ1 (fun (x4 : Int32) (σ3 : St) =>
                (¬ x4 = 0 →
                  wp_belongs_159 Qr (wp_belongs_112 Qr n112) v1 v5 σ3) ∧
                (x4 = 0 →
                  wp_belongs_155 Qr (wp_belongs_112 Qr n112) v1 v5 σ3)))))))
def wp_belongs_98 (Qr : Int32 → St → Prop) (v1 : Int32) (u2 : Int32) (σ : St) : Prop :=
  wp_solves_35 u2 σ (fun (x2 : Int32) (σ1 : St) =>
    (¬ x2 = 0 →
      ∃ n112, wp_belongs_112 Qr  n112 v1 1 0 σ1) ∧
    (x2 = 0 →
      wp_belongs_104 Qr   σ1))
def wp_belongs_83 (Qr : Int32 → St → Prop) (v1 : Int32) (σ : St) : Prop :=
  (¬ v1 = 1 →
    wp_belongs_98 Qr  v1 0 σ) ∧
  (v1 = 1 →
    wp_belongs_98 Qr  v1 1 σ)
def wp_belongs_74 (Qr : Int32 → St → Prop) (v1 : Int32) (v3 : Int32) (σ : St) : Prop :=
  (¬ v1 = 2 →
    wp_belongs_83 Qr  v1 σ) ∧
  (v1 = 2 →
    (v3 < 0 →
      wp_belongs_104 Qr   σ) ∧
    (¬ v3 < 0 →
      wp_belongs_83 Qr  v1 σ))
def wp_belongs_58 (Qr : Int32 → St → Prop) (K12 : Int32 → Int32 → Int32 → Int32 → St → Prop) (v1 : Int32) (v2 : Int32) (v4 : Int32) (u0 : Int32) (σ : St) : Prop :=
  ∀ (x1 : Int32), x1 = v4 + (-1) →
  K12 v1 v2 u0 x1 σ
def wp_belongs_36 (Qr : Int32 → St → Prop) (K12 : Int32 → Int32 → Int32 → Int32 → St → Prop) (v1 : Int32) (v3 : Int32) (v4 : Int32) (u0 : Int32) (σ : St) : Prop :=
  vp_in v4 6 ∧
  ((gA σ 35 v4) = 0 →
    wp_belongs_58 Qr K12 v1 u0 v4 v3 σ) ∧
  (¬ (gA σ 35 v4) = 0 →
    vp_in v4 6 ∧
    wp_belongs_58 Qr K12 v1 u0 v4 ((gA σ 35 v4)) σ)
def wp_belongs_35 (Qr : Int32 → St → Prop) (K12 : Int32 → Int32 → Int32 → Int32 → St → Prop) (v1 : Int32) (v3 : Int32) (v4 : Int32) (σ : St) : Prop :=
  wp_belongs_36 Qr K12 v1 v3 v4 0 σ
def wp_belongs_12 (Qr : Int32 → St → Prop) : Nat → Int32 → Int32 → Int32 → Int32 → St → Prop
  | 0, _, _, _, _, _ => False
  | n12 + 1, v1, v2, v3, v4, σ =>
    (v4 < 0 →
      (v1 = 1 →
        wp_belongs_74 Qr  v1 v3 σ) ∧
      (¬ v1 = 1 →
        (¬ v2 = 0 →
          wp_belongs_104 Qr   σ) ∧
        (v2 = 0 →
          wp_belongs_74 Qr  v1 v3 σ))) ∧
    (¬ v4 < 0 →
      (v2 = 0 →
        wp_belongs_35 Qr (wp_belongs_12 Qr n12) v1 v3 v4 σ) ∧
      (¬ v2 = 0 →
        vp_in v4 6 ∧
        (¬ (gA σ 35 v4) = 0 →
          wp_belongs_35 Qr (wp_belongs_12 Qr n12) v1 v3 v4 σ) ∧
        ((gA σ 35 v4) = 0 →
          wp_belongs_36 Qr (wp_belongs_12 Qr n12) v1 v3 v4 1 σ)))
/-- private boolean belongs(int); -/
def wp_belongs (p1 : Int32) (σ : St) (Qr : Int32 → St → Prop) : Prop :=
  ∀ (x1 : Int32), x1 = ((gI σ 17) - 1) →
  ∃ n12, wp_belongs_12 Qr  n12 p1 1 0 x1 σ
def wp_put_2 (Qr : St → Prop) : Nat → Int32 → Int32 → St → Prop
  | 0, _, _, _ => False
  | n2 + 1, v1, v2, σ =>
    ((gI σ 17) ≤ v2 →
      vp_in v1 3 ∧
      vp_in v1 3 ∧
      ∀ (σ1 : St), σ1 = sA σ 22 v1 ((gA σ 22 v1) + 1) →
      Qr σ1) ∧
    (¬ (gI σ 17) ≤ v2 →
      vp_in v1 3 ∧
      vp_in v2 6 ∧
      vp_in (((12000 * v1) + (6 * (gA σ 22 v1))) + v2) 36000 ∧
      ∀ (σ2 : St), σ2 = sA σ 23 (((12000 * v1) + (6 * (gA σ 22 v1))) + v2) (vp_nar .byte (((gA σ 35 v2)).toInt8.toInt32)) →
      ∀ (x3 : Int32), x3 = v2 + 1 →
      wp_put_2 Qr n2 v1 x3 σ2)
/-- private void put(int); -/
def wp_put (p1 : Int32) (σ : St) (Qr : St → Prop) : Prop :=
  ∃ n2, wp_put_2 Qr  n2 p1 0 σ
def wp_spread_53 (Qr : St → Prop) (σ : St) : Prop :=
  Qr σ
def wp_spread_3 (Qr : St → Prop) : Nat → Int32 → Int32 → Int32 → Int32 → St → Prop
  | 0, _, _, _, _, _ => False
  | n3 + 1, v1, v2, v3, v4, σ =>
    ((gI σ 17) ≤ v4 →
      (v3 = 0 →
        vp_in ((gI σ 17) - 1) 6 ∧
        ∀ (σ1 : St), σ1 = sA σ 35 ((gI σ 17) - 1) v2 →
        wp_spread_53 Qr   σ1) ∧
      (¬ v3 = 0 →
        vp_in v1 6 ∧
        ∀ (σ2 : St), σ2 = sA σ 35 v1 (-v2) →
        wp_spread_53 Qr   σ2)) ∧
    (¬ (gI σ 17) ≤ v4 →
      vp_in v4 6 ∧
      ∀ (σ3 : St), σ3 = sA σ 35 v4 0 →
      ∀ (x4 : Int32), x4 = v4 + 1 →
      wp_spread_3 Qr n3 v1 v2 v3 x4 σ3)
/-- private void spread(int, int, boolean); -/
def wp_spread (p1 : Int32) (p2 : Int32) (p3 : Int32) (σ : St) (Qr : St → Prop) : Prop :=
  ∃ n3, wp_spread_3 Qr  n3 p1 p2 p3 p1 σ
def wp_next_136 (Qr : Int32 → St → Prop) (K9 : Int32 → Int32 → Int32 → St → Prop) (v1 : Int32) (v3 : Int32) (v5 : Int32) (σ : St) : Prop :=
  ∀ (x1 : Int32), x1 = v3 + (-1) →
  K9 v1 v5 x1 σ
def wp_next_101 (Qr : Int32 → St → Prop) (K9 : Int32 → Int32 → Int32 → St → Prop) (v1 : Int32) (v3 : Int32) (v5 : Int32) (v6 : Int32) (v7 : Int32) (v8 : Int32) (σ : St) : Prop :=
  (¬ v8 = 0 →
    wp_next_136 Qr K9 v1 v3 v5 σ) ∧
  (v8 = 0 →
    (v5 < v7 →
      wp_next_136 Qr K9 v1 v3 v5 σ) ∧
    (¬ v5 < v7 →
      vp_in v3 6 ∧
      ∀ (σ1 : St), σ1 = sA σ 35 v3 v6 →
      wp_spread (v3 + 1) (v5 - v7) v1 σ1 (fun (σ2 : St) =>
        isB 1 ∧ Qr 1 σ2)))
def wp_next_74 (Qr : Int32 → St → Prop) (K9 : Int32 → Int32 → Int32 → St → Prop) (v1 : Int32) (v3 : Int32) (v4 : Int32) (v5 : Int32) (v6 : Int32) (v7 : Int32) (u0 : Int32) (σ : St) : Prop :=
  (u0 = 0 →
    wp_next_101 Qr K9 v1 v3 v5 v6 v7 u0 σ) ∧
  (¬ u0 = 0 →
    (v1 = 0 →
      wp_next_101 Qr K9 v1 v3 v5 v6 v7 u0 σ) ∧
    (¬ v1 = 0 →
      (0 ≤ v4 →
        wp_next_101 Qr K9 v1 v3 v5 v6 v7 u0 σ) ∧
      (¬ 0 ≤ v4 →
        vp_in v3 6 ∧
        ∀ (σ1 : St), σ1 = sA σ 35 v3 (-v4) →
        isB 1 ∧ Qr 1 σ1)))
def wp_next_57 (Qr : Int32 → St → Prop) (K9 : Int32 → Int32 → Int32 → St → Prop) (v1 : Int32) (v3 : Int32) (v4 : Int32) (v5 : Int32) (v6 : Int32) (u0 : Int32) (σ : St) : Prop :=
  (¬ v3 = ((gI σ 17) - 1) →
    wp_next_74 Qr K9 v1 v3 v4 v5 v6 u0 0 σ) ∧
  (v3 = ((gI σ 17) - 1) →
    wp_next_74 Qr K9 v1 v3 v4 v5 v6 u0 1 σ)
def wp_next_35 (Qr : Int32 → St → Prop) (K9 : Int32 → Int32 → Int32 → St → Prop) (v1 : Int32) (v3 : Int32) (v4 : Int32) (u0 : Int32) (u1 : Int32) (σ : St) : Prop :=
  ∀ (x1 : Int32), x1 = (u0 + u1) →
  ∀ (x2 : Int32), x2 = (v4 + 1) →
  (0 ≤ x2 →
    wp_next_57 Qr K9 v1 v3 v4 x1 x2 x2 σ) ∧
  (¬ 0 ≤ x2 →
    wp_next_57 Qr K9 v1 v3 v4 x1 x2 ((-x2)) σ)
def wp_next_9 (Qr : Int32 → St → Prop) : Nat → Int32 → Int32 → Int32 → St → Prop
  | 0, _, _, _, _ => False
  | n9 + 1, v1, v2, v3, σ =>
    (v3 < 0 →
      isB 0 ∧ Qr 0 σ) ∧
    (¬ v3 < 0 →
      vp_in v3 6 ∧
      ∀ (x1 : Int32), x1 = (gA σ 35 v3) →
      (0 ≤ x1 →
        wp_next_35 Qr (wp_next_9 Qr n9) v1 v3 x1 v2 x1 σ) ∧
      (¬ 0 ≤ x1 →
        wp_next_35 Qr (wp_next_9 Qr n9) v1 v3 x1 v2 ((-x1)) σ))
/-- private boolean next(boolean); -/
def wp_next (p1 : Int32) (σ : St) (Qr : Int32 → St → Prop) : Prop :=
  ∀ (x1 : Int32), x1 = ((gI σ 17) - 1) →
  ∃ n9, wp_next_9 Qr  n9 p1 0 x1 σ
def wp_work_213 (Qr : Int32 → St → Prop) (v1 : Int32) (v2 : Int32) (v3 : Int32) (σ : St) : Prop :=
  (¬ v3 = 0 →
    vp_in v1 3 ∧
    ∀ (σ1 : St), σ1 = sA σ 20 v1 (vp_nar .boolean 1) →
    vp_in v1 3 ∧
    ∀ (σ2 : St), σ2 = sA σ1 21 v1 v2 →
    vp_in v1 3 ∧
    Qr (gA σ2 22 v1) σ2) ∧
  (v3 = 0 →
    vp_in v1 3 ∧
    ∀ (σ3 : St), σ3 = sA σ 22 v1 0 →
    Qr (-1) σ3)
def wp_work_207 (Qr : Int32 → St → Prop) (K98 : Int32 → Int32 → Int32 → Int32 → St → Prop) (v1 : Int32) (v2 : Int32) (v3 : Int32) (v4 : Int32) (σ : St) : Prop :=
  ∀ (x1 : Int32), x1 = v4 + 1 →
  K98 v1 v2 v3 x1 σ
def wp_work_202 (Qr : Int32 → St → Prop) (K98 : Int32 → Int32 → Int32 → Int32 → St → Prop) (K131 : Int32 → Int32 → Int32 → Int32 → Int32 → St → Prop) (v1 : Int32) (v2 : Int32) (v3 : Int32) (v4 : Int32) (u0 : Int32) (σ : St) : Prop :=
  K131 v1 v2 v3 v4 u0 σ
def wp_work_201 (Qr : Int32 → St → Prop) (K98 : Int32 → Int32 → Int32 → Int32 → St → Prop) (K131 : Int32 → Int32 → Int32 → Int32 → Int32 → St → Prop) (v1 : Int32) (v2 : Int32) (v3 : Int32) (v4 : Int32) (σ : St) : Prop :=
  wp_work_202 Qr K98 K131 v1 v2 v3 v4 0 σ
def wp_work_191 (Qr : Int32 → St → Prop) (K98 : Int32 → Int32 → Int32 → Int32 → St → Prop) (K131 : Int32 → Int32 → Int32 → Int32 → Int32 → St → Prop) (v1 : Int32) (v2 : Int32) (v3 : Int32) (v4 : Int32) (u1 : Int32) (σ : St) : Prop :=
  wp_next u1 σ (fun (x2 : Int32) (σ1 : St) =>
    (x2 = 0 →
      wp_work_201 Qr K98 K131 v1 v2 v3 v4 σ1) ∧
    (¬ x2 = 0 →
      wp_work_202 Qr K98 K131 v1 v2 v3 v4 1 σ1))
def wp_work_175 (Qr : Int32 → St → Prop) (K98 : Int32 → Int32 → Int32 → Int32 → St → Prop) (K131 : Int32 → Int32 → Int32 → Int32 → Int32 → St → Prop) (v1 : Int32) (v2 : Int32) (v3 : Int32) (v4 : Int32) (σ : St) : Prop :=
  (v4 ≤ 0 →
    wp_work_201 Qr K98 K131 v1 v2 v3 v4 σ) ∧
  (¬ v4 ≤ 0 →
    (¬ v1 = 2 →
      wp_work_191 Qr K98 K131 v1 v2 v3 v4 0 σ) ∧
    (v1 = 2 →
      wp_work_191 Qr K98 K131 v1 v2 v3 v4 1 σ))
def wp_work_165 (Qr : Int32 → St → Prop) (K98 : Int32 → Int32 → Int32 → Int32 → St → Prop) (K131 : Int32 → Int32 → Int32 → Int32 → Int32 → St → Prop) (v1 : Int32) (v2 : Int32) (v4 : Int32) (u0 : Int32) (σ : St) : Prop :=
  (u0 = 0 →
    wp_work_175 Qr K98 K131 v1 v2 u0 v4 σ) ∧
  (¬ u0 = 0 →
    wp_put v1 σ (fun (σ1 : St) =>
      wp_work_175 Qr K98 K131 v1 v2 u0 v4 σ1))
def wp_work_131 (Qr : Int32 → St → Prop) (K98 : Int32 → Int32 → Int32 → Int32 → St → Prop) : Nat → Int32 → Int32 → Int32 → Int32 → Int32 → St → Prop
  | 0, _, _, _, _, _, _ => False
  | n131 + 1, v1, v2, v3, v4, v5, σ =>
    (v5 = 0 →
      wp_work_207 Qr K98 v1 v2 v3 v4 σ) ∧
    (¬ v5 = 0 →
      (v3 = 0 →
        wp_work_207 Qr K98 v1 v2 v3 v4 σ) ∧
      (¬ v3 = 0 →
        wp_belongs v1 σ (fun (x2 : Int32) (σ1 : St) =>
          (x2 = 0 →
            wp_work_175 Qr K98 (wp_work_131 Qr K98 n131) v1 v2 v3 v4 σ1) ∧
          (¬ x2 = 0 →
            vp_in v1 3 ∧
            (2000 ≤ (gA σ1 22 v1) →
              wp_work_165 Qr K98 (wp_work_131 Qr K98 n131) v1 v2 v4 0 σ1) ∧
            (¬ 2000 ≤ (gA σ1 22 v1) →
              wp_work_165 Qr K98 (wp_work_131 Qr K98 n131) v1 v2 v4 1 σ1)))))
def wp_work_125 (Qr : Int32 → St → Prop) (K98 : Int32 → Int32 → Int32 → Int32 → St → Prop) (v1 : Int32) (v2 : Int32) (v3 : Int32) (v4 : Int32) (u1 : Int32) (u2 : Int32) (σ : St) : Prop :=
  wp_begin u1 u2 σ (fun (σ1 : St) =>
    ∃ n131, wp_work_131 Qr K98 n131 v1 v2 v3 v4 1 σ1)
def wp_work_98 (Qr : Int32 → St → Prop) : Nat → Int32 → Int32 → Int32 → Int32 → St → Prop
  | 0, _, _, _, _, _ => False
  | n98 + 1, v1, v2, v3, v4, σ =>
    wp_most v2 σ (fun (x2 : Int32) (σ1 : St) =>
      (x2 < v4 →
        wp_work_213 Qr  v1 v2 v3 σ1) ∧
      (¬ x2 < v4 →
        (v3 = 0 →
          wp_work_213 Qr  v1 v2 v3 σ1) ∧
        (¬ v3 = 0 →
          (¬ v1 = 2 →
            wp_work_125 Qr (wp_work_98 Qr n98) v1 v2 v3 v4 v4 0 σ1) ∧
          (v1 = 2 →
            wp_work_125 Qr (wp_work_98 Qr n98) v1 v2 v3 v4 v4 1 σ1))))
def wp_work_90 (Qr : Int32 → St → Prop) (v1 : Int32) (v2 : Int32) (u1 : Int32) (σ : St) : Prop :=
  isB u1 ∧
  ∀ (σ1 : St), σ1 = sI σ 26 u1 →
  ∃ n98, wp_work_98 Qr  n98 v1 v2 1 0 σ1
def wp_work_89 (Qr : Int32 → St → Prop) (v1 : Int32) (v2 : Int32) (σ : St) : Prop :=
  wp_work_90 Qr  v1 v2 0 σ
def wp_work_46 (Qr : Int32 → St → Prop) (v1 : Int32) (v2 : Int32) (u1 : Int32) (σ : St) : Prop :=
  ∀ (σ1 : St), σ1 = sI σ 0 u1 →
  ((gI σ1 0) ≤ 0 →
    vp_in v1 3 ∧
    ∀ (σ2 : St), σ2 = sA σ1 20 v1 (vp_nar .boolean 0) →
    vp_in v1 3 ∧
    ∀ (σ3 : St), σ3 = sA σ2 22 v1 0 →
    ((gI σ3 26) = 0 →
      wp_work_89 Qr  v1 v2 σ3) ∧
    (¬ (gI σ3 26) = 0 →
      (¬ v1 = 2 →
        wp_work_89 Qr  v1 v2 σ3) ∧
      (v1 = 2 →
        wp_work_90 Qr  v1 v2 1 σ3))) ∧
  (¬ (gI σ1 0) ≤ 0 →
    Qr 0 σ1)
def wp_work_30 (Qr : Int32 → St → Prop) (v1 : Int32) (v2 : Int32) (σ : St) : Prop :=
  wp_work_46 Qr  v1 v2 1 σ
def wp_work_27 (Qr : Int32 → St → Prop) (v1 : Int32) (v2 : Int32) (u1 : Int32) (u2 : Int32) (σ : St) : Prop :=
  (u1 ≤ u2 →
    ((gI σ 14) = 0 →
      wp_work_46 Qr  v1 v2 2 σ) ∧
    (¬ (gI σ 14) = 0 →
      wp_work_46 Qr  v1 v2 0 σ)) ∧
  (¬ u1 ≤ u2 →
    wp_work_30 Qr  v1 v2 σ)
/-- public int work(int, int); -/
def wp_work (p1 : Int32) (p2 : Int32) (σ : St) (Qr : Int32 → St → Prop) : Prop :=
  (p1 < 0 →
    wp_work_30 Qr  p1 p2 σ) ∧
  (¬ p1 < 0 →
    (2 < p1 →
      wp_work_30 Qr  p1 p2 σ) ∧
    (¬ 2 < p1 →
      (p2 < 0 →
        wp_work_30 Qr  p1 p2 σ) ∧
      (¬ p2 < 0 →
        (¬ p1 = 2 →
          wp_work_27 Qr  p1 p2 p2 16 σ) ∧
        (p1 = 2 →
          wp_work_27 Qr  p1 p2 p2 10 σ))))
def wp_at_87 (Qr : Int32 → St → Prop) (u0 : Int32) (σ : St) : Prop :=
  Qr u0 σ
def wp_at_58 (Qr : Int32 → St → Prop) (v1 : Int32) (v2 : Int32) (v3 : Int32) (v4 : Int32) (u1 : Int32) (σ : St) : Prop :=
  ∀ (σ1 : St), σ1 = sI σ 0 u1 →
  (v4 = 0 →
    wp_at_87 Qr  0 σ1) ∧
  (¬ v4 = 0 →
    vp_in (((12000 * v1) + (6 * v2)) + v3) 36000 ∧
    wp_at_87 Qr  ((gA σ1 23 (((12000 * v1) + (6 * v2)) + v3))) σ1)
def wp_at_45 (Qr : Int32 → St → Prop) (v1 : Int32) (v2 : Int32) (v3 : Int32) (u0 : Int32) (σ : St) : Prop :=
  (u0 = 0 →
    wp_at_58 Qr  v1 v2 v3 u0 1 σ) ∧
  (¬ u0 = 0 →
    wp_at_58 Qr  v1 v2 v3 u0 0 σ)
def wp_at_44 (Qr : Int32 → St → Prop) (v1 : Int32) (v2 : Int32) (v3 : Int32) (σ : St) : Prop :=
  wp_at_45 Qr  v1 v2 v3 0 σ
/-- public int at(int, int, int); -/
def wp_at (p1 : Int32) (p2 : Int32) (p3 : Int32) (σ : St) (Qr : Int32 → St → Prop) : Prop :=
  (p1 < 0 →
    wp_at_44 Qr  p1 p2 p3 σ) ∧
  (¬ p1 < 0 →
    (2 < p1 →
      wp_at_44 Qr  p1 p2 p3 σ) ∧
    (¬ 2 < p1 →
      wp_isColumn p3 σ (fun (x2 : Int32) (σ1 : St) =>
        (x2 = 0 →
          wp_at_44 Qr  p1 p2 p3 σ1) ∧
        (¬ x2 = 0 →
          vp_in p1 3 ∧
          ((gA σ1 20 p1) = 0 →
            wp_at_44 Qr  p1 p2 p3 σ1) ∧
          (¬ (gA σ1 20 p1) = 0 →
            (p2 < 0 →
              wp_at_44 Qr  p1 p2 p3 σ1) ∧
            (¬ p2 < 0 →
              vp_in p1 3 ∧
              ((gA σ1 22 p1) ≤ p2 →
                wp_at_44 Qr  p1 p2 p3 σ1) ∧
              (¬ (gA σ1 22 p1) ≤ p2 →
                wp_at_45 Qr  p1 p2 p3 1 σ1)))))))
def wp_tell_47 (Qr : St → Prop) (σ : St) : Prop :=
  Qr σ
def wp_tell_30 (Qr : St → Prop) (v1 : Int32) (v2 : Int32) (u1 : Int32) (σ : St) : Prop :=
  ∀ (σ1 : St), σ1 = sI σ 0 u1 →
  (¬ (gI σ1 0) = 0 →
    wp_tell_47 Qr   σ1) ∧
  ((gI σ1 0) = 0 →
    vp_in v1 6 ∧
    ∀ (σ2 : St), σ2 = sA σ1 24 v1 v2 →
    wp_tell_47 Qr   σ2)
def wp_tell_25 (Qr : St → Prop) (v1 : Int32) (v2 : Int32) (σ : St) : Prop :=
  wp_tell_30 Qr  v1 v2 2 σ
/-- public void tell(int, int); -/
def wp_tell (p1 : Int32) (p2 : Int32) (σ : St) (Qr : St → Prop) : Prop :=
  wp_isColumn p1 σ (fun (x2 : Int32) (σ1 : St) =>
    (¬ x2 = 0 →
      (p2 < (-99) →
        wp_tell_25 Qr  p1 p2 σ1) ∧
      (¬ p2 < (-99) →
        (p2 ≤ 99 →
          wp_tell_30 Qr  p1 p2 0 σ1) ∧
        (¬ p2 ≤ 99 →
          wp_tell_25 Qr  p1 p2 σ1))) ∧
    (x2 = 0 →
      wp_tell_30 Qr  p1 p2 1 σ1))
def wp_solves_24_102 (Qr : Int32 → St → Prop) (v3 : Int32) (σ : St) : Prop :=
  isB v3 ∧ Qr v3 σ
def wp_solves_24_95 (Qr : Int32 → St → Prop) (K5 : Int32 → Int32 → Int32 → St → Prop) (v2 : Int32) (v4 : Int32) (u0 : Int32) (σ : St) : Prop :=
  ∀ (x1 : Int32), x1 = v4 + 1 →
  K5 v2 u0 x1 σ
def wp_solves_24_87 (Qr : Int32 → St → Prop) (K5 : Int32 → Int32 → Int32 → St → Prop) (v2 : Int32) (v4 : Int32) (u0 : Int32) (u1 : Int32) (σ : St) : Prop :=
  (¬ u0 = u1 →
    wp_solves_24_95 Qr K5 v2 v4 0 σ) ∧
  (u0 = u1 →
    wp_solves_24_95 Qr K5 v2 v4 1 σ)
def wp_solves_24_24 (Qr : Int32 → St → Prop) (K5 : Int32 → Int32 → Int32 → St → Prop) : Nat → Int32 → Int32 → Int32 → Int32 → St → Prop
  | 0, _, _, _, _, _ => False
  | n24 + 1, v2, v4, v5, v6, σ =>
    ((gI σ 17) ≤ v6 →
      (v2 = 0 →
        wp_solves_24_87 Qr K5 v2 v4 v5 0 σ) ∧
      (¬ v2 = 0 →
        vp_in ((7 * v4) + (gI σ 17)) 28 ∧
        wp_solves_24_87 Qr K5 v2 v4 v5 ((gA σ 19 ((7 * v4) + (gI σ 17)))) σ)) ∧
    (¬ (gI σ 17) ≤ v6 →
      vp_in ((7 * v4) + v6) 28 ∧
      vp_in v6 6 ∧
      ∀ (x1 : Int32), x1 = (v5 + ((gA σ 19 ((7 * v4) + v6)) * (gA σ 24 v6))) →
      ∀ (x2 : Int32), x2 = v6 + 1 →
      wp_solves_24_24 Qr K5 n24 v2 v4 x1 x2 σ)
def wp_solves_24_5 (Qr : Int32 → St → Prop) : Nat → Int32 → Int32 → Int32 → St → Prop
  | 0, _, _, _, _ => False
  | n5 + 1, v2, v3, v4, σ =>
    ((gI σ 15) ≤ v4 →
      wp_solves_24_102 Qr  v3 σ) ∧
    (¬ (gI σ 15) ≤ v4 →
      (v3 = 0 →
        wp_solves_24_102 Qr  v3 σ) ∧
      (¬ v3 = 0 →
        ∃ n24, wp_solves_24_24 Qr (wp_solves_24_5 Qr n5) n24 v2 v4 0 0 σ))
/-- private boolean solves(int[], boolean); -/
def wp_solves_24 (p2 : Int32) (σ : St) (Qr : Int32 → St → Prop) : Prop :=
  ∃ n5, wp_solves_24_5 Qr  n5 p2 1 0 σ
def wp_isPlain_30 (Qr : Int32 → St → Prop) (K4 : Int32 → Int32 → St → Prop) (v2 : Int32) (u0 : Int32) (σ : St) : Prop :=
  ∀ (x1 : Int32), x1 = v2 + 1 →
  K4 u0 x1 σ
def wp_isPlain_29 (Qr : Int32 → St → Prop) (K4 : Int32 → Int32 → St → Prop) (v2 : Int32) (σ : St) : Prop :=
  wp_isPlain_30 Qr K4 v2 0 σ
def wp_isPlain_4 (Qr : Int32 → St → Prop) : Nat → Int32 → Int32 → St → Prop
  | 0, _, _, _ => False
  | n4 + 1, v1, v2, σ =>
    ((gI σ 17) ≤ v2 →
      isB v1 ∧ Qr v1 σ) ∧
    (¬ (gI σ 17) ≤ v2 →
      (v1 = 0 →
        wp_isPlain_29 Qr (wp_isPlain_4 Qr n4) v2 σ) ∧
      (¬ v1 = 0 →
        vp_in v2 6 ∧
        ((gA σ 24 v2) < 0 →
          wp_isPlain_29 Qr (wp_isPlain_4 Qr n4) v2 σ) ∧
        (¬ (gA σ 24 v2) < 0 →
          wp_isPlain_30 Qr (wp_isPlain_4 Qr n4) v2 1 σ)))
/-- private boolean isPlain(); -/
def wp_isPlain (σ : St) (Qr : Int32 → St → Prop) : Prop :=
  ∃ n4, wp_isPlain_4 Qr  n4 1 0 σ
def wp_holds_75 (Qr : Int32 → St → Prop) (u0 : Int32) (σ : St) : Prop :=
  Qr u0 σ
def wp_holds_74 (Qr : Int32 → St → Prop) (u0 : Int32) (u1 : Int32) (σ : St) : Prop :=
  wp_holds_75 Qr  ((u0 + u1)) σ
def wp_holds_61 (Qr : Int32 → St → Prop) (u0 : Int32) (u1 : Int32) (σ : St) : Prop :=
  wp_isPlain  σ (fun (x2 : Int32) (σ1 : St) =>
    (x2 = 0 →
      wp_holds_74 Qr  ((u0 + u1)) 0 σ1) ∧
    (¬ x2 = 0 →
      wp_holds_74 Qr  ((u0 + u1)) 4 σ1))
def wp_holds_44 (Qr : Int32 → St → Prop) (u0 : Int32) (σ : St) : Prop :=
  wp_solves_24 0 σ (fun (x2 : Int32) (σ1 : St) =>
    (x2 = 0 →
      wp_holds_61 Qr  u0 0 σ1) ∧
    (¬ x2 = 0 →
      wp_holds_61 Qr  u0 2 σ1))
def wp_holds_13 (Qr : Int32 → St → Prop) (u1 : Int32) (σ : St) : Prop :=
  ∀ (σ1 : St), σ1 = sI σ 0 u1 →
  ((gI σ1 0) ≤ 0 →
    wp_solves_24 1 σ1 (fun (x3 : Int32) (σ2 : St) =>
      (x3 = 0 →
        wp_holds_44 Qr  0 σ2) ∧
      (¬ x3 = 0 →
        wp_holds_44 Qr  1 σ2))) ∧
  (¬ (gI σ1 0) ≤ 0 →
    wp_holds_75 Qr  0 σ1)
/-- public int holds(); -/
def wp_holds (σ : St) (Qr : Int32 → St → Prop) : Prop :=
  ((gI σ 14) = 0 →
    wp_holds_13 Qr  1 σ) ∧
  (¬ (gI σ 14) = 0 →
    wp_holds_13 Qr  0 σ)
def wp_split_220 (Qr : Int32 → St → Prop) (K190 : Int32 → Int32 → St → Prop) (K207 : Int32 → Int32 → St → Prop) : Nat → Int32 → Int32 → Int32 → St → Prop
  | 0, _, _, _, _ => False
  | n220 + 1, v2, v3, v4, σ =>
    ((gI σ 17) ≤ v4 →
      vp_in v3 2000 ∧
      vp_in v3 2000 ∧
      ∀ (σ1 : St), σ1 = sA σ 27 v3 ((gA σ 27 v3) + 1) →
      K207 v2 v3 σ1) ∧
    (¬ (gI σ 17) ≤ v4 →
      vp_in v4 6 ∧
      vp_in ((6 * v3) + v4) 36000 ∧
      vp_in v4 6 ∧
      ∀ (σ2 : St), σ2 = sA σ 35 v4 ((gA σ 35 v4) - (gA σ 23 ((6 * v3) + v4))) →
      ∀ (x3 : Int32), x3 = v4 + 1 →
      wp_split_220 Qr K190 K207 n220 v2 v3 x3 σ2)
def wp_split_207 (Qr : Int32 → St → Prop) (K190 : Int32 → Int32 → St → Prop) : Nat → Int32 → Int32 → St → Prop
  | 0, _, _, _ => False
  | n207 + 1, v2, v3, σ =>
    wp_isBelow 0 v3 1 σ (fun (x2 : Int32) (σ1 : St) =>
      (x2 = 0 →
        ∀ (x3 : Int32), x3 = v3 + 1 →
        K190 v2 x3 σ1) ∧
      (¬ x2 = 0 →
        ∃ n220, wp_split_220 Qr K190 (wp_split_207 Qr K190 n207) n220 v2 v3 0 σ1))
def wp_split_190 (Qr : Int32 → St → Prop) : Nat → Int32 → Int32 → St → Prop
  | 0, _, _, _ => False
  | n190 + 1, v2, v3, σ =>
    vp_in 0 3 ∧
    ((gA σ 22 0) ≤ v3 →
      ∀ (σ1 : St), σ1 = sI σ 26 1 →
      Qr v2 σ1) ∧
    (¬ (gA σ 22 0) ≤ v3 →
      vp_in v3 2000 ∧
      ∀ (σ2 : St), σ2 = sA σ 27 v3 0 →
      ∃ n207, wp_split_207 Qr (wp_split_190 Qr n190) n207 v2 v3 σ2)
def wp_split_146 (Qr : Int32 → St → Prop) : Nat → Int32 → Int32 → St → Prop
  | 0, _, _, _ => False
  | n146 + 1, v2, v3, σ =>
    ((gI σ 17) ≤ v3 →
      ∃ n190, wp_split_190 Qr  n190 v2 0 σ) ∧
    (¬ (gI σ 17) ≤ v3 →
      vp_in v3 6 ∧
      vp_in ((12000 + (6 * v2)) + v3) 36000 ∧
      vp_in v3 6 ∧
      ∀ (σ1 : St), σ1 = sA σ 35 v3 ((gA σ 35 v3) - (gA σ 23 ((12000 + (6 * v2)) + v3))) →
      ∀ (x2 : Int32), x2 = v3 + 1 →
      wp_split_146 Qr n146 v2 x2 σ1)
def wp_split_128 (Qr : Int32 → St → Prop) : Nat → Int32 → St → Prop
  | 0, _, _ => False
  | n128 + 1, v2, σ =>
    wp_isBelow 1 v2 1 σ (fun (x2 : Int32) (σ1 : St) =>
      (¬ x2 = 0 →
        ∃ n146, wp_split_146 Qr  n146 v2 0 σ1) ∧
      (x2 = 0 →
        ∀ (x3 : Int32), x3 = v2 + 1 →
        wp_split_128 Qr n128 x3 σ1))
def wp_split_100 (Qr : Int32 → St → Prop) : Nat → Int32 → St → Prop
  | 0, _, _ => False
  | n100 + 1, v2, σ =>
    ((gI σ 17) ≤ v2 →
      ∃ n128, wp_split_128 Qr  n128 0 σ) ∧
    (¬ (gI σ 17) ≤ v2 →
      vp_in v2 6 ∧
      vp_in v2 6 ∧
      ∀ (σ1 : St), σ1 = sA σ 35 v2 (gA σ 24 v2) →
      ∀ (x2 : Int32), x2 = v2 + 1 →
      wp_split_100 Qr n100 x2 σ1)
def wp_split_96 (Qr : Int32 → St → Prop) (σ : St) : Prop :=
  Qr (-1) σ
def wp_split_9 (Qr : Int32 → St → Prop) : Nat → Int32 → Int32 → St → Prop
  | 0, _, _, _ => False
  | n9 + 1, v1, v2, σ =>
    ((gI σ 17) ≤ v2 →
      ((gI σ 14) = 0 →
        wp_split_96 Qr   σ) ∧
      (¬ (gI σ 14) = 0 →
        wp_isPlain  σ (fun (x2 : Int32) (σ1 : St) =>
          (x2 = 0 →
            wp_split_96 Qr   σ1) ∧
          (¬ x2 = 0 →
            wp_solves_24 1 σ1 (fun (x4 : Int32) (σ3 : St) =>
              (x4 = 0 →
                wp_split_96 Qr   σ3) ∧
              (¬ x4 = 0 →
                vp_in 0 3 ∧
                ((gA σ3 20 0) = 0 →
                  wp_split_96 Qr   σ3) ∧
                (¬ (gA σ3 20 0) = 0 →
                  vp_in 1 3 ∧
                  ((gA σ3 20 1) = 0 →
                    wp_split_96 Qr   σ3) ∧
                  (¬ (gA σ3 20 1) = 0 →
                    vp_in 0 3 ∧
                    ((gA σ3 21 0) < v1 →
                      wp_split_96 Qr   σ3) ∧
                    (¬ (gA σ3 21 0) < v1 →
                      vp_in 1 3 ∧
                      (v1 ≤ (gA σ3 21 1) →
                        ∃ n100, wp_split_100 Qr  n100 0 σ3) ∧
                      (¬ v1 ≤ (gA σ3 21 1) →
                        wp_split_96 Qr   σ3)))))))))) ∧
    (¬ (gI σ 17) ≤ v2 →
      vp_in v2 6 ∧
      ∀ (x5 : Int32), x5 = (v1 + (gA σ 24 v2)) →
      ∀ (x6 : Int32), x6 = v2 + 1 →
      wp_split_9 Qr n9 x5 x6 σ)
/-- public int split(); -/
def wp_split (σ : St) (Qr : Int32 → St → Prop) : Prop :=
  ∀ (σ1 : St), σ1 = sI σ 0 0 →
  ∃ n9, wp_split_9 Qr  n9 0 0 σ1
def wp_times_36 (Qr : Int32 → St → Prop) (u0 : Int32) (σ : St) : Prop :=
  Qr u0 σ
def wp_times_35 (Qr : Int32 → St → Prop) (σ : St) : Prop :=
  wp_times_36 Qr  (-1) σ
/-- public int times(int); -/
def wp_times (p1 : Int32) (σ : St) (Qr : Int32 → St → Prop) : Prop :=
  ∀ (σ1 : St), σ1 = sI σ 0 0 →
  ((gI σ1 26) = 0 →
    wp_times_35 Qr   σ1) ∧
  (¬ (gI σ1 26) = 0 →
    (p1 < 0 →
      wp_times_35 Qr   σ1) ∧
    (¬ p1 < 0 →
      vp_in 0 3 ∧
      ((gA σ1 22 0) ≤ p1 →
        wp_times_35 Qr   σ1) ∧
      (¬ (gA σ1 22 0) ≤ p1 →
        vp_in p1 2000 ∧
        wp_times_36 Qr  ((gA σ1 27 p1)) σ1)))
def wp_cost_47 (Qr : St → Prop) (σ : St) : Prop :=
  Qr σ
def wp_cost_30 (Qr : St → Prop) (v1 : Int32) (v2 : Int32) (u1 : Int32) (σ : St) : Prop :=
  ∀ (σ1 : St), σ1 = sI σ 0 u1 →
  (¬ (gI σ1 0) = 0 →
    wp_cost_47 Qr   σ1) ∧
  ((gI σ1 0) = 0 →
    vp_in v1 6 ∧
    ∀ (σ2 : St), σ2 = sA σ1 25 v1 v2 →
    wp_cost_47 Qr   σ2)
def wp_cost_25 (Qr : St → Prop) (v1 : Int32) (v2 : Int32) (σ : St) : Prop :=
  wp_cost_30 Qr  v1 v2 2 σ
/-- public void cost(int, int); -/
def wp_cost (p1 : Int32) (p2 : Int32) (σ : St) (Qr : St → Prop) : Prop :=
  wp_isColumn p1 σ (fun (x2 : Int32) (σ1 : St) =>
    (¬ x2 = 0 →
      (p2 < (-99) →
        wp_cost_25 Qr  p1 p2 σ1) ∧
      (¬ p2 < (-99) →
        (p2 ≤ 99 →
          wp_cost_30 Qr  p1 p2 0 σ1) ∧
        (¬ p2 ≤ 99 →
          wp_cost_25 Qr  p1 p2 σ1))) ∧
    (x2 = 0 →
      wp_cost_30 Qr  p1 p2 1 σ1))
def wp_isBefore_59 (Qr : Int32 → St → Prop) (u0 : Int32) (σ : St) : Prop :=
  isB u0 ∧ Qr u0 σ
def wp_isBefore_58 (Qr : Int32 → St → Prop) (σ : St) : Prop :=
  wp_isBefore_59 Qr  0 σ
def wp_isBefore_31 (Qr : Int32 → St → Prop) (v1 : Int32) (σ : St) : Prop :=
  ((gI σ 17) ≤ v1 →
    wp_isBefore_58 Qr   σ) ∧
  (¬ (gI σ 17) ≤ v1 →
    vp_in v1 6 ∧
    vp_in v1 6 ∧
    ((gA σ 29 v1) ≤ (gA σ 35 v1) →
      wp_isBefore_58 Qr   σ) ∧
    (¬ (gA σ 29 v1) ≤ (gA σ 35 v1) →
      wp_isBefore_59 Qr  1 σ))
def wp_isBefore_2 (Qr : Int32 → St → Prop) : Nat → Int32 → St → Prop
  | 0, _, _ => False
  | n2 + 1, v1, σ =>
    ((gI σ 17) ≤ v1 →
      wp_isBefore_31 Qr  v1 σ) ∧
    (¬ (gI σ 17) ≤ v1 →
      vp_in v1 6 ∧
      vp_in v1 6 ∧
      (¬ (gA σ 35 v1) = (gA σ 29 v1) →
        wp_isBefore_31 Qr  v1 σ) ∧
      ((gA σ 35 v1) = (gA σ 29 v1) →
        ∀ (x1 : Int32), x1 = v1 + 1 →
        wp_isBefore_2 Qr n2 x1 σ))
/-- private boolean isBefore(); -/
def wp_isBefore (σ : St) (Qr : Int32 → St → Prop) : Prop :=
  ∃ n2, wp_isBefore_2 Qr  n2 0 σ
def wp_best_243 (Qr : Int32 → St → Prop) (v3 : Int32) (u1 : Int32) (σ : St) : Prop :=
  isB u1 ∧
  ∀ (σ1 : St), σ1 = sI σ 28 u1 →
  Qr v3 σ1
def wp_best_238 (Qr : Int32 → St → Prop) (v3 : Int32) (σ : St) : Prop :=
  wp_best_243 Qr  v3 1 σ
def wp_best_223 (Qr : Int32 → St → Prop) (v2 : Int32) (v3 : Int32) (u1 : Int32) (σ : St) : Prop :=
  ∀ (σ1 : St), σ1 = sI σ 0 u1 →
  (¬ (gI σ1 28) = 0 →
    wp_best_238 Qr  v3 σ1) ∧
  ((gI σ1 28) = 0 →
    (v2 = 0 →
      wp_best_243 Qr  v3 0 σ1) ∧
    (¬ v2 = 0 →
      wp_best_238 Qr  v3 σ1))
def wp_best_202 (Qr : Int32 → St → Prop) (K46 : Int32 → Int32 → Int32 → Int32 → St → Prop) (K66 : Int32 → Int32 → Int32 → Int32 → Int32 → St → Prop) (v1 : Int32) (v2 : Int32) (v3 : Int32) (v4 : Int32) (u0 : Int32) (σ : St) : Prop :=
  K66 v1 v2 v3 v4 u0 σ
def wp_best_201 (Qr : Int32 → St → Prop) (K46 : Int32 → Int32 → Int32 → Int32 → St → Prop) (K66 : Int32 → Int32 → Int32 → Int32 → Int32 → St → Prop) (v1 : Int32) (v2 : Int32) (v3 : Int32) (v4 : Int32) (σ : St) : Prop :=
  wp_best_202 Qr K46 K66 v1 v2 v3 v4 0 σ
def wp_best_184 (Qr : Int32 → St → Prop) (K46 : Int32 → Int32 → Int32 → Int32 → St → Prop) (K66 : Int32 → Int32 → Int32 → Int32 → Int32 → St → Prop) (v1 : Int32) (v2 : Int32) (v3 : Int32) (v4 : Int32) (σ : St) : Prop :=
  (v4 ≤ 0 →
    wp_best_201 Qr K46 K66 v1 v2 v3 v4 σ) ∧
  (¬ v4 ≤ 0 →
    wp_next 0 σ (fun (x2 : Int32) (σ1 : St) =>
      (x2 = 0 →
        wp_best_201 Qr K46 K66 v1 v2 v3 v4 σ1) ∧
      (¬ x2 = 0 →
        wp_best_202 Qr K46 K66 v1 v2 v3 v4 1 σ1)))
def wp_best_150 (Qr : Int32 → St → Prop) (K46 : Int32 → Int32 → Int32 → Int32 → St → Prop) (K66 : Int32 → Int32 → Int32 → Int32 → Int32 → St → Prop) : Nat → Int32 → Int32 → Int32 → Int32 → St → Prop
  | 0, _, _, _, _, _ => False
  | n150 + 1, v1, v4, v6, v7, σ =>
    ((gI σ 17) ≤ v7 →
      wp_best_184 Qr K46 K66 v1 1 v6 v4 σ) ∧
    (¬ (gI σ 17) ≤ v7 →
      vp_in v7 6 ∧
      vp_in v7 6 ∧
      ∀ (σ1 : St), σ1 = sA σ 29 v7 (gA σ 35 v7) →
      ∀ (x2 : Int32), x2 = v7 + 1 →
      wp_best_150 Qr K46 K66 n150 v1 v4 v6 x2 σ1)
def wp_best_147 (Qr : Int32 → St → Prop) (K46 : Int32 → Int32 → Int32 → Int32 → St → Prop) (K66 : Int32 → Int32 → Int32 → Int32 → Int32 → St → Prop) (v1 : Int32) (v4 : Int32) (v6 : Int32) (σ : St) : Prop :=
  ∃ n150, wp_best_150 Qr K46 K66 n150 v1 v4 v6 0 σ
def wp_best_89 (Qr : Int32 → St → Prop) (K46 : Int32 → Int32 → Int32 → Int32 → St → Prop) (K66 : Int32 → Int32 → Int32 → Int32 → Int32 → St → Prop) : Nat → Int32 → Int32 → Int32 → Int32 → Int32 → Int32 → St → Prop
  | 0, _, _, _, _, _, _, _ => False
  | n89 + 1, v1, v2, v3, v4, v6, v7, σ =>
    ((gI σ 17) ≤ v7 →
      (v2 = 0 →
        wp_best_147 Qr K46 K66 v1 v4 v6 σ) ∧
      (¬ v2 = 0 →
        (v6 < v3 →
          wp_best_147 Qr K46 K66 v1 v4 v6 σ) ∧
        (¬ v6 < v3 →
          (¬ v6 = v3 →
            wp_best_184 Qr K46 K66 v1 v2 v3 v4 σ) ∧
          (v6 = v3 →
            wp_isBefore  σ (fun (x2 : Int32) (σ1 : St) =>
              (x2 = 0 →
                wp_best_184 Qr K46 K66 v1 v2 v3 v4 σ1) ∧
              (¬ x2 = 0 →
                wp_best_147 Qr K46 K66 v1 v4 v6 σ1)))))) ∧
    (¬ (gI σ 17) ≤ v7 →
      vp_in v7 6 ∧
      vp_in v7 6 ∧
      ∀ (x3 : Int32), x3 = (v6 + ((gA σ 25 v7) * (gA σ 35 v7))) →
      ∀ (x4 : Int32), x4 = v7 + 1 →
      wp_best_89 Qr K46 K66 n89 v1 v2 v3 v4 x3 x4 σ)
def wp_best_66 (Qr : Int32 → St → Prop) (K46 : Int32 → Int32 → Int32 → Int32 → St → Prop) : Nat → Int32 → Int32 → Int32 → Int32 → Int32 → St → Prop
  | 0, _, _, _, _, _, _ => False
  | n66 + 1, v1, v2, v3, v4, v5, σ =>
    (v5 = 0 →
      ∀ (x1 : Int32), x1 = v4 + 1 →
      K46 v1 v2 v3 x1 σ) ∧
    (¬ v5 = 0 →
      wp_solves_35 1 σ (fun (x3 : Int32) (σ2 : St) =>
        (x3 = 0 →
          wp_best_184 Qr K46 (wp_best_66 Qr K46 n66) v1 v2 v3 v4 σ2) ∧
        (¬ x3 = 0 →
          ∃ n89, wp_best_89 Qr K46 (wp_best_66 Qr K46 n66) n89 v1 v2 v3 v4 0 0 σ2)))
def wp_best_46 (Qr : Int32 → St → Prop) : Nat → Int32 → Int32 → Int32 → Int32 → St → Prop
  | 0, _, _, _, _, _ => False
  | n46 + 1, v1, v2, v3, v4, σ =>
    wp_most v1 σ (fun (x2 : Int32) (σ1 : St) =>
      (x2 < v4 →
        (v2 = 0 →
          wp_best_223 Qr  v2 v3 3 σ1) ∧
        (¬ v2 = 0 →
          wp_best_223 Qr  v2 v3 0 σ1)) ∧
      (¬ x2 < v4 →
        wp_begin v4 0 σ1 (fun (σ3 : St) =>
          ∃ n66, wp_best_66 Qr (wp_best_46 Qr n46) n66 v1 v2 v3 v4 1 σ3)))
def wp_best_27 (Qr : Int32 → St → Prop) (v1 : Int32) (u1 : Int32) (σ : St) : Prop :=
  ∀ (σ1 : St), σ1 = sI σ 0 u1 →
  ((gI σ1 0) ≤ 0 →
    ∃ n46, wp_best_46 Qr  n46 v1 0 0 0 σ1) ∧
  (¬ (gI σ1 0) ≤ 0 →
    Qr 0 σ1)
def wp_best_11 (Qr : Int32 → St → Prop) (v1 : Int32) (σ : St) : Prop :=
  wp_best_27 Qr  v1 1 σ
/-- public int best(int); -/
def wp_best (p1 : Int32) (σ : St) (Qr : Int32 → St → Prop) : Prop :=
  (p1 < 0 →
    wp_best_11 Qr  p1 σ) ∧
  (¬ p1 < 0 →
    (p1 ≤ 16 →
      (¬ (gI σ 14) = 0 →
        wp_best_27 Qr  p1 0 σ) ∧
      ((gI σ 14) = 0 →
        wp_best_27 Qr  p1 2 σ)) ∧
    (¬ p1 ≤ 16 →
      wp_best_11 Qr  p1 σ))
def wp_bestAt_30 (Qr : Int32 → St → Prop) (u0 : Int32) (σ : St) : Prop :=
  Qr u0 σ
def wp_bestAt_29 (Qr : Int32 → St → Prop) (σ : St) : Prop :=
  wp_bestAt_30 Qr  (-1) σ
/-- public int bestAt(int); -/
def wp_bestAt (p1 : Int32) (σ : St) (Qr : Int32 → St → Prop) : Prop :=
  ∀ (σ1 : St), σ1 = sI σ 0 0 →
  ((gI σ1 28) = 0 →
    wp_bestAt_29 Qr   σ1) ∧
  (¬ (gI σ1 28) = 0 →
    wp_isColumn p1 σ1 (fun (x3 : Int32) (σ2 : St) =>
      (x3 = 0 →
        wp_bestAt_29 Qr   σ2) ∧
      (¬ x3 = 0 →
        vp_in p1 6 ∧
        wp_bestAt_30 Qr  ((gA σ2 29 p1)) σ2)))
