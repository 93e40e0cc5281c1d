set_option maxRecDepth 100000
def wp_X1_read_117 (ev : Nat → Nat) (Qr : Int32 → Hp → Prop) (Xr : String → Hp → Prop) : Nat → Nat → Int32 → Hp → Nat → Nat → Prop
  | 0, _, _, _, _, _ => False
  | n117 + 1, a0, v3, h, mc, ms =>
    (6 ≤ v3 →
      hok h a0 0 ∧
      ∀ (h1 : Hp), h1 = uI h a0 12 0 →
      hok h1 a0 0 ∧
      ∀ (h3 : Hp), h3 = uI h1 a0 13 0 →
      Qr 0 h3) ∧
    (¬ 6 ≤ v3 →
      hok h a0 0 ∧
      ∃ b6 : Nat, hR h a0 10 = some b6 ∧
      hok h b6 20 ∧
      vp_in v3 (hN h b6) ∧
      ∀ (h7 : Hp), h7 = uA h b6 v3 0 →
      hok h7 a0 0 ∧
      ∃ b11 : Nat, hR h7 a0 6 = some b11 ∧
      hok h7 b11 7 ∧
      ∃ b13 : Nat, hR h7 b11 1 = some b13 ∧
      hok h7 b13 20 ∧
      vp_in v3 (hN h7 b13) ∧
      ∀ (h14 : Hp), h14 = uA h7 b13 v3 0 →
      ∀ (x17 : Int32), x17 = v3 + 1 →
      wp_X1_read_117 ev Qr Xr n117 a0 x17 h14 mc ms)
def wp_X1_read_91 (ev : Nat → Nat) (Qr : Int32 → Hp → Prop) (Xr : String → Hp → Prop) : Nat → Nat → Nat → Int32 → Int32 → Hp → Nat → Nat → Prop
  | 0, _, _, _, _, _, _, _ => False
  | n91 + 1, a0, v3, v4, v5, h, mc, ms =>
    (v4 ≤ v5 →
      ∃ n117, wp_X1_read_117 ev Qr Xr  n117 a0 0 h mc ms) ∧
    (¬ v4 ≤ v5 →
      hok h v3 27 ∧
      vp_in v5 (hN h v3) ∧
      ∃ b3 : Nat, hO h v3 v5 = some b3 ∧
      ∃ c4 d5 mc6 ms7 : Nat, mc = c4 + mc6 ∧ ms = d5 + ms7 ∧
      hok h b3 8 ∧
      wp_X9_clear ev h b3 c4 d5 (fun (h8 : Hp) =>
        ∀ (x11 : Int32), x11 = v5 + 1 →
        wp_X1_read_91 ev Qr Xr n91 a0 v3 v4 x11 h8 mc6 ms7))
def wp_X1_read_36 (ev : Nat → Nat) (Qr : Int32 → Hp → Prop) (Xr : String → Hp → Prop) (a0 : Nat) (v1 : Int32) (u0 : Nat) (u1 : Int32) (h : Hp) (mc ms : Nat) : Prop :=
  hok h u0 0 ∧
  ∀ (h1 : Hp), h1 = uI h u0 9 u1 →
  (v1 = 0 →
    hok h1 a0 0 ∧
    ∃ b4 : Nat, hR h1 a0 2 = some b4 ∧
    hok h1 a0 0 ∧
    ∃ b6 : Nat, hR h1 a0 3 = some b6 ∧
    hok h1 a0 0 ∧
    ∀ (h7 : Hp), h7 = uR h1 a0 2 (some b6) →
    hok h7 a0 0 ∧
    ∀ (h9 : Hp), h9 = uR h7 a0 3 (some b4) →
    hok h9 a0 0 ∧
    ∀ (h11 : Hp), h11 = uI h9 a0 8 1 →
    hok h11 a0 0 ∧
    ∃ b14 : Nat, hR h11 a0 4 = some b14 ∧
    hok h11 a0 0 ∧
    ∃ b16 : Nat, hR h11 a0 2 = some b16 ∧
    hok h11 b14 4 ∧
    wp_X5_work ev h11 b14 b16 (fun (h17 : Hp) =>
      hok h17 a0 0 ∧
      ∃ b21 : Nat, hR h17 a0 7 = some b21 ∧
      hok h17 b21 27 ∧
      ∀ (x23 : Int32), x23 = (nI (hN h17 b21)) →
      ∃ n91, wp_X1_read_91 ev Qr Xr  n91 a0 b21 x23 0 h17 mc ms)) ∧
  (¬ v1 = 0 →
    Qr v1 h1)
/-- LeastSolutions.read()I -/
def wp_X1_read (ev : Nat → Nat) (h : Hp) (a0 : Nat) (MC MS : Nat) (Qr : Int32 → Hp → Prop) (Xr : String → Hp → Prop) : Prop :=
  hok h a0 0 ∧
  ∃ b2 : Nat, hR h a0 1 = some b2 ∧
  hok h a0 0 ∧
  ∃ b4 : Nat, hR h a0 3 = some b4 ∧
  hok h b2 2 ∧
  wp_X3_work ev h b2 b4 (fun (x6 : Int32) (h5 : Hp) =>
    hok h5 a0 0 ∧
    ∃ b10 : Nat, hR h5 a0 0 = some b10 ∧
    hok h5 b10 1 ∧
    ∀ (h11 : Hp), h11 = uI h5 b10 1 0 →
    (¬ x6 = 0 →
      hok h11 a0 0 ∧
      ∃ b14 : Nat, hR h11 a0 1 = some b14 ∧
      hok h11 b14 2 ∧
      wp_X1_read_36 ev Qr Xr  a0 x6 a0 ((hI h11 b14 9)) h11 MC MS) ∧
    (x6 = 0 →
      wp_X1_read_36 ev Qr Xr  a0 x6 a0 (-1) h11 MC MS)) Xr
def wp_X1_split_204 (ev : Nat → Nat) (Qr : Int32 → Hp → Prop) (Xr : String → Hp → Prop) (K186 : Nat → Nat → Int32 → Nat → Int32 → Hp → Nat → Nat → Prop) : Nat → Nat → Nat → Int32 → Nat → Int32 → Hp → Nat → Nat → Prop
  | 0, _, _, _, _, _, _, _, _ => False
  | n204 + 1, a0, v2, v4, v5, v6, h, mc, ms =>
    hok h v5 6 ∧
    wp_X7_get ev h v5 v6 (fun (r2 : Option Nat) (h1 : Hp) =>
      (∀ b : Nat, r2 = some b → hok h1 b 10) ∧
      ∃ b6 : Nat, r2 = some b6 ∧
      hok h1 b6 10 ∧
      wp_X11_isIn ev h1 b6 v2 (fun (x8 : Int32) (h7 : Hp) =>
        (x8 = 0 →
          ∀ (x11 : Int32), x11 = v6 + 1 →
          K186 a0 v2 v4 v5 x11 h7 mc ms) ∧
        (¬ x8 = 0 →
          hok h7 v5 6 ∧
          wp_X7_get ev h7 v5 v6 (fun (r13 : Option Nat) (h12 : Hp) =>
            (∀ b : Nat, r13 = some b → hok h12 b 10) ∧
            ∃ b17 : Nat, r13 = some b17 ∧
            wp_X1_take ev h12 b17 v2 (fun (h18 : Hp) =>
              hok h18 a0 0 ∧
              ∃ b21 : Nat, hR h18 a0 11 = some b21 ∧
              hok h18 b21 20 ∧
              vp_in v6 (hN h18 b21) ∧
              hok h18 b21 20 ∧
              vp_in v6 (hN h18 b21) ∧
              ∀ (h24 : Hp), h24 = uA h18 b21 v6 ((hA h18 b21 v6) + 1) →
              wp_X1_split_204 ev Qr Xr K186 n204 a0 v2 v4 v5 v6 h24 mc ms)))))
def wp_X1_split_186 (ev : Nat → Nat) (Qr : Int32 → Hp → Prop) (Xr : String → Hp → Prop) : Nat → Nat → Nat → Int32 → Nat → Int32 → Hp → Nat → Nat → Prop
  | 0, _, _, _, _, _, _, _, _ => False
  | n186 + 1, a0, v2, v4, v5, v6, h, mc, ms =>
    hok h v5 6 ∧
    wp_X7_size ev h v5 (fun (x2 : Int32) (h1 : Hp) =>
      (x2 ≤ v6 →
        hok h1 a0 0 ∧
        ∀ (h5 : Hp), h5 = uI h1 a0 12 1 →
        Qr v4 h5) ∧
      (¬ x2 ≤ v6 →
        hok h1 a0 0 ∧
        ∃ b8 : Nat, hR h1 a0 11 = some b8 ∧
        hok h1 b8 20 ∧
        vp_in v6 (hN h1 b8) ∧
        ∀ (h9 : Hp), h9 = uA h1 b8 v6 0 →
        ∃ n204, wp_X1_split_204 ev Qr Xr (wp_X1_split_186 ev Qr Xr n186) n204 a0 v2 v4 v5 v6 h9 mc ms))
def wp_X1_split_137 (ev : Nat → Nat) (Qr : Int32 → Hp → Prop) (Xr : String → Hp → Prop) : Nat → Nat → Nat → Nat → Int32 → Hp → Nat → Nat → Prop
  | 0, _, _, _, _, _, _, _ => False
  | n137 + 1, a0, v2, v3, v4, h, mc, ms =>
    hok h v3 6 ∧
    wp_X7_get ev h v3 v4 (fun (r2 : Option Nat) (h1 : Hp) =>
      (∀ b : Nat, r2 = some b → hok h1 b 10) ∧
      ∃ b6 : Nat, r2 = some b6 ∧
      hok h1 b6 10 ∧
      wp_X11_isIn ev h1 b6 v2 (fun (x8 : Int32) (h7 : Hp) =>
        (¬ x8 = 0 →
          hok h7 v3 6 ∧
          wp_X7_get ev h7 v3 v4 (fun (r12 : Option Nat) (h11 : Hp) =>
            (∀ b : Nat, r12 = some b → hok h11 b 10) ∧
            ∃ b16 : Nat, r12 = some b16 ∧
            wp_X1_take ev h11 b16 v2 (fun (h17 : Hp) =>
              hok h17 a0 0 ∧
              ∃ b20 : Nat, hR h17 a0 7 = some b20 ∧
              hok h17 b20 27 ∧
              vp_in 0 (hN h17 b20) ∧
              ∃ b23 : Nat, hO h17 b20 0 = some b23 ∧
              hok h17 b23 8 ∧
              ∃ b25 : Nat, hR h17 b23 0 = some b25 ∧
              ∃ n186, wp_X1_split_186 ev Qr Xr  n186 a0 v2 v4 b25 0 h17 mc ms))) ∧
        (x8 = 0 →
          ∀ (x26 : Int32), x26 = v4 + 1 →
          wp_X1_split_137 ev Qr Xr n137 a0 v2 v3 x26 h7 mc ms)))
def wp_X1_split_105 (ev : Nat → Nat) (Qr : Int32 → Hp → Prop) (Xr : String → Hp → Prop) (a0 : Nat) (h : Hp) (mc ms : Nat) : Prop :=
  Qr (-1) h
def wp_X1_split_56 (ev : Nat → Nat) (Qr : Int32 → Hp → Prop) (Xr : String → Hp → Prop) : Nat → Nat → Int32 → Nat → Int32 → Int32 → Hp → Nat → Nat → Prop
  | 0, _, _, _, _, _, _, _, _ => False
  | n56 + 1, a0, v1, v2, v3, v4, h, mc, ms =>
    (v3 ≤ v4 →
      hok h a0 0 ∧
      ∃ b2 : Nat, hR h a0 7 = some b2 ∧
      hok h b2 27 ∧
      vp_in 0 (hN h b2) ∧
      ∃ b5 : Nat, hO h b2 0 = some b5 ∧
      hok h b5 8 ∧
      ((hI h b5 1) < v1 →
        wp_X1_split_105 ev Qr Xr  a0 h mc ms) ∧
      (¬ (hI h b5 1) < v1 →
        hok h a0 0 ∧
        ∃ b8 : Nat, hR h a0 7 = some b8 ∧
        hok h b8 27 ∧
        vp_in 1 (hN h b8) ∧
        ∃ b11 : Nat, hO h b8 1 = some b11 ∧
        hok h b11 8 ∧
        (v1 ≤ (hI h b11 1) →
          ∃ mc14 ms15 : Nat, mc = 1 + mc14 ∧ ms = 6 + ms15 ∧
          ∀ (q16 : Nat), q16 ∉ h.1 → ∀ (h17 : Hp), h17 = nA h q16 20 6 →
          hok h17 a0 0 ∧
          ∃ b19 : Nat, hR h17 a0 10 = some b19 ∧
          hok h17 b19 20 ∧
          hok h17 q16 20 ∧
          (¬ (0 : Int32) < 0 ∧ ¬ (0 : Int32) < 0 ∧ ¬ (6 : Int32) < 0 ∧ (0 : Int32).toNatClampNeg + (6 : Int32).toNatClampNeg ≤ hN h17 b19 ∧ (0 : Int32).toNatClampNeg + (6 : Int32).toNatClampNeg ≤ hN h17 q16) ∧
          ∀ (h20 : Hp), h20 = uAf h17 q16 (va_cpy (h17.2.2.2.2.2.1 b19) (h17.2.2.2.2.2.1 q16) (0 : Int32).toNatClampNeg (0 : Int32).toNatClampNeg (6 : Int32).toNatClampNeg) →
          hok h20 a0 0 ∧
          ∃ b25 : Nat, hR h20 a0 7 = some b25 ∧
          hok h20 b25 27 ∧
          vp_in 1 (hN h20 b25) ∧
          ∃ b28 : Nat, hO h20 b25 1 = some b28 ∧
          hok h20 b28 8 ∧
          ∃ b30 : Nat, hR h20 b28 0 = some b30 ∧
          ∃ n137, wp_X1_split_137 ev Qr Xr  n137 a0 q16 b30 0 h20 mc14 ms15) ∧
        (¬ v1 ≤ (hI h b11 1) →
          wp_X1_split_105 ev Qr Xr  a0 h mc ms))) ∧
    (¬ v3 ≤ v4 →
      hok h v2 20 ∧
      vp_in v4 (hN h v2) ∧
      ∀ (x33 : Int32), x33 = (hA h v2 v4) →
      ∀ (x34 : Int32), x34 = (v1 + x33) →
      ∀ (x35 : Int32), x35 = v4 + 1 →
      wp_X1_split_56 ev Qr Xr n56 a0 x34 v2 v3 x35 h mc ms)
def wp_X1_split_41 (ev : Nat → Nat) (Qr : Int32 → Hp → Prop) (Xr : String → Hp → Prop) (a0 : Nat) (h : Hp) (mc ms : Nat) : Prop :=
  Qr (-1) h
/-- LeastSolutions.split()I -/
def wp_X1_split (ev : Nat → Nat) (h : Hp) (a0 : Nat) (MC MS : Nat) (Qr : Int32 → Hp → Prop) (Xr : String → Hp → Prop) : Prop :=
  hok h a0 0 ∧
  ((hI h a0 8) = 0 →
    wp_X1_split_41 ev Qr Xr  a0 h MC MS) ∧
  (¬ (hI h a0 8) = 0 →
    hok h a0 0 ∧
    ∃ b3 : Nat, hR h a0 7 = some b3 ∧
    hok h b3 27 ∧
    vp_in 0 (hN h b3) ∧
    ∃ b6 : Nat, hO h b3 0 = some b6 ∧
    hok h b6 8 ∧
    wp_X9_isThere ev h b6 (fun (x8 : Int32) (h7 : Hp) =>
      (x8 = 0 →
        wp_X1_split_41 ev Qr Xr  a0 h7 MC MS) ∧
      (¬ x8 = 0 →
        hok h7 a0 0 ∧
        ∃ b12 : Nat, hR h7 a0 7 = some b12 ∧
        hok h7 b12 27 ∧
        vp_in 1 (hN h7 b12) ∧
        ∃ b15 : Nat, hO h7 b12 1 = some b15 ∧
        hok h7 b15 8 ∧
        wp_X9_isThere ev h7 b15 (fun (x17 : Int32) (h16 : Hp) =>
          (x17 = 0 →
            wp_X1_split_41 ev Qr Xr  a0 h16 MC MS) ∧
          (¬ x17 = 0 →
            ∃ c20 d21 mc22 ms23 : Nat, MC = c20 + mc22 ∧ MS = d21 + ms23 ∧
            hok h16 a0 0 ∧
            wp_X1_holds ev h16 a0 c20 d21 (fun (x25 : Int32) (h24 : Hp) =>
              ((x25 &&& 5) = 5 →
                hok h24 a0 0 ∧
                ∃ b29 : Nat, hR h24 a0 10 = some b29 ∧
                hok h24 b29 20 ∧
                ∀ (x31 : Int32), x31 = (nI (hN h24 b29)) →
                ∃ n56, wp_X1_split_56 ev Qr Xr  n56 a0 0 b29 x31 0 h24 mc22 ms23) ∧
              (¬ (x25 &&& 5) = 5 →
                wp_X1_split_41 ev Qr Xr  a0 h24 mc22 ms23)) Xr)))))
/-- LeastSolutionsLaw.number(LLeastSolutions;II[J)I -/
def wp_X0_number (ev : Nat → Nat) (h : Hp) (p0 : Nat) (p1 : Int32) (p2 : Int32) (p3 : Nat) (MC MS : Nat) (Qr : Int32 → Hp → Prop) (Xr : String → Hp → Prop) : Prop :=
  ∃ c1 d2 mc3 ms4 : Nat, MC = c1 + mc3 ∧ MS = d2 + ms4 ∧
  hok h p0 0 ∧
  wp_X1_number ev h p0 p1 p2 c1 d2 (fun (x6 : Int32) (h5 : Hp) =>
    hok h5 p3 23 ∧
    vp_in 0 (hN h5 p3) ∧
    ∀ (h9 : Hp), h9 = uJ h5 p3 0 ((x6).toInt64) →
    Qr 0 h9)
    (fun (E : String) (h8 : Hp) =>
      (E = eIOB → ∀ (q9 : Nat),
        Qr 1 h8) ∧
      (¬ E = eIOB →
        False))
/-- LeastSolutionsLaw.solvable(LLeastSolutions;[J)I -/
def wp_X0_solvable (ev : Nat → Nat) (h : Hp) (p0 : Nat) (p1 : Nat) (MC MS : Nat) (Qr : Int32 → Hp → Prop) (Xr : String → Hp → Prop) : Prop :=
  ∃ c1 d2 mc3 ms4 : Nat, MC = c1 + mc3 ∧ MS = d2 + ms4 ∧
  hok h p0 0 ∧
  wp_X1_solvable ev h p0 c1 d2 (fun (x6 : Int32) (h5 : Hp) =>
    hok h5 p1 23 ∧
    vp_in 0 (hN h5 p1) ∧
    ∀ (h9 : Hp), h9 = uJ h5 p1 0 ((x6).toInt64) →
    Qr 0 h9)
    (fun (E : String) (h8 : Hp) =>
      (E = eISE → ∀ (q9 : Nat),
        Qr 1 h8) ∧
      (¬ E = eISE →
        False))
/-- LeastSolutionsLaw.kernel(LLeastSolutions;[J)I -/
def wp_X0_kernel (ev : Nat → Nat) (h : Hp) (p0 : Nat) (p1 : Nat) (MC MS : Nat) (Qr : Int32 → Hp → Prop) (Xr : String → Hp → Prop) : Prop :=
  ∃ c1 d2 mc3 ms4 : Nat, MC = c1 + mc3 ∧ MS = d2 + ms4 ∧
  hok h p0 0 ∧
  wp_X1_kernel ev h p0 c1 d2 (fun (x6 : Int32) (h5 : Hp) =>
    hok h5 p1 23 ∧
    vp_in 0 (hN h5 p1) ∧
    ∀ (h9 : Hp), h9 = uJ h5 p1 0 ((x6).toInt64) →
    Qr 0 h9)
    (fun (E : String) (h8 : Hp) =>
      (E = eISE → ∀ (q9 : Nat),
        Qr 1 h8) ∧
      (¬ E = eISE →
        False))
/-- LeastSolutionsLaw.kernelAt(LLeastSolutions;II[J)I -/
def wp_X0_kernelAt (ev : Nat → Nat) (h : Hp) (p0 : Nat) (p1 : Int32) (p2 : Int32) (p3 : Nat) (MC MS : Nat) (Qr : Int32 → Hp → Prop) (Xr : String → Hp → Prop) : Prop :=
  ∃ c1 d2 mc3 ms4 : Nat, MC = c1 + mc3 ∧ MS = d2 + ms4 ∧
  hok h p0 0 ∧
  wp_X1_kernelAt ev h p0 p1 p2 c1 d2 (fun (y6 : Int64) (h5 : Hp) =>
    hok h5 p3 23 ∧
    vp_in 0 (hN h5 p3) ∧
    ∀ (h9 : Hp), h9 = uJ h5 p3 0 y6 →
    Qr 0 h9)
    (fun (E : String) (h8 : Hp) =>
      (E = eIOB → ∀ (q9 : Nat),
        Qr 1 h8) ∧
      (¬ E = eIOB →
        False))
/-- LeastSolutionsLaw.work(LLeastSolutions;II[J)I -/
def wp_X0_work (ev : Nat → Nat) (h : Hp) (p0 : Nat) (p1 : Int32) (p2 : Int32) (p3 : Nat) (MC MS : Nat) (Qr : Int32 → Hp → Prop) (Xr : String → Hp → Prop) : Prop :=
  ∃ c1 d2 mc3 ms4 : Nat, MC = c1 + mc3 ∧ MS = d2 + ms4 ∧
  hok h p0 0 ∧
  wp_X1_work ev h p0 p1 p2 c1 d2 (fun (x6 : Int32) (h5 : Hp) =>
    hok h5 p3 23 ∧
    vp_in 0 (hN h5 p3) ∧
    ∀ (h9 : Hp), h9 = uJ h5 p3 0 ((x6).toInt64) →
    Qr 0 h9)
    (fun (E : String) (h8 : Hp) =>
      (E = eIAE → ∀ (q9 : Nat),
        Qr 1 h8) ∧
      (¬ E = eIAE →
        (E = eISE → ∀ (q9 : Nat),
          Qr 2 h8) ∧
        (¬ E = eISE →
          False)))
/-- LeastSolutionsLaw.at(LLeastSolutions;III[J)I -/
def wp_X0_at (ev : Nat → Nat) (h : Hp) (p0 : Nat) (p1 : Int32) (p2 : Int32) (p3 : Int32) (p4 : Nat) (MC MS : Nat) (Qr : Int32 → Hp → Prop) (Xr : String → Hp → Prop) : Prop :=
  ∃ c1 d2 mc3 ms4 : Nat, MC = c1 + mc3 ∧ MS = d2 + ms4 ∧
  hok h p0 0 ∧
  wp_X1_at ev h p0 p1 p2 p3 c1 d2 (fun (x6 : Int32) (h5 : Hp) =>
    hok h5 p4 23 ∧
    vp_in 0 (hN h5 p4) ∧
    ∀ (h9 : Hp), h9 = uJ h5 p4 0 ((x6).toInt64) →
    Qr 0 h9)
    (fun (E : String) (h8 : Hp) =>
      (E = eIOB → ∀ (q9 : Nat),
        Qr 1 h8) ∧
      (¬ E = eIOB →
        False))
/-- LeastSolutionsLaw.tell(LLeastSolutions;II)I -/
def wp_X0_tell (ev : Nat → Nat) (h : Hp) (p0 : Nat) (p1 : Int32) (p2 : Int32) (MC MS : Nat) (Qr : Int32 → Hp → Prop) (Xr : String → Hp → Prop) : Prop :=
  ∃ c1 d2 mc3 ms4 : Nat, MC = c1 + mc3 ∧ MS = d2 + ms4 ∧
  hok h p0 0 ∧
  wp_X1_tell ev h p0 p1 p2 c1 d2 (fun (h5 : Hp) =>
    Qr 0 h5)
    (fun (E : String) (h7 : Hp) =>
      (E = eIOB → ∀ (q9 : Nat),
        Qr 1 h7) ∧
      (¬ E = eIOB →
        (E = eIAE → ∀ (q9 : Nat),
          Qr 2 h7) ∧
        (¬ E = eIAE →
          False)))
/-- LeastSolutionsLaw.holds(LLeastSolutions;[J)I -/
def wp_X0_holds (ev : Nat → Nat) (h : Hp) (p0 : Nat) (p1 : Nat) (MC MS : Nat) (Qr : Int32 → Hp → Prop) (Xr : String → Hp → Prop) : Prop :=
  ∃ c1 d2 mc3 ms4 : Nat, MC = c1 + mc3 ∧ MS = d2 + ms4 ∧
  hok h p0 0 ∧
  wp_X1_holds ev h p0 c1 d2 (fun (x6 : Int32) (h5 : Hp) =>
    hok h5 p1 23 ∧
    vp_in 0 (hN h5 p1) ∧
    ∀ (h9 : Hp), h9 = uJ h5 p1 0 ((x6).toInt64) →
    Qr 0 h9)
    (fun (E : String) (h8 : Hp) =>
      (E = eISE → ∀ (q9 : Nat),
        Qr 1 h8) ∧
      (¬ E = eISE →
        False))
/-- LeastSolutionsLaw.cost(LLeastSolutions;II)I -/
def wp_X0_cost (ev : Nat → Nat) (h : Hp) (p0 : Nat) (p1 : Int32) (p2 : Int32) (MC MS : Nat) (Qr : Int32 → Hp → Prop) (Xr : String → Hp → Prop) : Prop :=
  ∃ c1 d2 mc3 ms4 : Nat, MC = c1 + mc3 ∧ MS = d2 + ms4 ∧
  hok h p0 0 ∧
  wp_X1_cost ev h p0 p1 p2 c1 d2 (fun (h5 : Hp) =>
    Qr 0 h5)
    (fun (E : String) (h7 : Hp) =>
      (E = eIOB → ∀ (q9 : Nat),
        Qr 1 h7) ∧
      (¬ E = eIOB →
        (E = eIAE → ∀ (q9 : Nat),
          Qr 2 h7) ∧
        (¬ E = eIAE →
          False)))
/-- LeastSolutionsLaw.best(LLeastSolutions;I[J)I -/
def wp_X0_best (ev : Nat → Nat) (h : Hp) (p0 : Nat) (p1 : Int32) (p2 : Nat) (MC MS : Nat) (Qr : Int32 → Hp → Prop) (Xr : String → Hp → Prop) : Prop :=
  ∃ c1 d2 mc3 ms4 : Nat, MC = c1 + mc3 ∧ MS = d2 + ms4 ∧
  hok h p0 0 ∧
  wp_X1_best ev h p0 p1 c1 d2 (fun (x6 : Int32) (h5 : Hp) =>
    hok h5 p2 23 ∧
    vp_in 0 (hN h5 p2) ∧
    ∀ (h9 : Hp), h9 = uJ h5 p2 0 ((x6).toInt64) →
    Qr 0 h9)
    (fun (E : String) (h8 : Hp) =>
      (E = eIAE → ∀ (q9 : Nat),
        Qr 1 h8) ∧
      (¬ E = eIAE →
        (E = eISE → ∀ (q9 : Nat),
          Qr 2 h8) ∧
        (¬ E = eISE →
          (E = eNSE → ∀ (q9 : Nat),
            Qr 3 h8) ∧
          (¬ E = eNSE →
            False))))
