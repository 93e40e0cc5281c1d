set_option maxRecDepth 100000
/-- LeastSolutions$Reader.<init>(LLeastSolutions$Scanner;)V -/
def wp_X3_init (ev : Nat → Nat) (h : Hp) (a0 : Nat) (p1 : Nat) (MC MS : Nat) (Qr : Hp → Prop) (Xr : String → Hp → Prop) : Prop :=
  ∃ mc1 ms2 : Nat, MC = 1 + mc1 ∧ MS = 6 + ms2 ∧
  ∀ (q3 : Nat), q3 ∉ h.1 → ∀ (h4 : Hp), h4 = nO h q3 12 →
  hok h4 a0 2 ∧
  ∀ (h5 : Hp), h5 = uR h4 a0 1 (some q3) →
  ∃ mc8 ms9 : Nat, mc1 = 1 + mc8 ∧ ms2 = 4 + ms9 ∧
  ∀ (q10 : Nat), q10 ∉ h5.1 → ∀ (h11 : Hp), h11 = nA h5 q10 20 4 →
  hok h11 a0 2 ∧
  ∀ (h12 : Hp), h12 = uR h11 a0 2 (some q10) →
  ∃ mc15 ms16 : Nat, mc8 = 1 + mc15 ∧ ms9 = 6 + ms16 ∧
  ∀ (q17 : Nat), q17 ∉ h12.1 → ∀ (h18 : Hp), h18 = nA h12 q17 20 6 →
  hok h18 a0 2 ∧
  ∀ (h19 : Hp), h19 = uR h18 a0 4 (some q17) →
  hok h19 a0 2 ∧
  ∀ (h21 : Hp), h21 = uR h19 a0 0 (some p1) →
  Qr h21
/-- LeastSolutions$Model.<init>()V -/
def wp_X4_init (ev : Nat → Nat) (h : Hp) (a0 : Nat) (MC MS : Nat) (Qr : Hp → Prop) : Prop :=
  ∃ mc2 ms3 : Nat, MC = 1 + mc2 ∧ MS = 6 + ms3 ∧
  ∀ (q4 : Nat), q4 ∉ h.1 → ∀ (h5 : Hp), h5 = nA h q4 20 6 →
  hok h5 a0 3 ∧
  ∀ (h6 : Hp), h6 = uR h5 a0 3 (some q4) →
  ∃ mc8 ms9 : Nat, mc2 = (1 + 4) + mc8 ∧ ms3 = (4 + 4 * 6) + ms9 ∧
  ∀ (q10 : Nat), (∀ b ∈ h6.1, b < q10) → ∀ (h11 : Hp), h11 = nM h6 q10 24 20 4 6 →
  hok h11 a0 3 ∧
  ∀ (h12 : Hp), h12 = uR h11 a0 4 (some q10) →
  ∃ mc15 ms16 : Nat, mc8 = 1 + mc15 ∧ ms9 = 4 + ms16 ∧
  ∀ (q17 : Nat), q17 ∉ h12.1 → ∀ (h18 : Hp), h18 = nA h12 q17 20 4 →
  hok h18 a0 3 ∧
  ∀ (h19 : Hp), h19 = uR h18 a0 5 (some q17) →
  Qr h19
/-- LeastSolutions$Lattice.<init>()V -/
def wp_X5_init (ev : Nat → Nat) (h : Hp) (a0 : Nat) (MC MS : Nat) (Qr : Hp → Prop) : Prop :=
  ∃ mc1 ms2 : Nat, MC = (1 + 6) + mc1 ∧ MS = (6 + 6 * 10) + ms2 ∧
  ∀ (q3 : Nat), (∀ b ∈ h.1, b < q3) → ∀ (h4 : Hp), h4 = nM h q3 25 23 6 10 →
  hok h4 a0 4 ∧
  ∀ (h5 : Hp), h5 = uR h4 a0 0 (some q3) →
  ∃ mc8 ms9 : Nat, mc1 = 1 + mc8 ∧ ms2 = 4 + ms9 ∧
  ∀ (q10 : Nat), q10 ∉ h5.1 → ∀ (h11 : Hp), h11 = nA h5 q10 23 4 →
  hok h11 a0 4 ∧
  ∀ (h12 : Hp), h12 = uR h11 a0 1 (some q10) →
  Qr h12
/-- LeastSolutions.<init>()V -/
def wp_X1_init (ev : Nat → Nat) (h : Hp) (a0 : Nat) (MC MS : Nat) (Qr : Hp → Prop) (Xr : String → Hp → Prop) : Prop :=
  ∃ mc1 ms2 : Nat, MC = 1 + mc1 ∧ MS = 6 + ms2 ∧
  ∀ (q3 : Nat), q3 ∉ h.1 → ∀ (h4 : Hp), h4 = nO h q3 1 →
  ∃ c5 d6 mc7 ms8 : Nat, mc1 = c5 + mc7 ∧ ms2 = d6 + ms8 ∧
  wp_X2_init ev h4 q3 c5 d6 (fun (h9 : Hp) =>
    hok h9 a0 0 ∧
    ∀ (h11 : Hp), h11 = uR h9 a0 0 (some q3) →
    ∃ mc13 ms14 : Nat, mc7 = 1 + mc13 ∧ ms8 = 10 + ms14 ∧
    ∀ (q15 : Nat), q15 ∉ h11.1 → ∀ (h16 : Hp), h16 = nO h11 q15 2 →
    hok h16 a0 0 ∧
    ∃ b18 : Nat, hR h16 a0 0 = some b18 ∧
    ∃ c19 d20 mc21 ms22 : Nat, mc13 = c19 + mc21 ∧ ms14 = d20 + ms22 ∧
    wp_X3_init ev h16 q15 b18 c19 d20 (fun (h23 : Hp) =>
      hok h23 a0 0 ∧
      ∀ (h25 : Hp), h25 = uR h23 a0 1 (some q15) →
      ∃ mc27 ms28 : Nat, mc21 = 1 + mc27 ∧ ms22 = 6 + ms28 ∧
      ∀ (q29 : Nat), q29 ∉ h25.1 → ∀ (h30 : Hp), h30 = nO h25 q29 3 →
      ∃ c31 d32 mc33 ms34 : Nat, mc27 = c31 + mc33 ∧ ms28 = d32 + ms34 ∧
      wp_X4_init ev h30 q29 c31 d32 (fun (h35 : Hp) =>
        hok h35 a0 0 ∧
        ∀ (h37 : Hp), h37 = uR h35 a0 2 (some q29) →
        ∃ mc39 ms40 : Nat, mc33 = 1 + mc39 ∧ ms34 = 6 + ms40 ∧
        ∀ (q41 : Nat), q41 ∉ h37.1 → ∀ (h42 : Hp), h42 = nO h37 q41 3 →
        ∃ c43 d44 mc45 ms46 : Nat, mc39 = c43 + mc45 ∧ ms40 = d44 + ms46 ∧
        wp_X4_init ev h42 q41 c43 d44 (fun (h47 : Hp) =>
          hok h47 a0 0 ∧
          ∀ (h49 : Hp), h49 = uR h47 a0 3 (some q41) →
          ∃ mc51 ms52 : Nat, mc45 = 1 + mc51 ∧ ms46 = 5 + ms52 ∧
          ∀ (q53 : Nat), q53 ∉ h49.1 → ∀ (h54 : Hp), h54 = nO h49 q53 4 →
          ∃ c55 d56 mc57 ms58 : Nat, mc51 = c55 + mc57 ∧ ms52 = d56 + ms58 ∧
          wp_X5_init ev h54 q53 c55 d56 (fun (h59 : Hp) =>
            hok h59 a0 0 ∧
            ∀ (h61 : Hp), h61 = uR h59 a0 4 (some q53) →
            ∃ mc63 ms64 : Nat, mc57 = 1 + mc63 ∧ ms58 = 11 + ms64 ∧
            ∀ (q65 : Nat), q65 ∉ h61.1 → ∀ (h66 : Hp), h66 = nO h61 q65 5 →
            ∃ c67 d68 mc69 ms70 : Nat, mc63 = c67 + mc69 ∧ ms64 = d68 + ms70 ∧
            wp_X6_init ev h66 q65 c67 d68 (fun (h71 : Hp) =>
              hok h71 a0 0 ∧
              ∀ (h73 : Hp), h73 = uR h71 a0 5 (some q65) →
              ∃ mc75 ms76 : Nat, mc69 = 1 + mc75 ∧ ms70 = 6 + ms76 ∧
              ∀ (q77 : Nat), q77 ∉ h73.1 → ∀ (h78 : Hp), h78 = nO h73 q77 7 →
              ∃ c79 d80 mc81 ms82 : Nat, mc75 = c79 + mc81 ∧ ms76 = d80 + ms82 ∧
              wp_X8_init ev h78 q77 c79 d80 (fun (h83 : Hp) =>
                hok h83 a0 0 ∧
                ∀ (h85 : Hp), h85 = uR h83 a0 6 (some q77) →
                ∃ mc88 ms89 : Nat, mc81 = 1 + mc88 ∧ ms82 = 3 + ms89 ∧
                ∀ (q90 : Nat), (q90 ∉ h85.1 ∧ q90 ≠ ev 11) → ∀ (h91 : Hp), h91 = nA h85 q90 27 3 →
                ∃ mc92 ms93 : Nat, mc88 = 1 + mc92 ∧ ms89 = 2 + ms93 ∧
                ∀ (q94 : Nat), q94 ∉ h91.1 → ∀ (h95 : Hp), h95 = nO h91 q94 8 →
                ∃ c96 d97 mc98 ms99 : Nat, mc92 = c96 + mc98 ∧ ms93 = d97 + ms99 ∧
                wp_X9_init ev h95 q94 c96 d97 (fun (h100 : Hp) =>
                  hok h100 q90 27 ∧
                  hok h100 q94 8 ∧
                  vp_in 0 (hN h100 q90) ∧
                  ∀ (h102 : Hp), h102 = uO h100 q90 0 (some q94) →
                  ∃ mc106 ms107 : Nat, mc98 = 1 + mc106 ∧ ms99 = 2 + ms107 ∧
                  ∀ (q108 : Nat), q108 ∉ h102.1 → ∀ (h109 : Hp), h109 = nO h102 q108 8 →
                  ∃ c110 d111 mc112 ms113 : Nat, mc106 = c110 + mc112 ∧ ms107 = d111 + ms113 ∧
                  wp_X9_init ev h109 q108 c110 d111 (fun (h114 : Hp) =>
                    hok h114 q90 27 ∧
                    hok h114 q108 8 ∧
                    vp_in 1 (hN h114 q90) ∧
                    ∀ (h116 : Hp), h116 = uO h114 q90 1 (some q108) →
                    ∃ mc120 ms121 : Nat, mc112 = 1 + mc120 ∧ ms113 = 2 + ms121 ∧
                    ∀ (q122 : Nat), q122 ∉ h116.1 → ∀ (h123 : Hp), h123 = nO h116 q122 8 →
                    ∃ c124 d125 mc126 ms127 : Nat, mc120 = c124 + mc126 ∧ ms121 = d125 + ms127 ∧
                    wp_X9_init ev h123 q122 c124 d125 (fun (h128 : Hp) =>
                      hok h128 q90 27 ∧
                      hok h128 q122 8 ∧
                      vp_in 2 (hN h128 q90) ∧
                      ∀ (h130 : Hp), h130 = uO h128 q90 2 (some q122) →
                      hok h130 a0 0 ∧
                      ∀ (h134 : Hp), h134 = uR h130 a0 7 (some q90) →
                      hok h134 a0 0 ∧
                      ∀ (h136 : Hp), h136 = uI h134 a0 9 (-1) →
                      ∃ mc139 ms140 : Nat, mc126 = 1 + mc139 ∧ ms127 = 6 + ms140 ∧
                      ∀ (q141 : Nat), q141 ∉ h136.1 → ∀ (h142 : Hp), h142 = nA h136 q141 20 6 →
                      hok h142 a0 0 ∧
                      ∀ (h143 : Hp), h143 = uR h142 a0 10 (some q141) →
                      ∃ mc146 ms147 : Nat, mc139 = 1 + mc146 ∧ ms140 = 2000 + ms147 ∧
                      ∀ (q148 : Nat), q148 ∉ h143.1 → ∀ (h149 : Hp), h149 = nA h143 q148 20 2000 →
                      hok h149 a0 0 ∧
                      ∀ (h150 : Hp), h150 = uR h149 a0 11 (some q148) →
                      ∃ mc152 ms153 : Nat, mc146 = 1 + mc152 ∧ ms147 = 2 + ms153 ∧
                      ∀ (q154 : Nat), q154 ∉ h150.1 → ∀ (h155 : Hp), h155 = nO h150 q154 6 →
                      ∃ c156 d157 mc158 ms159 : Nat, mc152 = c156 + mc158 ∧ ms153 = d157 + ms159 ∧
                      wp_X7_init ev h155 q154 c156 d157 (fun (h160 : Hp) =>
                        hok h160 a0 0 ∧
                        ∀ (h162 : Hp), h162 = uR h160 a0 14 (some q154) →
                        ∃ mc165 ms166 : Nat, mc158 = 1 + mc165 ∧ ms159 = 6 + ms166 ∧
                        ∀ (q167 : Nat), q167 ∉ h162.1 → ∀ (h168 : Hp), h168 = nA h162 q167 20 6 →
                        hok h168 a0 0 ∧
                        ∀ (h169 : Hp), h169 = uR h168 a0 15 (some q167) →
                        Qr h169)))))))))) Xr)
