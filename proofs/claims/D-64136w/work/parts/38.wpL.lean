set_option maxRecDepth 100000
def wp_L_law_899 (ev ad : Nat → Nat) (N : Nat) (f : Nat → Int32) (K23 : Nat → Nat → Int32 → Hp → St → Nat → Nat → Prop) (v1 : Nat) (v3 : Nat) (v4 : Int32) (h : Hp) (σ : St) (mc ms : Nat) : Prop :=
  ∀ (x1 : Int32), x1 = v4 + 4 →
  K23 v1 v3 x1 h σ mc ms
def wp_L_law_871 (ev ad : Nat → Nat) (N : Nat) (f : Nat → Int32) (K23 : Nat → Nat → Int32 → Hp → St → Nat → Nat → Prop) (v1 : Nat) (v3 : Nat) (v4 : Int32) (h : Hp) (σ : St) (mc ms : Nat) : Prop :=
  wp_L_law_899 ev ad N f K23 v1 v3 v4 h σ mc ms
def wp_L_law_729 (ev ad : Nat → Nat) (N : Nat) (f : Nat → Int32) (K23 : Nat → Nat → Int32 → Hp → St → Nat → Nat → Prop) (v1 : Nat) (v3 : Nat) (v4 : Int32) (h : Hp) (σ : St) (mc ms : Nat) : Prop :=
  wp_L_law_899 ev ad N f K23 v1 v3 v4 h σ mc ms
def wp_L_law_637 (ev ad : Nat → Nat) (N : Nat) (f : Nat → Int32) (K23 : Nat → Nat → Int32 → Hp → St → Nat → Nat → Prop) (v1 : Nat) (v3 : Nat) (v4 : Int32) (h : Hp) (σ : St) (mc ms : Nat) : Prop :=
  wp_L_law_899 ev ad N f K23 v1 v3 v4 h σ mc ms
def wp_L_law_557 (ev ad : Nat → Nat) (N : Nat) (f : Nat → Int32) (K23 : Nat → Nat → Int32 → Hp → St → Nat → Nat → Prop) (v1 : Nat) (v3 : Nat) (v4 : Int32) (h : Hp) (σ : St) (mc ms : Nat) : Prop :=
  wp_L_law_899 ev ad N f K23 v1 v3 v4 h σ mc ms
def wp_L_law_489 (ev ad : Nat → Nat) (N : Nat) (f : Nat → Int32) (K23 : Nat → Nat → Int32 → Hp → St → Nat → Nat → Prop) (v1 : Nat) (v3 : Nat) (v4 : Int32) (h : Hp) (σ : St) (mc ms : Nat) : Prop :=
  wp_L_law_899 ev ad N f K23 v1 v3 v4 h σ mc ms
def wp_L_law_422 (ev ad : Nat → Nat) (N : Nat) (f : Nat → Int32) (K23 : Nat → Nat → Int32 → Hp → St → Nat → Nat → Prop) (v1 : Nat) (v3 : Nat) (v4 : Int32) (h : Hp) (σ : St) (mc ms : Nat) : Prop :=
  wp_L_law_899 ev ad N f K23 v1 v3 v4 h σ mc ms
def wp_L_law_378 (ev ad : Nat → Nat) (N : Nat) (f : Nat → Int32) (K23 : Nat → Nat → Int32 → Hp → St → Nat → Nat → Prop) (v1 : Nat) (v3 : Nat) (v4 : Int32) (h : Hp) (σ : St) (mc ms : Nat) : Prop :=
  wp_L_law_899 ev ad N f K23 v1 v3 v4 h σ mc ms
def wp_L_law_334 (ev ad : Nat → Nat) (N : Nat) (f : Nat → Int32) (K23 : Nat → Nat → Int32 → Hp → St → Nat → Nat → Prop) (v1 : Nat) (v3 : Nat) (v4 : Int32) (h : Hp) (σ : St) (mc ms : Nat) : Prop :=
  wp_L_law_899 ev ad N f K23 v1 v3 v4 h σ mc ms
def wp_L_law_23 (ev ad : Nat → Nat) (N : Nat) (f : Nat → Int32) : Nat → Nat → Nat → Int32 → Hp → St → Nat → Nat → Prop
  | 0, _, _, _, _, _, _, _ => False
  | n23 + 1, v1, v3, v4, h, σ, mc, ms =>
    (((Int32.ofNat N) - 4) < v4 →
      True) ∧
    (¬ ((Int32.ofNat N) - 4) < v4 →
      vp_in v4 N ∧
      ∀ (x2 : Int32), x2 = ((f (v4 : Int32).toNatClampNeg) &&& 31) →
      (x2 = 0 →
        vp_in (v4 + 1) N ∧
        vp_in (v4 + 2) N ∧
        vp_in (v4 + 3) N ∧
        hok h v1 0 ∧
        wp_X1_type ev h v1 (((((f ((v4 + 1) : Int32).toNatClampNeg)).toInt64) <<< ((32 : Int32).toInt64 &&& 63)) ||| ((((f ((v4 + 2) : Int32).toNatClampNeg)).toInt64) &&& 4294967295)) (f ((v4 + 3) : Int32).toNatClampNeg) (fun (x7 : Int32) (h6 : Hp) =>
          vp_in (v4 + 1) N ∧
          vp_in (v4 + 2) N ∧
          vp_in (v4 + 3) N ∧
          wp_type (((((f ((v4 + 1) : Int32).toNatClampNeg)).toInt64) <<< ((32 : Int32).toInt64 &&& 63)) ||| ((((f ((v4 + 2) : Int32).toNatClampNeg)).toInt64) &&& 4294967295)) (f ((v4 + 3) : Int32).toNatClampNeg) σ (fun (x13 : Int32) (σ14 : St) =>
            (x7 = x13 →
              wp_L_law_899 ev ad N f (wp_L_law_23 ev ad N f n23) v1 v3 v4 h6 σ14 mc ms) ∧
            (¬ x7 = x13 →
              False)))) ∧
      (¬ x2 = 0 →
        (x2 = 1 →
          ∃ c15 d16 mc17 ms18 : Nat, mc = c15 + mc17 ∧ ms = d16 + ms18 ∧
          hok h v1 0 ∧
          wp_X1_read ev h v1 c15 d16 (fun (x20 : Int32) (h19 : Hp) =>
            wp_read  σ (fun (x23 : Int32) (σ24 : St) =>
              (x20 = x23 →
                wp_L_law_899 ev ad N f (wp_L_law_23 ev ad N f n23) v1 v3 v4 h19 σ24 mc17 ms18) ∧
              (¬ x20 = x23 →
                False))) (fun _ _ => False)) ∧
        (¬ x2 = 1 →
          (x2 = 2 →
            hok h v1 0 ∧
            wp_X1_place ev h v1 (fun (x26 : Int32) (h25 : Hp) =>
              wp_place  σ (fun (x29 : Int32) (σ30 : St) =>
                (x26 = x29 →
                  wp_L_law_899 ev ad N f (wp_L_law_23 ev ad N f n23) v1 v3 v4 h25 σ30 mc ms) ∧
                (¬ x26 = x29 →
                  False)))) ∧
          (¬ x2 = 2 →
            (x2 = 3 →
              vp_in (v4 + 1) N ∧
              hok h v1 0 ∧
              wp_X1_count ev h v1 (f ((v4 + 1) : Int32).toNatClampNeg) (fun (x33 : Int32) (h32 : Hp) =>
                vp_in (v4 + 1) N ∧
                wp_count (f ((v4 + 1) : Int32).toNatClampNeg) σ (fun (x37 : Int32) (σ38 : St) =>
                  (x33 = x37 →
                    wp_L_law_899 ev ad N f (wp_L_law_23 ev ad N f n23) v1 v3 v4 h32 σ38 mc ms) ∧
                  (¬ x33 = x37 →
                    False)))) ∧
            (¬ x2 = 3 →
              (x2 = 4 →
                vp_in (v4 + 1) N ∧
                hok h v1 0 ∧
                wp_X1_letter ev h v1 (f ((v4 + 1) : Int32).toNatClampNeg) (fun (x41 : Int32) (h40 : Hp) =>
                  vp_in (v4 + 1) N ∧
                  wp_letter (f ((v4 + 1) : Int32).toNatClampNeg) σ (fun (x45 : Int32) (σ46 : St) =>
                    (x41 = x45 →
                      wp_L_law_899 ev ad N f (wp_L_law_23 ev ad N f n23) v1 v3 v4 h40 σ46 mc ms) ∧
                    (¬ x41 = x45 →
                      False)))) ∧
              (¬ x2 = 4 →
                (x2 = 5 →
                  vp_in (v4 + 1) N ∧
                  vp_in (v4 + 2) N ∧
                  ∃ c49 d50 mc51 ms52 : Nat, mc = c49 + mc51 ∧ ms = d50 + ms52 ∧
                  wp_X0_number ev h v1 (f ((v4 + 1) : Int32).toNatClampNeg) (f ((v4 + 2) : Int32).toNatClampNeg) v3 c49 d50 (fun (x54 : Int32) (h53 : Hp) =>
                    vp_in (v4 + 1) N ∧
                    vp_in (v4 + 2) N ∧
                    wp_number (f ((v4 + 1) : Int32).toNatClampNeg) (f ((v4 + 2) : Int32).toNatClampNeg) σ (fun (x58 : Int32) (σ59 : St) =>
                      wp_thrown  σ59 (fun (x60 : Int32) (σ61 : St) =>
                        (x60 = x54 →
                          (¬ x54 = 0 →
                            wp_L_law_334 ev ad N f (wp_L_law_23 ev ad N f n23) v1 v3 v4 h53 σ61 mc51 ms52) ∧
                          (x54 = 0 →
                            hok h53 v3 23 ∧
                            vp_in 0 (hN h53 v3) ∧
                            ((lg_cmp (hJ h53 v3 0) ((x58).toInt64)) = 0 →
                              wp_L_law_334 ev ad N f (wp_L_law_23 ev ad N f n23) v1 v3 v4 h53 σ61 mc51 ms52) ∧
                            (¬ (lg_cmp (hJ h53 v3 0) ((x58).toInt64)) = 0 →
                              False))) ∧
                        (¬ x60 = x54 →
                          False)))) (fun _ _ => False)) ∧
                (¬ x2 = 5 →
                  (x2 = 6 →
                    ∃ c64 d65 mc66 ms67 : Nat, mc = c64 + mc66 ∧ ms = d65 + ms67 ∧
                    wp_X0_solvable ev h v1 v3 c64 d65 (fun (x69 : Int32) (h68 : Hp) =>
                      wp_solvable  σ (fun (x71 : Int32) (σ72 : St) =>
                        wp_thrown  σ72 (fun (x73 : Int32) (σ74 : St) =>
                          (x73 = x69 →
                            (¬ x69 = 0 →
                              wp_L_law_378 ev ad N f (wp_L_law_23 ev ad N f n23) v1 v3 v4 h68 σ74 mc66 ms67) ∧
                            (x69 = 0 →
                              hok h68 v3 23 ∧
                              vp_in 0 (hN h68 v3) ∧
                              ((lg_cmp (hJ h68 v3 0) ((x71).toInt64)) = 0 →
                                wp_L_law_378 ev ad N f (wp_L_law_23 ev ad N f n23) v1 v3 v4 h68 σ74 mc66 ms67) ∧
                              (¬ (lg_cmp (hJ h68 v3 0) ((x71).toInt64)) = 0 →
                                False))) ∧
                          (¬ x73 = x69 →
                            False)))) (fun _ _ => False)) ∧
                  (¬ x2 = 6 →
                    (x2 = 7 →
                      ∃ c77 d78 mc79 ms80 : Nat, mc = c77 + mc79 ∧ ms = d78 + ms80 ∧
                      wp_X0_kernel ev h v1 v3 c77 d78 (fun (x82 : Int32) (h81 : Hp) =>
                        wp_kernel  σ (fun (x84 : Int32) (σ85 : St) =>
                          wp_thrown  σ85 (fun (x86 : Int32) (σ87 : St) =>
                            (x86 = x82 →
                              (¬ x82 = 0 →
                                wp_L_law_422 ev ad N f (wp_L_law_23 ev ad N f n23) v1 v3 v4 h81 σ87 mc79 ms80) ∧
                              (x82 = 0 →
                                hok h81 v3 23 ∧
                                vp_in 0 (hN h81 v3) ∧
                                ((lg_cmp (hJ h81 v3 0) ((x84).toInt64)) = 0 →
                                  wp_L_law_422 ev ad N f (wp_L_law_23 ev ad N f n23) v1 v3 v4 h81 σ87 mc79 ms80) ∧
                                (¬ (lg_cmp (hJ h81 v3 0) ((x84).toInt64)) = 0 →
                                  False))) ∧
                            (¬ x86 = x82 →
                              False)))) (fun _ _ => False)) ∧
                    (¬ x2 = 7 →
                      (x2 = 8 →
                        vp_in (v4 + 1) N ∧
                        vp_in (v4 + 2) N ∧
                        ∃ c92 d93 mc94 ms95 : Nat, mc = c92 + mc94 ∧ ms = d93 + ms95 ∧
                        wp_X0_kernelAt ev h v1 (f ((v4 + 1) : Int32).toNatClampNeg) (f ((v4 + 2) : Int32).toNatClampNeg) v3 c92 d93 (fun (x97 : Int32) (h96 : Hp) =>
                          vp_in (v4 + 1) N ∧
                          vp_in (v4 + 2) N ∧
                          wp_kernelAt (f ((v4 + 1) : Int32).toNatClampNeg) (f ((v4 + 2) : Int32).toNatClampNeg) σ (fun (y101 : Int64) (σ102 : St) =>
                            wp_thrown  σ102 (fun (x103 : Int32) (σ104 : St) =>
                              (x103 = x97 →
                                (¬ x97 = 0 →
                                  wp_L_law_489 ev ad N f (wp_L_law_23 ev ad N f n23) v1 v3 v4 h96 σ104 mc94 ms95) ∧
                                (x97 = 0 →
                                  hok h96 v3 23 ∧
                                  vp_in 0 (hN h96 v3) ∧
                                  ((lg_cmp (hJ h96 v3 0) y101) = 0 →
                                    wp_L_law_489 ev ad N f (wp_L_law_23 ev ad N f n23) v1 v3 v4 h96 σ104 mc94 ms95) ∧
                                  (¬ (lg_cmp (hJ h96 v3 0) y101) = 0 →
                                    False))) ∧
                              (¬ x103 = x97 →
                                False)))) (fun _ _ => False)) ∧
                      (¬ x2 = 8 →
                        (x2 = 9 →
                          vp_in (v4 + 1) N ∧
                          vp_in (v4 + 2) N ∧
                          ∃ c109 d110 mc111 ms112 : Nat, mc = c109 + mc111 ∧ ms = d110 + ms112 ∧
                          wp_X0_work ev h v1 (f ((v4 + 1) : Int32).toNatClampNeg) (f ((v4 + 2) : Int32).toNatClampNeg) v3 c109 d110 (fun (x114 : Int32) (h113 : Hp) =>
                            vp_in (v4 + 1) N ∧
                            vp_in (v4 + 2) N ∧
                            wp_work (f ((v4 + 1) : Int32).toNatClampNeg) (f ((v4 + 2) : Int32).toNatClampNeg) σ (fun (x118 : Int32) (σ119 : St) =>
                              wp_thrown  σ119 (fun (x120 : Int32) (σ121 : St) =>
                                (x120 = x114 →
                                  (¬ x114 = 0 →
                                    wp_L_law_557 ev ad N f (wp_L_law_23 ev ad N f n23) v1 v3 v4 h113 σ121 mc111 ms112) ∧
                                  (x114 = 0 →
                                    hok h113 v3 23 ∧
                                    vp_in 0 (hN h113 v3) ∧
                                    ((lg_cmp (hJ h113 v3 0) ((x118).toInt64)) = 0 →
                                      wp_L_law_557 ev ad N f (wp_L_law_23 ev ad N f n23) v1 v3 v4 h113 σ121 mc111 ms112) ∧
                                    (¬ (lg_cmp (hJ h113 v3 0) ((x118).toInt64)) = 0 →
                                      False))) ∧
                                (¬ x120 = x114 →
                                  False)))) (fun _ _ => False)) ∧
                        (¬ x2 = 9 →
                          (x2 = 10 →
                            vp_in (v4 + 1) N ∧
                            vp_in (v4 + 2) N ∧
                            vp_in (v4 + 3) N ∧
                            ∃ c127 d128 mc129 ms130 : Nat, mc = c127 + mc129 ∧ ms = d128 + ms130 ∧
                            wp_X0_at ev h v1 (f ((v4 + 1) : Int32).toNatClampNeg) (f ((v4 + 2) : Int32).toNatClampNeg) (f ((v4 + 3) : Int32).toNatClampNeg) v3 c127 d128 (fun (x132 : Int32) (h131 : Hp) =>
                              vp_in (v4 + 1) N ∧
                              vp_in (v4 + 2) N ∧
                              vp_in (v4 + 3) N ∧
                              wp_at (f ((v4 + 1) : Int32).toNatClampNeg) (f ((v4 + 2) : Int32).toNatClampNeg) (f ((v4 + 3) : Int32).toNatClampNeg) σ (fun (x137 : Int32) (σ138 : St) =>
                                wp_thrown  σ138 (fun (x139 : Int32) (σ140 : St) =>
                                  (x139 = x132 →
                                    (¬ x132 = 0 →
                                      wp_L_law_637 ev ad N f (wp_L_law_23 ev ad N f n23) v1 v3 v4 h131 σ140 mc129 ms130) ∧
                                    (x132 = 0 →
                                      hok h131 v3 23 ∧
                                      vp_in 0 (hN h131 v3) ∧
                                      ((lg_cmp (hJ h131 v3 0) ((x137).toInt64)) = 0 →
                                        wp_L_law_637 ev ad N f (wp_L_law_23 ev ad N f n23) v1 v3 v4 h131 σ140 mc129 ms130) ∧
                                      (¬ (lg_cmp (hJ h131 v3 0) ((x137).toInt64)) = 0 →
                                        False))) ∧
                                  (¬ x139 = x132 →
                                    False)))) (fun _ _ => False)) ∧
                          (¬ x2 = 10 →
                            (x2 = 11 →
                              vp_in (v4 + 1) N ∧
                              vp_in (v4 + 2) N ∧
                              ∃ c145 d146 mc147 ms148 : Nat, mc = c145 + mc147 ∧ ms = d146 + ms148 ∧
                              wp_X0_tell ev h v1 (f ((v4 + 1) : Int32).toNatClampNeg) (f ((v4 + 2) : Int32).toNatClampNeg) c145 d146 (fun (x150 : Int32) (h149 : Hp) =>
                                vp_in (v4 + 1) N ∧
                                vp_in (v4 + 2) N ∧
                                wp_tell (f ((v4 + 1) : Int32).toNatClampNeg) (f ((v4 + 2) : Int32).toNatClampNeg) σ (fun (σ154 : St) =>
                                  wp_thrown  σ154 (fun (x155 : Int32) (σ156 : St) =>
                                    (x155 = x150 →
                                      wp_L_law_899 ev ad N f (wp_L_law_23 ev ad N f n23) v1 v3 v4 h149 σ156 mc147 ms148) ∧
                                    (¬ x155 = x150 →
                                      False)))) (fun _ _ => False)) ∧
                            (¬ x2 = 11 →
                              (x2 = 12 →
                                ∃ c157 d158 mc159 ms160 : Nat, mc = c157 + mc159 ∧ ms = d158 + ms160 ∧
                                wp_X0_holds ev h v1 v3 c157 d158 (fun (x162 : Int32) (h161 : Hp) =>
                                  wp_holds  σ (fun (x164 : Int32) (σ165 : St) =>
                                    wp_thrown  σ165 (fun (x166 : Int32) (σ167 : St) =>
                                      (x166 = x162 →
                                        (¬ x162 = 0 →
                                          wp_L_law_729 ev ad N f (wp_L_law_23 ev ad N f n23) v1 v3 v4 h161 σ167 mc159 ms160) ∧
                                        (x162 = 0 →
                                          hok h161 v3 23 ∧
                                          vp_in 0 (hN h161 v3) ∧
                                          ((lg_cmp (hJ h161 v3 0) ((x164).toInt64)) = 0 →
                                            wp_L_law_729 ev ad N f (wp_L_law_23 ev ad N f n23) v1 v3 v4 h161 σ167 mc159 ms160) ∧
                                          (¬ (lg_cmp (hJ h161 v3 0) ((x164).toInt64)) = 0 →
                                            False))) ∧
                                      (¬ x166 = x162 →
                                        False)))) (fun _ _ => False)) ∧
                              (¬ x2 = 12 →
                                (x2 = 13 →
                                  ∃ c170 d171 mc172 ms173 : Nat, mc = c170 + mc172 ∧ ms = d171 + ms173 ∧
                                  hok h v1 0 ∧
                                  wp_X1_split ev h v1 c170 d171 (fun (x175 : Int32) (h174 : Hp) =>
                                    wp_split  σ (fun (x178 : Int32) (σ179 : St) =>
                                      (x175 = x178 →
                                        wp_L_law_899 ev ad N f (wp_L_law_23 ev ad N f n23) v1 v3 v4 h174 σ179 mc172 ms173) ∧
                                      (¬ x175 = x178 →
                                        False))) (fun _ _ => False)) ∧
                                (¬ x2 = 13 →
                                  (x2 = 14 →
                                    vp_in (v4 + 1) N ∧
                                    hok h v1 0 ∧
                                    wp_X1_times ev h v1 (f ((v4 + 1) : Int32).toNatClampNeg) (fun (x182 : Int32) (h181 : Hp) =>
                                      vp_in (v4 + 1) N ∧
                                      wp_times (f ((v4 + 1) : Int32).toNatClampNeg) σ (fun (x186 : Int32) (σ187 : St) =>
                                        (x182 = x186 →
                                          wp_L_law_899 ev ad N f (wp_L_law_23 ev ad N f n23) v1 v3 v4 h181 σ187 mc ms) ∧
                                        (¬ x182 = x186 →
                                          False)))) ∧
                                  (¬ x2 = 14 →
                                    (x2 = 15 →
                                      vp_in (v4 + 1) N ∧
                                      vp_in (v4 + 2) N ∧
                                      ∃ c190 d191 mc192 ms193 : Nat, mc = c190 + mc192 ∧ ms = d191 + ms193 ∧
                                      wp_X0_cost ev h v1 (f ((v4 + 1) : Int32).toNatClampNeg) (f ((v4 + 2) : Int32).toNatClampNeg) c190 d191 (fun (x195 : Int32) (h194 : Hp) =>
                                        vp_in (v4 + 1) N ∧
                                        vp_in (v4 + 2) N ∧
                                        wp_cost (f ((v4 + 1) : Int32).toNatClampNeg) (f ((v4 + 2) : Int32).toNatClampNeg) σ (fun (σ199 : St) =>
                                          wp_thrown  σ199 (fun (x200 : Int32) (σ201 : St) =>
                                            (x200 = x195 →
                                              wp_L_law_899 ev ad N f (wp_L_law_23 ev ad N f n23) v1 v3 v4 h194 σ201 mc192 ms193) ∧
                                            (¬ x200 = x195 →
                                              False)))) (fun _ _ => False)) ∧
                                    (¬ x2 = 15 →
                                      (x2 = 16 →
                                        vp_in (v4 + 1) N ∧
                                        ∃ c203 d204 mc205 ms206 : Nat, mc = c203 + mc205 ∧ ms = d204 + ms206 ∧
                                        wp_X0_best ev h v1 (f ((v4 + 1) : Int32).toNatClampNeg) v3 c203 d204 (fun (x208 : Int32) (h207 : Hp) =>
                                          vp_in (v4 + 1) N ∧
                                          wp_best (f ((v4 + 1) : Int32).toNatClampNeg) σ (fun (x211 : Int32) (σ212 : St) =>
                                            wp_thrown  σ212 (fun (x213 : Int32) (σ214 : St) =>
                                              (x213 = x208 →
                                                (¬ x208 = 0 →
                                                  wp_L_law_871 ev ad N f (wp_L_law_23 ev ad N f n23) v1 v3 v4 h207 σ214 mc205 ms206) ∧
                                                (x208 = 0 →
                                                  hok h207 v3 23 ∧
                                                  vp_in 0 (hN h207 v3) ∧
                                                  ((lg_cmp (hJ h207 v3 0) ((x211).toInt64)) = 0 →
                                                    wp_L_law_871 ev ad N f (wp_L_law_23 ev ad N f n23) v1 v3 v4 h207 σ214 mc205 ms206) ∧
                                                  (¬ (lg_cmp (hJ h207 v3 0) ((x211).toInt64)) = 0 →
                                                    False))) ∧
                                              (¬ x213 = x208 →
                                                False)))) (fun _ _ => False)) ∧
                                      (¬ x2 = 16 →
                                        (x2 = 17 →
                                          vp_in (v4 + 1) N ∧
                                          hok h v1 0 ∧
                                          wp_X1_bestAt ev h v1 (f ((v4 + 1) : Int32).toNatClampNeg) (fun (x219 : Int32) (h218 : Hp) =>
                                            vp_in (v4 + 1) N ∧
                                            wp_bestAt (f ((v4 + 1) : Int32).toNatClampNeg) σ (fun (x223 : Int32) (σ224 : St) =>
                                              (x219 = x223 →
                                                wp_L_law_899 ev ad N f (wp_L_law_23 ev ad N f n23) v1 v3 v4 h218 σ224 mc ms) ∧
                                              (¬ x219 = x223 →
                                                False)))) ∧
                                        (¬ x2 = 17 →
                                          wp_L_law_899 ev ad N f (wp_L_law_23 ev ad N f n23) v1 v3 v4 h σ mc ms)))))))))))))))))))
/-- the law -/
def wp_L_law (ev : Nat → Nat) (N : Nat) (f : Nat → Int32) (h : Hp) : Prop :=
  ∃ mc1 ms2 : Nat, 603072 = 1 + mc1 ∧ 7178346 = 16 + ms2 ∧
  ∀ (q3 : Nat), q3 ∉ h.1 → ∀ (h4 : Hp), h4 = nO h q3 0 →
  ∃ c5 d6 mc7 ms8 : Nat, mc1 = c5 + mc7 ∧ ms2 = d6 + ms8 ∧
  wp_X1_init ev h4 q3 c5 d6 (fun (h9 : Hp) =>
    ∃ mc11 ms12 : Nat, mc7 = 1 + mc11 ∧ ms8 = 36 + ms12 ∧
    ∀ (q13 : Nat), q13 ∉ h9.1 → ∀ (h14 : Hp), h14 = nO h9 q13 9 →
    ∃ c15 d16 mc17 ms18 : Nat, mc11 = c15 + mc17 ∧ ms12 = d16 + ms18 ∧
    wp_X10_init ev h14 q13 c15 d16 (fun (h19 : Hp) =>
      ∃ mc22 ms23 : Nat, mc17 = 1 + mc22 ∧ ms18 = 1 + ms23 ∧
      ∀ (q24 : Nat), q24 ∉ h19.1 → ∀ (h25 : Hp), h25 = nA h19 q24 23 1 →
      ∃ (ad : Nat → Nat) (σ : St) (h9 : Hp), ad 0 = q13 ∧ Split h25 h9 ad σ ∧ ∃ n23, wp_L_law_23 ev ad N f n23 q3 q24 0 h9 σ mc22 ms23)) (fun _ _ => False)
