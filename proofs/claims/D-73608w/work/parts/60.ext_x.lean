/-! BODIES. Written by gen_ext.py -/
set_option maxRecDepth 100000
def bX9_init (cal : ix_C) (K : ix_K) (v0 : Nat) (h : ix_H) : ix_O :=
  cond (ix_in (nI 2000) 1000001) (
  ix_bd (ix_nwA h 102 (nI 2000).toNatClampNeg) fun h2 =>
    (ix_is h2 10 (some v0)).bind fun a3 =>
    ix_bd (ix_wfR h2 a3 1 (some (ix_sz h))) fun h4 =>
    cond (ix_in (nI 2000) 1000001) (
    ix_bd (ix_nwA h4 102 (nI 2000).toNatClampNeg) fun h5 =>
      (ix_is h5 10 (some v0)).bind fun a6 =>
      ix_bd (ix_wfR h5 a6 3 (some (ix_sz h4))) fun h7 =>
      cond (ix_in (nI 403) 1000001) (
      ix_bd (ix_nwA h7 101 (nI 403).toNatClampNeg) fun h8 =>
        (ix_is h8 10 (some v0)).bind fun a9 =>
        ix_bd (ix_wfR h8 a9 5 (some (ix_sz h7))) fun h10 =>
        cond (ix_in (nI 403) 1000001) (
        ix_bd (ix_nwA h10 101 (nI 403).toNatClampNeg) fun h11 =>
          (ix_is h11 10 (some v0)).bind fun a12 =>
          ix_bd (ix_wfR h11 a12 6 (some (ix_sz h10))) fun h13 =>
          cond (ix_in (nI 403) 1000001) (
          ix_bd (ix_nwA h13 101 (nI 403).toNatClampNeg) fun h14 =>
            (ix_is h14 10 (some v0)).bind fun a15 =>
            ix_bd (ix_wfR h14 a15 7 (some (ix_sz h13))) fun h16 =>
            cond (ix_in (nI 403) 1000001) (
            ix_bd (ix_nwA h16 106 (nI 403).toNatClampNeg) fun h17 =>
              (ix_is h17 10 (some v0)).bind fun a18 =>
              ix_bd (ix_wfR h17 a18 8 (some (ix_sz h16))) fun h19 =>
              cond (ix_in (nI 18) 1000001) (
              ix_bd (ix_nwA h19 106 (nI 18).toNatClampNeg) fun h20 =>
                (ix_is h20 10 (some v0)).bind fun a21 =>
                ix_bd (ix_wfR h20 a21 9 (some (ix_sz h19))) fun h22 =>
                (ix_is h22 10 (some v0)).bind fun a23 =>
                ix_bd (ix_wfI h22 a23 17 (-1 : Int32)) fun h24 =>
                cond (ix_in (nI 210) 1000001) (
                ix_bd (ix_nwA h24 101 (nI 210).toNatClampNeg) fun h25 =>
                  (ix_is h25 10 (some v0)).bind fun a26 =>
                  ix_bd (ix_wfR h25 a26 19 (some (ix_sz h24))) fun h27 =>
                  cond (ix_in (nI 210) 1000001) (
                  ix_bd (ix_nwA h27 101 (nI 210).toNatClampNeg) fun h28 =>
                    (ix_is h28 10 (some v0)).bind fun a29 =>
                    ix_bd (ix_wfR h28 a29 20 (some (ix_sz h27))) fun h30 =>
                    cond (ix_in (nI 210) 1000001) (
                    ix_bd (ix_nwA h30 101 (nI 210).toNatClampNeg) fun h31 =>
                      (ix_is h31 10 (some v0)).bind fun a32 =>
                      ix_bd (ix_wfR h31 a32 21 (some (ix_sz h30))) fun h33 =>
                      cond (ix_in (nI 210) 1000001) (
                      ix_bd (ix_nwA h33 101 (nI 210).toNatClampNeg) fun h34 =>
                        (ix_is h34 10 (some v0)).bind fun a35 =>
                        ix_bd (ix_wfR h34 a35 22 (some (ix_sz h33))) fun h36 =>
                        cond (ix_in (nI 210) 1000001) (
                        ix_bd (ix_nwA h36 101 (nI 210).toNatClampNeg) fun h37 =>
                          (ix_is h37 10 (some v0)).bind fun a38 =>
                          ix_bd (ix_wfR h37 a38 23 (some (ix_sz h36))) fun h39 =>
                          cond (ix_in (nI 210) 1000001) (
                          ix_bd (ix_nwA h39 101 (nI 210).toNatClampNeg) fun h40 =>
                            (ix_is h40 10 (some v0)).bind fun a41 =>
                            ix_bd (ix_wfR h40 a41 24 (some (ix_sz h39))) fun h42 =>
                            cond (ix_in (nI 3) 1000001) (
                            ix_bd (ix_nwA h42 101 (nI 3).toNatClampNeg) fun h43 =>
                              (ix_is h43 10 (some v0)).bind fun a44 =>
                              ix_bd (ix_wfR h43 a44 26 (some (ix_sz h42))) fun h45 =>
                              cond (ix_in (nI 420) 1000001) (
                              ix_bd (ix_nwA h45 101 (nI 420).toNatClampNeg) fun h46 =>
                                (ix_is h46 10 (some v0)).bind fun a47 =>
                                ix_bd (ix_wfR h46 a47 28 (some (ix_sz h45))) fun h48 =>
                                cond (ix_in (nI 420) 1000001) (
                                ix_bd (ix_nwA h48 101 (nI 420).toNatClampNeg) fun h49 =>
                                  (ix_is h49 10 (some v0)).bind fun a50 =>
                                  ix_bd (ix_wfR h49 a50 29 (some (ix_sz h48))) fun h51 =>
                                  cond (ix_in (nI 64) 1000001) (
                                  ix_bd (ix_nwA h51 101 (nI 64).toNatClampNeg) fun h52 =>
                                    (ix_is h52 10 (some v0)).bind fun a53 =>
                                    ix_bd (ix_wfR h52 a53 30 (some (ix_sz h51))) fun h54 =>
                                    cond (ix_in (nI 6) 1000001) (
                                    ix_bd (ix_nwA h54 101 (nI 6).toNatClampNeg) fun h55 =>
                                      (ix_is h55 10 (some v0)).bind fun a56 =>
                                      ix_bd (ix_wfR h55 a56 32 (some (ix_sz h54))) fun h57 =>
                                      cond (ix_in (nI 400) 1000001) (
                                      ix_bd (ix_nwA h57 101 (nI 400).toNatClampNeg) fun h58 =>
                                        (ix_is h58 10 (some v0)).bind fun a59 =>
                                        ix_bd (ix_wfR h58 a59 33 (some (ix_sz h57))) fun h60 =>
                                        cond (ix_in (nI 3) 1000001) (
                                        ix_bd (ix_nwA h60 101 (nI 3).toNatClampNeg) fun h61 =>
                                          (ix_is h61 10 (some v0)).bind fun a62 =>
                                          ix_bd (ix_wfR h61 a62 34 (some (ix_sz h60))) fun h63 =>
                                          cond (ix_in (nI 137300) 1000001) (
                                          ix_bd (ix_nwA h63 101 (nI 137300).toNatClampNeg) fun h64 =>
                                            (ix_is h64 10 (some v0)).bind fun a65 =>
                                            ix_bd (ix_wfR h64 a65 35 (some (ix_sz h63))) fun h66 =>
                                            cond (ix_in (nI 840) 1000001) (
                                            ix_bd (ix_nwA h66 101 (nI 840).toNatClampNeg) fun h67 =>
                                              (ix_is h67 10 (some v0)).bind fun a68 =>
                                              ix_bd (ix_wfR h67 a68 36 (some (ix_sz h66))) fun h69 =>
                                              cond (ix_in (nI 90) 1000001) (
                                              ix_bd (ix_nwA h69 101 (nI 90).toNatClampNeg) fun h70 =>
                                                (ix_is h70 10 (some v0)).bind fun a71 =>
                                                ix_bd (ix_wfR h70 a71 38 (some (ix_sz h69))) fun h72 =>
                                                cond (ix_in (nI 90) 1000001) (
                                                ix_bd (ix_nwA h72 101 (nI 90).toNatClampNeg) fun h73 =>
                                                  (ix_is h73 10 (some v0)).bind fun a74 =>
                                                  ix_bd (ix_wfR h73 a74 39 (some (ix_sz h72))) fun h75 =>
                                                  cond (ix_in (nI 90) 1000001) (
                                                  ix_bd (ix_nwA h75 101 (nI 90).toNatClampNeg) fun h76 =>
                                                    (ix_is h76 10 (some v0)).bind fun a77 =>
                                                    ix_bd (ix_wfR h76 a77 43 (some (ix_sz h75))) fun h78 =>
                                                    cond (ix_in (nI 90) 1000001) (
                                                    ix_bd (ix_nwA h78 101 (nI 90).toNatClampNeg) fun h79 =>
                                                      (ix_is h79 10 (some v0)).bind fun a80 =>
                                                      ix_bd (ix_wfR h79 a80 44 (some (ix_sz h78))) fun h81 =>
                                                      cond (ix_in (nI 200) 1000001) (
                                                      ix_bd (ix_nwA h81 101 (nI 200).toNatClampNeg) fun h82 =>
                                                        (ix_is h82 10 (some v0)).bind fun a83 =>
                                                        ix_bd (ix_wfR h82 a83 46 (some (ix_sz h81))) fun h84 =>
                                                        cond (ix_in (nI 200) 1000001) (
                                                        ix_bd (ix_nwA h84 101 (nI 200).toNatClampNeg) fun h85 =>
                                                          (ix_is h85 10 (some v0)).bind fun a86 =>
                                                          ix_bd (ix_wfR h85 a86 47 (some (ix_sz h84))) fun h87 =>
                                                          cond (ix_in (nI 14100) 1000001) (
                                                          ix_bd (ix_nwA h87 101 (nI 14100).toNatClampNeg) fun h88 =>
                                                            (ix_is h88 10 (some v0)).bind fun a89 =>
                                                            ix_bd (ix_wfR h88 a89 49 (some (ix_sz h87))) fun h90 =>
                                                            cond (ix_in (nI 200) 1000001) (
                                                            ix_bd (ix_nwA h90 101 (nI 200).toNatClampNeg) fun h91 =>
                                                              (ix_is h91 10 (some v0)).bind fun a92 =>
                                                              ix_bd (ix_wfR h91 a92 50 (some (ix_sz h90))) fun h93 =>
                                                              cond (ix_in (nI 200) 1000001) (
                                                              ix_bd (ix_nwA h93 101 (nI 200).toNatClampNeg) fun h94 =>
                                                                (ix_is h94 10 (some v0)).bind fun a95 =>
                                                                ix_bd (ix_wfR h94 a95 51 (some (ix_sz h93))) fun h96 =>
                                                                cond (ix_in (nI 3) 1000001) (
                                                                ix_bd (ix_nwA h96 105 (nI 3).toNatClampNeg) fun h97 =>
                                                                  (ix_is h97 10 (some v0)).bind fun a98 =>
                                                                  ix_bd (ix_wfR h97 a98 53 (some (ix_sz h96))) fun h99 =>
                                                                  cond (ix_in (nI 411900) 1000001) (
                                                                  ix_bd (ix_nwA h99 101 (nI 411900).toNatClampNeg) fun h100 =>
                                                                    (ix_is h100 10 (some v0)).bind fun a101 =>
                                                                    ix_bd (ix_wfR h100 a101 54 (some (ix_sz h99))) fun h102 =>
                                                                    (ix_is h102 10 (some v0)).bind fun a103 =>
                                                                    (ix_rL (cal 231 [ix_I (nI 99), ix_I (nI 104), ix_I (nI 97), ix_I (nI 105), ix_I (nI 110), ix_I (nI 0), ix_I (nI 0)] h102)).bind fun r104 =>
                                                                    (ix_at r104.2 106 (ix_fR h102 a103 9) (nI 0)).bind fun a105 =>
                                                                    ix_bd (ix_waL r104.2 a105 (nI 0).toNatClampNeg r104.1) fun h106 =>
                                                                    (ix_is h106 10 (some v0)).bind fun a107 =>
                                                                    (ix_rL (cal 231 [ix_I (nI 109), ix_I (nI 111), ix_I (nI 115), ix_I (nI 116), ix_I (nI 0), ix_I (nI 0), ix_I (nI 0)] h106)).bind fun r108 =>
                                                                    (ix_at r108.2 106 (ix_fR h106 a107 9) (nI 1)).bind fun a109 =>
                                                                    ix_bd (ix_waL r108.2 a109 (nI 1).toNatClampNeg r108.1) fun h110 =>
                                                                    (ix_is h110 10 (some v0)).bind fun a111 =>
                                                                    (ix_rL (cal 231 [ix_I (nI 108), ix_I (nI 101), ix_I (nI 97), ix_I (nI 115), ix_I (nI 116), ix_I (nI 0), ix_I (nI 0)] h110)).bind fun r112 =>
                                                                    (ix_at r112.2 106 (ix_fR h110 a111 9) (nI 2)).bind fun a113 =>
                                                                    ix_bd (ix_waL r112.2 a113 (nI 2).toNatClampNeg r112.1) fun h114 =>
                                                                    (ix_is h114 10 (some v0)).bind fun a115 =>
                                                                    (ix_rL (cal 231 [ix_I (nI 98), ix_I (nI 101), ix_I (nI 103), ix_I (nI 105), ix_I (nI 110), ix_I (nI 0), ix_I (nI 0)] h114)).bind fun r116 =>
                                                                    (ix_at r116.2 106 (ix_fR h114 a115 9) (nI 3)).bind fun a117 =>
                                                                    ix_bd (ix_waL r116.2 a117 (nI 3).toNatClampNeg r116.1) fun h118 =>
                                                                    (ix_is h118 10 (some v0)).bind fun a119 =>
                                                                    (ix_rL (cal 231 [ix_I (nI 103), ix_I (nI 101), ix_I (nI 116), ix_I (nI 0), ix_I (nI 0), ix_I (nI 0), ix_I (nI 0)] h118)).bind fun r120 =>
                                                                    (ix_at r120.2 106 (ix_fR h118 a119 9) (nI 4)).bind fun a121 =>
                                                                    ix_bd (ix_waL r120.2 a121 (nI 4).toNatClampNeg r120.1) fun h122 =>
                                                                    (ix_is h122 10 (some v0)).bind fun a123 =>
                                                                    (ix_rL (cal 231 [ix_I (nI 115), ix_I (nI 116), ix_I (nI 101), ix_I (nI 112), ix_I (nI 0), ix_I (nI 0), ix_I (nI 0)] h122)).bind fun r124 =>
                                                                    (ix_at r124.2 106 (ix_fR h122 a123 9) (nI 5)).bind fun a125 =>
                                                                    ix_bd (ix_waL r124.2 a125 (nI 5).toNatClampNeg r124.1) fun h126 =>
                                                                    (ix_is h126 10 (some v0)).bind fun a127 =>
                                                                    (ix_rL (cal 231 [ix_I (nI 99), ix_I (nI 108), ix_I (nI 111), ix_I (nI 115), ix_I (nI 101), ix_I (nI 0), ix_I (nI 0)] h126)).bind fun r128 =>
                                                                    (ix_at r128.2 106 (ix_fR h126 a127 9) (nI 6)).bind fun a129 =>
                                                                    ix_bd (ix_waL r128.2 a129 (nI 6).toNatClampNeg r128.1) fun h130 =>
                                                                    (ix_is h130 10 (some v0)).bind fun a131 =>
                                                                    (ix_rL (cal 231 [ix_I (nI 115), ix_I (nI 119), ix_I (nI 101), ix_I (nI 101), ix_I (nI 112), ix_I (nI 0), ix_I (nI 0)] h130)).bind fun r132 =>
                                                                    (ix_at r132.2 106 (ix_fR h130 a131 9) (nI 7)).bind fun a133 =>
                                                                    ix_bd (ix_waL r132.2 a133 (nI 7).toNatClampNeg r132.1) fun h134 =>
                                                                    (ix_is h134 10 (some v0)).bind fun a135 =>
                                                                    (ix_rL (cal 231 [ix_I (nI 100), ix_I (nI 111), ix_I (nI 0), ix_I (nI 0), ix_I (nI 0), ix_I (nI 0), ix_I (nI 0)] h134)).bind fun r136 =>
                                                                    (ix_at r136.2 106 (ix_fR h134 a135 9) (nI 8)).bind fun a137 =>
                                                                    ix_bd (ix_waL r136.2 a137 (nI 8).toNatClampNeg r136.1) fun h138 =>
                                                                    (ix_is h138 10 (some v0)).bind fun a139 =>
                                                                    (ix_rL (cal 231 [ix_I (nI 101), ix_I (nI 110), ix_I (nI 100), ix_I (nI 0), ix_I (nI 0), ix_I (nI 0), ix_I (nI 0)] h138)).bind fun r140 =>
                                                                    (ix_at r140.2 106 (ix_fR h138 a139 9) (nI 9)).bind fun a141 =>
                                                                    ix_bd (ix_waL r140.2 a141 (nI 9).toNatClampNeg r140.1) fun h142 =>
                                                                    (ix_is h142 10 (some v0)).bind fun a143 =>
                                                                    (ix_rL (cal 231 [ix_I (nI 112), ix_I (nI 117), ix_I (nI 116), ix_I (nI 0), ix_I (nI 0), ix_I (nI 0), ix_I (nI 0)] h142)).bind fun r144 =>
                                                                    (ix_at r144.2 106 (ix_fR h142 a143 9) (nI 10)).bind fun a145 =>
                                                                    ix_bd (ix_waL r144.2 a145 (nI 10).toNatClampNeg r144.1) fun h146 =>
                                                                    (ix_is h146 10 (some v0)).bind fun a147 =>
                                                                    (ix_rL (cal 231 [ix_I (nI 99), ix_I (nI 117), ix_I (nI 116), ix_I (nI 0), ix_I (nI 0), ix_I (nI 0), ix_I (nI 0)] h146)).bind fun r148 =>
                                                                    (ix_at r148.2 106 (ix_fR h146 a147 9) (nI 11)).bind fun a149 =>
                                                                    ix_bd (ix_waL r148.2 a149 (nI 11).toNatClampNeg r148.1) fun h150 =>
                                                                    (ix_is h150 10 (some v0)).bind fun a151 =>
                                                                    (ix_rL (cal 231 [ix_I (nI 105), ix_I (nI 0), ix_I (nI 0), ix_I (nI 0), ix_I (nI 0), ix_I (nI 0), ix_I (nI 0)] h150)).bind fun r152 =>
                                                                    (ix_at r152.2 106 (ix_fR h150 a151 9) (nI 12)).bind fun a153 =>
                                                                    ix_bd (ix_waL r152.2 a153 (nI 12).toNatClampNeg r152.1) fun h154 =>
                                                                    (ix_is h154 10 (some v0)).bind fun a155 =>
                                                                    (ix_rL (cal 231 [ix_I (nI 106), ix_I (nI 0), ix_I (nI 0), ix_I (nI 0), ix_I (nI 0), ix_I (nI 0), ix_I (nI 0)] h154)).bind fun r156 =>
                                                                    (ix_at r156.2 106 (ix_fR h154 a155 9) (nI 13)).bind fun a157 =>
                                                                    ix_bd (ix_waL r156.2 a157 (nI 13).toNatClampNeg r156.1) fun h158 =>
                                                                    (ix_is h158 10 (some v0)).bind fun a159 =>
                                                                    (ix_rL (cal 231 [ix_I (nI 107), ix_I (nI 101), ix_I (nI 121), ix_I (nI 115), ix_I (nI 0), ix_I (nI 0), ix_I (nI 0)] h158)).bind fun r160 =>
                                                                    (ix_at r160.2 106 (ix_fR h158 a159 9) (nI 14)).bind fun a161 =>
                                                                    ix_bd (ix_waL r160.2 a161 (nI 14).toNatClampNeg r160.1) fun h162 =>
                                                                    (ix_is h162 10 (some v0)).bind fun a163 =>
                                                                    (ix_rL (cal 231 [ix_I (nI 108), ix_I (nI 97), ix_I (nI 115), ix_I (nI 116), ix_I (nI 0), ix_I (nI 0), ix_I (nI 0)] h162)).bind fun r164 =>
                                                                    (ix_at r164.2 106 (ix_fR h162 a163 9) (nI 15)).bind fun a165 =>
                                                                    ix_bd (ix_waL r164.2 a165 (nI 15).toNatClampNeg r164.1) fun h166 =>
                                                                    (ix_is h166 10 (some v0)).bind fun a167 =>
                                                                    (ix_rL (cal 231 [ix_I (nI 114), ix_I (nI 101), ix_I (nI 99), ix_I (nI 111), ix_I (nI 114), ix_I (nI 100), ix_I (nI 115)] h166)).bind fun r168 =>
                                                                    (ix_at r168.2 106 (ix_fR h166 a167 9) (nI 16)).bind fun a169 =>
                                                                    ix_bd (ix_waL r168.2 a169 (nI 16).toNatClampNeg r168.1) fun h170 =>
                                                                    (ix_is h170 10 (some v0)).bind fun a171 =>
                                                                    (ix_rL (cal 231 [ix_I (nI 108), ix_I (nI 111), ix_I (nI 115), ix_I (nI 116), ix_I (nI 0), ix_I (nI 0), ix_I (nI 0)] h170)).bind fun r172 =>
                                                                    (ix_at r172.2 106 (ix_fR h170 a171 9) (nI 17)).bind fun a173 =>
                                                                    ix_bd (ix_waL r172.2 a173 (nI 17).toNatClampNeg r172.1) fun h174 =>
                                                                    (ix_isr h174 10 (some v0)).bind fun a176 =>
                                                                    (ix_rV (cal 233 [ix_R (some a176), ix_I (nI 3), ix_I (nI 6), ix_I (nI 2)] h174)).bind fun r175 =>
                                                                    some (.inl none, r175)) none) none) none) none) none) none) none) none) none) none) none) none) none) none) none) none) none) none) none) none) none) none) none) none) none) none) none) none) none) none) none) none) none
theorem eX9_init (cal : ix_C) (K : ix_K) (v0 : Nat) (h : ix_H) : ix_fwd cal K stX9_init 0 [(0, ix_R (some v0))] [] h = bX9_init cal K v0 h := rfl
theorem rX9_init (N d : Nat) (v0 : Nat) (h : ix_H) : ix_run iy_P N (d + 1) 230 [ix_R (some v0)] h = bX9_init (ix_run iy_P N d) (ix_lp (ix_run iy_P N d) stX9_init N) v0 h := (rfl : ix_run iy_P N (d + 1) 230 [ix_R (some v0)] h = ix_fwd (ix_run iy_P N d) (ix_lp (ix_run iy_P N d) stX9_init N) stX9_init 0 [(0, ix_R (some v0))] [] h).trans (eX9_init _ _ v0 h)
def bX9_letters (cal : ix_C) (K : ix_K) (v0 : Int32) (v1 : Int32) (v2 : Int32) (v3 : Int32) (v4 : Int32) (v5 : Int32) (v6 : Int32) (h : ix_H) : ix_O :=
  (ix_rL (cal 232 [ix_L (0 : Int64), ix_I v0] h)).bind fun r1 =>
  (ix_rL (cal 232 [ix_L r1.1, ix_I v1] r1.2)).bind fun r2 =>
  (ix_rL (cal 232 [ix_L r2.1, ix_I v2] r2.2)).bind fun r3 =>
  (ix_rL (cal 232 [ix_L r3.1, ix_I v3] r3.2)).bind fun r4 =>
  (ix_rL (cal 232 [ix_L r4.1, ix_I v4] r4.2)).bind fun r5 =>
  (ix_rL (cal 232 [ix_L r5.1, ix_I v5] r5.2)).bind fun r6 =>
  (ix_rL (cal 232 [ix_L r6.1, ix_I v6] r6.2)).bind fun r7 =>
  some (.inl (some (ix_L r7.1)), r7.2)
theorem eX9_letters (cal : ix_C) (K : ix_K) (v0 : Int32) (v1 : Int32) (v2 : Int32) (v3 : Int32) (v4 : Int32) (v5 : Int32) (v6 : Int32) (h : ix_H) : ix_fwd cal K stX9_letters 0 [(0, ix_I v0), (1, ix_I v1), (2, ix_I v2), (3, ix_I v3), (4, ix_I v4), (5, ix_I v5), (6, ix_I v6)] [] h = bX9_letters cal K v0 v1 v2 v3 v4 v5 v6 h := rfl
theorem rX9_letters (N d : Nat) (v0 : Int32) (v1 : Int32) (v2 : Int32) (v3 : Int32) (v4 : Int32) (v5 : Int32) (v6 : Int32) (h : ix_H) : ix_run iy_P N (d + 1) 231 [ix_I v0, ix_I v1, ix_I v2, ix_I v3, ix_I v4, ix_I v5, ix_I v6] h = bX9_letters (ix_run iy_P N d) (ix_lp (ix_run iy_P N d) stX9_letters N) v0 v1 v2 v3 v4 v5 v6 h := (rfl : ix_run iy_P N (d + 1) 231 [ix_I v0, ix_I v1, ix_I v2, ix_I v3, ix_I v4, ix_I v5, ix_I v6] h = ix_fwd (ix_run iy_P N d) (ix_lp (ix_run iy_P N d) stX9_letters N) stX9_letters 0 [(0, ix_I v0), (1, ix_I v1), (2, ix_I v2), (3, ix_I v3), (4, ix_I v4), (5, ix_I v5), (6, ix_I v6)] [] h).trans (eX9_letters _ _ v0 v1 v2 v3 v4 v5 v6 h)
def jX9_appends_14 (cal : ix_C) (K : ix_K) (s0 : Int64) (h : ix_H) : ix_O :=
  some (.inl (some (ix_L s0)), h)
theorem jX9_appends_14_eq (cal : ix_C) (K : ix_K) (s0 : Int64) (h : ix_H) : ix_fwd cal K (stX9_appends.drop 14) 0 [] [ix_L s0] h = jX9_appends_14 cal K s0 h := rfl
def bX9_appends (cal : ix_C) (K : ix_K) (v0 : Int64) (v2 : Int32) (h : ix_H) : ix_O :=
  if v2 = nI 0 then
    jX9_appends_14 cal K v0 h
  else
    jX9_appends_14 cal K (((27 : Int64) * v0) + (((v2 - (nI 97)) + (nI 1)).toInt64)) h
theorem eX9_appends (cal : ix_C) (K : ix_K) (v0 : Int64) (v2 : Int32) (h : ix_H) : ix_fwd cal K stX9_appends 0 [(0, ix_L v0), (2, ix_I v2)] [] h = bX9_appends cal K v0 v2 h := rfl
theorem rX9_appends (N d : Nat) (v0 : Int64) (v2 : Int32) (h : ix_H) : ix_run iy_P N (d + 1) 232 [ix_L v0, ix_I v2] h = bX9_appends (ix_run iy_P N d) (ix_lp (ix_run iy_P N d) stX9_appends N) v0 v2 h := (rfl : ix_run iy_P N (d + 1) 232 [ix_L v0, ix_I v2] h = ix_fwd (ix_run iy_P N d) (ix_lp (ix_run iy_P N d) stX9_appends N) stX9_appends 0 [(0, ix_L v0), (2, ix_I v2)] [] h).trans (eX9_appends _ _ v0 v2 h)
def jX9_begins_30 (cal : ix_C) (K : ix_K) (v0 : Nat) (v4 : Int32) (h : ix_H) : ix_O :=
  if (nI 4) ≤ v4 then
    (ix_isr h 10 (some v0)).bind fun a11 =>
    (ix_rI (cal 235 [ix_R (some a11), ix_I (nI 0), ix_I (-2 : Int32)] h)).bind fun r10 =>
    (ix_isr r10.2 10 (some v0)).bind fun a13 =>
    (ix_rV (cal 238 [ix_R (some a13), ix_I r10.1, ix_I (nI 0), ix_I (nI 1)] r10.2)).bind fun r12 =>
    (ix_is r12 10 (some v0)).bind fun a14 =>
    (ix_at r12 101 (ix_fR r12 a14 35) (nI 10)).bind fun a15 =>
    ix_bd (ix_waI r12 a15 (nI 10).toNatClampNeg r10.1) fun h16 =>
    (ix_is h16 10 (some v0)).bind fun a17 =>
    (ix_isr h16 10 (some v0)).bind fun a19 =>
    (ix_rI (cal 235 [ix_R (some a19), ix_I (nI 1000), ix_I (-2 : Int32)] h16)).bind fun r18 =>
    (ix_at r18.2 101 (ix_fR h16 a17 35) (nI 11)).bind fun a20 =>
    ix_bd (ix_waI r18.2 a20 (nI 11).toNatClampNeg r18.1) fun h21 =>
    (ix_is h21 10 (some v0)).bind fun a22 =>
    (ix_at h21 101 (ix_fR h21 a22 35) (nI 1)).bind fun a23 =>
    ix_bd (ix_waI h21 a23 (nI 1).toNatClampNeg (nI 2)) fun h24 =>
    some (.inl none, h24)
  else
    (ix_is h 10 (some v0)).bind fun a25 =>
    (ix_rI (cal 234 [ix_I v4] h)).bind fun r26 =>
    (ix_at r26.2 101 (ix_fR h a25 35) (r26.1 + (nI 2))).bind fun a27 =>
    ix_bd (ix_waI r26.2 a27 (r26.1 + (nI 2)).toNatClampNeg (-2 : Int32)) fun h28 =>
    (ix_is h28 10 (some v0)).bind fun a29 =>
    (ix_rI (cal 234 [ix_I v4] h28)).bind fun r30 =>
    (ix_at r30.2 101 (ix_fR h28 a29 35) (r30.1 + (nI 6))).bind fun a31 =>
    ix_bd (ix_waI r30.2 a31 (r30.1 + (nI 6)).toNatClampNeg (-2 : Int32)) fun h32 =>
    K 30 [(0, ix_R (some v0)), (4, ix_I (v4 + (nI 1)))] [] h32
theorem jX9_begins_30_eq (cal : ix_C) (K : ix_K) (v0 : Nat) (v4 : Int32) (h : ix_H) : ix_fwd cal K (stX9_begins.drop 30) 0 [(0, ix_R (some v0)), (4, ix_I v4)] [] h = jX9_begins_30 cal K v0 v4 h := rfl
def jX9_begins_2 (cal : ix_C) (K : ix_K) (v0 : Nat) (v1 : Int32) (v2 : Int32) (v3 : Int32) (v4 : Int32) (h : ix_H) : ix_O :=
  if (nI 100) ≤ v4 then
    (ix_is h 10 (some v0)).bind fun a1 =>
    (ix_at h 101 (ix_fR h a1 35) (nI 5)).bind fun a2 =>
    ix_bd (ix_waI h a2 (nI 5).toNatClampNeg v1) fun h3 =>
    (ix_is h3 10 (some v0)).bind fun a4 =>
    (ix_at h3 101 (ix_fR h3 a4 35) (nI 6)).bind fun a5 =>
    ix_bd (ix_waI h3 a5 (nI 6).toNatClampNeg v2) fun h6 =>
    (ix_is h6 10 (some v0)).bind fun a7 =>
    (ix_at h6 101 (ix_fR h6 a7 35) (nI 7)).bind fun a8 =>
    ix_bd (ix_waI h6 a8 (nI 7).toNatClampNeg v3) fun h9 =>
    jX9_begins_30 cal K v0 (nI 0) h9
  else
    (ix_is h 10 (some v0)).bind fun a33 =>
    (ix_at h 101 (ix_fR h a33 35) v4).bind fun a34 =>
    ix_bd (ix_waI h a34 v4.toNatClampNeg (nI 0)) fun h35 =>
    K 2 [(0, ix_R (some v0)), (1, ix_I v1), (2, ix_I v2), (3, ix_I v3), (4, ix_I (v4 + (nI 1)))] [] h35
theorem jX9_begins_2_eq (cal : ix_C) (K : ix_K) (v0 : Nat) (v1 : Int32) (v2 : Int32) (v3 : Int32) (v4 : Int32) (h : ix_H) : ix_fwd cal K (stX9_begins.drop 2) 0 [(0, ix_R (some v0)), (1, ix_I v1), (2, ix_I v2), (3, ix_I v3), (4, ix_I v4)] [] h = jX9_begins_2 cal K v0 v1 v2 v3 v4 h := rfl
def bX9_begins (cal : ix_C) (K : ix_K) (v0 : Nat) (v1 : Int32) (v2 : Int32) (v3 : Int32) (h : ix_H) : ix_O :=
  jX9_begins_2 cal K v0 v1 v2 v3 (nI 0) h
theorem eX9_begins (cal : ix_C) (K : ix_K) (v0 : Nat) (v1 : Int32) (v2 : Int32) (v3 : Int32) (h : ix_H) : ix_fwd cal K stX9_begins 0 [(0, ix_R (some v0)), (1, ix_I v1), (2, ix_I v2), (3, ix_I v3)] [] h = bX9_begins cal K v0 v1 v2 v3 h := rfl
theorem rX9_begins (N d : Nat) (v0 : Nat) (v1 : Int32) (v2 : Int32) (v3 : Int32) (h : ix_H) : ix_run iy_P N (d + 1) 233 [ix_R (some v0), ix_I v1, ix_I v2, ix_I v3] h = bX9_begins (ix_run iy_P N d) (ix_lp (ix_run iy_P N d) stX9_begins N) v0 v1 v2 v3 h := (rfl : ix_run iy_P N (d + 1) 233 [ix_R (some v0), ix_I v1, ix_I v2, ix_I v3] h = ix_fwd (ix_run iy_P N d) (ix_lp (ix_run iy_P N d) stX9_begins N) stX9_begins 0 [(0, ix_R (some v0)), (1, ix_I v1), (2, ix_I v2), (3, ix_I v3)] [] h).trans (eX9_begins _ _ v0 v1 v2 v3 h)
theorem lX9_begins_2 (cal : ix_C) (n : Nat) (v0 : Nat) (v1 : Int32) (v2 : Int32) (v3 : Int32) (v4 : Int32) (h : ix_H) : ix_lp cal stX9_begins (n + 1) 2 [(0, ix_R (some v0)), (1, ix_I v1), (2, ix_I v2), (3, ix_I v3), (4, ix_I v4)] [] h = jX9_begins_2 cal (ix_lp cal stX9_begins n) v0 v1 v2 v3 v4 h := jX9_begins_2_eq cal (ix_lp cal stX9_begins n) v0 v1 v2 v3 v4 h
theorem lX9_begins_30 (cal : ix_C) (n : Nat) (v0 : Nat) (v4 : Int32) (h : ix_H) : ix_lp cal stX9_begins (n + 1) 30 [(0, ix_R (some v0)), (4, ix_I v4)] [] h = jX9_begins_30 cal (ix_lp cal stX9_begins n) v0 v4 h := jX9_begins_30_eq cal (ix_lp cal stX9_begins n) v0 v4 h
def bX9_hand0 (cal : ix_C) (K : ix_K) (v0 : Int32) (h : ix_H) : ix_O :=
  some (.inl (some (ix_I ((nI 42) + ((nI 14) * v0)))), h)
theorem eX9_hand0 (cal : ix_C) (K : ix_K) (v0 : Int32) (h : ix_H) : ix_fwd cal K stX9_hand0 0 [(0, ix_I v0)] [] h = bX9_hand0 cal K v0 h := rfl
theorem rX9_hand0 (N d : Nat) (v0 : Int32) (h : ix_H) : ix_run iy_P N (d + 1) 234 [ix_I v0] h = bX9_hand0 (ix_run iy_P N d) (ix_lp (ix_run iy_P N d) stX9_hand0 N) v0 h := (rfl : ix_run iy_P N (d + 1) 234 [ix_I v0] h = ix_fwd (ix_run iy_P N d) (ix_lp (ix_run iy_P N d) stX9_hand0 N) stX9_hand0 0 [(0, ix_I v0)] [] h).trans (eX9_hand0 _ _ v0 h)
def bX9_newBase (cal : ix_C) (K : ix_K) (v0 : Nat) (v1 : Int32) (v2 : Int32) (h : ix_H) : ix_O :=
  (ix_isr h 10 (some v0)).bind fun a2 =>
  (ix_rI (cal 236 [ix_R (some a2), ix_I (nI 0), ix_I (-2 : Int32), ix_I (-2 : Int32), ix_I (-2 : Int32)] h)).bind fun r1 =>
  (ix_is r1.2 10 (some v0)).bind fun a3 =>
  (ix_rI (cal 237 [ix_I r1.1] r1.2)).bind fun r4 =>
  (ix_at r4.2 101 (ix_fR r1.2 a3 35) (r4.1 + (nI 7))).bind fun a5 =>
  ix_bd (ix_waI r4.2 a5 (r4.1 + (nI 7)).toNatClampNeg v1) fun h6 =>
  (ix_is h6 10 (some v0)).bind fun a7 =>
  (ix_rI (cal 237 [ix_I r1.1] h6)).bind fun r8 =>
  (ix_at r8.2 101 (ix_fR h6 a7 35) (r8.1 + (nI 8))).bind fun a9 =>
  ix_bd (ix_waI r8.2 a9 (r8.1 + (nI 8)).toNatClampNeg v2) fun h10 =>
  some (.inl (some (ix_I r1.1)), h10)
theorem eX9_newBase (cal : ix_C) (K : ix_K) (v0 : Nat) (v1 : Int32) (v2 : Int32) (h : ix_H) : ix_fwd cal K stX9_newBase 0 [(0, ix_R (some v0)), (1, ix_I v1), (2, ix_I v2)] [] h = bX9_newBase cal K v0 v1 v2 h := rfl
theorem rX9_newBase (N d : Nat) (v0 : Nat) (v1 : Int32) (v2 : Int32) (h : ix_H) : ix_run iy_P N (d + 1) 235 [ix_R (some v0), ix_I v1, ix_I v2] h = bX9_newBase (ix_run iy_P N d) (ix_lp (ix_run iy_P N d) stX9_newBase N) v0 v1 v2 h := (rfl : ix_run iy_P N (d + 1) 235 [ix_R (some v0), ix_I v1, ix_I v2] h = ix_fwd (ix_run iy_P N d) (ix_lp (ix_run iy_P N d) stX9_newBase N) stX9_newBase 0 [(0, ix_R (some v0)), (1, ix_I v1), (2, ix_I v2)] [] h).trans (eX9_newBase _ _ v0 v1 v2 h)
def bX9_newRecord (cal : ix_C) (K : ix_K) (v0 : Nat) (v1 : Int32) (v2 : Int32) (v3 : Int32) (v4 : Int32) (h : ix_H) : ix_O :=
  (ix_is h 10 (some v0)).bind fun a1 =>
  (ix_atr h 101 (ix_fR h a1 35) (nI 0)).bind fun a2 =>
  (ix_rI (cal 237 [ix_I (ix_aI h a2 (nI 0).toNatClampNeg)] h)).bind fun r3 =>
  (ix_is r3.2 10 (some v0)).bind fun a4 =>
  (ix_at r3.2 101 (ix_fR r3.2 a4 35) (r3.1 + (nI 0))).bind fun a5 =>
  ix_bd (ix_waI r3.2 a5 (r3.1 + (nI 0)).toNatClampNeg v1) fun h6 =>
  (ix_is h6 10 (some v0)).bind fun a7 =>
  (ix_at h6 101 (ix_fR h6 a7 35) (r3.1 + (nI 1))).bind fun a8 =>
  ix_bd (ix_waI h6 a8 (r3.1 + (nI 1)).toNatClampNeg v2) fun h9 =>
  (ix_is h9 10 (some v0)).bind fun a10 =>
  (ix_at h9 101 (ix_fR h9 a10 35) (r3.1 + (nI 2))).bind fun a11 =>
  ix_bd (ix_waI h9 a11 (r3.1 + (nI 2)).toNatClampNeg v3) fun h12 =>
  (ix_is h12 10 (some v0)).bind fun a13 =>
  (ix_at h12 101 (ix_fR h12 a13 35) (r3.1 + (nI 3))).bind fun a14 =>
  ix_bd (ix_waI h12 a14 (r3.1 + (nI 3)).toNatClampNeg v4) fun h15 =>
  (ix_is h15 10 (some v0)).bind fun a16 =>
  (ix_at h15 101 (ix_fR h15 a16 35) (r3.1 + (nI 4))).bind fun a17 =>
  ix_bd (ix_waI h15 a17 (r3.1 + (nI 4)).toNatClampNeg (-2 : Int32)) fun h18 =>
  (ix_is h18 10 (some v0)).bind fun a19 =>
  (ix_at h18 101 (ix_fR h18 a19 35) (r3.1 + (nI 5))).bind fun a20 =>
  ix_bd (ix_waI h18 a20 (r3.1 + (nI 5)).toNatClampNeg (nI 0)) fun h21 =>
  (ix_is h21 10 (some v0)).bind fun a22 =>
  (ix_at h21 101 (ix_fR h21 a22 35) (r3.1 + (nI 6))).bind fun a23 =>
  ix_bd (ix_waI h21 a23 (r3.1 + (nI 6)).toNatClampNeg (nI 0)) fun h24 =>
  (ix_is h24 10 (some v0)).bind fun a25 =>
  (ix_at h24 101 (ix_fR h24 a25 35) (r3.1 + (nI 7))).bind fun a26 =>
  ix_bd (ix_waI h24 a26 (r3.1 + (nI 7)).toNatClampNeg (nI 0)) fun h27 =>
  (ix_is h27 10 (some v0)).bind fun a28 =>
  (ix_at h27 101 (ix_fR h27 a28 35) (r3.1 + (nI 8))).bind fun a29 =>
  ix_bd (ix_waI h27 a29 (r3.1 + (nI 8)).toNatClampNeg (-2 : Int32)) fun h30 =>
  (ix_is h30 10 (some v0)).bind fun a31 =>
  (ix_at h30 101 (ix_fR h30 a31 35) (r3.1 + (nI 9))).bind fun a32 =>
  ix_bd (ix_waI h30 a32 (r3.1 + (nI 9)).toNatClampNeg (-2 : Int32)) fun h33 =>
  (ix_is h33 10 (some v0)).bind fun a34 =>
  (ix_atr h33 101 (ix_fR h33 a34 35) (nI 0)).bind fun a35 =>
  (ix_at h33 101 (ix_fR h33 a34 35) (nI 0)).bind fun a36 =>
  ix_bd (ix_waI h33 a36 (nI 0).toNatClampNeg ((ix_aI h33 a35 (nI 0).toNatClampNeg) + (nI 1))) fun h37 =>
  some (.inl (some (ix_I (ix_aI h a2 (nI 0).toNatClampNeg))), h37)
theorem eX9_newRecord (cal : ix_C) (K : ix_K) (v0 : Nat) (v1 : Int32) (v2 : Int32) (v3 : Int32) (v4 : Int32) (h : ix_H) : ix_fwd cal K stX9_newRecord 0 [(0, ix_R (some v0)), (1, ix_I v1), (2, ix_I v2), (3, ix_I v3), (4, ix_I v4)] [] h = bX9_newRecord cal K v0 v1 v2 v3 v4 h := rfl
theorem rX9_newRecord (N d : Nat) (v0 : Nat) (v1 : Int32) (v2 : Int32) (v3 : Int32) (v4 : Int32) (h : ix_H) : ix_run iy_P N (d + 1) 236 [ix_R (some v0), ix_I v1, ix_I v2, ix_I v3, ix_I v4] h = bX9_newRecord (ix_run iy_P N d) (ix_lp (ix_run iy_P N d) stX9_newRecord N) v0 v1 v2 v3 v4 h := (rfl : ix_run iy_P N (d + 1) 236 [ix_R (some v0), ix_I v1, ix_I v2, ix_I v3, ix_I v4] h = ix_fwd (ix_run iy_P N d) (ix_lp (ix_run iy_P N d) stX9_newRecord N) stX9_newRecord 0 [(0, ix_R (some v0)), (1, ix_I v1), (2, ix_I v2), (3, ix_I v3), (4, ix_I v4)] [] h).trans (eX9_newRecord _ _ v0 v1 v2 v3 v4 h)
def bX9_record0 (cal : ix_C) (K : ix_K) (v0 : Int32) (h : ix_H) : ix_O :=
  some (.inl (some (ix_I ((nI 100) + ((nI 10) * v0)))), h)
theorem eX9_record0 (cal : ix_C) (K : ix_K) (v0 : Int32) (h : ix_H) : ix_fwd cal K stX9_record0 0 [(0, ix_I v0)] [] h = bX9_record0 cal K v0 h := rfl
theorem rX9_record0 (N d : Nat) (v0 : Int32) (h : ix_H) : ix_run iy_P N (d + 1) 237 [ix_I v0] h = bX9_record0 (ix_run iy_P N d) (ix_lp (ix_run iy_P N d) stX9_record0 N) v0 h := (rfl : ix_run iy_P N (d + 1) 237 [ix_I v0] h = ix_fwd (ix_run iy_P N d) (ix_lp (ix_run iy_P N d) stX9_record0 N) stX9_record0 0 [(0, ix_I v0)] [] h).trans (eX9_record0 _ _ v0 h)
def bX9_adds (cal : ix_C) (K : ix_K) (v0 : Nat) (v1 : Int32) (v2 : Int32) (v3 : Int32) (h : ix_H) : ix_O :=
  (ix_isr h 10 (some v0)).bind fun a2 =>
  (ix_rI (cal 239 [ix_R (some a2), ix_I v1, ix_I (nI 6)] h)).bind fun r1 =>
  (ix_is r1.2 10 (some v0)).bind fun a3 =>
  (ix_at r1.2 101 (ix_fR r1.2 a3 35) (((nI 14100) + ((nI 88) * v1)) + ((nI 2) * r1.1))).bind fun a4 =>
  ix_bd (ix_waI r1.2 a4 (((nI 14100) + ((nI 88) * v1)) + ((nI 2) * r1.1)).toNatClampNeg v2) fun h5 =>
  (ix_is h5 10 (some v0)).bind fun a6 =>
  (ix_at h5 101 (ix_fR h5 a6 35) ((((nI 14100) + ((nI 88) * v1)) + ((nI 2) * r1.1)) + (nI 1))).bind fun a7 =>
  ix_bd (ix_waI h5 a7 ((((nI 14100) + ((nI 88) * v1)) + ((nI 2) * r1.1)) + (nI 1)).toNatClampNeg v3) fun h8 =>
  (ix_is h8 10 (some v0)).bind fun a9 =>
  (ix_rI (cal 237 [ix_I v1] h8)).bind fun r10 =>
  (ix_atr r10.2 101 (ix_fR h8 a9 35) (r10.1 + (nI 6))).bind fun a11 =>
  (ix_at r10.2 101 (ix_fR h8 a9 35) (r10.1 + (nI 6))).bind fun a12 =>
  ix_bd (ix_waI r10.2 a12 (r10.1 + (nI 6)).toNatClampNeg ((ix_aI r10.2 a11 (r10.1 + (nI 6)).toNatClampNeg) + (nI 1))) fun h13 =>
  some (.inl none, h13)
theorem eX9_adds (cal : ix_C) (K : ix_K) (v0 : Nat) (v1 : Int32) (v2 : Int32) (v3 : Int32) (h : ix_H) : ix_fwd cal K stX9_adds 0 [(0, ix_R (some v0)), (1, ix_I v1), (2, ix_I v2), (3, ix_I v3)] [] h = bX9_adds cal K v0 v1 v2 v3 h := rfl
theorem rX9_adds (N d : Nat) (v0 : Nat) (v1 : Int32) (v2 : Int32) (v3 : Int32) (h : ix_H) : ix_run iy_P N (d + 1) 238 [ix_R (some v0), ix_I v1, ix_I v2, ix_I v3] h = bX9_adds (ix_run iy_P N d) (ix_lp (ix_run iy_P N d) stX9_adds N) v0 v1 v2 v3 h := (rfl : ix_run iy_P N (d + 1) 238 [ix_R (some v0), ix_I v1, ix_I v2, ix_I v3] h = ix_fwd (ix_run iy_P N d) (ix_lp (ix_run iy_P N d) stX9_adds N) stX9_adds 0 [(0, ix_R (some v0)), (1, ix_I v1), (2, ix_I v2), (3, ix_I v3)] [] h).trans (eX9_adds _ _ v0 v1 v2 v3 h)
def bX9_ofRecord (cal : ix_C) (K : ix_K) (v0 : Nat) (v1 : Int32) (v2 : Int32) (h : ix_H) : ix_O :=
  (ix_is h 10 (some v0)).bind fun a1 =>
  (ix_atr h 101 (ix_fR h a1 35) (((nI 100) + ((nI 10) * v1)) + v2)).bind fun a2 =>
  some (.inl (some (ix_I (ix_aI h a2 (((nI 100) + ((nI 10) * v1)) + v2).toNatClampNeg))), h)
theorem eX9_ofRecord (cal : ix_C) (K : ix_K) (v0 : Nat) (v1 : Int32) (v2 : Int32) (h : ix_H) : ix_fwd cal K stX9_ofRecord 0 [(0, ix_R (some v0)), (1, ix_I v1), (2, ix_I v2)] [] h = bX9_ofRecord cal K v0 v1 v2 h := rfl
theorem rX9_ofRecord (N d : Nat) (v0 : Nat) (v1 : Int32) (v2 : Int32) (h : ix_H) : ix_run iy_P N (d + 1) 239 [ix_R (some v0), ix_I v1, ix_I v2] h = bX9_ofRecord (ix_run iy_P N d) (ix_lp (ix_run iy_P N d) stX9_ofRecord N) v0 v1 v2 h := (rfl : ix_run iy_P N (d + 1) 239 [ix_R (some v0), ix_I v1, ix_I v2] h = ix_fwd (ix_run iy_P N d) (ix_lp (ix_run iy_P N d) stX9_ofRecord N) stX9_ofRecord 0 [(0, ix_R (some v0)), (1, ix_I v1), (2, ix_I v2)] [] h).trans (eX9_ofRecord _ _ v0 v1 v2 h)
def bX9_feed (cal : ix_C) (K : ix_K) (v0 : Nat) (v1 : Int32) (v2 : Int32) (v3 : Int32) (v4 : Int32) (v5 : Int32) (h : ix_H) : ix_O :=
  (ix_is h 10 (some v0)).bind fun a1 =>
  if ((ix_fI h a1 2) + (nI 20)) ≤ (nI 2000) then
    (ix_isr h 10 (some v0)).bind fun a3 =>
    (ix_rV (cal 241 [ix_R (some a3), ix_I v1] h)).bind fun r2 =>
    (ix_isr r2 10 (some v0)).bind fun a5 =>
    (ix_rV (cal 241 [ix_R (some a5), ix_I v2] r2)).bind fun r4 =>
    (ix_isr r4 10 (some v0)).bind fun a7 =>
    (ix_rV (cal 241 [ix_R (some a7), ix_I v3] r4)).bind fun r6 =>
    (ix_isr r6 10 (some v0)).bind fun a9 =>
    (ix_rV (cal 241 [ix_R (some a9), ix_I v4] r6)).bind fun r8 =>
    (ix_isr r8 10 (some v0)).bind fun a11 =>
    (ix_rV (cal 241 [ix_R (some a11), ix_I v5] r8)).bind fun r10 =>
    (ix_is r10 10 (some v0)).bind fun a12 =>
    some (.inl (some (ix_I (ix_fI r10 a12 2))), r10)
  else
    some (.inl (some (ix_I (-1 : Int32))), h)
theorem eX9_feed (cal : ix_C) (K : ix_K) (v0 : Nat) (v1 : Int32) (v2 : Int32) (v3 : Int32) (v4 : Int32) (v5 : Int32) (h : ix_H) : ix_fwd cal K stX9_feed 0 [(0, ix_R (some v0)), (1, ix_I v1), (2, ix_I v2), (3, ix_I v3), (4, ix_I v4), (5, ix_I v5)] [] h = bX9_feed cal K v0 v1 v2 v3 v4 v5 h := rfl
theorem rX9_feed (N d : Nat) (v0 : Nat) (v1 : Int32) (v2 : Int32) (v3 : Int32) (v4 : Int32) (v5 : Int32) (h : ix_H) : ix_run iy_P N (d + 1) 240 [ix_R (some v0), ix_I v1, ix_I v2, ix_I v3, ix_I v4, ix_I v5] h = bX9_feed (ix_run iy_P N d) (ix_lp (ix_run iy_P N d) stX9_feed N) v0 v1 v2 v3 v4 v5 h := (rfl : ix_run iy_P N (d + 1) 240 [ix_R (some v0), ix_I v1, ix_I v2, ix_I v3, ix_I v4, ix_I v5] h = ix_fwd (ix_run iy_P N d) (ix_lp (ix_run iy_P N d) stX9_feed N) stX9_feed 0 [(0, ix_R (some v0)), (1, ix_I v1), (2, ix_I v2), (3, ix_I v3), (4, ix_I v4), (5, ix_I v5)] [] h).trans (eX9_feed _ _ v0 v1 v2 v3 v4 v5 h)
def jX9_lays_2 (cal : ix_C) (K : ix_K) (v0 : Nat) (v1 : Int32) (v2 : Int32) (h : ix_H) : ix_O :=
  if v2 < nI 0 then
    some (.inl none, h)
  else
    (ix_is h 10 (some v0)).bind fun a1 =>
    (ix_is h 10 (some v0)).bind fun a2 =>
    (ix_at h 102 (ix_fR h a1 1) (ix_fI h a2 2)).bind fun a3 =>
    ix_bd (ix_waI h a3 (ix_fI h a2 2).toNatClampNeg (ix_nar 2 ((v1 >>> (v2 &&& 31)).toInt8.toInt32))) fun h4 =>
    (ix_is h4 10 (some v0)).bind fun a5 =>
    (ix_is h4 10 (some v0)).bind fun a6 =>
    ix_bd (ix_wfI h4 a6 2 ((ix_fI h4 a5 2) + (nI 1))) fun h7 =>
    K 2 [(0, ix_R (some v0)), (1, ix_I v1), (2, ix_I (v2 + (-8)))] [] h7
theorem jX9_lays_2_eq (cal : ix_C) (K : ix_K) (v0 : Nat) (v1 : Int32) (v2 : Int32) (h : ix_H) : ix_fwd cal K (stX9_lays.drop 2) 0 [(0, ix_R (some v0)), (1, ix_I v1), (2, ix_I v2)] [] h = jX9_lays_2 cal K v0 v1 v2 h := rfl
def bX9_lays (cal : ix_C) (K : ix_K) (v0 : Nat) (v1 : Int32) (h : ix_H) : ix_O :=
  jX9_lays_2 cal K v0 v1 (nI 24) h
theorem eX9_lays (cal : ix_C) (K : ix_K) (v0 : Nat) (v1 : Int32) (h : ix_H) : ix_fwd cal K stX9_lays 0 [(0, ix_R (some v0)), (1, ix_I v1)] [] h = bX9_lays cal K v0 v1 h := rfl
theorem rX9_lays (N d : Nat) (v0 : Nat) (v1 : Int32) (h : ix_H) : ix_run iy_P N (d + 1) 241 [ix_R (some v0), ix_I v1] h = bX9_lays (ix_run iy_P N d) (ix_lp (ix_run iy_P N d) stX9_lays N) v0 v1 h := (rfl : ix_run iy_P N (d + 1) 241 [ix_R (some v0), ix_I v1] h = ix_fwd (ix_run iy_P N d) (ix_lp (ix_run iy_P N d) stX9_lays N) stX9_lays 0 [(0, ix_R (some v0)), (1, ix_I v1)] [] h).trans (eX9_lays _ _ v0 v1 h)
theorem lX9_lays_2 (cal : ix_C) (n : Nat) (v0 : Nat) (v1 : Int32) (v2 : Int32) (h : ix_H) : ix_lp cal stX9_lays (n + 1) 2 [(0, ix_R (some v0)), (1, ix_I v1), (2, ix_I v2)] [] h = jX9_lays_2 cal (ix_lp cal stX9_lays n) v0 v1 v2 h := jX9_lays_2_eq cal (ix_lp cal stX9_lays n) v0 v1 v2 h
def jX9_back_6 (cal : ix_C) (K : ix_K) (h : ix_H) : ix_O :=
  some (.inl (some (ix_I (-1 : Int32))), h)
theorem jX9_back_6_eq (cal : ix_C) (K : ix_K) (h : ix_H) : ix_fwd cal K (stX9_back.drop 6) 0 [] [] h = jX9_back_6 cal K h := rfl
def bX9_back (cal : ix_C) (K : ix_K) (v0 : Nat) (v1 : Int32) (h : ix_H) : ix_O :=
  if v1 < nI 0 then
    jX9_back_6 cal K h
  else
    (ix_is h 10 (some v0)).bind fun a1 =>
    if v1 ≤ (ix_fI h a1 2) then
      (ix_is h 10 (some v0)).bind fun a2 =>
      (ix_is h 10 (some v0)).bind fun a3 =>
      ix_bd (ix_wfI h a3 2 ((ix_fI h a2 2) - v1)) fun h4 =>
      (ix_is h4 10 (some v0)).bind fun a5 =>
      some (.inl (some (ix_I (ix_fI h4 a5 2))), h4)
    else
      jX9_back_6 cal K h
theorem eX9_back (cal : ix_C) (K : ix_K) (v0 : Nat) (v1 : Int32) (h : ix_H) : ix_fwd cal K stX9_back 0 [(0, ix_R (some v0)), (1, ix_I v1)] [] h = bX9_back cal K v0 v1 h := rfl
theorem rX9_back (N d : Nat) (v0 : Nat) (v1 : Int32) (h : ix_H) : ix_run iy_P N (d + 1) 242 [ix_R (some v0), ix_I v1] h = bX9_back (ix_run iy_P N d) (ix_lp (ix_run iy_P N d) stX9_back N) v0 v1 h := (rfl : ix_run iy_P N (d + 1) 242 [ix_R (some v0), ix_I v1] h = ix_fwd (ix_run iy_P N d) (ix_lp (ix_run iy_P N d) stX9_back N) stX9_back 0 [(0, ix_R (some v0)), (1, ix_I v1)] [] h).trans (eX9_back _ _ v0 v1 h)
def jX9_read_125 (cal : ix_C) (K : ix_K) (v0 : Nat) (v4 : Int32) (h : ix_H) : ix_O :=
  if (nI 3) ≤ v4 then
    (ix_isr h 10 (some v0)).bind fun a40 =>
    (ix_rV (cal 265 [ix_R (some a40)] h)).bind fun r39 =>
    some (.inl (some (ix_I (nI 0))), r39)
  else
    (ix_is h 10 (some v0)).bind fun a41 =>
    (ix_at h 105 (ix_fR h a41 53) v4).bind fun a42 =>
    ix_bd (ix_waI h a42 v4.toNatClampNeg (ix_nar 1 (nI 0))) fun h43 =>
    K 125 [(0, ix_R (some v0)), (4, ix_I (v4 + (nI 1)))] [] h43
theorem jX9_read_125_eq (cal : ix_C) (K : ix_K) (v0 : Nat) (v4 : Int32) (h : ix_H) : ix_fwd cal K (stX9_read.drop 125) 0 [(0, ix_R (some v0)), (4, ix_I v4)] [] h = jX9_read_125 cal K v0 v4 h := rfl
def jX9_read_104 (cal : ix_C) (K : ix_K) (v0 : Nat) (v1 : Int32) (v2 : Int32) (v3 : Int32) (s0 : Option Nat) (s1 : Int32) (h : ix_H) : ix_O :=
  (ix_is h 10 s0).bind fun a33 =>
  ix_bd (ix_wfI h a33 17 s1) fun h34 =>
  (ix_is h34 10 (some v0)).bind fun a35 =>
  if (ix_fI h34 a35 13) ≤ nI 0 then
    (ix_is h34 10 (some v0)).bind fun a36 =>
    if (ix_fI h34 a36 15) ≤ nI 0 then
      (ix_isr h34 10 (some v0)).bind fun a38 =>
      (ix_rV (cal 233 [ix_R (some a38), ix_I v1, ix_I v2, ix_I v3] h34)).bind fun r37 =>
      jX9_read_125 cal K v0 (nI 0) r37
    else
      (ix_is h34 10 (some v0)).bind fun a44 =>
      some (.inl (some (ix_I (ix_fI h34 a44 15))), h34)
  else
    (ix_is h34 10 (some v0)).bind fun a45 =>
    some (.inl (some (ix_I (ix_fI h34 a45 13))), h34)
theorem jX9_read_104_eq (cal : ix_C) (K : ix_K) (v0 : Nat) (v1 : Int32) (v2 : Int32) (v3 : Int32) (s0 : Option Nat) (s1 : Int32) (h : ix_H) : ix_fwd cal K (stX9_read.drop 104) 0 [(0, ix_R (some v0)), (1, ix_I v1), (2, ix_I v2), (3, ix_I v3)] [ix_I s1, ix_R s0] h = jX9_read_104 cal K v0 v1 v2 v3 s0 s1 h := rfl
def jX9_read_89 (cal : ix_C) (K : ix_K) (v0 : Nat) (v1 : Int32) (v2 : Int32) (v3 : Int32) (h : ix_H) : ix_O :=
  (ix_is h 10 (some v0)).bind fun a31 =>
  if (ix_fI h a31 13) ≤ nI 0 then
    (ix_is h 10 (some v0)).bind fun a32 =>
    if (ix_fI h a32 15) ≤ nI 0 then
      jX9_read_104 cal K v0 v1 v2 v3 (some v0) (-1 : Int32) h
    else
      (ix_is h 10 (some v0)).bind fun a46 =>
      jX9_read_104 cal K v0 v1 v2 v3 (some v0) (ix_fI h a46 16) h
  else
    (ix_is h 10 (some v0)).bind fun a47 =>
    jX9_read_104 cal K v0 v1 v2 v3 (some v0) (ix_fI h a47 14) h
theorem jX9_read_89_eq (cal : ix_C) (K : ix_K) (v0 : Nat) (v1 : Int32) (v2 : Int32) (v3 : Int32) (h : ix_H) : ix_fwd cal K (stX9_read.drop 89) 0 [(0, ix_R (some v0)), (1, ix_I v1), (2, ix_I v2), (3, ix_I v3)] [] h = jX9_read_89 cal K v0 v1 v2 v3 h := rfl
def jX9_read_79 (cal : ix_C) (K : ix_K) (v0 : Nat) (v1 : Int32) (v2 : Int32) (v3 : Int32) (h : ix_H) : ix_O :=
  (ix_is h 10 (some v0)).bind fun a30 =>
  if (ix_fI h a30 13) = nI 0 then
    (ix_is h 10 (some v0)).bind fun a48 =>
    if (ix_fI h a48 25) ≤ nI 0 then
      jX9_read_89 cal K v0 v1 v2 v3 h
    else
      (ix_isr h 10 (some v0)).bind fun a50 =>
      (ix_rV (cal 253 [ix_R (some a50), ix_I (nI 1)] h)).bind fun r49 =>
      jX9_read_89 cal K v0 v1 v2 v3 r49
  else
    jX9_read_89 cal K v0 v1 v2 v3 h
theorem jX9_read_79_eq (cal : ix_C) (K : ix_K) (v0 : Nat) (v1 : Int32) (v2 : Int32) (v3 : Int32) (h : ix_H) : ix_fwd cal K (stX9_read.drop 79) 0 [(0, ix_R (some v0)), (1, ix_I v1), (2, ix_I v2), (3, ix_I v3)] [] h = jX9_read_79 cal K v0 v1 v2 v3 h := rfl
def jX9_read_68 (cal : ix_C) (K : ix_K) (v0 : Nat) (v1 : Int32) (v2 : Int32) (v3 : Int32) (h : ix_H) : ix_O :=
  (ix_is h 10 (some v0)).bind fun a29 =>
  if (ix_fI h a29 13) = nI 0 then
    (ix_isr h 10 (some v0)).bind fun a52 =>
    (ix_rI (cal 251 [ix_R (some a52), ix_I (nI 0)] h)).bind fun r51 =>
    if r51.1 = nI 0 then
      (ix_isr r51.2 10 (some v0)).bind fun a54 =>
      (ix_rV (cal 257 [ix_R (some a54)] r51.2)).bind fun r53 =>
      K 68 [(0, ix_R (some v0)), (1, ix_I v1), (2, ix_I v2), (3, ix_I v3)] [] r53
    else
      jX9_read_79 cal K v0 v1 v2 v3 r51.2
  else
    jX9_read_79 cal K v0 v1 v2 v3 h
theorem jX9_read_68_eq (cal : ix_C) (K : ix_K) (v0 : Nat) (v1 : Int32) (v2 : Int32) (v3 : Int32) (h : ix_H) : ix_fwd cal K (stX9_read.drop 68) 0 [(0, ix_R (some v0)), (1, ix_I v1), (2, ix_I v2), (3, ix_I v3)] [] h = jX9_read_68 cal K v0 v1 v2 v3 h := rfl
def jX9_read_6 (cal : ix_C) (K : ix_K) (v0 : Nat) (v1 : Int32) (h : ix_H) : ix_O :=
  (ix_is h 10 (some v0)).bind fun a4 =>
  if (ix_fI h a4 4) ≤ v1 then
    (ix_is h 10 (some v0)).bind fun a5 =>
    ix_bd (ix_wfI h a5 2 (nI 0)) fun h6 =>
    (ix_isr h6 10 (some v0)).bind fun a8 =>
    (ix_rV (cal 244 [ix_R (some a8)] h6)).bind fun r7 =>
    (ix_is r7 10 (some v0)).bind fun a9 =>
    ix_bd (ix_wfI r7 a9 11 (nI 0)) fun h10 =>
    (ix_is h10 10 (some v0)).bind fun a11 =>
    ix_bd (ix_wfI h10 a11 12 (nI 0)) fun h12 =>
    (ix_is h12 10 (some v0)).bind fun a13 =>
    ix_bd (ix_wfI h12 a13 13 (nI 0)) fun h14 =>
    (ix_is h14 10 (some v0)).bind fun a15 =>
    ix_bd (ix_wfI h14 a15 15 (nI 0)) fun h16 =>
    (ix_is h16 10 (some v0)).bind fun a17 =>
    ix_bd (ix_wfI h16 a17 18 (nI 0)) fun h18 =>
    (ix_is h18 10 (some v0)).bind fun a19 =>
    ix_bd (ix_wfI h18 a19 25 (nI 0)) fun h20 =>
    (ix_is h20 10 (some v0)).bind fun a21 =>
    ix_bd (ix_wfI h20 a21 27 (nI 0)) fun h22 =>
    (ix_isr h22 10 (some v0)).bind fun a24 =>
    (ix_rI (cal 250 [ix_R (some a24), ix_I (nI 20), ix_I (nI 1), ix_I (nI 8), ix_I (nI 3)] h22)).bind fun r23 =>
    (ix_isr r23.2 10 (some v0)).bind fun a26 =>
    (ix_rI (cal 250 [ix_R (some a26), ix_I (nI 21), ix_I (nI 4), ix_I (nI 12), ix_I (nI 6)] r23.2)).bind fun r25 =>
    (ix_isr r25.2 10 (some v0)).bind fun a28 =>
    (ix_rI (cal 250 [ix_R (some a28), ix_I (nI 22), ix_I (nI 0), ix_I (nI 3), ix_I (nI 2)] r25.2)).bind fun r27 =>
    jX9_read_68 cal K v0 r23.1 r25.1 r27.1 r27.2
  else
    (ix_is h 10 (some v0)).bind fun a55 =>
    (ix_is h 10 (some v0)).bind fun a56 =>
    (ix_atr h 102 (ix_fR h a56 1) v1).bind fun a57 =>
    (ix_at h 102 (ix_fR h a55 3) v1).bind fun a58 =>
    ix_bd (ix_waI h a58 v1.toNatClampNeg (ix_nar 2 (ix_aI h a57 v1.toNatClampNeg))) fun h59 =>
    K 6 [(0, ix_R (some v0)), (1, ix_I (v1 + (nI 1)))] [] h59
theorem jX9_read_6_eq (cal : ix_C) (K : ix_K) (v0 : Nat) (v1 : Int32) (h : ix_H) : ix_fwd cal K (stX9_read.drop 6) 0 [(0, ix_R (some v0)), (1, ix_I v1)] [] h = jX9_read_6 cal K v0 v1 h := rfl
def bX9_read (cal : ix_C) (K : ix_K) (v0 : Nat) (h : ix_H) : ix_O :=
  (ix_is h 10 (some v0)).bind fun a1 =>
  (ix_is h 10 (some v0)).bind fun a2 =>
  ix_bd (ix_wfI h a2 4 (ix_fI h a1 2)) fun h3 =>
  jX9_read_6 cal K v0 (nI 0) h3
theorem eX9_read (cal : ix_C) (K : ix_K) (v0 : Nat) (h : ix_H) : ix_fwd cal K stX9_read 0 [(0, ix_R (some v0))] [] h = bX9_read cal K v0 h := rfl
theorem rX9_read (N d : Nat) (v0 : Nat) (h : ix_H) : ix_run iy_P N (d + 1) 243 [ix_R (some v0)] h = bX9_read (ix_run iy_P N d) (ix_lp (ix_run iy_P N d) stX9_read N) v0 h := (rfl : ix_run iy_P N (d + 1) 243 [ix_R (some v0)] h = ix_fwd (ix_run iy_P N d) (ix_lp (ix_run iy_P N d) stX9_read N) stX9_read 0 [(0, ix_R (some v0))] [] h).trans (eX9_read _ _ v0 h)
theorem lX9_read_6 (cal : ix_C) (n : Nat) (v0 : Nat) (v1 : Int32) (h : ix_H) : ix_lp cal stX9_read (n + 1) 6 [(0, ix_R (some v0)), (1, ix_I v1)] [] h = jX9_read_6 cal (ix_lp cal stX9_read n) v0 v1 h := jX9_read_6_eq cal (ix_lp cal stX9_read n) v0 v1 h
theorem lX9_read_68 (cal : ix_C) (n : Nat) (v0 : Nat) (v1 : Int32) (v2 : Int32) (v3 : Int32) (h : ix_H) : ix_lp cal stX9_read (n + 1) 68 [(0, ix_R (some v0)), (1, ix_I v1), (2, ix_I v2), (3, ix_I v3)] [] h = jX9_read_68 cal (ix_lp cal stX9_read n) v0 v1 v2 v3 h := jX9_read_68_eq cal (ix_lp cal stX9_read n) v0 v1 v2 v3 h
theorem lX9_read_125 (cal : ix_C) (n : Nat) (v0 : Nat) (v4 : Int32) (h : ix_H) : ix_lp cal stX9_read (n + 1) 125 [(0, ix_R (some v0)), (4, ix_I v4)] [] h = jX9_read_125 cal (ix_lp cal stX9_read n) v0 v4 h := jX9_read_125_eq cal (ix_lp cal stX9_read n) v0 v4 h
def jX9_cutsUp_175 (cal : ix_C) (K : ix_K) (v0 : Nat) (v1 : Int32) (h : ix_H) : ix_O :=
  K 5 [(0, ix_R (some v0)), (1, ix_I v1)] [] h
theorem jX9_cutsUp_175_eq (cal : ix_C) (K : ix_K) (v0 : Nat) (v1 : Int32) (h : ix_H) : ix_fwd cal K (stX9_cutsUp.drop 175) 0 [(0, ix_R (some v0)), (1, ix_I v1)] [] h = jX9_cutsUp_175 cal K v0 v1 h := rfl
def jX9_cutsUp_38 (cal : ix_C) (K : ix_K) (v0 : Nat) (v1 : Int32) (h : ix_H) : ix_O :=
  jX9_cutsUp_175 cal K v0 (v1 + (nI 1)) h
theorem jX9_cutsUp_38_eq (cal : ix_C) (K : ix_K) (v0 : Nat) (v1 : Int32) (h : ix_H) : ix_fwd cal K (stX9_cutsUp.drop 38) 0 [(0, ix_R (some v0)), (1, ix_I v1)] [] h = jX9_cutsUp_38 cal K v0 v1 h := rfl
def jX9_cutsUp_153 (cal : ix_C) (K : ix_K) (v0 : Nat) (v1 : Int32) (v3 : Int32) (v4 : Int32) (s0 : Option Nat) (s1 : Int32) (h : ix_H) : ix_O :=
  (ix_isr h 10 s0).bind fun a17 =>
  (ix_rV (cal 246 [ix_R (some a17), ix_I s1, ix_I v1, ix_I v4, ix_L (0 : Int64)] h)).bind fun r16 =>
  jX9_cutsUp_175 cal K v0 (v1 + v3) r16
theorem jX9_cutsUp_153_eq (cal : ix_C) (K : ix_K) (v0 : Nat) (v1 : Int32) (v3 : Int32) (v4 : Int32) (s0 : Option Nat) (s1 : Int32) (h : ix_H) : ix_fwd cal K (stX9_cutsUp.drop 153) 0 [(0, ix_R (some v0)), (1, ix_I v1), (3, ix_I v3), (4, ix_I v4)] [ix_I s1, ix_R s0] h = jX9_cutsUp_153 cal K v0 v1 v3 v4 s0 s1 h := rfl
def jX9_cutsUp_143 (cal : ix_C) (K : ix_K) (v0 : Nat) (v1 : Int32) (v3 : Int32) (v4 : Int32) (h : ix_H) : ix_O :=
  K 120 [(0, ix_R (some v0)), (1, ix_I v1), (3, ix_I (v3 + (nI 1))), (4, ix_I v4)] [] h
theorem jX9_cutsUp_143_eq (cal : ix_C) (K : ix_K) (v0 : Nat) (v1 : Int32) (v3 : Int32) (v4 : Int32) (h : ix_H) : ix_fwd cal K (stX9_cutsUp.drop 143) 0 [(0, ix_R (some v0)), (1, ix_I v1), (3, ix_I v3), (4, ix_I v4)] [] h = jX9_cutsUp_143 cal K v0 v1 v3 v4 h := rfl
def jX9_cutsUp_120 (cal : ix_C) (K : ix_K) (v0 : Nat) (v1 : Int32) (v3 : Int32) (v4 : Int32) (h : ix_H) : ix_O :=
  (ix_isr h 10 (some v0)).bind fun a14 =>
  (ix_rI (cal 245 [ix_R (some a14), ix_I (v1 + v3)] h)).bind fun r13 =>
  (ix_rI (cal 248 [ix_I r13.1] r13.2)).bind fun r15 =>
  if r15.1 = nI 0 then
    if v3 ≤ (nI 4) then
      jX9_cutsUp_153 cal K v0 v1 v3 v4 (some v0) (nI 2) r15.2
    else
      jX9_cutsUp_153 cal K v0 v1 v3 v4 (some v0) (nI 3) r15.2
  else
    if (nI 4) ≤ v3 then
      jX9_cutsUp_143 cal K v0 v1 v3 v4 r15.2
    else
      (ix_isr r15.2 10 (some v0)).bind fun a19 =>
      (ix_rI (cal 245 [ix_R (some a19), ix_I (v1 + v3)] r15.2)).bind fun r18 =>
      jX9_cutsUp_143 cal K v0 v1 v3 ((((nI 10) * v4) + r18.1) - (nI 48)) r18.2
theorem jX9_cutsUp_120_eq (cal : ix_C) (K : ix_K) (v0 : Nat) (v1 : Int32) (v3 : Int32) (v4 : Int32) (h : ix_H) : ix_fwd cal K (stX9_cutsUp.drop 120) 0 [(0, ix_R (some v0)), (1, ix_I v1), (3, ix_I v3), (4, ix_I v4)] [] h = jX9_cutsUp_120 cal K v0 v1 v3 v4 h := rfl
def jX9_cutsUp_101 (cal : ix_C) (K : ix_K) (v0 : Nat) (v1 : Int32) (v3 : Int32) (v4 : Int64) (v6 : Int32) (h : ix_H) : ix_O :=
  (ix_isr h 10 (some v0)).bind fun a24 =>
  (ix_rV (cal 246 [ix_R (some a24), ix_I v6, ix_I v1, ix_I (nI 0), ix_L v4] h)).bind fun r23 =>
  jX9_cutsUp_175 cal K v0 (v1 + v3) r23
theorem jX9_cutsUp_101_eq (cal : ix_C) (K : ix_K) (v0 : Nat) (v1 : Int32) (v3 : Int32) (v4 : Int64) (v6 : Int32) (h : ix_H) : ix_fwd cal K (stX9_cutsUp.drop 101) 0 [(0, ix_R (some v0)), (1, ix_I v1), (3, ix_I v3), (4, ix_L v4), (6, ix_I v6)] [] h = jX9_cutsUp_101 cal K v0 v1 v3 v4 v6 h := rfl
def jX9_cutsUp_98 (cal : ix_C) (K : ix_K) (v0 : Nat) (v1 : Int32) (v3 : Int32) (v4 : Int64) (v6 : Int32) (v7 : Int32) (h : ix_H) : ix_O :=
  K 83 [(0, ix_R (some v0)), (1, ix_I v1), (3, ix_I v3), (4, ix_L v4), (6, ix_I v6), (7, ix_I (v7 + (nI 1)))] [] h
theorem jX9_cutsUp_98_eq (cal : ix_C) (K : ix_K) (v0 : Nat) (v1 : Int32) (v3 : Int32) (v4 : Int64) (v6 : Int32) (v7 : Int32) (h : ix_H) : ix_fwd cal K (stX9_cutsUp.drop 98) 0 [(0, ix_R (some v0)), (1, ix_I v1), (3, ix_I v3), (4, ix_L v4), (6, ix_I v6), (7, ix_I v7)] [] h = jX9_cutsUp_98 cal K v0 v1 v3 v4 v6 v7 h := rfl
def jX9_cutsUp_83 (cal : ix_C) (K : ix_K) (v0 : Nat) (v1 : Int32) (v3 : Int32) (v4 : Int64) (v6 : Int32) (v7 : Int32) (h : ix_H) : ix_O :=
  if (nI 18) ≤ v7 then
    jX9_cutsUp_101 cal K v0 v1 v3 v4 v6 h
  else
    (ix_is h 10 (some v0)).bind fun a25 =>
    (ix_atr h 106 (ix_fR h a25 9) v7).bind fun a26 =>
    if (lg_cmp (ix_aL h a26 v7.toNatClampNeg) v4) = nI 0 then
      jX9_cutsUp_98 cal K v0 v1 v3 v4 ((nI 20) + v7) v7 h
    else
      jX9_cutsUp_98 cal K v0 v1 v3 v4 v6 v7 h
theorem jX9_cutsUp_83_eq (cal : ix_C) (K : ix_K) (v0 : Nat) (v1 : Int32) (v3 : Int32) (v4 : Int64) (v6 : Int32) (v7 : Int32) (h : ix_H) : ix_fwd cal K (stX9_cutsUp.drop 83) 0 [(0, ix_R (some v0)), (1, ix_I v1), (3, ix_I v3), (4, ix_L v4), (6, ix_I v6), (7, ix_I v7)] [] h = jX9_cutsUp_83 cal K v0 v1 v3 v4 v6 v7 h := rfl
def jX9_cutsUp_76 (cal : ix_C) (K : ix_K) (v0 : Nat) (v1 : Int32) (v3 : Int32) (v4 : Int64) (s0 : Int32) (h : ix_H) : ix_O :=
  if (nI 8) < v3 then
    jX9_cutsUp_101 cal K v0 v1 v3 v4 s0 h
  else
    jX9_cutsUp_83 cal K v0 v1 v3 v4 s0 (nI 0) h
theorem jX9_cutsUp_76_eq (cal : ix_C) (K : ix_K) (v0 : Nat) (v1 : Int32) (v3 : Int32) (v4 : Int64) (s0 : Int32) (h : ix_H) : ix_fwd cal K (stX9_cutsUp.drop 76) 0 [(0, ix_R (some v0)), (1, ix_I v1), (3, ix_I v3), (4, ix_L v4)] [ix_I s0] h = jX9_cutsUp_76 cal K v0 v1 v3 v4 s0 h := rfl
def jX9_cutsUp_67 (cal : ix_C) (K : ix_K) (v0 : Nat) (v1 : Int32) (v3 : Int32) (v4 : Int64) (h : ix_H) : ix_O :=
  K 48 [(0, ix_R (some v0)), (1, ix_I v1), (3, ix_I (v3 + (nI 1))), (4, ix_L v4)] [] h
theorem jX9_cutsUp_67_eq (cal : ix_C) (K : ix_K) (v0 : Nat) (v1 : Int32) (v3 : Int32) (v4 : Int64) (h : ix_H) : ix_fwd cal K (stX9_cutsUp.drop 67) 0 [(0, ix_R (some v0)), (1, ix_I v1), (3, ix_I v3), (4, ix_L v4)] [] h = jX9_cutsUp_67 cal K v0 v1 v3 v4 h := rfl
def jX9_cutsUp_48 (cal : ix_C) (K : ix_K) (v0 : Nat) (v1 : Int32) (v3 : Int32) (v4 : Int64) (h : ix_H) : ix_O :=
  (ix_isr h 10 (some v0)).bind fun a21 =>
  (ix_rI (cal 245 [ix_R (some a21), ix_I (v1 + v3)] h)).bind fun r20 =>
  (ix_rI (cal 247 [ix_I r20.1] r20.2)).bind fun r22 =>
  if r22.1 = nI 0 then
    if v3 ≤ (nI 8) then
      jX9_cutsUp_76 cal K v0 v1 v3 v4 (nI 1) r22.2
    else
      jX9_cutsUp_76 cal K v0 v1 v3 v4 (nI 3) r22.2
  else
    if (nI 8) ≤ v3 then
      jX9_cutsUp_67 cal K v0 v1 v3 v4 r22.2
    else
      (ix_isr r22.2 10 (some v0)).bind fun a28 =>
      (ix_rI (cal 245 [ix_R (some a28), ix_I (v1 + v3)] r22.2)).bind fun r27 =>
      (ix_rL (cal 232 [ix_L v4, ix_I r27.1] r27.2)).bind fun r29 =>
      jX9_cutsUp_67 cal K v0 v1 v3 r29.1 r29.2
theorem jX9_cutsUp_48_eq (cal : ix_C) (K : ix_K) (v0 : Nat) (v1 : Int32) (v3 : Int32) (v4 : Int64) (h : ix_H) : ix_fwd cal K (stX9_cutsUp.drop 48) 0 [(0, ix_R (some v0)), (1, ix_I v1), (3, ix_I v3), (4, ix_L v4)] [] h = jX9_cutsUp_48 cal K v0 v1 v3 v4 h := rfl
def jX9_cutsUp_5 (cal : ix_C) (K : ix_K) (v0 : Nat) (v1 : Int32) (h : ix_H) : ix_O :=
  (ix_is h 10 (some v0)).bind fun a3 =>
  if (nI 400) < (ix_fI h a3 10) then
    some (.inl none, h)
  else
    (ix_isr h 10 (some v0)).bind fun a5 =>
    (ix_rI (cal 245 [ix_R (some a5), ix_I v1] h)).bind fun r4 =>
    (ix_is r4.2 10 (some v0)).bind fun a6 =>
    if v1 < (ix_fI r4.2 a6 4) then
      if r4.1 = (nI 9) then
        jX9_cutsUp_38 cal K v0 v1 r4.2
      else
        if r4.1 = (nI 10) then
          jX9_cutsUp_38 cal K v0 v1 r4.2
        else
          if r4.1 = (nI 13) then
            jX9_cutsUp_38 cal K v0 v1 r4.2
          else
            if r4.1 = (nI 32) then
              jX9_cutsUp_38 cal K v0 v1 r4.2
            else
              (ix_rI (cal 247 [ix_I r4.1] r4.2)).bind fun r7 =>
              if r7.1 = nI 0 then
                (ix_rI (cal 248 [ix_I r4.1] r7.2)).bind fun r8 =>
                if r8.1 = nI 0 then
                  (ix_isr r8.2 10 (some v0)).bind fun a10 =>
                  (ix_rI (cal 245 [ix_R (some a10), ix_I (v1 + (nI 1))] r8.2)).bind fun r9 =>
                  (ix_isr r9.2 10 (some v0)).bind fun a12 =>
                  (ix_rI (cal 249 [ix_R (some a12), ix_I v1, ix_I r4.1, ix_I r9.1] r9.2)).bind fun r11 =>
                  jX9_cutsUp_175 cal K v0 (v1 + r11.1) r11.2
                else
                  jX9_cutsUp_120 cal K v0 v1 (nI 0) (nI 0) r8.2
              else
                jX9_cutsUp_48 cal K v0 v1 (nI 0) (0 : Int64) r7.2
    else
      (ix_is r4.2 10 (some v0)).bind fun a30 =>
      (ix_isr r4.2 10 (some v0)).bind fun a32 =>
      (ix_rV (cal 246 [ix_R (some a32), ix_I (nI 0), ix_I (ix_fI r4.2 a30 4), ix_I (nI 0), ix_L (0 : Int64)] r4.2)).bind fun r31 =>
      some (.inl none, r31)
theorem jX9_cutsUp_5_eq (cal : ix_C) (K : ix_K) (v0 : Nat) (v1 : Int32) (h : ix_H) : ix_fwd cal K (stX9_cutsUp.drop 5) 0 [(0, ix_R (some v0)), (1, ix_I v1)] [] h = jX9_cutsUp_5 cal K v0 v1 h := rfl
def bX9_cutsUp (cal : ix_C) (K : ix_K) (v0 : Nat) (h : ix_H) : ix_O :=
  (ix_is h 10 (some v0)).bind fun a1 =>
  ix_bd (ix_wfI h a1 10 (nI 0)) fun h2 =>
  jX9_cutsUp_5 cal K v0 (nI 0) h2
theorem eX9_cutsUp (cal : ix_C) (K : ix_K) (v0 : Nat) (h : ix_H) : ix_fwd cal K stX9_cutsUp 0 [(0, ix_R (some v0))] [] h = bX9_cutsUp cal K v0 h := rfl
theorem rX9_cutsUp (N d : Nat) (v0 : Nat) (h : ix_H) : ix_run iy_P N (d + 1) 244 [ix_R (some v0)] h = bX9_cutsUp (ix_run iy_P N d) (ix_lp (ix_run iy_P N d) stX9_cutsUp N) v0 h := (rfl : ix_run iy_P N (d + 1) 244 [ix_R (some v0)] h = ix_fwd (ix_run iy_P N d) (ix_lp (ix_run iy_P N d) stX9_cutsUp N) stX9_cutsUp 0 [(0, ix_R (some v0))] [] h).trans (eX9_cutsUp _ _ v0 h)
theorem lX9_cutsUp_5 (cal : ix_C) (n : Nat) (v0 : Nat) (v1 : Int32) (h : ix_H) : ix_lp cal stX9_cutsUp (n + 1) 5 [(0, ix_R (some v0)), (1, ix_I v1)] [] h = jX9_cutsUp_5 cal (ix_lp cal stX9_cutsUp n) v0 v1 h := jX9_cutsUp_5_eq cal (ix_lp cal stX9_cutsUp n) v0 v1 h
theorem lX9_cutsUp_48 (cal : ix_C) (n : Nat) (v0 : Nat) (v1 : Int32) (v3 : Int32) (v4 : Int64) (h : ix_H) : ix_lp cal stX9_cutsUp (n + 1) 48 [(0, ix_R (some v0)), (1, ix_I v1), (3, ix_I v3), (4, ix_L v4)] [] h = jX9_cutsUp_48 cal (ix_lp cal stX9_cutsUp n) v0 v1 v3 v4 h := jX9_cutsUp_48_eq cal (ix_lp cal stX9_cutsUp n) v0 v1 v3 v4 h
theorem lX9_cutsUp_83 (cal : ix_C) (n : Nat) (v0 : Nat) (v1 : Int32) (v3 : Int32) (v4 : Int64) (v6 : Int32) (v7 : Int32) (h : ix_H) : ix_lp cal stX9_cutsUp (n + 1) 83 [(0, ix_R (some v0)), (1, ix_I v1), (3, ix_I v3), (4, ix_L v4), (6, ix_I v6), (7, ix_I v7)] [] h = jX9_cutsUp_83 cal (ix_lp cal stX9_cutsUp n) v0 v1 v3 v4 v6 v7 h := jX9_cutsUp_83_eq cal (ix_lp cal stX9_cutsUp n) v0 v1 v3 v4 v6 v7 h
theorem lX9_cutsUp_120 (cal : ix_C) (n : Nat) (v0 : Nat) (v1 : Int32) (v3 : Int32) (v4 : Int32) (h : ix_H) : ix_lp cal stX9_cutsUp (n + 1) 120 [(0, ix_R (some v0)), (1, ix_I v1), (3, ix_I v3), (4, ix_I v4)] [] h = jX9_cutsUp_120 cal (ix_lp cal stX9_cutsUp n) v0 v1 v3 v4 h := jX9_cutsUp_120_eq cal (ix_lp cal stX9_cutsUp n) v0 v1 v3 v4 h
def jX9_byteAt_12 (cal : ix_C) (K : ix_K) (s0 : Int32) (h : ix_H) : ix_O :=
  some (.inl (some (ix_I s0)), h)
theorem jX9_byteAt_12_eq (cal : ix_C) (K : ix_K) (s0 : Int32) (h : ix_H) : ix_fwd cal K (stX9_byteAt.drop 12) 0 [] [ix_I s0] h = jX9_byteAt_12 cal K s0 h := rfl
def bX9_byteAt (cal : ix_C) (K : ix_K) (v0 : Nat) (v1 : Int32) (h : ix_H) : ix_O :=
  (ix_is h 10 (some v0)).bind fun a1 =>
  if (ix_fI h a1 4) ≤ v1 then
    jX9_byteAt_12 cal K (nI 0) h
  else
    (ix_is h 10 (some v0)).bind fun a2 =>
    (ix_atr h 102 (ix_fR h a2 3) v1).bind fun a3 =>
    jX9_byteAt_12 cal K ((ix_aI h a3 v1.toNatClampNeg) &&& (nI 255)) h
theorem eX9_byteAt (cal : ix_C) (K : ix_K) (v0 : Nat) (v1 : Int32) (h : ix_H) : ix_fwd cal K stX9_byteAt 0 [(0, ix_R (some v0)), (1, ix_I v1)] [] h = bX9_byteAt cal K v0 v1 h := rfl
theorem rX9_byteAt (N d : Nat) (v0 : Nat) (v1 : Int32) (h : ix_H) : ix_run iy_P N (d + 1) 245 [ix_R (some v0), ix_I v1] h = bX9_byteAt (ix_run iy_P N d) (ix_lp (ix_run iy_P N d) stX9_byteAt N) v0 v1 h := (rfl : ix_run iy_P N (d + 1) 245 [ix_R (some v0), ix_I v1] h = ix_fwd (ix_run iy_P N d) (ix_lp (ix_run iy_P N d) stX9_byteAt N) stX9_byteAt 0 [(0, ix_R (some v0)), (1, ix_I v1)] [] h).trans (eX9_byteAt _ _ v0 v1 h)
def bX9_token (cal : ix_C) (K : ix_K) (v0 : Nat) (v1 : Int32) (v2 : Int32) (v3 : Int32) (v4 : Int64) (h : ix_H) : ix_O :=
  (ix_is h 10 (some v0)).bind fun a1 =>
  (ix_is h 10 (some v0)).bind fun a2 =>
  (ix_at h 101 (ix_fR h a1 5) (ix_fI h a2 10)).bind fun a3 =>
  ix_bd (ix_waI h a3 (ix_fI h a2 10).toNatClampNeg v1) fun h4 =>
  (ix_is h4 10 (some v0)).bind fun a5 =>
  (ix_is h4 10 (some v0)).bind fun a6 =>
  (ix_at h4 101 (ix_fR h4 a5 6) (ix_fI h4 a6 10)).bind fun a7 =>
  ix_bd (ix_waI h4 a7 (ix_fI h4 a6 10).toNatClampNeg v2) fun h8 =>
  (ix_is h8 10 (some v0)).bind fun a9 =>
  (ix_is h8 10 (some v0)).bind fun a10 =>
  (ix_at h8 101 (ix_fR h8 a9 7) (ix_fI h8 a10 10)).bind fun a11 =>
  ix_bd (ix_waI h8 a11 (ix_fI h8 a10 10).toNatClampNeg v3) fun h12 =>
  (ix_is h12 10 (some v0)).bind fun a13 =>
  (ix_is h12 10 (some v0)).bind fun a14 =>
  (ix_at h12 106 (ix_fR h12 a13 8) (ix_fI h12 a14 10)).bind fun a15 =>
  ix_bd (ix_waL h12 a15 (ix_fI h12 a14 10).toNatClampNeg v4) fun h16 =>
  (ix_is h16 10 (some v0)).bind fun a17 =>
  (ix_is h16 10 (some v0)).bind fun a18 =>
  ix_bd (ix_wfI h16 a18 10 ((ix_fI h16 a17 10) + (nI 1))) fun h19 =>
  some (.inl none, h19)
theorem eX9_token (cal : ix_C) (K : ix_K) (v0 : Nat) (v1 : Int32) (v2 : Int32) (v3 : Int32) (v4 : Int64) (h : ix_H) : ix_fwd cal K stX9_token 0 [(0, ix_R (some v0)), (1, ix_I v1), (2, ix_I v2), (3, ix_I v3), (4, ix_L v4)] [] h = bX9_token cal K v0 v1 v2 v3 v4 h := rfl
theorem rX9_token (N d : Nat) (v0 : Nat) (v1 : Int32) (v2 : Int32) (v3 : Int32) (v4 : Int64) (h : ix_H) : ix_run iy_P N (d + 1) 246 [ix_R (some v0), ix_I v1, ix_I v2, ix_I v3, ix_L v4] h = bX9_token (ix_run iy_P N d) (ix_lp (ix_run iy_P N d) stX9_token N) v0 v1 v2 v3 v4 h := (rfl : ix_run iy_P N (d + 1) 246 [ix_R (some v0), ix_I v1, ix_I v2, ix_I v3, ix_L v4] h = ix_fwd (ix_run iy_P N d) (ix_lp (ix_run iy_P N d) stX9_token N) stX9_token 0 [(0, ix_R (some v0)), (1, ix_I v1), (2, ix_I v2), (3, ix_I v3), (4, ix_L v4)] [] h).trans (eX9_token _ _ v0 v1 v2 v3 v4 h)
def jX9_isLetter_10 (cal : ix_C) (K : ix_K) (s0 : Int32) (h : ix_H) : ix_O :=
  cond (ix_okn 1 s0) (some (.inl (some (ix_I s0)), h)) none
theorem jX9_isLetter_10_eq (cal : ix_C) (K : ix_K) (s0 : Int32) (h : ix_H) : ix_fwd cal K (stX9_isLetter.drop 10) 0 [] [ix_I s0] h = jX9_isLetter_10 cal K s0 h := rfl
def jX9_isLetter_8 (cal : ix_C) (K : ix_K) (h : ix_H) : ix_O :=
  jX9_isLetter_10 cal K (nI 0) h
theorem jX9_isLetter_8_eq (cal : ix_C) (K : ix_K) (h : ix_H) : ix_fwd cal K (stX9_isLetter.drop 8) 0 [] [] h = jX9_isLetter_8 cal K h := rfl
def bX9_isLetter (cal : ix_C) (K : ix_K) (v0 : Int32) (h : ix_H) : ix_O :=
  if v0 < (nI 97) then
    jX9_isLetter_8 cal K h
  else
    if (nI 122) < v0 then
      jX9_isLetter_8 cal K h
    else
      jX9_isLetter_10 cal K (nI 1) h
theorem eX9_isLetter (cal : ix_C) (K : ix_K) (v0 : Int32) (h : ix_H) : ix_fwd cal K stX9_isLetter 0 [(0, ix_I v0)] [] h = bX9_isLetter cal K v0 h := rfl
theorem rX9_isLetter (N d : Nat) (v0 : Int32) (h : ix_H) : ix_run iy_P N (d + 1) 247 [ix_I v0] h = bX9_isLetter (ix_run iy_P N d) (ix_lp (ix_run iy_P N d) stX9_isLetter N) v0 h := (rfl : ix_run iy_P N (d + 1) 247 [ix_I v0] h = ix_fwd (ix_run iy_P N d) (ix_lp (ix_run iy_P N d) stX9_isLetter N) stX9_isLetter 0 [(0, ix_I v0)] [] h).trans (eX9_isLetter _ _ v0 h)
def jX9_isDigit_10 (cal : ix_C) (K : ix_K) (s0 : Int32) (h : ix_H) : ix_O :=
  cond (ix_okn 1 s0) (some (.inl (some (ix_I s0)), h)) none
theorem jX9_isDigit_10_eq (cal : ix_C) (K : ix_K) (s0 : Int32) (h : ix_H) : ix_fwd cal K (stX9_isDigit.drop 10) 0 [] [ix_I s0] h = jX9_isDigit_10 cal K s0 h := rfl
def jX9_isDigit_8 (cal : ix_C) (K : ix_K) (h : ix_H) : ix_O :=
  jX9_isDigit_10 cal K (nI 0) h
theorem jX9_isDigit_8_eq (cal : ix_C) (K : ix_K) (h : ix_H) : ix_fwd cal K (stX9_isDigit.drop 8) 0 [] [] h = jX9_isDigit_8 cal K h := rfl
def bX9_isDigit (cal : ix_C) (K : ix_K) (v0 : Int32) (h : ix_H) : ix_O :=
  if v0 < (nI 48) then
    jX9_isDigit_8 cal K h
  else
    if (nI 57) < v0 then
      jX9_isDigit_8 cal K h
    else
      jX9_isDigit_10 cal K (nI 1) h
theorem eX9_isDigit (cal : ix_C) (K : ix_K) (v0 : Int32) (h : ix_H) : ix_fwd cal K stX9_isDigit 0 [(0, ix_I v0)] [] h = bX9_isDigit cal K v0 h := rfl
theorem rX9_isDigit (N d : Nat) (v0 : Int32) (h : ix_H) : ix_run iy_P N (d + 1) 248 [ix_I v0] h = bX9_isDigit (ix_run iy_P N d) (ix_lp (ix_run iy_P N d) stX9_isDigit N) v0 h := (rfl : ix_run iy_P N (d + 1) 248 [ix_I v0] h = ix_fwd (ix_run iy_P N d) (ix_lp (ix_run iy_P N d) stX9_isDigit N) stX9_isDigit 0 [(0, ix_I v0)] [] h).trans (eX9_isDigit _ _ v0 h)
def jX9_sign_47 (cal : ix_C) (K : ix_K) (v0 : Nat) (v1 : Int32) (v4 : Int32) (h : ix_H) : ix_O :=
  (ix_isr h 10 (some v0)).bind fun a2 =>
  (ix_rV (cal 246 [ix_R (some a2), ix_I v4, ix_I v1, ix_I (nI 0), ix_L (0 : Int64)] h)).bind fun r1 =>
  some (.inl (some (ix_I (nI 1))), r1)
theorem jX9_sign_47_eq (cal : ix_C) (K : ix_K) (v0 : Nat) (v1 : Int32) (v4 : Int32) (h : ix_H) : ix_fwd cal K (stX9_sign.drop 47) 0 [(0, ix_R (some v0)), (1, ix_I v1), (4, ix_I v4)] [] h = jX9_sign_47 cal K v0 v1 v4 h := rfl
def jX9_sign_41 (cal : ix_C) (K : ix_K) (v0 : Nat) (v1 : Int32) (v2 : Int32) (v4 : Int32) (h : ix_H) : ix_O :=
  if v2 = (nI 37) then
    jX9_sign_47 cal K v0 v1 (nI 16) h
  else
    jX9_sign_47 cal K v0 v1 v4 h
theorem jX9_sign_41_eq (cal : ix_C) (K : ix_K) (v0 : Nat) (v1 : Int32) (v2 : Int32) (v4 : Int32) (h : ix_H) : ix_fwd cal K (stX9_sign.drop 41) 0 [(0, ix_R (some v0)), (1, ix_I v1), (2, ix_I v2), (4, ix_I v4)] [] h = jX9_sign_41 cal K v0 v1 v2 v4 h := rfl
def jX9_sign_35 (cal : ix_C) (K : ix_K) (v0 : Nat) (v1 : Int32) (v2 : Int32) (v4 : Int32) (h : ix_H) : ix_O :=
  if v2 = (nI 47) then
    jX9_sign_41 cal K v0 v1 v2 (nI 15) h
  else
    jX9_sign_41 cal K v0 v1 v2 v4 h
theorem jX9_sign_35_eq (cal : ix_C) (K : ix_K) (v0 : Nat) (v1 : Int32) (v2 : Int32) (v4 : Int32) (h : ix_H) : ix_fwd cal K (stX9_sign.drop 35) 0 [(0, ix_R (some v0)), (1, ix_I v1), (2, ix_I v2), (4, ix_I v4)] [] h = jX9_sign_35 cal K v0 v1 v2 v4 h := rfl
def jX9_sign_29 (cal : ix_C) (K : ix_K) (v0 : Nat) (v1 : Int32) (v2 : Int32) (v4 : Int32) (h : ix_H) : ix_O :=
  if v2 = (nI 42) then
    jX9_sign_35 cal K v0 v1 v2 (nI 10) h
  else
    jX9_sign_35 cal K v0 v1 v2 v4 h
theorem jX9_sign_29_eq (cal : ix_C) (K : ix_K) (v0 : Nat) (v1 : Int32) (v2 : Int32) (v4 : Int32) (h : ix_H) : ix_fwd cal K (stX9_sign.drop 29) 0 [(0, ix_R (some v0)), (1, ix_I v1), (2, ix_I v2), (4, ix_I v4)] [] h = jX9_sign_29 cal K v0 v1 v2 v4 h := rfl
def jX9_sign_23 (cal : ix_C) (K : ix_K) (v0 : Nat) (v1 : Int32) (v2 : Int32) (v4 : Int32) (h : ix_H) : ix_O :=
  if v2 = (nI 45) then
    jX9_sign_29 cal K v0 v1 v2 (nI 9) h
  else
    jX9_sign_29 cal K v0 v1 v2 v4 h
theorem jX9_sign_23_eq (cal : ix_C) (K : ix_K) (v0 : Nat) (v1 : Int32) (v2 : Int32) (v4 : Int32) (h : ix_H) : ix_fwd cal K (stX9_sign.drop 23) 0 [(0, ix_R (some v0)), (1, ix_I v1), (2, ix_I v2), (4, ix_I v4)] [] h = jX9_sign_23 cal K v0 v1 v2 v4 h := rfl
def jX9_sign_16 (cal : ix_C) (K : ix_K) (v0 : Nat) (v1 : Int32) (v2 : Int32) (s0 : Int32) (h : ix_H) : ix_O :=
  if v2 = (nI 43) then
    jX9_sign_23 cal K v0 v1 v2 (nI 8) h
  else
    jX9_sign_23 cal K v0 v1 v2 s0 h
theorem jX9_sign_16_eq (cal : ix_C) (K : ix_K) (v0 : Nat) (v1 : Int32) (v2 : Int32) (s0 : Int32) (h : ix_H) : ix_fwd cal K (stX9_sign.drop 16) 0 [(0, ix_R (some v0)), (1, ix_I v1), (2, ix_I v2)] [ix_I s0] h = jX9_sign_16 cal K v0 v1 v2 s0 h := rfl
def bX9_sign (cal : ix_C) (K : ix_K) (v0 : Nat) (v1 : Int32) (v2 : Int32) (v3 : Int32) (h : ix_H) : ix_O :=
  if v2 = (nI 59) then
    jX9_sign_16 cal K v0 v1 v2 (nI 4) h
  else
    if v2 = (nI 40) then
      jX9_sign_16 cal K v0 v1 v2 (nI 6) h
    else
      if v2 = (nI 41) then
        jX9_sign_16 cal K v0 v1 v2 (nI 7) h
      else
        jX9_sign_16 cal K v0 v1 v2 (nI 3) h
theorem eX9_sign (cal : ix_C) (K : ix_K) (v0 : Nat) (v1 : Int32) (v2 : Int32) (v3 : Int32) (h : ix_H) : ix_fwd cal K stX9_sign 0 [(0, ix_R (some v0)), (1, ix_I v1), (2, ix_I v2), (3, ix_I v3)] [] h = bX9_sign cal K v0 v1 v2 v3 h := rfl
theorem rX9_sign (N d : Nat) (v0 : Nat) (v1 : Int32) (v2 : Int32) (v3 : Int32) (h : ix_H) : ix_run iy_P N (d + 1) 249 [ix_R (some v0), ix_I v1, ix_I v2, ix_I v3] h = bX9_sign (ix_run iy_P N d) (ix_lp (ix_run iy_P N d) stX9_sign N) v0 v1 v2 v3 h := (rfl : ix_run iy_P N (d + 1) 249 [ix_R (some v0), ix_I v1, ix_I v2, ix_I v3] h = ix_fwd (ix_run iy_P N d) (ix_lp (ix_run iy_P N d) stX9_sign N) stX9_sign 0 [(0, ix_R (some v0)), (1, ix_I v1), (2, ix_I v2), (3, ix_I v3)] [] h).trans (eX9_sign _ _ v0 v1 v2 v3 h)
def bX9_toldOr (cal : ix_C) (K : ix_K) (v0 : Nat) (v1 : Int32) (v2 : Int32) (v3 : Int32) (v4 : Int32) (h : ix_H) : ix_O :=
  (ix_isr h 10 (some v0)).bind fun a2 =>
  (ix_rI (cal 251 [ix_R (some a2), ix_I v1] h)).bind fun r1 =>
  if r1.1 = nI 0 then
    some (.inl (some (ix_I v4)), r1.2)
  else
    (ix_isr r1.2 10 (some v0)).bind fun a4 =>
    (ix_rV (cal 252 [ix_R (some a4)] r1.2)).bind fun r3 =>
    (ix_isr r3 10 (some v0)).bind fun a6 =>
    (ix_rI (cal 254 [ix_R (some a6), ix_I v2, ix_I v3] r3)).bind fun r5 =>
    (ix_isr r5.2 10 (some v0)).bind fun a8 =>
    (ix_rV (cal 256 [ix_R (some a8), ix_I (nI 4)] r5.2)).bind fun r7 =>
    some (.inl (some (ix_I r5.1)), r7)
theorem eX9_toldOr (cal : ix_C) (K : ix_K) (v0 : Nat) (v1 : Int32) (v2 : Int32) (v3 : Int32) (v4 : Int32) (h : ix_H) : ix_fwd cal K stX9_toldOr 0 [(0, ix_R (some v0)), (1, ix_I v1), (2, ix_I v2), (3, ix_I v3), (4, ix_I v4)] [] h = bX9_toldOr cal K v0 v1 v2 v3 v4 h := rfl
theorem rX9_toldOr (N d : Nat) (v0 : Nat) (v1 : Int32) (v2 : Int32) (v3 : Int32) (v4 : Int32) (h : ix_H) : ix_run iy_P N (d + 1) 250 [ix_R (some v0), ix_I v1, ix_I v2, ix_I v3, ix_I v4] h = bX9_toldOr (ix_run iy_P N d) (ix_lp (ix_run iy_P N d) stX9_toldOr N) v0 v1 v2 v3 v4 h := (rfl : ix_run iy_P N (d + 1) 250 [ix_R (some v0), ix_I v1, ix_I v2, ix_I v3, ix_I v4] h = ix_fwd (ix_run iy_P N d) (ix_lp (ix_run iy_P N d) stX9_toldOr N) stX9_toldOr 0 [(0, ix_R (some v0)), (1, ix_I v1), (2, ix_I v2), (3, ix_I v3), (4, ix_I v4)] [] h).trans (eX9_toldOr _ _ v0 v1 v2 v3 v4 h)
def jX9_is_14 (cal : ix_C) (K : ix_K) (s0 : Int32) (h : ix_H) : ix_O :=
  cond (ix_okn 1 s0) (some (.inl (some (ix_I s0)), h)) none
theorem jX9_is_14_eq (cal : ix_C) (K : ix_K) (s0 : Int32) (h : ix_H) : ix_fwd cal K (stX9_is.drop 14) 0 [] [ix_I s0] h = jX9_is_14 cal K s0 h := rfl
def jX9_is_12 (cal : ix_C) (K : ix_K) (h : ix_H) : ix_O :=
  jX9_is_14 cal K (nI 0) h
theorem jX9_is_12_eq (cal : ix_C) (K : ix_K) (h : ix_H) : ix_fwd cal K (stX9_is.drop 12) 0 [] [] h = jX9_is_12 cal K h := rfl
def bX9_is (cal : ix_C) (K : ix_K) (v0 : Nat) (v1 : Int32) (h : ix_H) : ix_O :=
  (ix_is h 10 (some v0)).bind fun a1 =>
  if (ix_fI h a1 13) = nI 0 then
    (ix_is h 10 (some v0)).bind fun a2 =>
    (ix_is h 10 (some v0)).bind fun a3 =>
    (ix_atr h 101 (ix_fR h a2 5) (ix_fI h a3 11)).bind fun a4 =>
    if (ix_aI h a4 (ix_fI h a3 11).toNatClampNeg) = v1 then
      jX9_is_14 cal K (nI 1) h
    else
      jX9_is_12 cal K h
  else
    jX9_is_12 cal K h
theorem eX9_is (cal : ix_C) (K : ix_K) (v0 : Nat) (v1 : Int32) (h : ix_H) : ix_fwd cal K stX9_is 0 [(0, ix_R (some v0)), (1, ix_I v1)] [] h = bX9_is cal K v0 v1 h := rfl
theorem rX9_is (N d : Nat) (v0 : Nat) (v1 : Int32) (h : ix_H) : ix_run iy_P N (d + 1) 251 [ix_R (some v0), ix_I v1] h = bX9_is (ix_run iy_P N d) (ix_lp (ix_run iy_P N d) stX9_is N) v0 v1 h := (rfl : ix_run iy_P N (d + 1) 251 [ix_R (some v0), ix_I v1] h = ix_fwd (ix_run iy_P N d) (ix_lp (ix_run iy_P N d) stX9_is N) stX9_is 0 [(0, ix_R (some v0)), (1, ix_I v1)] [] h).trans (eX9_is _ _ v0 v1 h)
def jX9_goesOn_14 (cal : ix_C) (K : ix_K) (h : ix_H) : ix_O :=
  some (.inl none, h)
theorem jX9_goesOn_14_eq (cal : ix_C) (K : ix_K) (h : ix_H) : ix_fwd cal K (stX9_goesOn.drop 14) 0 [] [] h = jX9_goesOn_14 cal K h := rfl
def bX9_goesOn (cal : ix_C) (K : ix_K) (v0 : Nat) (h : ix_H) : ix_O :=
  (ix_is h 10 (some v0)).bind fun a1 =>
  if (ix_fI h a1 11) = (nI 400) then
    (ix_isr h 10 (some v0)).bind fun a6 =>
    (ix_rV (cal 253 [ix_R (some a6), ix_I (nI 2)] h)).bind fun r5 =>
    jX9_goesOn_14 cal K r5
  else
    (ix_is h 10 (some v0)).bind fun a2 =>
    (ix_is h 10 (some v0)).bind fun a3 =>
    ix_bd (ix_wfI h a3 11 ((ix_fI h a2 11) + (nI 1))) fun h4 =>
    jX9_goesOn_14 cal K h4
theorem eX9_goesOn (cal : ix_C) (K : ix_K) (v0 : Nat) (h : ix_H) : ix_fwd cal K stX9_goesOn 0 [(0, ix_R (some v0))] [] h = bX9_goesOn cal K v0 h := rfl
theorem rX9_goesOn (N d : Nat) (v0 : Nat) (h : ix_H) : ix_run iy_P N (d + 1) 252 [ix_R (some v0)] h = bX9_goesOn (ix_run iy_P N d) (ix_lp (ix_run iy_P N d) stX9_goesOn N) v0 h := (rfl : ix_run iy_P N (d + 1) 252 [ix_R (some v0)] h = ix_fwd (ix_run iy_P N d) (ix_lp (ix_run iy_P N d) stX9_goesOn N) stX9_goesOn 0 [(0, ix_R (some v0))] [] h).trans (eX9_goesOn _ _ v0 h)
def bX9_fail (cal : ix_C) (K : ix_K) (v0 : Nat) (v1 : Int32) (h : ix_H) : ix_O :=
  (ix_is h 10 (some v0)).bind fun a1 =>
  if (ix_fI h a1 13) ≤ nI 0 then
    (ix_is h 10 (some v0)).bind fun a2 =>
    ix_bd (ix_wfI h a2 13 v1) fun h3 =>
    (ix_is h3 10 (some v0)).bind fun a4 =>
    (ix_is h3 10 (some v0)).bind fun a5 =>
    (ix_atr h3 101 (ix_fR h3 a4 6) (ix_fI h3 a5 11)).bind fun a6 =>
    (ix_is h3 10 (some v0)).bind fun a7 =>
    ix_bd (ix_wfI h3 a7 14 (ix_aI h3 a6 (ix_fI h3 a5 11).toNatClampNeg)) fun h8 =>
    some (.inl none, h8)
  else
    some (.inl none, h)
theorem eX9_fail (cal : ix_C) (K : ix_K) (v0 : Nat) (v1 : Int32) (h : ix_H) : ix_fwd cal K stX9_fail 0 [(0, ix_R (some v0)), (1, ix_I v1)] [] h = bX9_fail cal K v0 v1 h := rfl
theorem rX9_fail (N d : Nat) (v0 : Nat) (v1 : Int32) (h : ix_H) : ix_run iy_P N (d + 1) 253 [ix_R (some v0), ix_I v1] h = bX9_fail (ix_run iy_P N d) (ix_lp (ix_run iy_P N d) stX9_fail N) v0 v1 h := (rfl : ix_run iy_P N (d + 1) 253 [ix_R (some v0), ix_I v1] h = ix_fwd (ix_run iy_P N d) (ix_lp (ix_run iy_P N d) stX9_fail N) stX9_fail 0 [(0, ix_R (some v0)), (1, ix_I v1)] [] h).trans (eX9_fail _ _ v0 v1 h)
def jX9_bounded_7 (cal : ix_C) (K : ix_K) (v0 : Nat) (v1 : Int32) (h : ix_H) : ix_O :=
  (ix_isr h 10 (some v0)).bind fun a3 =>
  (ix_rV (cal 253 [ix_R (some a3), ix_I (nI 1)] h)).bind fun r2 =>
  some (.inl (some (ix_I v1)), r2)
theorem jX9_bounded_7_eq (cal : ix_C) (K : ix_K) (v0 : Nat) (v1 : Int32) (h : ix_H) : ix_fwd cal K (stX9_bounded.drop 7) 0 [(0, ix_R (some v0)), (1, ix_I v1)] [] h = jX9_bounded_7 cal K v0 v1 h := rfl
def jX9_bounded_31 (cal : ix_C) (K : ix_K) (v0 : Nat) (v3 : Int32) (h : ix_H) : ix_O :=
  (ix_isr h 10 (some v0)).bind fun a13 =>
  (ix_rV (cal 252 [ix_R (some a13)] h)).bind fun r12 =>
  some (.inl (some (ix_I v3)), r12)
theorem jX9_bounded_31_eq (cal : ix_C) (K : ix_K) (v0 : Nat) (v3 : Int32) (h : ix_H) : ix_fwd cal K (stX9_bounded.drop 31) 0 [(0, ix_R (some v0)), (3, ix_I v3)] [] h = jX9_bounded_31 cal K v0 v3 h := rfl
def jX9_bounded_25 (cal : ix_C) (K : ix_K) (v0 : Nat) (v3 : Int32) (h : ix_H) : ix_O :=
  (ix_is h 10 (some v0)).bind fun a9 =>
  (ix_isr h 10 (some v0)).bind fun a11 =>
  (ix_rV (cal 255 [ix_R (some a11), ix_I (nI 5), ix_I (ix_fI h a9 11)] h)).bind fun r10 =>
  jX9_bounded_31 cal K v0 v3 r10
theorem jX9_bounded_25_eq (cal : ix_C) (K : ix_K) (v0 : Nat) (v3 : Int32) (h : ix_H) : ix_fwd cal K (stX9_bounded.drop 25) 0 [(0, ix_R (some v0)), (3, ix_I v3)] [] h = jX9_bounded_25 cal K v0 v3 h := rfl
def bX9_bounded (cal : ix_C) (K : ix_K) (v0 : Nat) (v1 : Int32) (v2 : Int32) (h : ix_H) : ix_O :=
  (ix_is h 10 (some v0)).bind fun a1 =>
  if nI 0 < (ix_fI h a1 13) then
    jX9_bounded_7 cal K v0 v1 h
  else
    (ix_isr h 10 (some v0)).bind fun a5 =>
    (ix_rI (cal 251 [ix_R (some a5), ix_I (nI 2)] h)).bind fun r4 =>
    if r4.1 = nI 0 then
      jX9_bounded_7 cal K v0 v1 r4.2
    else
      (ix_is r4.2 10 (some v0)).bind fun a6 =>
      (ix_is r4.2 10 (some v0)).bind fun a7 =>
      (ix_atr r4.2 101 (ix_fR r4.2 a6 7) (ix_fI r4.2 a7 11)).bind fun a8 =>
      if (ix_aI r4.2 a8 (ix_fI r4.2 a7 11).toNatClampNeg) < v1 then
        jX9_bounded_25 cal K v0 (ix_aI r4.2 a8 (ix_fI r4.2 a7 11).toNatClampNeg) r4.2
      else
        if (ix_aI r4.2 a8 (ix_fI r4.2 a7 11).toNatClampNeg) ≤ v2 then
          jX9_bounded_31 cal K v0 (ix_aI r4.2 a8 (ix_fI r4.2 a7 11).toNatClampNeg) r4.2
        else
          jX9_bounded_25 cal K v0 (ix_aI r4.2 a8 (ix_fI r4.2 a7 11).toNatClampNeg) r4.2
theorem eX9_bounded (cal : ix_C) (K : ix_K) (v0 : Nat) (v1 : Int32) (v2 : Int32) (h : ix_H) : ix_fwd cal K stX9_bounded 0 [(0, ix_R (some v0)), (1, ix_I v1), (2, ix_I v2)] [] h = bX9_bounded cal K v0 v1 v2 h := rfl
theorem rX9_bounded (N d : Nat) (v0 : Nat) (v1 : Int32) (v2 : Int32) (h : ix_H) : ix_run iy_P N (d + 1) 254 [ix_R (some v0), ix_I v1, ix_I v2] h = bX9_bounded (ix_run iy_P N d) (ix_lp (ix_run iy_P N d) stX9_bounded N) v0 v1 v2 h := (rfl : ix_run iy_P N (d + 1) 254 [ix_R (some v0), ix_I v1, ix_I v2] h = ix_fwd (ix_run iy_P N d) (ix_lp (ix_run iy_P N d) stX9_bounded N) stX9_bounded 0 [(0, ix_R (some v0)), (1, ix_I v1), (2, ix_I v2)] [] h).trans (eX9_bounded _ _ v0 v1 v2 h)
def jX9_wrong_23 (cal : ix_C) (K : ix_K) (h : ix_H) : ix_O :=
  some (.inl none, h)
theorem jX9_wrong_23_eq (cal : ix_C) (K : ix_K) (h : ix_H) : ix_fwd cal K (stX9_wrong.drop 23) 0 [] [] h = jX9_wrong_23 cal K h := rfl
def jX9_wrong_25 (cal : ix_C) (K : ix_K) (v0 : Nat) (v1 : Int32) (v3 : Int32) (h : ix_H) : ix_O :=
  (ix_is h 10 (some v0)).bind fun a5 =>
  ix_bd (ix_wfI h a5 15 v1) fun h6 =>
  (ix_is h6 10 (some v0)).bind fun a7 =>
  ix_bd (ix_wfI h6 a7 16 v3) fun h8 =>
  some (.inl none, h8)
theorem jX9_wrong_25_eq (cal : ix_C) (K : ix_K) (v0 : Nat) (v1 : Int32) (v3 : Int32) (h : ix_H) : ix_fwd cal K (stX9_wrong.drop 25) 0 [(0, ix_R (some v0)), (1, ix_I v1), (3, ix_I v3)] [] h = jX9_wrong_25 cal K v0 v1 v3 h := rfl
def bX9_wrong (cal : ix_C) (K : ix_K) (v0 : Nat) (v1 : Int32) (v2 : Int32) (h : ix_H) : ix_O :=
  (ix_is h 10 (some v0)).bind fun a1 =>
  (ix_atr h 101 (ix_fR h a1 6) v2).bind fun a2 =>
  (ix_is h 10 (some v0)).bind fun a3 =>
  if nI 0 < (ix_fI h a3 13) then
    jX9_wrong_23 cal K h
  else
    (ix_is h 10 (some v0)).bind fun a4 =>
    if (ix_fI h a4 15) = nI 0 then
      jX9_wrong_25 cal K v0 v1 (ix_aI h a2 v2.toNatClampNeg) h
    else
      (ix_is h 10 (some v0)).bind fun a9 =>
      if (ix_fI h a9 16) < (ix_aI h a2 v2.toNatClampNeg) then
        jX9_wrong_23 cal K h
      else
        (ix_is h 10 (some v0)).bind fun a10 =>
        if (ix_aI h a2 v2.toNatClampNeg) = (ix_fI h a10 16) then
          (ix_is h 10 (some v0)).bind fun a11 =>
          if v1 < (ix_fI h a11 15) then
            jX9_wrong_25 cal K v0 v1 (ix_aI h a2 v2.toNatClampNeg) h
          else
            jX9_wrong_23 cal K h
        else
          jX9_wrong_25 cal K v0 v1 (ix_aI h a2 v2.toNatClampNeg) h
theorem eX9_wrong (cal : ix_C) (K : ix_K) (v0 : Nat) (v1 : Int32) (v2 : Int32) (h : ix_H) : ix_fwd cal K stX9_wrong 0 [(0, ix_R (some v0)), (1, ix_I v1), (2, ix_I v2)] [] h = bX9_wrong cal K v0 v1 v2 h := rfl
theorem rX9_wrong (N d : Nat) (v0 : Nat) (v1 : Int32) (v2 : Int32) (h : ix_H) : ix_run iy_P N (d + 1) 255 [ix_R (some v0), ix_I v1, ix_I v2] h = bX9_wrong (ix_run iy_P N d) (ix_lp (ix_run iy_P N d) stX9_wrong N) v0 v1 v2 h := (rfl : ix_run iy_P N (d + 1) 255 [ix_R (some v0), ix_I v1, ix_I v2] h = ix_fwd (ix_run iy_P N d) (ix_lp (ix_run iy_P N d) stX9_wrong N) stX9_wrong 0 [(0, ix_R (some v0)), (1, ix_I v1), (2, ix_I v2)] [] h).trans (eX9_wrong _ _ v0 v1 v2 h)
def jX9_must_10 (cal : ix_C) (K : ix_K) (h : ix_H) : ix_O :=
  some (.inl none, h)
theorem jX9_must_10_eq (cal : ix_C) (K : ix_K) (h : ix_H) : ix_fwd cal K (stX9_must.drop 10) 0 [] [] h = jX9_must_10 cal K h := rfl
def bX9_must (cal : ix_C) (K : ix_K) (v0 : Nat) (v1 : Int32) (h : ix_H) : ix_O :=
  (ix_isr h 10 (some v0)).bind fun a2 =>
  (ix_rI (cal 251 [ix_R (some a2), ix_I v1] h)).bind fun r1 =>
  if r1.1 = nI 0 then
    (ix_isr r1.2 10 (some v0)).bind fun a4 =>
    (ix_rV (cal 253 [ix_R (some a4), ix_I (nI 1)] r1.2)).bind fun r3 =>
    jX9_must_10 cal K r3
  else
    (ix_isr r1.2 10 (some v0)).bind fun a6 =>
    (ix_rV (cal 252 [ix_R (some a6)] r1.2)).bind fun r5 =>
    jX9_must_10 cal K r5
theorem eX9_must (cal : ix_C) (K : ix_K) (v0 : Nat) (v1 : Int32) (h : ix_H) : ix_fwd cal K stX9_must 0 [(0, ix_R (some v0)), (1, ix_I v1)] [] h = bX9_must cal K v0 v1 h := rfl
theorem rX9_must (N d : Nat) (v0 : Nat) (v1 : Int32) (h : ix_H) : ix_run iy_P N (d + 1) 256 [ix_R (some v0), ix_I v1] h = bX9_must (ix_run iy_P N d) (ix_lp (ix_run iy_P N d) stX9_must N) v0 v1 h := (rfl : ix_run iy_P N (d + 1) 256 [ix_R (some v0), ix_I v1] h = ix_fwd (ix_run iy_P N d) (ix_lp (ix_run iy_P N d) stX9_must N) stX9_must 0 [(0, ix_R (some v0)), (1, ix_I v1)] [] h).trans (eX9_must _ _ v0 v1 h)
def jX9_tellOne_157 (cal : ix_C) (K : ix_K) (v0 : Nat) (h : ix_H) : ix_O :=
  (ix_isr h 10 (some v0)).bind fun a16 =>
  (ix_rV (cal 256 [ix_R (some a16), ix_I (nI 4)] h)).bind fun r15 =>
  (ix_is r15 10 (some v0)).bind fun a17 =>
  (ix_is r15 10 (some v0)).bind fun a18 =>
  ix_bd (ix_wfI r15 a18 18 ((ix_fI r15 a17 18) + (nI 1))) fun h19 =>
  some (.inl none, h19)
theorem jX9_tellOne_157_eq (cal : ix_C) (K : ix_K) (v0 : Nat) (h : ix_H) : ix_fwd cal K (stX9_tellOne.drop 157) 0 [(0, ix_R (some v0))] [] h = jX9_tellOne_157 cal K v0 h := rfl
def jX9_tellOne_54 (cal : ix_C) (K : ix_K) (v0 : Nat) (v1 : Int32) (s0 : Option Nat) (s1 : Int32) (s2 : Int32) (h : ix_H) : ix_O :=
  (ix_at h 101 s0 s1).bind fun a34 =>
  ix_bd (ix_waI h a34 s1.toNatClampNeg s2) fun h35 =>
  (ix_is h35 10 (some v0)).bind fun a36 =>
  (ix_isr h35 10 (some v0)).bind fun a38 =>
  (ix_rI (cal 258 [ix_R (some a38)] h35)).bind fun r37 =>
  (ix_at r37.2 101 (ix_fR h35 a36 20) v1).bind fun a39 =>
  ix_bd (ix_waI r37.2 a39 v1.toNatClampNeg r37.1) fun h40 =>
  jX9_tellOne_157 cal K v0 h40
theorem jX9_tellOne_54_eq (cal : ix_C) (K : ix_K) (v0 : Nat) (v1 : Int32) (s0 : Option Nat) (s1 : Int32) (s2 : Int32) (h : ix_H) : ix_fwd cal K (stX9_tellOne.drop 54) 0 [(0, ix_R (some v0)), (1, ix_I v1)] [ix_I s2, ix_I s1, ix_R s0] h = jX9_tellOne_54 cal K v0 v1 s0 s1 s2 h := rfl
def jX9_tellOne_40 (cal : ix_C) (K : ix_K) (v0 : Nat) (v1 : Int32) (h : ix_H) : ix_O :=
  (ix_is h 10 (some v0)).bind fun a30 =>
  (ix_is h 10 (some v0)).bind fun a31 =>
  (ix_is h 10 (some v0)).bind fun a32 =>
  (ix_atr h 101 (ix_fR h a31 5) (ix_fI h a32 11)).bind fun a33 =>
  if (ix_aI h a33 (ix_fI h a32 11).toNatClampNeg) = (nI 25) then
    jX9_tellOne_54 cal K v0 v1 (ix_fR h a30 19) v1 (nI 3) h
  else
    jX9_tellOne_54 cal K v0 v1 (ix_fR h a30 19) v1 (nI 4) h
theorem jX9_tellOne_40_eq (cal : ix_C) (K : ix_K) (v0 : Nat) (v1 : Int32) (h : ix_H) : ix_fwd cal K (stX9_tellOne.drop 40) 0 [(0, ix_R (some v0)), (1, ix_I v1)] [] h = jX9_tellOne_40 cal K v0 v1 h := rfl
def jX9_tellOne_78 (cal : ix_C) (K : ix_K) (v0 : Nat) (v1 : Int32) (h : ix_H) : ix_O :=
  (ix_is h 10 (some v0)).bind fun a47 =>
  if (ix_fI h a47 13) ≤ nI 0 then
    (ix_isr h 10 (some v0)).bind fun a49 =>
    (ix_rV (cal 252 [ix_R (some a49)] h)).bind fun r48 =>
    (ix_is r48 10 (some v0)).bind fun a50 =>
    (ix_at r48 101 (ix_fR r48 a50 19) v1).bind fun a51 =>
    ix_bd (ix_waI r48 a51 v1.toNatClampNeg (nI 6)) fun h52 =>
    (ix_is h52 10 (some v0)).bind fun a53 =>
    (ix_isr h52 10 (some v0)).bind fun a55 =>
    (ix_rI (cal 254 [ix_R (some a55), ix_I (nI 0), ix_I (nI 99)] h52)).bind fun r54 =>
    (ix_at r54.2 101 (ix_fR h52 a53 21) v1).bind fun a56 =>
    ix_bd (ix_waI r54.2 a56 v1.toNatClampNeg r54.1) fun h57 =>
    (ix_is h57 10 (some v0)).bind fun a58 =>
    (ix_is h57 10 (some v0)).bind fun a59 =>
    (ix_at h57 101 (ix_fR h57 a58 26) (ix_fI h57 a59 25)).bind fun a60 =>
    ix_bd (ix_waI h57 a60 (ix_fI h57 a59 25).toNatClampNeg v1) fun h61 =>
    (ix_is h61 10 (some v0)).bind fun a62 =>
    (ix_is h61 10 (some v0)).bind fun a63 =>
    ix_bd (ix_wfI h61 a63 25 ((ix_fI h61 a62 25) + (nI 1))) fun h64 =>
    jX9_tellOne_157 cal K v0 h64
  else
    some (.inl none, h)
theorem jX9_tellOne_78_eq (cal : ix_C) (K : ix_K) (v0 : Nat) (v1 : Int32) (h : ix_H) : ix_fwd cal K (stX9_tellOne.drop 78) 0 [(0, ix_R (some v0)), (1, ix_I v1)] [] h = jX9_tellOne_78 cal K v0 v1 h := rfl
def jX9_tellOne_117 (cal : ix_C) (K : ix_K) (v0 : Nat) (v1 : Int32) (h : ix_H) : ix_O :=
  (ix_is h 10 (some v0)).bind fun a68 =>
  if (ix_fI h a68 13) ≤ nI 0 then
    (ix_isr h 10 (some v0)).bind fun a70 =>
    (ix_rV (cal 252 [ix_R (some a70)] h)).bind fun r69 =>
    (ix_is r69 10 (some v0)).bind fun a71 =>
    (ix_at r69 101 (ix_fR r69 a71 19) v1).bind fun a72 =>
    ix_bd (ix_waI r69 a72 v1.toNatClampNeg (nI 7)) fun h73 =>
    (ix_is h73 10 (some v0)).bind fun a74 =>
    (ix_is h73 10 (some v0)).bind fun a75 =>
    ix_bd (ix_wfI h73 a75 25 ((ix_fI h73 a74 25) - (nI 1))) fun h76 =>
    (ix_is h76 10 (some v0)).bind fun a77 =>
    (ix_is h76 10 (some v0)).bind fun a78 =>
    (ix_is h76 10 (some v0)).bind fun a79 =>
    (ix_atr h76 101 (ix_fR h76 a78 26) (ix_fI h76 a79 25)).bind fun a80 =>
    (ix_at h76 101 (ix_fR h76 a77 24) v1).bind fun a81 =>
    ix_bd (ix_waI h76 a81 v1.toNatClampNeg (ix_aI h76 a80 (ix_fI h76 a79 25).toNatClampNeg)) fun h82 =>
    (ix_is h82 10 (some v0)).bind fun a83 =>
    (ix_is h82 10 (some v0)).bind fun a84 =>
    (ix_is h82 10 (some v0)).bind fun a85 =>
    (ix_atr h82 101 (ix_fR h82 a84 26) (ix_fI h82 a85 25)).bind fun a86 =>
    (ix_at h82 101 (ix_fR h82 a83 24) (ix_aI h82 a86 (ix_fI h82 a85 25).toNatClampNeg)).bind fun a87 =>
    ix_bd (ix_waI h82 a87 (ix_aI h82 a86 (ix_fI h82 a85 25).toNatClampNeg).toNatClampNeg v1) fun h88 =>
    jX9_tellOne_157 cal K v0 h88
  else
    some (.inl none, h)
theorem jX9_tellOne_117_eq (cal : ix_C) (K : ix_K) (v0 : Nat) (v1 : Int32) (h : ix_H) : ix_fwd cal K (stX9_tellOne.drop 117) 0 [(0, ix_R (some v0)), (1, ix_I v1)] [] h = jX9_tellOne_117 cal K v0 v1 h := rfl
def bX9_tellOne (cal : ix_C) (K : ix_K) (v0 : Nat) (h : ix_H) : ix_O :=
  (ix_is h 10 (some v0)).bind fun a1 =>
  (ix_is h 10 (some v0)).bind fun a2 =>
  (ix_at h 101 (ix_fR h a2 20) (ix_fI h a1 18)).bind fun a3 =>
  ix_bd (ix_waI h a3 (ix_fI h a1 18).toNatClampNeg (-1 : Int32)) fun h4 =>
  (ix_is h4 10 (some v0)).bind fun a5 =>
  (ix_is h4 10 (some v0)).bind fun a6 =>
  (ix_atr h4 101 (ix_fR h4 a5 5) (ix_fI h4 a6 11)).bind fun a7 =>
  if (ix_aI h4 a7 (ix_fI h4 a6 11).toNatClampNeg) = nI 23 then
    (ix_is h4 10 (some v0)).bind fun a8 =>
    (ix_isr h4 10 (some v0)).bind fun a10 =>
    (ix_rI (cal 258 [ix_R (some a10)] h4)).bind fun r9 =>
    (ix_at r9.2 101 (ix_fR h4 a8 20) (ix_fI h a1 18)).bind fun a11 =>
    ix_bd (ix_waI r9.2 a11 (ix_fI h a1 18).toNatClampNeg r9.1) fun h12 =>
    (ix_isr h12 10 (some v0)).bind fun a14 =>
    (ix_rV (cal 259 [ix_R (some a14), ix_I (ix_fI h a1 18)] h12)).bind fun r13 =>
    jX9_tellOne_157 cal K v0 r13
  else
  if (ix_aI h4 a7 (ix_fI h4 a6 11).toNatClampNeg) = nI 24 then
    (ix_is h4 10 (some v0)).bind fun a20 =>
    (ix_isr h4 10 (some v0)).bind fun a22 =>
    (ix_rI (cal 258 [ix_R (some a22)] h4)).bind fun r21 =>
    (ix_at r21.2 101 (ix_fR h4 a20 20) (ix_fI h a1 18)).bind fun a23 =>
    ix_bd (ix_waI r21.2 a23 (ix_fI h a1 18).toNatClampNeg r21.1) fun h24 =>
    (ix_is h24 10 (some v0)).bind fun a25 =>
    (ix_at h24 101 (ix_fR h24 a25 19) (ix_fI h a1 18)).bind fun a26 =>
    ix_bd (ix_waI h24 a26 (ix_fI h a1 18).toNatClampNeg (nI 2)) fun h27 =>
    (ix_isr h27 10 (some v0)).bind fun a29 =>
    (ix_rV (cal 260 [ix_R (some a29), ix_I (ix_fI h a1 18), ix_I (nI 0)] h27)).bind fun r28 =>
    jX9_tellOne_157 cal K v0 r28
  else
  if (ix_aI h4 a7 (ix_fI h4 a6 11).toNatClampNeg) = nI 25 then
    jX9_tellOne_40 cal K v0 (ix_fI h a1 18) h4
  else
  if (ix_aI h4 a7 (ix_fI h4 a6 11).toNatClampNeg) = nI 26 then
    jX9_tellOne_40 cal K v0 (ix_fI h a1 18) h4
  else
  if (ix_aI h4 a7 (ix_fI h4 a6 11).toNatClampNeg) = nI 27 then
    (ix_is h4 10 (some v0)).bind fun a41 =>
    (ix_at h4 101 (ix_fR h4 a41 19) (ix_fI h a1 18)).bind fun a42 =>
    ix_bd (ix_waI h4 a42 (ix_fI h a1 18).toNatClampNeg (nI 5)) fun h43 =>
    (ix_isr h43 10 (some v0)).bind fun a45 =>
    (ix_rV (cal 252 [ix_R (some a45)] h43)).bind fun r44 =>
    jX9_tellOne_157 cal K v0 r44
  else
  if (ix_aI h4 a7 (ix_fI h4 a6 11).toNatClampNeg) = nI 28 then
    (ix_is h4 10 (some v0)).bind fun a46 =>
    if (ix_fI h4 a46 25) = (nI 3) then
      (ix_isr h4 10 (some v0)).bind fun a66 =>
      (ix_rV (cal 253 [ix_R (some a66), ix_I (nI 2)] h4)).bind fun r65 =>
      jX9_tellOne_78 cal K v0 (ix_fI h a1 18) r65
    else
      jX9_tellOne_78 cal K v0 (ix_fI h a1 18) h4
  else
  if (ix_aI h4 a7 (ix_fI h4 a6 11).toNatClampNeg) = nI 29 then
    (ix_is h4 10 (some v0)).bind fun a67 =>
    if (ix_fI h4 a67 25) = nI 0 then
      (ix_isr h4 10 (some v0)).bind fun a90 =>
      (ix_rV (cal 253 [ix_R (some a90), ix_I (nI 1)] h4)).bind fun r89 =>
      jX9_tellOne_117 cal K v0 (ix_fI h a1 18) r89
    else
      jX9_tellOne_117 cal K v0 (ix_fI h a1 18) h4
  else
    (ix_isr h4 10 (some v0)).bind fun a92 =>
    (ix_rV (cal 259 [ix_R (some a92), ix_I (ix_fI h a1 18)] h4)).bind fun r91 =>
    jX9_tellOne_157 cal K v0 r91
theorem eX9_tellOne (cal : ix_C) (K : ix_K) (v0 : Nat) (h : ix_H) : ix_fwd cal K stX9_tellOne 0 [(0, ix_R (some v0))] [] h = bX9_tellOne cal K v0 h := rfl
theorem rX9_tellOne (N d : Nat) (v0 : Nat) (h : ix_H) : ix_run iy_P N (d + 1) 257 [ix_R (some v0)] h = bX9_tellOne (ix_run iy_P N d) (ix_lp (ix_run iy_P N d) stX9_tellOne N) v0 h := (rfl : ix_run iy_P N (d + 1) 257 [ix_R (some v0)] h = ix_fwd (ix_run iy_P N d) (ix_lp (ix_run iy_P N d) stX9_tellOne N) stX9_tellOne 0 [(0, ix_R (some v0))] [] h).trans (eX9_tellOne _ _ v0 h)
def bX9_handTold (cal : ix_C) (K : ix_K) (v0 : Nat) (h : ix_H) : ix_O :=
  (ix_isr h 10 (some v0)).bind fun a2 =>
  (ix_rV (cal 252 [ix_R (some a2)] h)).bind fun r1 =>
  (ix_isr r1 10 (some v0)).bind fun a4 =>
  (ix_rI (cal 254 [ix_R (some a4), ix_I (nI 0), ix_I (nI 3)] r1)).bind fun r3 =>
  some (.inl (some (ix_I r3.1)), r3.2)
theorem eX9_handTold (cal : ix_C) (K : ix_K) (v0 : Nat) (h : ix_H) : ix_fwd cal K stX9_handTold 0 [(0, ix_R (some v0))] [] h = bX9_handTold cal K v0 h := rfl
theorem rX9_handTold (N d : Nat) (v0 : Nat) (h : ix_H) : ix_run iy_P N (d + 1) 258 [ix_R (some v0)] h = bX9_handTold (ix_run iy_P N d) (ix_lp (ix_run iy_P N d) stX9_handTold N) v0 h := (rfl : ix_run iy_P N (d + 1) 258 [ix_R (some v0)] h = ix_fwd (ix_run iy_P N d) (ix_lp (ix_run iy_P N d) stX9_handTold N) stX9_handTold 0 [(0, ix_R (some v0))] [] h).trans (eX9_handTold _ _ v0 h)
def jX9_actTold_28 (cal : ix_C) (K : ix_K) (v0 : Nat) (v1 : Int32) (v2 : Int32) (s0 : Option Nat) (s1 : Int32) (s2 : Int32) (h : ix_H) : ix_O :=
  (ix_at h 101 s0 s1).bind fun a7 =>
  ix_bd (ix_waI h a7 s1.toNatClampNeg s2) fun h8 =>
  (ix_isr h8 10 (some v0)).bind fun a10 =>
  (ix_rV (cal 260 [ix_R (some a10), ix_I v1, ix_I v2] h8)).bind fun r9 =>
  some (.inl none, r9)
theorem jX9_actTold_28_eq (cal : ix_C) (K : ix_K) (v0 : Nat) (v1 : Int32) (v2 : Int32) (s0 : Option Nat) (s1 : Int32) (s2 : Int32) (h : ix_H) : ix_fwd cal K (stX9_actTold.drop 28) 0 [(0, ix_R (some v0)), (1, ix_I v1), (2, ix_I v2)] [ix_I s2, ix_I s1, ix_R s0] h = jX9_actTold_28 cal K v0 v1 v2 s0 s1 s2 h := rfl
def jX9_actTold_13 (cal : ix_C) (K : ix_K) (v0 : Nat) (v1 : Int32) (v2 : Int32) (h : ix_H) : ix_O :=
  (ix_is h 10 (some v0)).bind fun a3 =>
  if (ix_fI h a3 13) ≤ nI 0 then
    (ix_isr h 10 (some v0)).bind fun a5 =>
    (ix_rV (cal 252 [ix_R (some a5)] h)).bind fun r4 =>
    (ix_is r4 10 (some v0)).bind fun a6 =>
    if v2 = nI 0 then
      jX9_actTold_28 cal K v0 v1 v2 (ix_fR r4 a6 19) v1 (nI 1) r4
    else
      jX9_actTold_28 cal K v0 v1 v2 (ix_fR r4 a6 19) v1 (nI 0) r4
  else
    some (.inl none, h)
theorem jX9_actTold_13_eq (cal : ix_C) (K : ix_K) (v0 : Nat) (v1 : Int32) (v2 : Int32) (h : ix_H) : ix_fwd cal K (stX9_actTold.drop 13) 0 [(0, ix_R (some v0)), (1, ix_I v1), (2, ix_I v2)] [] h = jX9_actTold_13 cal K v0 v1 v2 h := rfl
def bX9_actTold (cal : ix_C) (K : ix_K) (v0 : Nat) (v1 : Int32) (h : ix_H) : ix_O :=
  (ix_isr h 10 (some v0)).bind fun a2 =>
  (ix_rI (cal 251 [ix_R (some a2), ix_I (nI 30)] h)).bind fun r1 =>
  if r1.1 = nI 0 then
    (ix_isr r1.2 10 (some v0)).bind fun a12 =>
    (ix_rI (cal 251 [ix_R (some a12), ix_I (nI 31)] r1.2)).bind fun r11 =>
    if r11.1 = nI 0 then
      (ix_isr r11.2 10 (some v0)).bind fun a14 =>
      (ix_rV (cal 253 [ix_R (some a14), ix_I (nI 1)] r11.2)).bind fun r13 =>
      jX9_actTold_13 cal K v0 v1 r1.1 r13
    else
      jX9_actTold_13 cal K v0 v1 r1.1 r11.2
  else
    jX9_actTold_13 cal K v0 v1 r1.1 r1.2
theorem eX9_actTold (cal : ix_C) (K : ix_K) (v0 : Nat) (v1 : Int32) (h : ix_H) : ix_fwd cal K stX9_actTold 0 [(0, ix_R (some v0)), (1, ix_I v1)] [] h = bX9_actTold cal K v0 v1 h := rfl
theorem rX9_actTold (N d : Nat) (v0 : Nat) (v1 : Int32) (h : ix_H) : ix_run iy_P N (d + 1) 259 [ix_R (some v0), ix_I v1] h = bX9_actTold (ix_run iy_P N d) (ix_lp (ix_run iy_P N d) stX9_actTold N) v0 v1 h := (rfl : ix_run iy_P N (d + 1) 259 [ix_R (some v0), ix_I v1] h = ix_fwd (ix_run iy_P N d) (ix_lp (ix_run iy_P N d) stX9_actTold N) stX9_actTold 0 [(0, ix_R (some v0)), (1, ix_I v1)] [] h).trans (eX9_actTold _ _ v0 v1 h)
def jX9_termsTold_25 (cal : ix_C) (K : ix_K) (v0 : Nat) (v1 : Int32) (h : ix_H) : ix_O :=
  (ix_is h 10 (some v0)).bind fun a11 =>
  (ix_is h 10 (some v0)).bind fun a12 =>
  (ix_at h 101 (ix_fR h a11 23) v1).bind fun a13 =>
  ix_bd (ix_waI h a13 v1.toNatClampNeg (ix_fI h a12 27)) fun h14 =>
  some (.inl none, h14)
theorem jX9_termsTold_25_eq (cal : ix_C) (K : ix_K) (v0 : Nat) (v1 : Int32) (h : ix_H) : ix_fwd cal K (stX9_termsTold.drop 25) 0 [(0, ix_R (some v0)), (1, ix_I v1)] [] h = jX9_termsTold_25 cal K v0 v1 h := rfl
def jX9_termsTold_11 (cal : ix_C) (K : ix_K) (v0 : Nat) (v1 : Int32) (v2 : Int32) (h : ix_H) : ix_O :=
  (ix_is h 10 (some v0)).bind fun a6 =>
  (ix_is h 10 (some v0)).bind fun a7 =>
  (ix_at h 101 (ix_fR h a6 22) v1).bind fun a8 =>
  ix_bd (ix_waI h a8 v1.toNatClampNeg (ix_fI h a7 27)) fun h9 =>
  (ix_is h9 10 (some v0)).bind fun a10 =>
  if (ix_fI h9 a10 13) = nI 0 then
    if v2 = nI 0 then
      jX9_termsTold_25 cal K v0 v1 h9
    else
      (ix_isr h9 10 (some v0)).bind fun a16 =>
      (ix_rV (cal 261 [ix_R (some a16)] h9)).bind fun r15 =>
      jX9_termsTold_25 cal K v0 v1 r15
  else
    jX9_termsTold_25 cal K v0 v1 h9
theorem jX9_termsTold_11_eq (cal : ix_C) (K : ix_K) (v0 : Nat) (v1 : Int32) (v2 : Int32) (h : ix_H) : ix_fwd cal K (stX9_termsTold.drop 11) 0 [(0, ix_R (some v0)), (1, ix_I v1), (2, ix_I v2)] [] h = jX9_termsTold_11 cal K v0 v1 v2 h := rfl
def bX9_termsTold (cal : ix_C) (K : ix_K) (v0 : Nat) (v1 : Int32) (v2 : Int32) (h : ix_H) : ix_O :=
  (ix_is h 10 (some v0)).bind fun a1 =>
  (ix_is h 10 (some v0)).bind fun a2 =>
  (ix_at h 101 (ix_fR h a1 21) v1).bind fun a3 =>
  ix_bd (ix_waI h a3 v1.toNatClampNeg (ix_fI h a2 27)) fun h4 =>
  (ix_is h4 10 (some v0)).bind fun a5 =>
  if (ix_fI h4 a5 13) = nI 0 then
    (ix_isr h4 10 (some v0)).bind fun a18 =>
    (ix_rV (cal 261 [ix_R (some a18)] h4)).bind fun r17 =>
    jX9_termsTold_11 cal K v0 v1 v2 r17
  else
    jX9_termsTold_11 cal K v0 v1 v2 h4
theorem eX9_termsTold (cal : ix_C) (K : ix_K) (v0 : Nat) (v1 : Int32) (v2 : Int32) (h : ix_H) : ix_fwd cal K stX9_termsTold 0 [(0, ix_R (some v0)), (1, ix_I v1), (2, ix_I v2)] [] h = bX9_termsTold cal K v0 v1 v2 h := rfl
theorem rX9_termsTold (N d : Nat) (v0 : Nat) (v1 : Int32) (v2 : Int32) (h : ix_H) : ix_run iy_P N (d + 1) 260 [ix_R (some v0), ix_I v1, ix_I v2] h = bX9_termsTold (ix_run iy_P N d) (ix_lp (ix_run iy_P N d) stX9_termsTold N) v0 v1 v2 h := (rfl : ix_run iy_P N (d + 1) 260 [ix_R (some v0), ix_I v1, ix_I v2] h = ix_fwd (ix_run iy_P N d) (ix_lp (ix_run iy_P N d) stX9_termsTold N) stX9_termsTold 0 [(0, ix_R (some v0)), (1, ix_I v1), (2, ix_I v2)] [] h).trans (eX9_termsTold _ _ v0 v1 v2 h)
def jX9_expression_160 (cal : ix_C) (K : ix_K) (h : ix_H) : ix_O :=
  some (.inl none, h)
theorem jX9_expression_160_eq (cal : ix_C) (K : ix_K) (h : ix_H) : ix_fwd cal K (stX9_expression.drop 160) 0 [] [] h = jX9_expression_160 cal K h := rfl
def jX9_expression_139 (cal : ix_C) (K : ix_K) (v0 : Nat) (v1 : Int32) (v2 : Int32) (s0 : Option Nat) (s1 : Int32) (h : ix_H) : ix_O :=
  (ix_isr h 10 s0).bind fun a17 =>
  (ix_rV (cal 264 [ix_R (some a17), ix_I s1] h)).bind fun r16 =>
  (ix_is r16 10 (some v0)).bind fun a18 =>
  (ix_is r16 10 (some v0)).bind fun a19 =>
  (ix_is r16 10 (some v0)).bind fun a20 =>
  (ix_is r16 10 (some v0)).bind fun a21 =>
  (ix_atr r16 101 (ix_fR r16 a20 5) (ix_fI r16 a21 11)).bind fun a22 =>
  (ix_at r16 101 (ix_fR r16 a18 30) (ix_fI r16 a19 31)).bind fun a23 =>
  ix_bd (ix_waI r16 a23 (ix_fI r16 a19 31).toNatClampNeg (ix_aI r16 a22 (ix_fI r16 a21 11).toNatClampNeg)) fun h24 =>
  (ix_is h24 10 (some v0)).bind fun a25 =>
  (ix_is h24 10 (some v0)).bind fun a26 =>
  ix_bd (ix_wfI h24 a26 31 ((ix_fI h24 a25 31) + (nI 1))) fun h27 =>
  (ix_isr h27 10 (some v0)).bind fun a29 =>
  (ix_rV (cal 252 [ix_R (some a29)] h27)).bind fun r28 =>
  K 8 [(0, ix_R (some v0)), (1, ix_I v1), (2, ix_I v2)] [] r28
theorem jX9_expression_139_eq (cal : ix_C) (K : ix_K) (v0 : Nat) (v1 : Int32) (v2 : Int32) (s0 : Option Nat) (s1 : Int32) (h : ix_H) : ix_fwd cal K (stX9_expression.drop 139) 0 [(0, ix_R (some v0)), (1, ix_I v1), (2, ix_I v2)] [ix_I s1, ix_R s0] h = jX9_expression_139 cal K v0 v1 v2 s0 s1 h := rfl
def jX9_expression_135 (cal : ix_C) (K : ix_K) (v0 : Nat) (v1 : Int32) (v2 : Int32) (s0 : Option Nat) (h : ix_H) : ix_O :=
  jX9_expression_139 cal K v0 v1 v2 s0 (nI 1) h
theorem jX9_expression_135_eq (cal : ix_C) (K : ix_K) (v0 : Nat) (v1 : Int32) (v2 : Int32) (s0 : Option Nat) (h : ix_H) : ix_fwd cal K (stX9_expression.drop 135) 0 [(0, ix_R (some v0)), (1, ix_I v1), (2, ix_I v2)] [ix_R s0] h = jX9_expression_135 cal K v0 v1 v2 s0 h := rfl
def jX9_expression_117 (cal : ix_C) (K : ix_K) (v0 : Nat) (h : ix_H) : ix_O :=
  (ix_isr h 10 (some v0)).bind fun a36 =>
  (ix_rV (cal 264 [ix_R (some a36), ix_I (nI 0)] h)).bind fun r35 =>
  some (.inl none, r35)
theorem jX9_expression_117_eq (cal : ix_C) (K : ix_K) (v0 : Nat) (h : ix_H) : ix_fwd cal K (stX9_expression.drop 117) 0 [(0, ix_R (some v0))] [] h = jX9_expression_117 cal K v0 h := rfl
def jX9_expression_106 (cal : ix_C) (K : ix_K) (v0 : Nat) (v1 : Int32) (s0 : Int32) (h : ix_H) : ix_O :=
  if s0 = nI 0 then
    (ix_is h 10 (some v0)).bind fun a34 =>
    if (ix_fI h a34 12) ≤ v1 then
      jX9_expression_117 cal K v0 h
    else
      (ix_isr h 10 (some v0)).bind fun a38 =>
      (ix_rV (cal 253 [ix_R (some a38), ix_I (nI 1)] h)).bind fun r37 =>
      jX9_expression_117 cal K v0 r37
  else
    (ix_isr h 10 (some v0)).bind fun a15 =>
    (ix_rI (cal 251 [ix_R (some a15), ix_I (nI 10)] h)).bind fun r14 =>
    if r14.1 = nI 0 then
      (ix_isr r14.2 10 (some v0)).bind fun a31 =>
      (ix_rI (cal 251 [ix_R (some a31), ix_I (nI 15)] r14.2)).bind fun r30 =>
      if r30.1 = nI 0 then
        (ix_isr r30.2 10 (some v0)).bind fun a33 =>
        (ix_rI (cal 251 [ix_R (some a33), ix_I (nI 16)] r30.2)).bind fun r32 =>
        if r32.1 = nI 0 then
          jX9_expression_139 cal K v0 v1 s0 (some v0) (nI 0) r32.2
        else
          jX9_expression_135 cal K v0 v1 s0 (some v0) r32.2
      else
        jX9_expression_135 cal K v0 v1 s0 (some v0) r30.2
    else
      jX9_expression_135 cal K v0 v1 s0 (some v0) r14.2
theorem jX9_expression_106_eq (cal : ix_C) (K : ix_K) (v0 : Nat) (v1 : Int32) (s0 : Int32) (h : ix_H) : ix_fwd cal K (stX9_expression.drop 106) 0 [(0, ix_R (some v0)), (1, ix_I v1)] [ix_I s0] h = jX9_expression_106 cal K v0 v1 s0 h := rfl
def jX9_expression_102 (cal : ix_C) (K : ix_K) (v0 : Nat) (v1 : Int32) (h : ix_H) : ix_O :=
  jX9_expression_106 cal K v0 v1 (nI 1) h
theorem jX9_expression_102_eq (cal : ix_C) (K : ix_K) (v0 : Nat) (v1 : Int32) (h : ix_H) : ix_fwd cal K (stX9_expression.drop 102) 0 [(0, ix_R (some v0)), (1, ix_I v1)] [] h = jX9_expression_102 cal K v0 v1 h := rfl
def jX9_expression_81 (cal : ix_C) (K : ix_K) (v0 : Nat) (v1 : Int32) (h : ix_H) : ix_O :=
  (ix_isr h 10 (some v0)).bind fun a13 =>
  (ix_rI (cal 251 [ix_R (some a13), ix_I (nI 8)] h)).bind fun r12 =>
  if r12.1 = nI 0 then
    (ix_isr r12.2 10 (some v0)).bind fun a40 =>
    (ix_rI (cal 251 [ix_R (some a40), ix_I (nI 9)] r12.2)).bind fun r39 =>
    if r39.1 = nI 0 then
      (ix_isr r39.2 10 (some v0)).bind fun a42 =>
      (ix_rI (cal 251 [ix_R (some a42), ix_I (nI 10)] r39.2)).bind fun r41 =>
      if r41.1 = nI 0 then
        (ix_isr r41.2 10 (some v0)).bind fun a44 =>
        (ix_rI (cal 251 [ix_R (some a44), ix_I (nI 15)] r41.2)).bind fun r43 =>
        if r43.1 = nI 0 then
          (ix_isr r43.2 10 (some v0)).bind fun a46 =>
          (ix_rI (cal 251 [ix_R (some a46), ix_I (nI 16)] r43.2)).bind fun r45 =>
          if r45.1 = nI 0 then
            jX9_expression_106 cal K v0 v1 (nI 0) r45.2
          else
            jX9_expression_102 cal K v0 v1 r45.2
        else
          jX9_expression_102 cal K v0 v1 r43.2
      else
        jX9_expression_102 cal K v0 v1 r41.2
    else
      jX9_expression_102 cal K v0 v1 r39.2
  else
    jX9_expression_102 cal K v0 v1 r12.2
theorem jX9_expression_81_eq (cal : ix_C) (K : ix_K) (v0 : Nat) (v1 : Int32) (h : ix_H) : ix_fwd cal K (stX9_expression.drop 81) 0 [(0, ix_R (some v0)), (1, ix_I v1)] [] h = jX9_expression_81 cal K v0 v1 h := rfl
def jX9_expression_54 (cal : ix_C) (K : ix_K) (v0 : Nat) (v1 : Int32) (h : ix_H) : ix_O :=
  (ix_isr h 10 (some v0)).bind fun a11 =>
  (ix_rI (cal 251 [ix_R (some a11), ix_I (nI 7)] h)).bind fun r10 =>
  if r10.1 = nI 0 then
    jX9_expression_81 cal K v0 v1 r10.2
  else
    (ix_is r10.2 10 (some v0)).bind fun a47 =>
    if (ix_fI r10.2 a47 12) ≤ v1 then
      jX9_expression_81 cal K v0 v1 r10.2
    else
      (ix_isr r10.2 10 (some v0)).bind fun a49 =>
      (ix_rV (cal 264 [ix_R (some a49), ix_I (nI 0)] r10.2)).bind fun r48 =>
      (ix_is r48 10 (some v0)).bind fun a50 =>
      (ix_is r48 10 (some v0)).bind fun a51 =>
      ix_bd (ix_wfI r48 a51 31 ((ix_fI r48 a50 31) - (nI 1))) fun h52 =>
      (ix_is h52 10 (some v0)).bind fun a53 =>
      (ix_is h52 10 (some v0)).bind fun a54 =>
      ix_bd (ix_wfI h52 a54 12 ((ix_fI h52 a53 12) - (nI 1))) fun h55 =>
      (ix_isr h55 10 (some v0)).bind fun a57 =>
      (ix_rV (cal 252 [ix_R (some a57)] h55)).bind fun r56 =>
      K 54 [(0, ix_R (some v0)), (1, ix_I v1)] [] r56
theorem jX9_expression_54_eq (cal : ix_C) (K : ix_K) (v0 : Nat) (v1 : Int32) (h : ix_H) : ix_fwd cal K (stX9_expression.drop 54) 0 [(0, ix_R (some v0)), (1, ix_I v1)] [] h = jX9_expression_54 cal K v0 v1 h := rfl
def jX9_expression_26 (cal : ix_C) (K : ix_K) (v0 : Nat) (v1 : Int32) (h : ix_H) : ix_O :=
  (ix_is h 10 (some v0)).bind fun a59 =>
  (ix_is h 10 (some v0)).bind fun a60 =>
  ix_bd (ix_wfI h a60 12 ((ix_fI h a59 12) + (nI 1))) fun h61 =>
  (ix_isr h61 10 (some v0)).bind fun a63 =>
  (ix_rV (cal 252 [ix_R (some a63)] h61)).bind fun r62 =>
  (ix_is r62 10 (some v0)).bind fun a64 =>
  (ix_is r62 10 (some v0)).bind fun a65 =>
  (ix_at r62 101 (ix_fR r62 a64 30) (ix_fI r62 a65 31)).bind fun a66 =>
  ix_bd (ix_waI r62 a66 (ix_fI r62 a65 31).toNatClampNeg (nI 6)) fun h67 =>
  (ix_is h67 10 (some v0)).bind fun a68 =>
  (ix_is h67 10 (some v0)).bind fun a69 =>
  ix_bd (ix_wfI h67 a69 31 ((ix_fI h67 a68 31) + (nI 1))) fun h70 =>
  K 14 [(0, ix_R (some v0)), (1, ix_I v1)] [] h70
theorem jX9_expression_26_eq (cal : ix_C) (K : ix_K) (v0 : Nat) (v1 : Int32) (h : ix_H) : ix_fwd cal K (stX9_expression.drop 26) 0 [(0, ix_R (some v0)), (1, ix_I v1)] [] h = jX9_expression_26 cal K v0 v1 h := rfl
def jX9_expression_14 (cal : ix_C) (K : ix_K) (v0 : Nat) (v1 : Int32) (h : ix_H) : ix_O :=
  (ix_isr h 10 (some v0)).bind fun a6 =>
  (ix_rI (cal 251 [ix_R (some a6), ix_I (nI 6)] h)).bind fun r5 =>
  if r5.1 = nI 0 then
    (ix_isr r5.2 10 (some v0)).bind fun a8 =>
    (ix_rV (cal 262 [ix_R (some a8)] r5.2)).bind fun r7 =>
    (ix_is r7 10 (some v0)).bind fun a9 =>
    if (ix_fI r7 a9 13) ≤ nI 0 then
      jX9_expression_54 cal K v0 v1 r7
    else
      some (.inl none, r7)
  else
    (ix_is r5.2 10 (some v0)).bind fun a58 =>
    if (ix_fI r5.2 a58 12) = (nI 6) then
      (ix_isr r5.2 10 (some v0)).bind fun a72 =>
      (ix_rV (cal 253 [ix_R (some a72), ix_I (nI 2)] r5.2)).bind fun r71 =>
      jX9_expression_26 cal K v0 v1 r71
    else
      jX9_expression_26 cal K v0 v1 r5.2
theorem jX9_expression_14_eq (cal : ix_C) (K : ix_K) (v0 : Nat) (v1 : Int32) (h : ix_H) : ix_fwd cal K (stX9_expression.drop 14) 0 [(0, ix_R (some v0)), (1, ix_I v1)] [] h = jX9_expression_14 cal K v0 v1 h := rfl
def jX9_expression_8 (cal : ix_C) (K : ix_K) (v0 : Nat) (v1 : Int32) (v2 : Int32) (h : ix_H) : ix_O :=
  if v2 = nI 0 then
    jX9_expression_160 cal K h
  else
    (ix_is h 10 (some v0)).bind fun a4 =>
    if (ix_fI h a4 13) = nI 0 then
      jX9_expression_14 cal K v0 v1 h
    else
      jX9_expression_160 cal K h
theorem jX9_expression_8_eq (cal : ix_C) (K : ix_K) (v0 : Nat) (v1 : Int32) (v2 : Int32) (h : ix_H) : ix_fwd cal K (stX9_expression.drop 8) 0 [(0, ix_R (some v0)), (1, ix_I v1), (2, ix_I v2)] [] h = jX9_expression_8 cal K v0 v1 v2 h := rfl
def bX9_expression (cal : ix_C) (K : ix_K) (v0 : Nat) (h : ix_H) : ix_O :=
  (ix_is h 10 (some v0)).bind fun a1 =>
  ix_bd (ix_wfI h a1 31 (nI 0)) fun h2 =>
  (ix_is h2 10 (some v0)).bind fun a3 =>
  jX9_expression_8 cal K v0 (ix_fI h2 a3 12) (nI 1) h2
theorem eX9_expression (cal : ix_C) (K : ix_K) (v0 : Nat) (h : ix_H) : ix_fwd cal K stX9_expression 0 [(0, ix_R (some v0))] [] h = bX9_expression cal K v0 h := rfl
theorem rX9_expression (N d : Nat) (v0 : Nat) (h : ix_H) : ix_run iy_P N (d + 1) 261 [ix_R (some v0)] h = bX9_expression (ix_run iy_P N d) (ix_lp (ix_run iy_P N d) stX9_expression N) v0 h := (rfl : ix_run iy_P N (d + 1) 261 [ix_R (some v0)] h = ix_fwd (ix_run iy_P N d) (ix_lp (ix_run iy_P N d) stX9_expression N) stX9_expression 0 [(0, ix_R (some v0))] [] h).trans (eX9_expression _ _ v0 h)
theorem lX9_expression_8 (cal : ix_C) (n : Nat) (v0 : Nat) (v1 : Int32) (v2 : Int32) (h : ix_H) : ix_lp cal stX9_expression (n + 1) 8 [(0, ix_R (some v0)), (1, ix_I v1), (2, ix_I v2)] [] h = jX9_expression_8 cal (ix_lp cal stX9_expression n) v0 v1 v2 h := jX9_expression_8_eq cal (ix_lp cal stX9_expression n) v0 v1 v2 h
theorem lX9_expression_14 (cal : ix_C) (n : Nat) (v0 : Nat) (v1 : Int32) (h : ix_H) : ix_lp cal stX9_expression (n + 1) 14 [(0, ix_R (some v0)), (1, ix_I v1)] [] h = jX9_expression_14 cal (ix_lp cal stX9_expression n) v0 v1 h := jX9_expression_14_eq cal (ix_lp cal stX9_expression n) v0 v1 h
theorem lX9_expression_54 (cal : ix_C) (n : Nat) (v0 : Nat) (v1 : Int32) (h : ix_H) : ix_lp cal stX9_expression (n + 1) 54 [(0, ix_R (some v0)), (1, ix_I v1)] [] h = jX9_expression_54 cal (ix_lp cal stX9_expression n) v0 v1 h := jX9_expression_54_eq cal (ix_lp cal stX9_expression n) v0 v1 h
def jX9_unit_49 (cal : ix_C) (K : ix_K) (h : ix_H) : ix_O :=
  some (.inl none, h)
theorem jX9_unit_49_eq (cal : ix_C) (K : ix_K) (h : ix_H) : ix_fwd cal K (stX9_unit.drop 49) 0 [] [] h = jX9_unit_49 cal K h := rfl
def jX9_unit_45 (cal : ix_C) (K : ix_K) (v0 : Nat) (h : ix_H) : ix_O :=
  (ix_isr h 10 (some v0)).bind fun a5 =>
  (ix_rV (cal 253 [ix_R (some a5), ix_I (nI 1)] h)).bind fun r4 =>
  jX9_unit_49 cal K r4
theorem jX9_unit_45_eq (cal : ix_C) (K : ix_K) (v0 : Nat) (h : ix_H) : ix_fwd cal K (stX9_unit.drop 45) 0 [(0, ix_R (some v0))] [] h = jX9_unit_45 cal K v0 h := rfl
def bX9_unit (cal : ix_C) (K : ix_K) (v0 : Nat) (h : ix_H) : ix_O :=
  (ix_isr h 10 (some v0)).bind fun a2 =>
  (ix_rI (cal 251 [ix_R (some a2), ix_I (nI 2)] h)).bind fun r1 =>
  if r1.1 = nI 0 then
    (ix_is r1.2 10 (some v0)).bind fun a3 =>
    if (ix_fI r1.2 a3 13) = nI 0 then
      (ix_is r1.2 10 (some v0)).bind fun a6 =>
      (ix_is r1.2 10 (some v0)).bind fun a7 =>
      (ix_atr r1.2 101 (ix_fR r1.2 a6 5) (ix_fI r1.2 a7 11)).bind fun a8 =>
      if (ix_aI r1.2 a8 (ix_fI r1.2 a7 11).toNatClampNeg) < (nI 32) then
        jX9_unit_45 cal K v0 r1.2
      else
        (ix_is r1.2 10 (some v0)).bind fun a9 =>
        (ix_is r1.2 10 (some v0)).bind fun a10 =>
        (ix_atr r1.2 101 (ix_fR r1.2 a9 5) (ix_fI r1.2 a10 11)).bind fun a11 =>
        if (nI 37) < (ix_aI r1.2 a11 (ix_fI r1.2 a10 11).toNatClampNeg) then
          jX9_unit_45 cal K v0 r1.2
        else
          (ix_is r1.2 10 (some v0)).bind fun a12 =>
          (ix_is r1.2 10 (some v0)).bind fun a13 =>
          (ix_atr r1.2 101 (ix_fR r1.2 a12 5) (ix_fI r1.2 a13 11)).bind fun a14 =>
          (ix_isr r1.2 10 (some v0)).bind fun a16 =>
          (ix_rV (cal 263 [ix_R (some a16), ix_I (nI 1), ix_I ((ix_aI r1.2 a14 (ix_fI r1.2 a13 11).toNatClampNeg) - (nI 32))] r1.2)).bind fun r15 =>
          (ix_isr r15 10 (some v0)).bind fun a18 =>
          (ix_rV (cal 252 [ix_R (some a18)] r15)).bind fun r17 =>
          jX9_unit_49 cal K r17
    else
      jX9_unit_45 cal K v0 r1.2
  else
    (ix_is r1.2 10 (some v0)).bind fun a19 =>
    (ix_is r1.2 10 (some v0)).bind fun a20 =>
    (ix_atr r1.2 101 (ix_fR r1.2 a19 7) (ix_fI r1.2 a20 11)).bind fun a21 =>
    (ix_isr r1.2 10 (some v0)).bind fun a23 =>
    (ix_rV (cal 263 [ix_R (some a23), ix_I (nI 0), ix_I (ix_aI r1.2 a21 (ix_fI r1.2 a20 11).toNatClampNeg)] r1.2)).bind fun r22 =>
    (ix_isr r22 10 (some v0)).bind fun a25 =>
    (ix_rV (cal 252 [ix_R (some a25)] r22)).bind fun r24 =>
    jX9_unit_49 cal K r24
theorem eX9_unit (cal : ix_C) (K : ix_K) (v0 : Nat) (h : ix_H) : ix_fwd cal K stX9_unit 0 [(0, ix_R (some v0))] [] h = bX9_unit cal K v0 h := rfl
theorem rX9_unit (N d : Nat) (v0 : Nat) (h : ix_H) : ix_run iy_P N (d + 1) 262 [ix_R (some v0)] h = bX9_unit (ix_run iy_P N d) (ix_lp (ix_run iy_P N d) stX9_unit N) v0 h := (rfl : ix_run iy_P N (d + 1) 262 [ix_R (some v0)] h = ix_fwd (ix_run iy_P N d) (ix_lp (ix_run iy_P N d) stX9_unit N) stX9_unit 0 [(0, ix_R (some v0))] [] h).trans (eX9_unit _ _ v0 h)
def bX9_emit (cal : ix_C) (K : ix_K) (v0 : Nat) (v1 : Int32) (v2 : Int32) (h : ix_H) : ix_O :=
  (ix_is h 10 (some v0)).bind fun a1 =>
  (ix_is h 10 (some v0)).bind fun a2 =>
  (ix_at h 101 (ix_fR h a1 28) (ix_fI h a2 27)).bind fun a3 =>
  ix_bd (ix_waI h a3 (ix_fI h a2 27).toNatClampNeg v1) fun h4 =>
  (ix_is h4 10 (some v0)).bind fun a5 =>
  (ix_is h4 10 (some v0)).bind fun a6 =>
  (ix_at h4 101 (ix_fR h4 a5 29) (ix_fI h4 a6 27)).bind fun a7 =>
  ix_bd (ix_waI h4 a7 (ix_fI h4 a6 27).toNatClampNeg v2) fun h8 =>
  (ix_is h8 10 (some v0)).bind fun a9 =>
  (ix_is h8 10 (some v0)).bind fun a10 =>
  ix_bd (ix_wfI h8 a10 27 ((ix_fI h8 a9 27) + (nI 1))) fun h11 =>
  some (.inl none, h11)
theorem eX9_emit (cal : ix_C) (K : ix_K) (v0 : Nat) (v1 : Int32) (v2 : Int32) (h : ix_H) : ix_fwd cal K stX9_emit 0 [(0, ix_R (some v0)), (1, ix_I v1), (2, ix_I v2)] [] h = bX9_emit cal K v0 v1 v2 h := rfl
theorem rX9_emit (N d : Nat) (v0 : Nat) (v1 : Int32) (v2 : Int32) (h : ix_H) : ix_run iy_P N (d + 1) 263 [ix_R (some v0), ix_I v1, ix_I v2] h = bX9_emit (ix_run iy_P N d) (ix_lp (ix_run iy_P N d) stX9_emit N) v0 v1 v2 h := (rfl : ix_run iy_P N (d + 1) 263 [ix_R (some v0), ix_I v1, ix_I v2] h = ix_fwd (ix_run iy_P N d) (ix_lp (ix_run iy_P N d) stX9_emit N) stX9_emit 0 [(0, ix_R (some v0)), (1, ix_I v1), (2, ix_I v2)] [] h).trans (eX9_emit _ _ v0 v1 v2 h)
def jX9_comesOut_23 (cal : ix_C) (K : ix_K) (h : ix_H) : ix_O :=
  some (.inl none, h)
theorem jX9_comesOut_23_eq (cal : ix_C) (K : ix_K) (h : ix_H) : ix_fwd cal K (stX9_comesOut.drop 23) 0 [] [] h = jX9_comesOut_23 cal K h := rfl
def jX9_comesOut_54 (cal : ix_C) (K : ix_K) (v0 : Nat) (v1 : Int32) (s0 : Option Nat) (s1 : Int32) (h : ix_H) : ix_O :=
  (ix_isr h 10 s0).bind fun a9 =>
  (ix_rV (cal 263 [ix_R (some a9), ix_I s1, ix_I (nI 0)] h)).bind fun r8 =>
  K 0 [(0, ix_R (some v0)), (1, ix_I v1)] [] r8
theorem jX9_comesOut_54_eq (cal : ix_C) (K : ix_K) (v0 : Nat) (v1 : Int32) (s0 : Option Nat) (s1 : Int32) (h : ix_H) : ix_fwd cal K (stX9_comesOut.drop 54) 0 [(0, ix_R (some v0)), (1, ix_I v1)] [ix_I s1, ix_R s0] h = jX9_comesOut_54 cal K v0 v1 s0 s1 h := rfl
def jX9_comesOut_25 (cal : ix_C) (K : ix_K) (v0 : Nat) (v1 : Int32) (v2 : Int32) (h : ix_H) : ix_O :=
  (ix_is h 10 (some v0)).bind fun a5 =>
  (ix_is h 10 (some v0)).bind fun a6 =>
  ix_bd (ix_wfI h a6 31 ((ix_fI h a5 31) - (nI 1))) fun h7 =>
  if v2 = (nI 8) then
    jX9_comesOut_54 cal K v0 v1 (some v0) (nI 2) h7
  else
    if v2 = (nI 9) then
      jX9_comesOut_54 cal K v0 v1 (some v0) (nI 3) h7
    else
      if v2 = (nI 10) then
        jX9_comesOut_54 cal K v0 v1 (some v0) (nI 4) h7
      else
        if v2 = (nI 15) then
          jX9_comesOut_54 cal K v0 v1 (some v0) (nI 5) h7
        else
          jX9_comesOut_54 cal K v0 v1 (some v0) (nI 6) h7
theorem jX9_comesOut_25_eq (cal : ix_C) (K : ix_K) (v0 : Nat) (v1 : Int32) (v2 : Int32) (h : ix_H) : ix_fwd cal K (stX9_comesOut.drop 25) 0 [(0, ix_R (some v0)), (1, ix_I v1), (2, ix_I v2)] [] h = jX9_comesOut_25 cal K v0 v1 v2 h := rfl
def jX9_comesOut_0 (cal : ix_C) (K : ix_K) (v0 : Nat) (v1 : Int32) (h : ix_H) : ix_O :=
  (ix_is h 10 (some v0)).bind fun a1 =>
  if (ix_fI h a1 31) ≤ nI 0 then
    some (.inl none, h)
  else
    (ix_is h 10 (some v0)).bind fun a2 =>
    (ix_is h 10 (some v0)).bind fun a3 =>
    (ix_atr h 101 (ix_fR h a2 30) ((ix_fI h a3 31) - (nI 1))).bind fun a4 =>
    if (ix_aI h a4 ((ix_fI h a3 31) - (nI 1)).toNatClampNeg) = (nI 6) then
      jX9_comesOut_23 cal K h
    else
      if v1 = nI 0 then
        jX9_comesOut_25 cal K v0 v1 (ix_aI h a4 ((ix_fI h a3 31) - (nI 1)).toNatClampNeg) h
      else
        if (ix_aI h a4 ((ix_fI h a3 31) - (nI 1)).toNatClampNeg) = (nI 8) then
          jX9_comesOut_23 cal K h
        else
          if (ix_aI h a4 ((ix_fI h a3 31) - (nI 1)).toNatClampNeg) = (nI 9) then
            jX9_comesOut_23 cal K h
          else
            jX9_comesOut_25 cal K v0 v1 (ix_aI h a4 ((ix_fI h a3 31) - (nI 1)).toNatClampNeg) h
theorem jX9_comesOut_0_eq (cal : ix_C) (K : ix_K) (v0 : Nat) (v1 : Int32) (h : ix_H) : ix_fwd cal K (stX9_comesOut.drop 0) 0 [(0, ix_R (some v0)), (1, ix_I v1)] [] h = jX9_comesOut_0 cal K v0 v1 h := rfl
def bX9_comesOut (cal : ix_C) (K : ix_K) (v0 : Nat) (v1 : Int32) (h : ix_H) : ix_O :=
  jX9_comesOut_0 cal K v0 v1 h
theorem eX9_comesOut (cal : ix_C) (K : ix_K) (v0 : Nat) (v1 : Int32) (h : ix_H) : ix_fwd cal K stX9_comesOut 0 [(0, ix_R (some v0)), (1, ix_I v1)] [] h = bX9_comesOut cal K v0 v1 h := rfl
theorem rX9_comesOut (N d : Nat) (v0 : Nat) (v1 : Int32) (h : ix_H) : ix_run iy_P N (d + 1) 264 [ix_R (some v0), ix_I v1] h = bX9_comesOut (ix_run iy_P N d) (ix_lp (ix_run iy_P N d) stX9_comesOut N) v0 v1 h := (rfl : ix_run iy_P N (d + 1) 264 [ix_R (some v0), ix_I v1] h = ix_fwd (ix_run iy_P N d) (ix_lp (ix_run iy_P N d) stX9_comesOut N) stX9_comesOut 0 [(0, ix_R (some v0)), (1, ix_I v1)] [] h).trans (eX9_comesOut _ _ v0 v1 h)
theorem lX9_comesOut_0 (cal : ix_C) (n : Nat) (v0 : Nat) (v1 : Int32) (h : ix_H) : ix_lp cal stX9_comesOut (n + 1) 0 [(0, ix_R (some v0)), (1, ix_I v1)] [] h = jX9_comesOut_0 cal (ix_lp cal stX9_comesOut n) v0 v1 h := jX9_comesOut_0_eq cal (ix_lp cal stX9_comesOut n) v0 v1 h
def jX9_runs_156 (cal : ix_C) (K : ix_K) (h : ix_H) : ix_O :=
  some (.inl none, h)
theorem jX9_runs_156_eq (cal : ix_C) (K : ix_K) (h : ix_H) : ix_fwd cal K (stX9_runs.drop 156) 0 [] [] h = jX9_runs_156 cal K h := rfl
def jX9_runs_153 (cal : ix_C) (K : ix_K) (v0 : Nat) (v1 : Int32) (v2 : Int32) (v3 : Int32) (h : ix_H) : ix_O :=
  K 6 [(0, ix_R (some v0)), (1, ix_I (v1 + (nI 1))), (2, ix_I v2), (3, ix_I v3)] [] h
theorem jX9_runs_153_eq (cal : ix_C) (K : ix_K) (v0 : Nat) (v1 : Int32) (v2 : Int32) (v3 : Int32) (h : ix_H) : ix_fwd cal K (stX9_runs.drop 153) 0 [(0, ix_R (some v0)), (1, ix_I v1), (2, ix_I v2), (3, ix_I v3)] [] h = jX9_runs_153 cal K v0 v1 v2 v3 h := rfl
def jX9_runs_146 (cal : ix_C) (K : ix_K) (v0 : Nat) (v1 : Int32) (v2 : Int32) (v3 : Int32) (v4 : Int32) (h : ix_H) : ix_O :=
  if v4 = (nI 5) then
    (ix_isr h 10 (some v0)).bind fun a17 =>
    (ix_rI (cal 314 [ix_R (some a17)] h)).bind fun r16 =>
    jX9_runs_153 cal K v0 v1 v2 v3 r16.2
  else
    jX9_runs_153 cal K v0 v1 v2 v3 h
theorem jX9_runs_146_eq (cal : ix_C) (K : ix_K) (v0 : Nat) (v1 : Int32) (v2 : Int32) (v3 : Int32) (v4 : Int32) (h : ix_H) : ix_fwd cal K (stX9_runs.drop 146) 0 [(0, ix_R (some v0)), (1, ix_I v1), (2, ix_I v2), (3, ix_I v3), (4, ix_I v4)] [] h = jX9_runs_146 cal K v0 v1 v2 v3 v4 h := rfl
def jX9_runs_135 (cal : ix_C) (K : ix_K) (v0 : Nat) (v1 : Int32) (v2 : Int32) (v3 : Int32) (v4 : Int32) (h : ix_H) : ix_O :=
  if v4 = (nI 4) then
    (ix_is h 10 (some v0)).bind fun a18 =>
    (ix_atr h 101 (ix_fR h a18 20) v1).bind fun a19 =>
    (ix_isr h 10 (some v0)).bind fun a21 =>
    (ix_rI (cal 281 [ix_R (some a21), ix_I (ix_aI h a19 v1.toNatClampNeg)] h)).bind fun r20 =>
    jX9_runs_146 cal K v0 v1 v2 v3 v4 r20.2
  else
    jX9_runs_146 cal K v0 v1 v2 v3 v4 h
theorem jX9_runs_135_eq (cal : ix_C) (K : ix_K) (v0 : Nat) (v1 : Int32) (v2 : Int32) (v3 : Int32) (v4 : Int32) (h : ix_H) : ix_fwd cal K (stX9_runs.drop 135) 0 [(0, ix_R (some v0)), (1, ix_I v1), (2, ix_I v2), (3, ix_I v3), (4, ix_I v4)] [] h = jX9_runs_135 cal K v0 v1 v2 v3 v4 h := rfl
def jX9_runs_125 (cal : ix_C) (K : ix_K) (v0 : Nat) (v1 : Int32) (v2 : Int32) (v3 : Int32) (v4 : Int32) (h : ix_H) : ix_O :=
  if v4 = (nI 3) then
    (ix_is h 10 (some v0)).bind fun a22 =>
    (ix_atr h 101 (ix_fR h a22 20) v1).bind fun a23 =>
    (ix_isr h 10 (some v0)).bind fun a25 =>
    (ix_rV (cal 282 [ix_R (some a25), ix_I (ix_aI h a23 v1.toNatClampNeg)] h)).bind fun r24 =>
    jX9_runs_135 cal K v0 v1 v2 v3 v4 r24
  else
    jX9_runs_135 cal K v0 v1 v2 v3 v4 h
theorem jX9_runs_125_eq (cal : ix_C) (K : ix_K) (v0 : Nat) (v1 : Int32) (v2 : Int32) (v3 : Int32) (v4 : Int32) (h : ix_H) : ix_fwd cal K (stX9_runs.drop 125) 0 [(0, ix_R (some v0)), (1, ix_I v1), (2, ix_I v2), (3, ix_I v3), (4, ix_I v4)] [] h = jX9_runs_125 cal K v0 v1 v2 v3 v4 h := rfl
def jX9_runs_115 (cal : ix_C) (K : ix_K) (v0 : Nat) (v1 : Int32) (v2 : Int32) (v3 : Int32) (v4 : Int32) (s0 : Option Nat) (s1 : Int32) (s2 : Int32) (h : ix_H) : ix_O :=
  (ix_at h 101 s0 s1).bind fun a14 =>
  ix_bd (ix_waI h a14 s1.toNatClampNeg s2) fun h15 =>
  if (nI 3) ≤ v4 then
    jX9_runs_125 cal K v0 v1 v2 v3 v4 h15
  else
    (ix_isr h15 10 (some v0)).bind fun a27 =>
    (ix_rI (cal 266 [ix_R (some a27), ix_I v1, ix_I v3] h15)).bind fun r26 =>
    jX9_runs_125 cal K v0 v1 v2 r26.1 v4 r26.2
theorem jX9_runs_115_eq (cal : ix_C) (K : ix_K) (v0 : Nat) (v1 : Int32) (v2 : Int32) (v3 : Int32) (v4 : Int32) (s0 : Option Nat) (s1 : Int32) (s2 : Int32) (h : ix_H) : ix_fwd cal K (stX9_runs.drop 115) 0 [(0, ix_R (some v0)), (1, ix_I v1), (2, ix_I v2), (3, ix_I v3), (4, ix_I v4)] [ix_I s2, ix_I s1, ix_R s0] h = jX9_runs_115 cal K v0 v1 v2 v3 v4 s0 s1 s2 h := rfl
def jX9_runs_99 (cal : ix_C) (K : ix_K) (v0 : Nat) (v1 : Int32) (v2 : Int32) (v3 : Int32) (v4 : Int32) (s0 : Option Nat) (s1 : Int32) (s2 : Int32) (h : ix_H) : ix_O :=
  (ix_at h 101 s0 s1).bind fun a11 =>
  ix_bd (ix_waI h a11 s1.toNatClampNeg s2) fun h12 =>
  (ix_is h12 10 (some v0)).bind fun a13 =>
  if v2 ≤ (nI 1) then
    jX9_runs_115 cal K v0 v1 v2 v3 v4 (ix_fR h12 a13 32) (nI 1) (nI 0) h12
  else
    (ix_is h12 10 (some v0)).bind fun a28 =>
    (ix_atr h12 101 (ix_fR h12 a28 34) (v2 - (nI 2))).bind fun a29 =>
    jX9_runs_115 cal K v0 v1 v2 v3 v4 (ix_fR h12 a13 32) (nI 1) (ix_aI h12 a29 (v2 - (nI 2)).toNatClampNeg) h12
theorem jX9_runs_99_eq (cal : ix_C) (K : ix_K) (v0 : Nat) (v1 : Int32) (v2 : Int32) (v3 : Int32) (v4 : Int32) (s0 : Option Nat) (s1 : Int32) (s2 : Int32) (h : ix_H) : ix_fwd cal K (stX9_runs.drop 99) 0 [(0, ix_R (some v0)), (1, ix_I v1), (2, ix_I v2), (3, ix_I v3), (4, ix_I v4)] [ix_I s2, ix_I s1, ix_R s0] h = jX9_runs_99 cal K v0 v1 v2 v3 v4 s0 s1 s2 h := rfl
def jX9_runs_6 (cal : ix_C) (K : ix_K) (v0 : Nat) (v1 : Int32) (v2 : Int32) (v3 : Int32) (h : ix_H) : ix_O :=
  (ix_is h 10 (some v0)).bind fun a1 =>
  if (ix_fI h a1 18) ≤ v1 then
    jX9_runs_156 cal K h
  else
    (ix_is h 10 (some v0)).bind fun a2 =>
    (ix_atr h 101 (ix_fR h a2 35) (nI 4)).bind fun a3 =>
    if (nI 400) ≤ (ix_aI h a3 (nI 4).toNatClampNeg) then
      jX9_runs_156 cal K h
    else
      (ix_is h 10 (some v0)).bind fun a4 =>
      (ix_atr h 101 (ix_fR h a4 19) v1).bind fun a5 =>
      if (ix_aI h a5 v1.toNatClampNeg) = (nI 6) then
        (ix_is h 10 (some v0)).bind fun a44 =>
        (ix_atr h 101 (ix_fR h a44 21) v1).bind fun a45 =>
        if (ix_aI h a45 v1.toNatClampNeg) = nI 0 then
          (ix_is h 10 (some v0)).bind fun a49 =>
          (ix_atr h 101 (ix_fR h a49 24) v1).bind fun a50 =>
          jX9_runs_153 cal K v0 (ix_aI h a50 v1.toNatClampNeg) v2 v3 h
        else
          (ix_is h 10 (some v0)).bind fun a46 =>
          (ix_at h 101 (ix_fR h a46 34) v2).bind fun a47 =>
          ix_bd (ix_waI h a47 v2.toNatClampNeg (nI 0)) fun h48 =>
          jX9_runs_153 cal K v0 v1 (v2 + (nI 1)) v3 h48
      else
        if (ix_aI h a5 v1.toNatClampNeg) = (nI 7) then
          (ix_is h 10 (some v0)).bind fun a32 =>
          (ix_atr h 101 (ix_fR h a32 34) (v2 - (nI 1))).bind fun a33 =>
          (ix_at h 101 (ix_fR h a32 34) (v2 - (nI 1))).bind fun a34 =>
          ix_bd (ix_waI h a34 (v2 - (nI 1)).toNatClampNeg ((ix_aI h a33 (v2 - (nI 1)).toNatClampNeg) + (nI 1))) fun h35 =>
          (ix_is h35 10 (some v0)).bind fun a36 =>
          (ix_atr h35 101 (ix_fR h35 a36 34) (v2 - (nI 1))).bind fun a37 =>
          (ix_is h35 10 (some v0)).bind fun a38 =>
          (ix_is h35 10 (some v0)).bind fun a39 =>
          (ix_atr h35 101 (ix_fR h35 a39 24) v1).bind fun a40 =>
          (ix_atr h35 101 (ix_fR h35 a38 21) (ix_aI h35 a40 v1.toNatClampNeg)).bind fun a41 =>
          if (ix_aI h35 a41 (ix_aI h35 a40 v1.toNatClampNeg).toNatClampNeg) ≤ (ix_aI h35 a37 (v2 - (nI 1)).toNatClampNeg) then
            jX9_runs_153 cal K v0 v1 (v2 + (-1)) v3 h35
          else
            (ix_is h35 10 (some v0)).bind fun a42 =>
            (ix_atr h35 101 (ix_fR h35 a42 24) v1).bind fun a43 =>
            jX9_runs_153 cal K v0 (ix_aI h35 a43 v1.toNatClampNeg) v2 v3 h35
        else
          (ix_is h 10 (some v0)).bind fun a6 =>
          (ix_atr h 101 (ix_fR h a6 35) (nI 4)).bind fun a7 =>
          (ix_at h 101 (ix_fR h a6 35) (nI 4)).bind fun a8 =>
          ix_bd (ix_waI h a8 (nI 4).toNatClampNeg ((ix_aI h a7 (nI 4).toNatClampNeg) + (nI 1))) fun h9 =>
          (ix_is h9 10 (some v0)).bind fun a10 =>
          if v2 ≤ nI 0 then
            jX9_runs_99 cal K v0 v1 v2 v3 (ix_aI h a5 v1.toNatClampNeg) (ix_fR h9 a10 32) (nI 0) (nI 0) h9
          else
            (ix_is h9 10 (some v0)).bind fun a30 =>
            (ix_atr h9 101 (ix_fR h9 a30 34) (v2 - (nI 1))).bind fun a31 =>
            jX9_runs_99 cal K v0 v1 v2 v3 (ix_aI h a5 v1.toNatClampNeg) (ix_fR h9 a10 32) (nI 0) (ix_aI h9 a31 (v2 - (nI 1)).toNatClampNeg) h9
theorem jX9_runs_6_eq (cal : ix_C) (K : ix_K) (v0 : Nat) (v1 : Int32) (v2 : Int32) (v3 : Int32) (h : ix_H) : ix_fwd cal K (stX9_runs.drop 6) 0 [(0, ix_R (some v0)), (1, ix_I v1), (2, ix_I v2), (3, ix_I v3)] [] h = jX9_runs_6 cal K v0 v1 v2 v3 h := rfl
def bX9_runs (cal : ix_C) (K : ix_K) (v0 : Nat) (h : ix_H) : ix_O :=
  jX9_runs_6 cal K v0 (nI 0) (nI 0) (nI 0) h
theorem eX9_runs (cal : ix_C) (K : ix_K) (v0 : Nat) (h : ix_H) : ix_fwd cal K stX9_runs 0 [(0, ix_R (some v0))] [] h = bX9_runs cal K v0 h := rfl
theorem rX9_runs (N d : Nat) (v0 : Nat) (h : ix_H) : ix_run iy_P N (d + 1) 265 [ix_R (some v0)] h = bX9_runs (ix_run iy_P N d) (ix_lp (ix_run iy_P N d) stX9_runs N) v0 h := (rfl : ix_run iy_P N (d + 1) 265 [ix_R (some v0)] h = ix_fwd (ix_run iy_P N d) (ix_lp (ix_run iy_P N d) stX9_runs N) stX9_runs 0 [(0, ix_R (some v0))] [] h).trans (eX9_runs _ _ v0 h)
theorem lX9_runs_6 (cal : ix_C) (n : Nat) (v0 : Nat) (v1 : Int32) (v2 : Int32) (v3 : Int32) (h : ix_H) : ix_lp cal stX9_runs (n + 1) 6 [(0, ix_R (some v0)), (1, ix_I v1), (2, ix_I v2), (3, ix_I v3)] [] h = jX9_runs_6 cal (ix_lp cal stX9_runs n) v0 v1 v2 v3 h := jX9_runs_6_eq cal (ix_lp cal stX9_runs n) v0 v1 v2 v3 h
def jX9_actDone_104 (cal : ix_C) (K : ix_K) (s0 : Int32) (h : ix_H) : ix_O :=
  some (.inl (some (ix_I s0)), h)
theorem jX9_actDone_104_eq (cal : ix_C) (K : ix_K) (s0 : Int32) (h : ix_H) : ix_fwd cal K (stX9_actDone.drop 104) 0 [] [ix_I s0] h = jX9_actDone_104 cal K s0 h := rfl
def jX9_actDone_102 (cal : ix_C) (K : ix_K) (v2 : Int32) (h : ix_H) : ix_O :=
  jX9_actDone_104 cal K v2 h
theorem jX9_actDone_102_eq (cal : ix_C) (K : ix_K) (v2 : Int32) (h : ix_H) : ix_fwd cal K (stX9_actDone.drop 102) 0 [(2, ix_I v2)] [] h = jX9_actDone_102 cal K v2 h := rfl
def jX9_actDone_95 (cal : ix_C) (K : ix_K) (v2 : Int32) (v3 : Int32) (v4 : Int32) (v7 : Int32) (h : ix_H) : ix_O :=
  if v7 = nI 0 then
    jX9_actDone_102 cal K v2 h
  else
    if v4 = nI 0 then
      jX9_actDone_104 cal K v3 h
    else
      jX9_actDone_102 cal K v2 h
theorem jX9_actDone_95_eq (cal : ix_C) (K : ix_K) (v2 : Int32) (v3 : Int32) (v4 : Int32) (v7 : Int32) (h : ix_H) : ix_fwd cal K (stX9_actDone.drop 95) 0 [(2, ix_I v2), (3, ix_I v3), (4, ix_I v4), (7, ix_I v7)] [] h = jX9_actDone_95 cal K v2 v3 v4 v7 h := rfl
def jX9_actDone_73 (cal : ix_C) (K : ix_K) (v0 : Nat) (v1 : Int32) (v2 : Int32) (v3 : Int32) (v4 : Int32) (v5 : Int32) (s0 : Int32) (h : ix_H) : ix_O :=
  (ix_isr h 10 (some v0)).bind fun a34 =>
  (ix_rI (cal 280 [ix_R (some a34), ix_I s0, ix_I (v4 + (nI 1)), ix_I v3, ix_I v5] h)).bind fun r33 =>
  if r33.1 = nI 0 then
    jX9_actDone_95 cal K v2 v3 v4 r33.1 r33.2
  else
    (ix_is r33.2 10 (some v0)).bind fun a35 =>
    (ix_atr r33.2 101 (ix_fR r33.2 a35 20) v1).bind fun a36 =>
    if nI 0 ≤ (ix_aI r33.2 a36 v1.toNatClampNeg) then
      jX9_actDone_95 cal K v2 v3 v4 r33.1 r33.2
    else
      (ix_isr r33.2 10 (some v0)).bind fun a38 =>
      (ix_rI (cal 281 [ix_R (some a38), ix_I (nI 0)] r33.2)).bind fun r37 =>
      jX9_actDone_95 cal K v2 v3 v4 r33.1 r37.2
theorem jX9_actDone_73_eq (cal : ix_C) (K : ix_K) (v0 : Nat) (v1 : Int32) (v2 : Int32) (v3 : Int32) (v4 : Int32) (v5 : Int32) (s0 : Int32) (h : ix_H) : ix_fwd cal K (stX9_actDone.drop 73) 0 [(0, ix_R (some v0)), (1, ix_I v1), (2, ix_I v2), (3, ix_I v3), (4, ix_I v4), (5, ix_I v5)] [ix_I s0] h = jX9_actDone_73 cal K v0 v1 v2 v3 v4 v5 s0 h := rfl
def jX9_actDone_60 (cal : ix_C) (K : ix_K) (v0 : Nat) (v1 : Int32) (v2 : Int32) (v3 : Int32) (v4 : Int32) (s0 : Int32) (h : ix_H) : ix_O :=
  (ix_is h 10 (some v0)).bind fun a29 =>
  (ix_atr h 101 (ix_fR h a29 20) v1).bind fun a30 =>
  if nI 0 ≤ (ix_aI h a30 v1.toNatClampNeg) then
    (ix_is h 10 (some v0)).bind fun a31 =>
    (ix_atr h 101 (ix_fR h a31 20) v1).bind fun a32 =>
    jX9_actDone_73 cal K v0 v1 v2 v3 v4 s0 (ix_aI h a32 v1.toNatClampNeg) h
  else
    jX9_actDone_73 cal K v0 v1 v2 v3 v4 s0 (nI 0) h
theorem jX9_actDone_60_eq (cal : ix_C) (K : ix_K) (v0 : Nat) (v1 : Int32) (v2 : Int32) (v3 : Int32) (v4 : Int32) (s0 : Int32) (h : ix_H) : ix_fwd cal K (stX9_actDone.drop 60) 0 [(0, ix_R (some v0)), (1, ix_I v1), (2, ix_I v2), (3, ix_I v3), (4, ix_I v4)] [ix_I s0] h = jX9_actDone_60 cal K v0 v1 v2 v3 v4 s0 h := rfl
def bX9_actDone (cal : ix_C) (K : ix_K) (v0 : Nat) (v1 : Int32) (v2 : Int32) (h : ix_H) : ix_O :=
  (ix_isr h 10 (some v0)).bind fun a2 =>
  (ix_rV (cal 267 [ix_R (some a2)] h)).bind fun r1 =>
  (ix_is r1 10 (some v0)).bind fun a3 =>
  (ix_is r1 10 (some v0)).bind fun a4 =>
  (ix_at r1 101 (ix_fR r1 a3 32) (nI 2)).bind fun a5 =>
  ix_bd (ix_waI r1 a5 (nI 2).toNatClampNeg (ix_fI r1 a4 48)) fun h6 =>
  (ix_is h6 10 (some v0)).bind fun a7 =>
  (ix_at h6 101 (ix_fR h6 a7 32) (nI 3)).bind fun a8 =>
  ix_bd (ix_waI h6 a8 (nI 3).toNatClampNeg v2) fun h9 =>
  (ix_is h9 10 (some v0)).bind fun a10 =>
  (ix_is h9 10 (some v0)).bind fun a11 =>
  (ix_atr h9 101 (ix_fR h9 a11 35) (nI 0)).bind fun a12 =>
  (ix_at h9 101 (ix_fR h9 a10 32) (nI 4)).bind fun a13 =>
  ix_bd (ix_waI h9 a13 (nI 4).toNatClampNeg (ix_aI h9 a12 (nI 0).toNatClampNeg)) fun h14 =>
  (ix_is h14 10 (some v0)).bind fun a15 =>
  (ix_is h14 10 (some v0)).bind fun a16 =>
  (ix_atr h14 101 (ix_fR h14 a16 35) (nI 3)).bind fun a17 =>
  (ix_at h14 101 (ix_fR h14 a15 32) (nI 5)).bind fun a18 =>
  ix_bd (ix_waI h14 a18 (nI 5).toNatClampNeg (ix_aI h14 a17 (nI 3).toNatClampNeg)) fun h19 =>
  (ix_is h19 10 (some v0)).bind fun a20 =>
  (ix_atr h19 101 (ix_fR h19 a20 21) v1).bind fun a21 =>
  (ix_is h19 10 (some v0)).bind fun a22 =>
  (ix_atr h19 101 (ix_fR h19 a22 22) v1).bind fun a23 =>
  (ix_isr h19 10 (some v0)).bind fun a25 =>
  (ix_rI (cal 278 [ix_R (some a25), ix_I (ix_aI h19 a21 v1.toNatClampNeg), ix_I (ix_aI h19 a23 v1.toNatClampNeg)] h19)).bind fun r24 =>
  (ix_rI (cal 279 [ix_I r24.1] r24.2)).bind fun r26 =>
  (ix_is r26.2 10 (some v0)).bind fun a27 =>
  (ix_atr r26.2 101 (ix_fR r26.2 a27 19) v1).bind fun a28 =>
  if (ix_aI r26.2 a28 v1.toNatClampNeg) = nI 0 then
    (ix_is r26.2 10 (some v0)).bind fun a39 =>
    (ix_atr r26.2 101 (ix_fR r26.2 a39 22) v1).bind fun a40 =>
    (ix_is r26.2 10 (some v0)).bind fun a41 =>
    (ix_atr r26.2 101 (ix_fR r26.2 a41 23) v1).bind fun a42 =>
    (ix_isr r26.2 10 (some v0)).bind fun a44 =>
    (ix_rI (cal 278 [ix_R (some a44), ix_I (ix_aI r26.2 a40 v1.toNatClampNeg), ix_I (ix_aI r26.2 a42 v1.toNatClampNeg)] r26.2)).bind fun r43 =>
    jX9_actDone_60 cal K v0 v1 v2 r26.1 (ix_aI r26.2 a28 v1.toNatClampNeg) r43.1 r43.2
  else
    jX9_actDone_60 cal K v0 v1 v2 r26.1 (ix_aI r26.2 a28 v1.toNatClampNeg) (nI 0) r26.2
theorem eX9_actDone (cal : ix_C) (K : ix_K) (v0 : Nat) (v1 : Int32) (v2 : Int32) (h : ix_H) : ix_fwd cal K stX9_actDone 0 [(0, ix_R (some v0)), (1, ix_I v1), (2, ix_I v2)] [] h = bX9_actDone cal K v0 v1 v2 h := rfl
theorem rX9_actDone (N d : Nat) (v0 : Nat) (v1 : Int32) (v2 : Int32) (h : ix_H) : ix_run iy_P N (d + 1) 266 [ix_R (some v0), ix_I v1, ix_I v2] h = bX9_actDone (ix_run iy_P N d) (ix_lp (ix_run iy_P N d) stX9_actDone N) v0 v1 v2 h := (rfl : ix_run iy_P N (d + 1) 266 [ix_R (some v0), ix_I v1, ix_I v2] h = ix_fwd (ix_run iy_P N d) (ix_lp (ix_run iy_P N d) stX9_actDone N) stX9_actDone 0 [(0, ix_R (some v0)), (1, ix_I v1), (2, ix_I v2)] [] h).trans (eX9_actDone _ _ v0 v1 v2 h)
def jX9_fillsAll_13 (cal : ix_C) (K : ix_K) (v0 : Nat) (v2 : Int32) (h : ix_H) : ix_O :=
  (ix_is h 10 (some v0)).bind fun a5 =>
  if (ix_fI h a5 40) ≤ v2 then
    (ix_is h 10 (some v0)).bind fun a6 =>
    K 5 [(0, ix_R (some v0)), (1, ix_I (ix_fI h a6 42))] [] h
  else
    (ix_is h 10 (some v0)).bind fun a7 =>
    (ix_is h 10 (some v0)).bind fun a8 =>
    (ix_is h 10 (some v0)).bind fun a9 =>
    (ix_atr h 101 (ix_fR h a9 38) v2).bind fun a10 =>
    (ix_at h 101 (ix_fR h a7 46) (ix_fI h a8 48)).bind fun a11 =>
    ix_bd (ix_waI h a11 (ix_fI h a8 48).toNatClampNeg (ix_aI h a10 v2.toNatClampNeg)) fun h12 =>
    (ix_is h12 10 (some v0)).bind fun a13 =>
    (ix_is h12 10 (some v0)).bind fun a14 =>
    (ix_is h12 10 (some v0)).bind fun a15 =>
    (ix_atr h12 101 (ix_fR h12 a15 39) v2).bind fun a16 =>
    (ix_at h12 101 (ix_fR h12 a13 47) (ix_fI h12 a14 48)).bind fun a17 =>
    ix_bd (ix_waI h12 a17 (ix_fI h12 a14 48).toNatClampNeg (ix_aI h12 a16 v2.toNatClampNeg)) fun h18 =>
    (ix_is h18 10 (some v0)).bind fun a19 =>
    (ix_is h18 10 (some v0)).bind fun a20 =>
    ix_bd (ix_wfI h18 a20 48 ((ix_fI h18 a19 48) + (nI 1))) fun h21 =>
    K 13 [(0, ix_R (some v0)), (2, ix_I (v2 + (nI 1)))] [] h21
theorem jX9_fillsAll_13_eq (cal : ix_C) (K : ix_K) (v0 : Nat) (v2 : Int32) (h : ix_H) : ix_fwd cal K (stX9_fillsAll.drop 13) 0 [(0, ix_R (some v0)), (2, ix_I v2)] [] h = jX9_fillsAll_13 cal K v0 v2 h := rfl
def jX9_fillsAll_5 (cal : ix_C) (K : ix_K) (v0 : Nat) (v1 : Int32) (h : ix_H) : ix_O :=
  if v1 < nI 0 then
    some (.inl none, h)
  else
    (ix_isr h 10 (some v0)).bind fun a4 =>
    (ix_rV (cal 268 [ix_R (some a4), ix_I v1] h)).bind fun r3 =>
    jX9_fillsAll_13 cal K v0 (nI 0) r3
theorem jX9_fillsAll_5_eq (cal : ix_C) (K : ix_K) (v0 : Nat) (v1 : Int32) (h : ix_H) : ix_fwd cal K (stX9_fillsAll.drop 5) 0 [(0, ix_R (some v0)), (1, ix_I v1)] [] h = jX9_fillsAll_5 cal K v0 v1 h := rfl
def bX9_fillsAll (cal : ix_C) (K : ix_K) (v0 : Nat) (h : ix_H) : ix_O :=
  (ix_is h 10 (some v0)).bind fun a1 =>
  ix_bd (ix_wfI h a1 48 (nI 0)) fun h2 =>
  jX9_fillsAll_5 cal K v0 (nI 1) h2
theorem eX9_fillsAll (cal : ix_C) (K : ix_K) (v0 : Nat) (h : ix_H) : ix_fwd cal K stX9_fillsAll 0 [(0, ix_R (some v0))] [] h = bX9_fillsAll cal K v0 h := rfl
theorem rX9_fillsAll (N d : Nat) (v0 : Nat) (h : ix_H) : ix_run iy_P N (d + 1) 267 [ix_R (some v0)] h = bX9_fillsAll (ix_run iy_P N d) (ix_lp (ix_run iy_P N d) stX9_fillsAll N) v0 h := (rfl : ix_run iy_P N (d + 1) 267 [ix_R (some v0)] h = ix_fwd (ix_run iy_P N d) (ix_lp (ix_run iy_P N d) stX9_fillsAll N) stX9_fillsAll 0 [(0, ix_R (some v0))] [] h).trans (eX9_fillsAll _ _ v0 h)
theorem lX9_fillsAll_5 (cal : ix_C) (n : Nat) (v0 : Nat) (v1 : Int32) (h : ix_H) : ix_lp cal stX9_fillsAll (n + 1) 5 [(0, ix_R (some v0)), (1, ix_I v1)] [] h = jX9_fillsAll_5 cal (ix_lp cal stX9_fillsAll n) v0 v1 h := jX9_fillsAll_5_eq cal (ix_lp cal stX9_fillsAll n) v0 v1 h
theorem lX9_fillsAll_13 (cal : ix_C) (n : Nat) (v0 : Nat) (v2 : Int32) (h : ix_H) : ix_lp cal stX9_fillsAll (n + 1) 13 [(0, ix_R (some v0)), (2, ix_I v2)] [] h = jX9_fillsAll_13 cal (ix_lp cal stX9_fillsAll n) v0 v2 h := jX9_fillsAll_13_eq cal (ix_lp cal stX9_fillsAll n) v0 v2 h
def jX9_fillsHas_11 (cal : ix_C) (K : ix_K) (v0 : Nat) (v2 : Int32) (h : ix_H) : ix_O :=
  if v2 < nI 0 then
    some (.inl none, h)
  else
    (ix_is h 10 (some v0)).bind fun a6 =>
    (ix_atr h 101 (ix_fR h a6 36) v2).bind fun a7 =>
    (ix_isr h 10 (some v0)).bind fun a9 =>
    (ix_rV (cal 271 [ix_R (some a9), ix_I (ix_aI h a7 v2.toNatClampNeg)] h)).bind fun r8 =>
    K 11 [(0, ix_R (some v0)), (2, ix_I (v2 + (-1)))] [] r8
theorem jX9_fillsHas_11_eq (cal : ix_C) (K : ix_K) (v0 : Nat) (v2 : Int32) (h : ix_H) : ix_fwd cal K (stX9_fillsHas.drop 11) 0 [(0, ix_R (some v0)), (2, ix_I v2)] [] h = jX9_fillsHas_11 cal K v0 v2 h := rfl
def bX9_fillsHas (cal : ix_C) (K : ix_K) (v0 : Nat) (v1 : Int32) (h : ix_H) : ix_O :=
  (ix_isr h 10 (some v0)).bind fun a2 =>
  (ix_rV (cal 269 [ix_R (some a2), ix_I v1] h)).bind fun r1 =>
  (ix_is r1 10 (some v0)).bind fun a3 =>
  ix_bd (ix_wfI r1 a3 40 (nI 0)) fun h4 =>
  (ix_is h4 10 (some v0)).bind fun a5 =>
  jX9_fillsHas_11 cal K v0 ((ix_fI h4 a5 37) - (nI 1)) h4
theorem eX9_fillsHas (cal : ix_C) (K : ix_K) (v0 : Nat) (v1 : Int32) (h : ix_H) : ix_fwd cal K stX9_fillsHas 0 [(0, ix_R (some v0)), (1, ix_I v1)] [] h = bX9_fillsHas cal K v0 v1 h := rfl
theorem rX9_fillsHas (N d : Nat) (v0 : Nat) (v1 : Int32) (h : ix_H) : ix_run iy_P N (d + 1) 268 [ix_R (some v0), ix_I v1] h = bX9_fillsHas (ix_run iy_P N d) (ix_lp (ix_run iy_P N d) stX9_fillsHas N) v0 v1 h := (rfl : ix_run iy_P N (d + 1) 268 [ix_R (some v0), ix_I v1] h = ix_fwd (ix_run iy_P N d) (ix_lp (ix_run iy_P N d) stX9_fillsHas N) stX9_fillsHas 0 [(0, ix_R (some v0)), (1, ix_I v1)] [] h).trans (eX9_fillsHas _ _ v0 v1 h)
theorem lX9_fillsHas_11 (cal : ix_C) (n : Nat) (v0 : Nat) (v2 : Int32) (h : ix_H) : ix_lp cal stX9_fillsHas (n + 1) 11 [(0, ix_R (some v0)), (2, ix_I v2)] [] h = jX9_fillsHas_11 cal (ix_lp cal stX9_fillsHas n) v0 v2 h := jX9_fillsHas_11_eq cal (ix_lp cal stX9_fillsHas n) v0 v2 h
def jX9_fillsChain_7 (cal : ix_C) (K : ix_K) (v0 : Nat) (v2 : Int32) (h : ix_H) : ix_O :=
  if v2 < nI 0 then
    some (.inl none, h)
  else
    (ix_is h 10 (some v0)).bind fun a5 =>
    (ix_is h 10 (some v0)).bind fun a6 =>
    (ix_at h 101 (ix_fR h a5 36) (ix_fI h a6 37)).bind fun a7 =>
    ix_bd (ix_waI h a7 (ix_fI h a6 37).toNatClampNeg v2) fun h8 =>
    (ix_is h8 10 (some v0)).bind fun a9 =>
    (ix_is h8 10 (some v0)).bind fun a10 =>
    ix_bd (ix_wfI h8 a10 37 ((ix_fI h8 a9 37) + (nI 1))) fun h11 =>
    (ix_isr h11 10 (some v0)).bind fun a13 =>
    (ix_rI (cal 239 [ix_R (some a13), ix_I v2, ix_I (nI 3)] h11)).bind fun r12 =>
    K 7 [(0, ix_R (some v0)), (2, ix_I r12.1)] [] r12.2
theorem jX9_fillsChain_7_eq (cal : ix_C) (K : ix_K) (v0 : Nat) (v2 : Int32) (h : ix_H) : ix_fwd cal K (stX9_fillsChain.drop 7) 0 [(0, ix_R (some v0)), (2, ix_I v2)] [] h = jX9_fillsChain_7 cal K v0 v2 h := rfl
def bX9_fillsChain (cal : ix_C) (K : ix_K) (v0 : Nat) (v1 : Int32) (h : ix_H) : ix_O :=
  (ix_isr h 10 (some v0)).bind fun a2 =>
  (ix_rI (cal 270 [ix_R (some a2), ix_I v1] h)).bind fun r1 =>
  (ix_is r1.2 10 (some v0)).bind fun a3 =>
  ix_bd (ix_wfI r1.2 a3 37 (nI 0)) fun h4 =>
  jX9_fillsChain_7 cal K v0 r1.1 h4
theorem eX9_fillsChain (cal : ix_C) (K : ix_K) (v0 : Nat) (v1 : Int32) (h : ix_H) : ix_fwd cal K stX9_fillsChain 0 [(0, ix_R (some v0)), (1, ix_I v1)] [] h = bX9_fillsChain cal K v0 v1 h := rfl
theorem rX9_fillsChain (N d : Nat) (v0 : Nat) (v1 : Int32) (h : ix_H) : ix_run iy_P N (d + 1) 269 [ix_R (some v0), ix_I v1] h = bX9_fillsChain (ix_run iy_P N d) (ix_lp (ix_run iy_P N d) stX9_fillsChain N) v0 v1 h := (rfl : ix_run iy_P N (d + 1) 269 [ix_R (some v0), ix_I v1] h = ix_fwd (ix_run iy_P N d) (ix_lp (ix_run iy_P N d) stX9_fillsChain N) stX9_fillsChain 0 [(0, ix_R (some v0)), (1, ix_I v1)] [] h).trans (eX9_fillsChain _ _ v0 v1 h)
theorem lX9_fillsChain_7 (cal : ix_C) (n : Nat) (v0 : Nat) (v2 : Int32) (h : ix_H) : ix_lp cal stX9_fillsChain (n + 1) 7 [(0, ix_R (some v0)), (2, ix_I v2)] [] h = jX9_fillsChain_7 cal (ix_lp cal stX9_fillsChain n) v0 v2 h := jX9_fillsChain_7_eq cal (ix_lp cal stX9_fillsChain n) v0 v2 h
def bX9_topOf (cal : ix_C) (K : ix_K) (v0 : Nat) (v1 : Int32) (h : ix_H) : ix_O :=
  (ix_is h 10 (some v0)).bind fun a1 =>
  (ix_atr h 101 (ix_fR h a1 35) ((nI 10) + v1)).bind fun a2 =>
  some (.inl (some (ix_I (ix_aI h a2 ((nI 10) + v1).toNatClampNeg))), h)
theorem eX9_topOf (cal : ix_C) (K : ix_K) (v0 : Nat) (v1 : Int32) (h : ix_H) : ix_fwd cal K stX9_topOf 0 [(0, ix_R (some v0)), (1, ix_I v1)] [] h = bX9_topOf cal K v0 v1 h := rfl
theorem rX9_topOf (N d : Nat) (v0 : Nat) (v1 : Int32) (h : ix_H) : ix_run iy_P N (d + 1) 270 [ix_R (some v0), ix_I v1] h = bX9_topOf (ix_run iy_P N d) (ix_lp (ix_run iy_P N d) stX9_topOf N) v0 v1 h := (rfl : ix_run iy_P N (d + 1) 270 [ix_R (some v0), ix_I v1] h = ix_fwd (ix_run iy_P N d) (ix_lp (ix_run iy_P N d) stX9_topOf N) stX9_topOf 0 [(0, ix_R (some v0)), (1, ix_I v1)] [] h).trans (eX9_topOf _ _ v0 v1 h)
def jX9_applies_49 (cal : ix_C) (K : ix_K) (h : ix_H) : ix_O :=
  some (.inl none, h)
theorem jX9_applies_49_eq (cal : ix_C) (K : ix_K) (h : ix_H) : ix_fwd cal K (stX9_applies.drop 49) 0 [] [] h = jX9_applies_49 cal K h := rfl
def jX9_applies_19 (cal : ix_C) (K : ix_K) (v0 : Nat) (v2 : Int32) (v3 : Int32) (h : ix_H) : ix_O :=
  (ix_isr h 10 (some v0)).bind fun a10 =>
  (ix_rV (cal 274 [ix_R (some a10), ix_I v2, ix_I v3] h)).bind fun r9 =>
  jX9_applies_49 cal K r9
theorem jX9_applies_19_eq (cal : ix_C) (K : ix_K) (v0 : Nat) (v2 : Int32) (v3 : Int32) (h : ix_H) : ix_fwd cal K (stX9_applies.drop 19) 0 [(0, ix_R (some v0)), (2, ix_I v2), (3, ix_I v3)] [] h = jX9_applies_19 cal K v0 v2 v3 h := rfl
def jX9_applies_25 (cal : ix_C) (K : ix_K) (v0 : Nat) (v2 : Int32) (h : ix_H) : ix_O :=
  (ix_isr h 10 (some v0)).bind fun a12 =>
  (ix_rV (cal 277 [ix_R (some a12), ix_I v2] h)).bind fun r11 =>
  jX9_applies_49 cal K r11
theorem jX9_applies_25_eq (cal : ix_C) (K : ix_K) (v0 : Nat) (v2 : Int32) (h : ix_H) : ix_fwd cal K (stX9_applies.drop 25) 0 [(0, ix_R (some v0)), (2, ix_I v2)] [] h = jX9_applies_25 cal K v0 v2 h := rfl
def bX9_applies (cal : ix_C) (K : ix_K) (v0 : Nat) (v1 : Int32) (h : ix_H) : ix_O :=
  (ix_isr h 10 (some v0)).bind fun a2 =>
  (ix_rI (cal 239 [ix_R (some a2), ix_I v1, ix_I (nI 1)] h)).bind fun r1 =>
  (ix_isr r1.2 10 (some v0)).bind fun a4 =>
  (ix_rI (cal 239 [ix_R (some a4), ix_I v1, ix_I (nI 2)] r1.2)).bind fun r3 =>
  (ix_isr r3.2 10 (some v0)).bind fun a6 =>
  (ix_rI (cal 239 [ix_R (some a6), ix_I v1, ix_I (nI 0)] r3.2)).bind fun r5 =>
  if r5.1 = nI 0 then
    (ix_isr r5.2 10 (some v0)).bind fun a8 =>
    (ix_rV (cal 272 [ix_R (some a8), ix_I v1] r5.2)).bind fun r7 =>
    jX9_applies_49 cal K r7
  else
  if r5.1 = nI 1 then
    jX9_applies_19 cal K v0 r1.1 r3.1 r5.2
  else
  if r5.1 = nI 2 then
    jX9_applies_25 cal K v0 r1.1 r5.2
  else
  if r5.1 = nI 3 then
    (ix_isr r5.2 10 (some v0)).bind fun a14 =>
    (ix_rI (cal 275 [ix_R (some a14), ix_I r1.1] r5.2)).bind fun r13 =>
    (ix_is r13.2 10 (some v0)).bind fun a15 =>
    ix_bd (ix_wfI r13.2 a15 40 r13.1) fun h16 =>
    (ix_is h16 10 (some v0)).bind fun a17 =>
    ix_bd (ix_wfI h16 a17 41 r1.1) fun h18 =>
    (ix_is h18 10 (some v0)).bind fun a19 =>
    ix_bd (ix_wfI h18 a19 42 r3.1) fun h20 =>
    jX9_applies_49 cal K h20
  else
  if r5.1 = nI 4 then
    jX9_applies_49 cal K r5.2
  else
  if r5.1 = nI 5 then
    (ix_isr r5.2 10 (some v0)).bind fun a22 =>
    (ix_rI (cal 239 [ix_R (some a22), ix_I v1, ix_I (nI 9)] r5.2)).bind fun r21 =>
    (ix_isr r21.2 10 (some v0)).bind fun a24 =>
    (ix_rV (cal 272 [ix_R (some a24), ix_I r21.1] r21.2)).bind fun r23 =>
    jX9_applies_49 cal K r23
  else
  if r5.1 = nI 6 then
    jX9_applies_19 cal K v0 r1.1 r3.1 r5.2
  else
  if r5.1 = nI 7 then
    jX9_applies_25 cal K v0 r1.1 r5.2
  else
    jX9_applies_49 cal K r5.2
theorem eX9_applies (cal : ix_C) (K : ix_K) (v0 : Nat) (v1 : Int32) (h : ix_H) : ix_fwd cal K stX9_applies 0 [(0, ix_R (some v0)), (1, ix_I v1)] [] h = bX9_applies cal K v0 v1 h := rfl
theorem rX9_applies (N d : Nat) (v0 : Nat) (v1 : Int32) (h : ix_H) : ix_run iy_P N (d + 1) 271 [ix_R (some v0), ix_I v1] h = bX9_applies (ix_run iy_P N d) (ix_lp (ix_run iy_P N d) stX9_applies N) v0 v1 h := (rfl : ix_run iy_P N (d + 1) 271 [ix_R (some v0), ix_I v1] h = ix_fwd (ix_run iy_P N d) (ix_lp (ix_run iy_P N d) stX9_applies N) stX9_applies 0 [(0, ix_R (some v0)), (1, ix_I v1)] [] h).trans (eX9_applies _ _ v0 v1 h)
def jX9_takesIn_2 (cal : ix_C) (K : ix_K) (v0 : Nat) (v1 : Int32) (v2 : Int32) (h : ix_H) : ix_O :=
  (ix_isr h 10 (some v0)).bind fun a2 =>
  (ix_rI (cal 239 [ix_R (some a2), ix_I v1, ix_I (nI 6)] h)).bind fun r1 =>
  if r1.1 ≤ v2 then
    (ix_isr r1.2 10 (some v0)).bind fun a4 =>
    (ix_rI (cal 239 [ix_R (some a4), ix_I v1, ix_I (nI 7)] r1.2)).bind fun r3 =>
    (ix_is r3.2 10 (some v0)).bind fun a5 =>
    ix_bd (ix_wfI r3.2 a5 41 r3.1) fun h6 =>
    (ix_isr h6 10 (some v0)).bind fun a8 =>
    (ix_rI (cal 239 [ix_R (some a8), ix_I v1, ix_I (nI 8)] h6)).bind fun r7 =>
    (ix_is r7.2 10 (some v0)).bind fun a9 =>
    ix_bd (ix_wfI r7.2 a9 42 r7.1) fun h10 =>
    some (.inl none, h10)
  else
    (ix_is r1.2 10 (some v0)).bind fun a11 =>
    (ix_rI (cal 273 [ix_I v1, ix_I v2] r1.2)).bind fun r12 =>
    (ix_atr r12.2 101 (ix_fR r1.2 a11 35) r12.1).bind fun a13 =>
    (ix_is r12.2 10 (some v0)).bind fun a14 =>
    (ix_rI (cal 273 [ix_I v1, ix_I v2] r12.2)).bind fun r15 =>
    (ix_atr r15.2 101 (ix_fR r12.2 a14 35) (r15.1 + (nI 1))).bind fun a16 =>
    (ix_isr r15.2 10 (some v0)).bind fun a18 =>
    (ix_rV (cal 274 [ix_R (some a18), ix_I (ix_aI r12.2 a13 r12.1.toNatClampNeg), ix_I (ix_aI r15.2 a16 (r15.1 + (nI 1)).toNatClampNeg)] r15.2)).bind fun r17 =>
    K 2 [(0, ix_R (some v0)), (1, ix_I v1), (2, ix_I (v2 + (nI 1)))] [] r17
theorem jX9_takesIn_2_eq (cal : ix_C) (K : ix_K) (v0 : Nat) (v1 : Int32) (v2 : Int32) (h : ix_H) : ix_fwd cal K (stX9_takesIn.drop 2) 0 [(0, ix_R (some v0)), (1, ix_I v1), (2, ix_I v2)] [] h = jX9_takesIn_2 cal K v0 v1 v2 h := rfl
def bX9_takesIn (cal : ix_C) (K : ix_K) (v0 : Nat) (v1 : Int32) (h : ix_H) : ix_O :=
  jX9_takesIn_2 cal K v0 v1 (nI 0) h
theorem eX9_takesIn (cal : ix_C) (K : ix_K) (v0 : Nat) (v1 : Int32) (h : ix_H) : ix_fwd cal K stX9_takesIn 0 [(0, ix_R (some v0)), (1, ix_I v1)] [] h = bX9_takesIn cal K v0 v1 h := rfl
theorem rX9_takesIn (N d : Nat) (v0 : Nat) (v1 : Int32) (h : ix_H) : ix_run iy_P N (d + 1) 272 [ix_R (some v0), ix_I v1] h = bX9_takesIn (ix_run iy_P N d) (ix_lp (ix_run iy_P N d) stX9_takesIn N) v0 v1 h := (rfl : ix_run iy_P N (d + 1) 272 [ix_R (some v0), ix_I v1] h = ix_fwd (ix_run iy_P N d) (ix_lp (ix_run iy_P N d) stX9_takesIn N) stX9_takesIn 0 [(0, ix_R (some v0)), (1, ix_I v1)] [] h).trans (eX9_takesIn _ _ v0 v1 h)
theorem lX9_takesIn_2 (cal : ix_C) (n : Nat) (v0 : Nat) (v1 : Int32) (v2 : Int32) (h : ix_H) : ix_lp cal stX9_takesIn (n + 1) 2 [(0, ix_R (some v0)), (1, ix_I v1), (2, ix_I v2)] [] h = jX9_takesIn_2 cal (ix_lp cal stX9_takesIn n) v0 v1 v2 h := jX9_takesIn_2_eq cal (ix_lp cal stX9_takesIn n) v0 v1 v2 h
def bX9_baseAt (cal : ix_C) (K : ix_K) (v0 : Int32) (v1 : Int32) (h : ix_H) : ix_O :=
  some (.inl (some (ix_I (((nI 14100) + ((nI 88) * v0)) + ((nI 2) * v1)))), h)
theorem eX9_baseAt (cal : ix_C) (K : ix_K) (v0 : Int32) (v1 : Int32) (h : ix_H) : ix_fwd cal K stX9_baseAt 0 [(0, ix_I v0), (1, ix_I v1)] [] h = bX9_baseAt cal K v0 v1 h := rfl
theorem rX9_baseAt (N d : Nat) (v0 : Int32) (v1 : Int32) (h : ix_H) : ix_run iy_P N (d + 1) 273 [ix_I v0, ix_I v1] h = bX9_baseAt (ix_run iy_P N d) (ix_lp (ix_run iy_P N d) stX9_baseAt N) v0 v1 h := (rfl : ix_run iy_P N (d + 1) 273 [ix_I v0, ix_I v1] h = ix_fwd (ix_run iy_P N d) (ix_lp (ix_run iy_P N d) stX9_baseAt N) stX9_baseAt 0 [(0, ix_I v0), (1, ix_I v1)] [] h).trans (eX9_baseAt _ _ v0 v1 h)
def jX9_setsIn_43 (cal : ix_C) (K : ix_K) (v0 : Nat) (v1 : Int32) (v2 : Int32) (v3 : Int32) (h : ix_H) : ix_O :=
  (ix_is h 10 (some v0)).bind fun a5 =>
  (ix_at h 101 (ix_fR h a5 38) v3).bind fun a6 =>
  ix_bd (ix_waI h a6 v3.toNatClampNeg v1) fun h7 =>
  (ix_is h7 10 (some v0)).bind fun a8 =>
  (ix_at h7 101 (ix_fR h7 a8 39) v3).bind fun a9 =>
  ix_bd (ix_waI h7 a9 v3.toNatClampNeg v2) fun h10 =>
  some (.inl none, h10)
theorem jX9_setsIn_43_eq (cal : ix_C) (K : ix_K) (v0 : Nat) (v1 : Int32) (v2 : Int32) (v3 : Int32) (h : ix_H) : ix_fwd cal K (stX9_setsIn.drop 43) 0 [(0, ix_R (some v0)), (1, ix_I v1), (2, ix_I v2), (3, ix_I v3)] [] h = jX9_setsIn_43 cal K v0 v1 v2 v3 h := rfl
def jX9_setsIn_11 (cal : ix_C) (K : ix_K) (v0 : Nat) (v1 : Int32) (v2 : Int32) (v3 : Int32) (v4 : Int32) (h : ix_H) : ix_O :=
  if v4 ≤ v3 then
    (ix_is h 10 (some v0)).bind fun a12 =>
    (ix_is h 10 (some v0)).bind fun a13 =>
    ix_bd (ix_wfI h a13 40 ((ix_fI h a12 40) + (nI 1))) fun h14 =>
    jX9_setsIn_43 cal K v0 v1 v2 v3 h14
  else
    (ix_is h 10 (some v0)).bind fun a15 =>
    (ix_is h 10 (some v0)).bind fun a16 =>
    (ix_atr h 101 (ix_fR h a16 38) (v4 - (nI 1))).bind fun a17 =>
    (ix_at h 101 (ix_fR h a15 38) v4).bind fun a18 =>
    ix_bd (ix_waI h a18 v4.toNatClampNeg (ix_aI h a17 (v4 - (nI 1)).toNatClampNeg)) fun h19 =>
    (ix_is h19 10 (some v0)).bind fun a20 =>
    (ix_is h19 10 (some v0)).bind fun a21 =>
    (ix_atr h19 101 (ix_fR h19 a21 39) (v4 - (nI 1))).bind fun a22 =>
    (ix_at h19 101 (ix_fR h19 a20 39) v4).bind fun a23 =>
    ix_bd (ix_waI h19 a23 v4.toNatClampNeg (ix_aI h19 a22 (v4 - (nI 1)).toNatClampNeg)) fun h24 =>
    K 11 [(0, ix_R (some v0)), (1, ix_I v1), (2, ix_I v2), (3, ix_I v3), (4, ix_I (v4 + (-1)))] [] h24
theorem jX9_setsIn_11_eq (cal : ix_C) (K : ix_K) (v0 : Nat) (v1 : Int32) (v2 : Int32) (v3 : Int32) (v4 : Int32) (h : ix_H) : ix_fwd cal K (stX9_setsIn.drop 11) 0 [(0, ix_R (some v0)), (1, ix_I v1), (2, ix_I v2), (3, ix_I v3), (4, ix_I v4)] [] h = jX9_setsIn_11 cal K v0 v1 v2 v3 v4 h := rfl
def bX9_setsIn (cal : ix_C) (K : ix_K) (v0 : Nat) (v1 : Int32) (v2 : Int32) (h : ix_H) : ix_O :=
  (ix_isr h 10 (some v0)).bind fun a2 =>
  (ix_rI (cal 275 [ix_R (some a2), ix_I v1] h)).bind fun r1 =>
  (ix_isr r1.2 10 (some v0)).bind fun a4 =>
  (ix_rI (cal 276 [ix_R (some a4), ix_I v1] r1.2)).bind fun r3 =>
  if r3.1 = nI 0 then
    (ix_is r3.2 10 (some v0)).bind fun a11 =>
    jX9_setsIn_11 cal K v0 v1 v2 r1.1 (ix_fI r3.2 a11 40) r3.2
  else
    jX9_setsIn_43 cal K v0 v1 v2 r1.1 r3.2
theorem eX9_setsIn (cal : ix_C) (K : ix_K) (v0 : Nat) (v1 : Int32) (v2 : Int32) (h : ix_H) : ix_fwd cal K stX9_setsIn 0 [(0, ix_R (some v0)), (1, ix_I v1), (2, ix_I v2)] [] h = bX9_setsIn cal K v0 v1 v2 h := rfl
theorem rX9_setsIn (N d : Nat) (v0 : Nat) (v1 : Int32) (v2 : Int32) (h : ix_H) : ix_run iy_P N (d + 1) 274 [ix_R (some v0), ix_I v1, ix_I v2] h = bX9_setsIn (ix_run iy_P N d) (ix_lp (ix_run iy_P N d) stX9_setsIn N) v0 v1 v2 h := (rfl : ix_run iy_P N (d + 1) 274 [ix_R (some v0), ix_I v1, ix_I v2] h = ix_fwd (ix_run iy_P N d) (ix_lp (ix_run iy_P N d) stX9_setsIn N) stX9_setsIn 0 [(0, ix_R (some v0)), (1, ix_I v1), (2, ix_I v2)] [] h).trans (eX9_setsIn _ _ v0 v1 v2 h)
theorem lX9_setsIn_11 (cal : ix_C) (n : Nat) (v0 : Nat) (v1 : Int32) (v2 : Int32) (v3 : Int32) (v4 : Int32) (h : ix_H) : ix_lp cal stX9_setsIn (n + 1) 11 [(0, ix_R (some v0)), (1, ix_I v1), (2, ix_I v2), (3, ix_I v3), (4, ix_I v4)] [] h = jX9_setsIn_11 cal (ix_lp cal stX9_setsIn n) v0 v1 v2 v3 v4 h := jX9_setsIn_11_eq cal (ix_lp cal stX9_setsIn n) v0 v1 v2 v3 v4 h
def jX9_whereOf_15 (cal : ix_C) (K : ix_K) (v2 : Int32) (h : ix_H) : ix_O :=
  some (.inl (some (ix_I v2)), h)
theorem jX9_whereOf_15_eq (cal : ix_C) (K : ix_K) (v2 : Int32) (h : ix_H) : ix_fwd cal K (stX9_whereOf.drop 15) 0 [(2, ix_I v2)] [] h = jX9_whereOf_15 cal K v2 h := rfl
def jX9_whereOf_2 (cal : ix_C) (K : ix_K) (v0 : Nat) (v1 : Int32) (v2 : Int32) (h : ix_H) : ix_O :=
  (ix_is h 10 (some v0)).bind fun a1 =>
  if (ix_fI h a1 40) ≤ v2 then
    jX9_whereOf_15 cal K v2 h
  else
    (ix_is h 10 (some v0)).bind fun a2 =>
    (ix_atr h 101 (ix_fR h a2 38) v2).bind fun a3 =>
    if v1 ≤ (ix_aI h a3 v2.toNatClampNeg) then
      jX9_whereOf_15 cal K v2 h
    else
      K 2 [(0, ix_R (some v0)), (1, ix_I v1), (2, ix_I (v2 + (nI 1)))] [] h
theorem jX9_whereOf_2_eq (cal : ix_C) (K : ix_K) (v0 : Nat) (v1 : Int32) (v2 : Int32) (h : ix_H) : ix_fwd cal K (stX9_whereOf.drop 2) 0 [(0, ix_R (some v0)), (1, ix_I v1), (2, ix_I v2)] [] h = jX9_whereOf_2 cal K v0 v1 v2 h := rfl
def bX9_whereOf (cal : ix_C) (K : ix_K) (v0 : Nat) (v1 : Int32) (h : ix_H) : ix_O :=
  jX9_whereOf_2 cal K v0 v1 (nI 0) h
theorem eX9_whereOf (cal : ix_C) (K : ix_K) (v0 : Nat) (v1 : Int32) (h : ix_H) : ix_fwd cal K stX9_whereOf 0 [(0, ix_R (some v0)), (1, ix_I v1)] [] h = bX9_whereOf cal K v0 v1 h := rfl
theorem rX9_whereOf (N d : Nat) (v0 : Nat) (v1 : Int32) (h : ix_H) : ix_run iy_P N (d + 1) 275 [ix_R (some v0), ix_I v1] h = bX9_whereOf (ix_run iy_P N d) (ix_lp (ix_run iy_P N d) stX9_whereOf N) v0 v1 h := (rfl : ix_run iy_P N (d + 1) 275 [ix_R (some v0), ix_I v1] h = ix_fwd (ix_run iy_P N d) (ix_lp (ix_run iy_P N d) stX9_whereOf N) stX9_whereOf 0 [(0, ix_R (some v0)), (1, ix_I v1)] [] h).trans (eX9_whereOf _ _ v0 v1 h)
theorem lX9_whereOf_2 (cal : ix_C) (n : Nat) (v0 : Nat) (v1 : Int32) (v2 : Int32) (h : ix_H) : ix_lp cal stX9_whereOf (n + 1) 2 [(0, ix_R (some v0)), (1, ix_I v1), (2, ix_I v2)] [] h = jX9_whereOf_2 cal (ix_lp cal stX9_whereOf n) v0 v1 v2 h := jX9_whereOf_2_eq cal (ix_lp cal stX9_whereOf n) v0 v1 v2 h
def jX9_isThere_18 (cal : ix_C) (K : ix_K) (s0 : Int32) (h : ix_H) : ix_O :=
  cond (ix_okn 1 s0) (some (.inl (some (ix_I s0)), h)) none
theorem jX9_isThere_18_eq (cal : ix_C) (K : ix_K) (s0 : Int32) (h : ix_H) : ix_fwd cal K (stX9_isThere.drop 18) 0 [] [ix_I s0] h = jX9_isThere_18 cal K s0 h := rfl
def jX9_isThere_16 (cal : ix_C) (K : ix_K) (h : ix_H) : ix_O :=
  jX9_isThere_18 cal K (nI 0) h
theorem jX9_isThere_16_eq (cal : ix_C) (K : ix_K) (h : ix_H) : ix_fwd cal K (stX9_isThere.drop 16) 0 [] [] h = jX9_isThere_16 cal K h := rfl
def bX9_isThere (cal : ix_C) (K : ix_K) (v0 : Nat) (v1 : Int32) (h : ix_H) : ix_O :=
  (ix_isr h 10 (some v0)).bind fun a2 =>
  (ix_rI (cal 275 [ix_R (some a2), ix_I v1] h)).bind fun r1 =>
  (ix_is r1.2 10 (some v0)).bind fun a3 =>
  if (ix_fI r1.2 a3 40) ≤ r1.1 then
    jX9_isThere_16 cal K r1.2
  else
    (ix_is r1.2 10 (some v0)).bind fun a4 =>
    (ix_atr r1.2 101 (ix_fR r1.2 a4 38) r1.1).bind fun a5 =>
    if (ix_aI r1.2 a5 r1.1.toNatClampNeg) = v1 then
      jX9_isThere_18 cal K (nI 1) r1.2
    else
      jX9_isThere_16 cal K r1.2
theorem eX9_isThere (cal : ix_C) (K : ix_K) (v0 : Nat) (v1 : Int32) (h : ix_H) : ix_fwd cal K stX9_isThere 0 [(0, ix_R (some v0)), (1, ix_I v1)] [] h = bX9_isThere cal K v0 v1 h := rfl
theorem rX9_isThere (N d : Nat) (v0 : Nat) (v1 : Int32) (h : ix_H) : ix_run iy_P N (d + 1) 276 [ix_R (some v0), ix_I v1] h = bX9_isThere (ix_run iy_P N d) (ix_lp (ix_run iy_P N d) stX9_isThere N) v0 v1 h := (rfl : ix_run iy_P N (d + 1) 276 [ix_R (some v0), ix_I v1] h = ix_fwd (ix_run iy_P N d) (ix_lp (ix_run iy_P N d) stX9_isThere N) stX9_isThere 0 [(0, ix_R (some v0)), (1, ix_I v1)] [] h).trans (eX9_isThere _ _ v0 v1 h)
def jX9_takesOut_9 (cal : ix_C) (K : ix_K) (v0 : Nat) (v2 : Int32) (h : ix_H) : ix_O :=
  (ix_is h 10 (some v0)).bind fun a5 =>
  if (ix_fI h a5 40) ≤ (v2 + (nI 1)) then
    (ix_is h 10 (some v0)).bind fun a6 =>
    (ix_is h 10 (some v0)).bind fun a7 =>
    ix_bd (ix_wfI h a7 40 ((ix_fI h a6 40) - (nI 1))) fun h8 =>
    some (.inl none, h8)
  else
    (ix_is h 10 (some v0)).bind fun a9 =>
    (ix_is h 10 (some v0)).bind fun a10 =>
    (ix_atr h 101 (ix_fR h a10 38) (v2 + (nI 1))).bind fun a11 =>
    (ix_at h 101 (ix_fR h a9 38) v2).bind fun a12 =>
    ix_bd (ix_waI h a12 v2.toNatClampNeg (ix_aI h a11 (v2 + (nI 1)).toNatClampNeg)) fun h13 =>
    (ix_is h13 10 (some v0)).bind fun a14 =>
    (ix_is h13 10 (some v0)).bind fun a15 =>
    (ix_atr h13 101 (ix_fR h13 a15 39) (v2 + (nI 1))).bind fun a16 =>
    (ix_at h13 101 (ix_fR h13 a14 39) v2).bind fun a17 =>
    ix_bd (ix_waI h13 a17 v2.toNatClampNeg (ix_aI h13 a16 (v2 + (nI 1)).toNatClampNeg)) fun h18 =>
    K 9 [(0, ix_R (some v0)), (2, ix_I (v2 + (nI 1)))] [] h18
theorem jX9_takesOut_9_eq (cal : ix_C) (K : ix_K) (v0 : Nat) (v2 : Int32) (h : ix_H) : ix_fwd cal K (stX9_takesOut.drop 9) 0 [(0, ix_R (some v0)), (2, ix_I v2)] [] h = jX9_takesOut_9 cal K v0 v2 h := rfl
def bX9_takesOut (cal : ix_C) (K : ix_K) (v0 : Nat) (v1 : Int32) (h : ix_H) : ix_O :=
  (ix_isr h 10 (some v0)).bind fun a2 =>
  (ix_rI (cal 276 [ix_R (some a2), ix_I v1] h)).bind fun r1 =>
  if r1.1 = nI 0 then
    some (.inl none, r1.2)
  else
    (ix_isr r1.2 10 (some v0)).bind fun a4 =>
    (ix_rI (cal 275 [ix_R (some a4), ix_I v1] r1.2)).bind fun r3 =>
    jX9_takesOut_9 cal K v0 r3.1 r3.2
theorem eX9_takesOut (cal : ix_C) (K : ix_K) (v0 : Nat) (v1 : Int32) (h : ix_H) : ix_fwd cal K stX9_takesOut 0 [(0, ix_R (some v0)), (1, ix_I v1)] [] h = bX9_takesOut cal K v0 v1 h := rfl
theorem rX9_takesOut (N d : Nat) (v0 : Nat) (v1 : Int32) (h : ix_H) : ix_run iy_P N (d + 1) 277 [ix_R (some v0), ix_I v1] h = bX9_takesOut (ix_run iy_P N d) (ix_lp (ix_run iy_P N d) stX9_takesOut N) v0 v1 h := (rfl : ix_run iy_P N (d + 1) 277 [ix_R (some v0), ix_I v1] h = ix_fwd (ix_run iy_P N d) (ix_lp (ix_run iy_P N d) stX9_takesOut N) stX9_takesOut 0 [(0, ix_R (some v0)), (1, ix_I v1)] [] h).trans (eX9_takesOut _ _ v0 v1 h)
theorem lX9_takesOut_9 (cal : ix_C) (n : Nat) (v0 : Nat) (v2 : Int32) (h : ix_H) : ix_lp cal stX9_takesOut (n + 1) 9 [(0, ix_R (some v0)), (2, ix_I v2)] [] h = jX9_takesOut_9 cal (ix_lp cal stX9_takesOut n) v0 v2 h := jX9_takesOut_9_eq cal (ix_lp cal stX9_takesOut n) v0 v2 h
def jX9_termOf_99 (cal : ix_C) (K : ix_K) (v0 : Nat) (v2 : Int32) (v3 : Int32) (v4 : Int32) (h : ix_H) : ix_O :=
  K 4 [(0, ix_R (some v0)), (2, ix_I v2), (3, ix_I v3), (4, ix_I (v4 + (nI 1)))] [] h
theorem jX9_termOf_99_eq (cal : ix_C) (K : ix_K) (v0 : Nat) (v2 : Int32) (v3 : Int32) (v4 : Int32) (h : ix_H) : ix_fwd cal K (stX9_termOf.drop 99) 0 [(0, ix_R (some v0)), (2, ix_I v2), (3, ix_I v3), (4, ix_I v4)] [] h = jX9_termOf_99 cal K v0 v2 v3 v4 h := rfl
def jX9_termOf_97 (cal : ix_C) (K : ix_K) (v0 : Nat) (v2 : Int32) (v3 : Int32) (v4 : Int32) (s0 : Option Nat) (s1 : Int32) (s2 : Int32) (h : ix_H) : ix_O :=
  (ix_at h 101 s0 s1).bind fun a10 =>
  ix_bd (ix_waI h a10 s1.toNatClampNeg s2) fun h11 =>
  jX9_termOf_99 cal K v0 v2 v3 v4 h11
theorem jX9_termOf_97_eq (cal : ix_C) (K : ix_K) (v0 : Nat) (v2 : Int32) (v3 : Int32) (v4 : Int32) (s0 : Option Nat) (s1 : Int32) (s2 : Int32) (h : ix_H) : ix_fwd cal K (stX9_termOf.drop 97) 0 [(0, ix_R (some v0)), (2, ix_I v2), (3, ix_I v3), (4, ix_I v4)] [ix_I s2, ix_I s1, ix_R s0] h = jX9_termOf_97 cal K v0 v2 v3 v4 s0 s1 s2 h := rfl
def jX9_termOf_72 (cal : ix_C) (K : ix_K) (v0 : Nat) (v2 : Int32) (v3 : Int32) (v4 : Int32) (s0 : Option Nat) (s1 : Int32) (s2 : Int32) (h : ix_H) : ix_O :=
  (ix_at h 101 s0 s1).bind fun a13 =>
  ix_bd (ix_waI h a13 s1.toNatClampNeg s2) fun h14 =>
  jX9_termOf_99 cal K v0 v2 v3 v4 h14
theorem jX9_termOf_72_eq (cal : ix_C) (K : ix_K) (v0 : Nat) (v2 : Int32) (v3 : Int32) (v4 : Int32) (s0 : Option Nat) (s1 : Int32) (s2 : Int32) (h : ix_H) : ix_fwd cal K (stX9_termOf.drop 72) 0 [(0, ix_R (some v0)), (2, ix_I v2), (3, ix_I v3), (4, ix_I v4)] [ix_I s2, ix_I s1, ix_R s0] h = jX9_termOf_72 cal K v0 v2 v3 v4 s0 s1 s2 h := rfl
def jX9_termOf_33 (cal : ix_C) (K : ix_K) (v0 : Nat) (v2 : Int32) (v3 : Int32) (v4 : Int32) (s0 : Option Nat) (s1 : Int32) (s2 : Int32) (h : ix_H) : ix_O :=
  (ix_at h 101 s0 s1).bind fun a20 =>
  ix_bd (ix_waI h a20 s1.toNatClampNeg s2) fun h21 =>
  jX9_termOf_99 cal K v0 v2 (v3 + (nI 1)) v4 h21
theorem jX9_termOf_33_eq (cal : ix_C) (K : ix_K) (v0 : Nat) (v2 : Int32) (v3 : Int32) (v4 : Int32) (s0 : Option Nat) (s1 : Int32) (s2 : Int32) (h : ix_H) : ix_fwd cal K (stX9_termOf.drop 33) 0 [(0, ix_R (some v0)), (2, ix_I v2), (3, ix_I v3), (4, ix_I v4)] [ix_I s2, ix_I s1, ix_R s0] h = jX9_termOf_33 cal K v0 v2 v3 v4 s0 s1 s2 h := rfl
def jX9_termOf_4 (cal : ix_C) (K : ix_K) (v0 : Nat) (v2 : Int32) (v3 : Int32) (v4 : Int32) (h : ix_H) : ix_O :=
  if v2 ≤ v4 then
    (ix_is h 10 (some v0)).bind fun a1 =>
    (ix_atr h 101 (ix_fR h a1 33) (nI 0)).bind fun a2 =>
    some (.inl (some (ix_I (ix_aI h a2 (nI 0).toNatClampNeg))), h)
  else
    (ix_is h 10 (some v0)).bind fun a3 =>
    (ix_atr h 101 (ix_fR h a3 28) v4).bind fun a4 =>
    if (nI 2) ≤ (ix_aI h a4 v4.toNatClampNeg) then
      (ix_is h 10 (some v0)).bind fun a5 =>
      (ix_atr h 101 (ix_fR h a5 33) ((v3 + (-1)) - (nI 1))).bind fun a6 =>
      (ix_is h 10 (some v0)).bind fun a7 =>
      (ix_atr h 101 (ix_fR h a7 33) (v3 + (-1))).bind fun a8 =>
      if (ix_aI h a4 v4.toNatClampNeg) ≤ (nI 4) then
        (ix_is h 10 (some v0)).bind fun a9 =>
        if (ix_aI h a4 v4.toNatClampNeg) = (nI 2) then
          jX9_termOf_97 cal K v0 v2 (v3 + (-1)) v4 (ix_fR h a9 33) ((v3 + (-1)) - (nI 1)) ((ix_aI h a6 ((v3 + (-1)) - (nI 1)).toNatClampNeg) + (ix_aI h a8 (v3 + (-1)).toNatClampNeg)) h
        else
          if (ix_aI h a4 v4.toNatClampNeg) = (nI 3) then
            jX9_termOf_97 cal K v0 v2 (v3 + (-1)) v4 (ix_fR h a9 33) ((v3 + (-1)) - (nI 1)) ((ix_aI h a6 ((v3 + (-1)) - (nI 1)).toNatClampNeg) - (ix_aI h a8 (v3 + (-1)).toNatClampNeg)) h
          else
            jX9_termOf_97 cal K v0 v2 (v3 + (-1)) v4 (ix_fR h a9 33) ((v3 + (-1)) - (nI 1)) ((ix_aI h a6 ((v3 + (-1)) - (nI 1)).toNatClampNeg) * (ix_aI h a8 (v3 + (-1)).toNatClampNeg)) h
      else
        (ix_is h 10 (some v0)).bind fun a12 =>
        if (ix_aI h a8 (v3 + (-1)).toNatClampNeg) = nI 0 then
          jX9_termOf_72 cal K v0 v2 (v3 + (-1)) v4 (ix_fR h a12 33) ((v3 + (-1)) - (nI 1)) (nI 0) h
        else
          if (ix_aI h a4 v4.toNatClampNeg) = (nI 5) then
            if (ix_aI h a8 (v3 + (-1)).toNatClampNeg) = nI 0 then none else
            jX9_termOf_72 cal K v0 v2 (v3 + (-1)) v4 (ix_fR h a12 33) ((v3 + (-1)) - (nI 1)) ((ix_aI h a6 ((v3 + (-1)) - (nI 1)).toNatClampNeg) / (ix_aI h a8 (v3 + (-1)).toNatClampNeg)) h
          else
            if (ix_aI h a8 (v3 + (-1)).toNatClampNeg) = nI 0 then none else
            jX9_termOf_72 cal K v0 v2 (v3 + (-1)) v4 (ix_fR h a12 33) ((v3 + (-1)) - (nI 1)) ((ix_aI h a6 ((v3 + (-1)) - (nI 1)).toNatClampNeg) - (ix_aI h a6 ((v3 + (-1)) - (nI 1)).toNatClampNeg) / (ix_aI h a8 (v3 + (-1)).toNatClampNeg) * (ix_aI h a8 (v3 + (-1)).toNatClampNeg)) h
    else
      (ix_is h 10 (some v0)).bind fun a15 =>
      if (ix_aI h a4 v4.toNatClampNeg) = nI 0 then
        (ix_is h 10 (some v0)).bind fun a22 =>
        (ix_atr h 101 (ix_fR h a22 29) v4).bind fun a23 =>
        jX9_termOf_33 cal K v0 v2 v3 v4 (ix_fR h a15 33) v3 (ix_aI h a23 v4.toNatClampNeg) h
      else
        (ix_is h 10 (some v0)).bind fun a16 =>
        (ix_is h 10 (some v0)).bind fun a17 =>
        (ix_atr h 101 (ix_fR h a17 29) v4).bind fun a18 =>
        (ix_atr h 101 (ix_fR h a16 32) (ix_aI h a18 v4.toNatClampNeg)).bind fun a19 =>
        jX9_termOf_33 cal K v0 v2 v3 v4 (ix_fR h a15 33) v3 (ix_aI h a19 (ix_aI h a18 v4.toNatClampNeg).toNatClampNeg) h
theorem jX9_termOf_4_eq (cal : ix_C) (K : ix_K) (v0 : Nat) (v2 : Int32) (v3 : Int32) (v4 : Int32) (h : ix_H) : ix_fwd cal K (stX9_termOf.drop 4) 0 [(0, ix_R (some v0)), (2, ix_I v2), (3, ix_I v3), (4, ix_I v4)] [] h = jX9_termOf_4 cal K v0 v2 v3 v4 h := rfl
def bX9_termOf (cal : ix_C) (K : ix_K) (v0 : Nat) (v1 : Int32) (v2 : Int32) (h : ix_H) : ix_O :=
  jX9_termOf_4 cal K v0 v2 (nI 0) v1 h
theorem eX9_termOf (cal : ix_C) (K : ix_K) (v0 : Nat) (v1 : Int32) (v2 : Int32) (h : ix_H) : ix_fwd cal K stX9_termOf 0 [(0, ix_R (some v0)), (1, ix_I v1), (2, ix_I v2)] [] h = bX9_termOf cal K v0 v1 v2 h := rfl
theorem rX9_termOf (N d : Nat) (v0 : Nat) (v1 : Int32) (v2 : Int32) (h : ix_H) : ix_run iy_P N (d + 1) 278 [ix_R (some v0), ix_I v1, ix_I v2] h = bX9_termOf (ix_run iy_P N d) (ix_lp (ix_run iy_P N d) stX9_termOf N) v0 v1 v2 h := (rfl : ix_run iy_P N (d + 1) 278 [ix_R (some v0), ix_I v1, ix_I v2] h = ix_fwd (ix_run iy_P N d) (ix_lp (ix_run iy_P N d) stX9_termOf N) stX9_termOf 0 [(0, ix_R (some v0)), (1, ix_I v1), (2, ix_I v2)] [] h).trans (eX9_termOf _ _ v0 v1 v2 h)
theorem lX9_termOf_4 (cal : ix_C) (n : Nat) (v0 : Nat) (v2 : Int32) (v3 : Int32) (v4 : Int32) (h : ix_H) : ix_lp cal stX9_termOf (n + 1) 4 [(0, ix_R (some v0)), (2, ix_I v2), (3, ix_I v3), (4, ix_I v4)] [] h = jX9_termOf_4 cal (ix_lp cal stX9_termOf n) v0 v2 v3 v4 h := jX9_termOf_4_eq cal (ix_lp cal stX9_termOf n) v0 v2 v3 v4 h
def jX9_keyOf_11 (cal : ix_C) (K : ix_K) (s0 : Int32) (h : ix_H) : ix_O :=
  some (.inl (some (ix_I s0)), h)
theorem jX9_keyOf_11_eq (cal : ix_C) (K : ix_K) (s0 : Int32) (h : ix_H) : ix_fwd cal K (stX9_keyOf.drop 11) 0 [] [ix_I s0] h = jX9_keyOf_11 cal K s0 h := rfl
def bX9_keyOf (cal : ix_C) (K : ix_K) (v0 : Int32) (h : ix_H) : ix_O :=
  if (nI 1000) = nI 0 then none else
  if nI 0 ≤ (v0 - v0 / (nI 1000) * (nI 1000)) then
    jX9_keyOf_11 cal K (v0 - v0 / (nI 1000) * (nI 1000)) h
  else
    jX9_keyOf_11 cal K ((v0 - v0 / (nI 1000) * (nI 1000)) + (nI 1000)) h
theorem eX9_keyOf (cal : ix_C) (K : ix_K) (v0 : Int32) (h : ix_H) : ix_fwd cal K stX9_keyOf 0 [(0, ix_I v0)] [] h = bX9_keyOf cal K v0 h := rfl
theorem rX9_keyOf (N d : Nat) (v0 : Int32) (h : ix_H) : ix_run iy_P N (d + 1) 279 [ix_I v0] h = bX9_keyOf (ix_run iy_P N d) (ix_lp (ix_run iy_P N d) stX9_keyOf N) v0 h := (rfl : ix_run iy_P N (d + 1) 279 [ix_I v0] h = ix_fwd (ix_run iy_P N d) (ix_lp (ix_run iy_P N d) stX9_keyOf N) stX9_keyOf 0 [(0, ix_I v0)] [] h).trans (eX9_keyOf _ _ v0 h)
def jX9_starts_22 (cal : ix_C) (K : ix_K) (h : ix_H) : ix_O :=
  cond (ix_okn 1 (nI 0)) (some (.inl (some (ix_I (nI 0))), h)) none
theorem jX9_starts_22_eq (cal : ix_C) (K : ix_K) (h : ix_H) : ix_fwd cal K (stX9_starts.drop 22) 0 [] [] h = jX9_starts_22 cal K h := rfl
def bX9_starts (cal : ix_C) (K : ix_K) (v0 : Nat) (v1 : Int32) (v2 : Int32) (v3 : Int32) (v4 : Int32) (h : ix_H) : ix_O :=
  (ix_rI (cal 234 [ix_I v1] h)).bind fun r1 =>
  (ix_is r1.2 10 (some v0)).bind fun a2 =>
  (ix_atr r1.2 101 (ix_fR r1.2 a2 35) (r1.1 + (nI 1))).bind fun a3 =>
  if nI 0 < (ix_aI r1.2 a3 (r1.1 + (nI 1)).toNatClampNeg) then
    jX9_starts_22 cal K r1.2
  else
    (ix_is r1.2 10 (some v0)).bind fun a4 =>
    (ix_atr r1.2 101 (ix_fR r1.2 a4 35) (nI 0)).bind fun a5 =>
    if (nI 640) ≤ (ix_aI r1.2 a5 (nI 0).toNatClampNeg) then
      jX9_starts_22 cal K r1.2
    else
      (ix_is r1.2 10 (some v0)).bind fun a6 =>
      (ix_atr r1.2 101 (ix_fR r1.2 a6 35) (nI 1)).bind fun a7 =>
      if (ix_aI r1.2 a7 (nI 1).toNatClampNeg) < (nI 28) then
        (ix_is r1.2 10 (some v0)).bind fun a8 =>
        (ix_at r1.2 101 (ix_fR r1.2 a8 35) (r1.1 + (nI 0))).bind fun a9 =>
        ix_bd (ix_waI r1.2 a9 (r1.1 + (nI 0)).toNatClampNeg v2) fun h10 =>
        (ix_is h10 10 (some v0)).bind fun a11 =>
        (ix_at h10 101 (ix_fR h10 a11 35) (r1.1 + (nI 1))).bind fun a12 =>
        ix_bd (ix_waI h10 a12 (r1.1 + (nI 1)).toNatClampNeg (nI 1)) fun h13 =>
        (ix_is h13 10 (some v0)).bind fun a14 =>
        (ix_is h13 10 (some v0)).bind fun a15 =>
        (ix_atr h13 101 (ix_fR h13 a15 35) (nI 2)).bind fun a16 =>
        (ix_at h13 101 (ix_fR h13 a14 35) (r1.1 + (nI 5))).bind fun a17 =>
        ix_bd (ix_waI h13 a17 (r1.1 + (nI 5)).toNatClampNeg (ix_aI h13 a16 (nI 2).toNatClampNeg)) fun h18 =>
        (ix_is h18 10 (some v0)).bind fun a19 =>
        (ix_at h18 101 (ix_fR h18 a19 35) (r1.1 + (nI 6))).bind fun a20 =>
        ix_bd (ix_waI h18 a20 (r1.1 + (nI 6)).toNatClampNeg v3) fun h21 =>
        (ix_is h21 10 (some v0)).bind fun a22 =>
        (ix_at h21 101 (ix_fR h21 a22 35) (r1.1 + (nI 7))).bind fun a23 =>
        ix_bd (ix_waI h21 a23 (r1.1 + (nI 7)).toNatClampNeg v4) fun h24 =>
        (ix_is h24 10 (some v0)).bind fun a25 =>
        (ix_at h24 101 (ix_fR h24 a25 35) (r1.1 + (nI 8))).bind fun a26 =>
        ix_bd (ix_waI h24 a26 (r1.1 + (nI 8)).toNatClampNeg (nI 0)) fun h27 =>
        (ix_is h27 10 (some v0)).bind fun a28 =>
        (ix_at h27 101 (ix_fR h27 a28 35) (r1.1 + (nI 9))).bind fun a29 =>
        ix_bd (ix_waI h27 a29 (r1.1 + (nI 9)).toNatClampNeg (nI 0)) fun h30 =>
        cond (ix_okn 1 (nI 1)) (some (.inl (some (ix_I (nI 1))), h30)) none
      else
        jX9_starts_22 cal K r1.2
theorem eX9_starts (cal : ix_C) (K : ix_K) (v0 : Nat) (v1 : Int32) (v2 : Int32) (v3 : Int32) (v4 : Int32) (h : ix_H) : ix_fwd cal K stX9_starts 0 [(0, ix_R (some v0)), (1, ix_I v1), (2, ix_I v2), (3, ix_I v3), (4, ix_I v4)] [] h = bX9_starts cal K v0 v1 v2 v3 v4 h := rfl
theorem rX9_starts (N d : Nat) (v0 : Nat) (v1 : Int32) (v2 : Int32) (v3 : Int32) (v4 : Int32) (h : ix_H) : ix_run iy_P N (d + 1) 280 [ix_R (some v0), ix_I v1, ix_I v2, ix_I v3, ix_I v4] h = bX9_starts (ix_run iy_P N d) (ix_lp (ix_run iy_P N d) stX9_starts N) v0 v1 v2 v3 v4 h := (rfl : ix_run iy_P N (d + 1) 280 [ix_R (some v0), ix_I v1, ix_I v2, ix_I v3, ix_I v4] h = ix_fwd (ix_run iy_P N d) (ix_lp (ix_run iy_P N d) stX9_starts N) stX9_starts 0 [(0, ix_R (some v0)), (1, ix_I v1), (2, ix_I v2), (3, ix_I v3), (4, ix_I v4)] [] h).trans (eX9_starts _ _ v0 v1 v2 v3 v4 h)
def jX9_closes_19 (cal : ix_C) (K : ix_K) (v2 : Int32) (h : ix_H) : ix_O :=
  some (.inl (some (ix_I v2)), h)
theorem jX9_closes_19_eq (cal : ix_C) (K : ix_K) (v2 : Int32) (h : ix_H) : ix_fwd cal K (stX9_closes.drop 19) 0 [(2, ix_I v2)] [] h = jX9_closes_19 cal K v2 h := rfl
def jX9_closes_2 (cal : ix_C) (K : ix_K) (v0 : Nat) (v1 : Int32) (v2 : Int32) (h : ix_H) : ix_O :=
  if (nI 200) ≤ v2 then
    jX9_closes_19 cal K v2 h
  else
    (ix_is h 10 (some v0)).bind fun a1 =>
    (ix_rI (cal 234 [ix_I v1] h)).bind fun r2 =>
    (ix_atr r2.2 101 (ix_fR h a1 35) (r2.1 + (nI 1))).bind fun a3 =>
    if (ix_aI r2.2 a3 (r2.1 + (nI 1)).toNatClampNeg) ≤ nI 0 then
      jX9_closes_19 cal K v2 r2.2
    else
      (ix_isr r2.2 10 (some v0)).bind fun a5 =>
      (ix_rV (cal 282 [ix_R (some a5), ix_I v1] r2.2)).bind fun r4 =>
      K 2 [(0, ix_R (some v0)), (1, ix_I v1), (2, ix_I (v2 + (nI 1)))] [] r4
theorem jX9_closes_2_eq (cal : ix_C) (K : ix_K) (v0 : Nat) (v1 : Int32) (v2 : Int32) (h : ix_H) : ix_fwd cal K (stX9_closes.drop 2) 0 [(0, ix_R (some v0)), (1, ix_I v1), (2, ix_I v2)] [] h = jX9_closes_2 cal K v0 v1 v2 h := rfl
def bX9_closes (cal : ix_C) (K : ix_K) (v0 : Nat) (v1 : Int32) (h : ix_H) : ix_O :=
  jX9_closes_2 cal K v0 v1 (nI 0) h
theorem eX9_closes (cal : ix_C) (K : ix_K) (v0 : Nat) (v1 : Int32) (h : ix_H) : ix_fwd cal K stX9_closes 0 [(0, ix_R (some v0)), (1, ix_I v1)] [] h = bX9_closes cal K v0 v1 h := rfl
theorem rX9_closes (N d : Nat) (v0 : Nat) (v1 : Int32) (h : ix_H) : ix_run iy_P N (d + 1) 281 [ix_R (some v0), ix_I v1] h = bX9_closes (ix_run iy_P N d) (ix_lp (ix_run iy_P N d) stX9_closes N) v0 v1 h := (rfl : ix_run iy_P N (d + 1) 281 [ix_R (some v0), ix_I v1] h = ix_fwd (ix_run iy_P N d) (ix_lp (ix_run iy_P N d) stX9_closes N) stX9_closes 0 [(0, ix_R (some v0)), (1, ix_I v1)] [] h).trans (eX9_closes _ _ v0 v1 h)
theorem lX9_closes_2 (cal : ix_C) (n : Nat) (v0 : Nat) (v1 : Int32) (v2 : Int32) (h : ix_H) : ix_lp cal stX9_closes (n + 1) 2 [(0, ix_R (some v0)), (1, ix_I v1), (2, ix_I v2)] [] h = jX9_closes_2 cal (ix_lp cal stX9_closes n) v0 v1 v2 h := jX9_closes_2_eq cal (ix_lp cal stX9_closes n) v0 v1 v2 h
def jX9_steps_79 (cal : ix_C) (K : ix_K) (h : ix_H) : ix_O :=
  some (.inl none, h)
theorem jX9_steps_79_eq (cal : ix_C) (K : ix_K) (h : ix_H) : ix_fwd cal K (stX9_steps.drop 79) 0 [] [] h = jX9_steps_79 cal K h := rfl
def bX9_steps (cal : ix_C) (K : ix_K) (v0 : Nat) (v1 : Int32) (h : ix_H) : ix_O :=
  (ix_rI (cal 234 [ix_I v1] h)).bind fun r1 =>
  (ix_is r1.2 10 (some v0)).bind fun a2 =>
  (ix_atr r1.2 101 (ix_fR r1.2 a2 35) (r1.1 + (nI 1))).bind fun a3 =>
  if (ix_aI r1.2 a3 (r1.1 + (nI 1)).toNatClampNeg) = nI 0 then
    some (.inl none, r1.2)
  else
    (ix_is r1.2 10 (some v0)).bind fun a4 =>
    (ix_atr r1.2 101 (ix_fR r1.2 a4 35) (r1.1 + (nI 4))).bind fun a5 =>
    (ix_at r1.2 101 (ix_fR r1.2 a4 35) (r1.1 + (nI 4))).bind fun a6 =>
    ix_bd (ix_waI r1.2 a6 (r1.1 + (nI 4)).toNatClampNeg ((ix_aI r1.2 a5 (r1.1 + (nI 4)).toNatClampNeg) + (nI 1))) fun h7 =>
    (ix_is h7 10 (some v0)).bind fun a8 =>
    (ix_atr h7 101 (ix_fR h7 a8 35) (r1.1 + (nI 1))).bind fun a9 =>
    if (ix_aI h7 a9 (r1.1 + (nI 1)).toNatClampNeg) = nI 1 then
      (ix_isr h7 10 (some v0)).bind fun a11 =>
      (ix_rV (cal 283 [ix_R (some a11), ix_I r1.1] h7)).bind fun r10 =>
      jX9_steps_79 cal K r10
    else
    if (ix_aI h7 a9 (r1.1 + (nI 1)).toNatClampNeg) = nI 2 then
      (ix_isr h7 10 (some v0)).bind fun a13 =>
      (ix_rV (cal 286 [ix_R (some a13), ix_I r1.1] h7)).bind fun r12 =>
      jX9_steps_79 cal K r12
    else
    if (ix_aI h7 a9 (r1.1 + (nI 1)).toNatClampNeg) = nI 3 then
      (ix_isr h7 10 (some v0)).bind fun a15 =>
      (ix_rV (cal 294 [ix_R (some a15), ix_I r1.1] h7)).bind fun r14 =>
      jX9_steps_79 cal K r14
    else
    if (ix_aI h7 a9 (r1.1 + (nI 1)).toNatClampNeg) = nI 4 then
      (ix_isr h7 10 (some v0)).bind fun a17 =>
      (ix_rV (cal 299 [ix_R (some a17), ix_I r1.1] h7)).bind fun r16 =>
      jX9_steps_79 cal K r16
    else
    if (ix_aI h7 a9 (r1.1 + (nI 1)).toNatClampNeg) = nI 5 then
      (ix_isr h7 10 (some v0)).bind fun a19 =>
      (ix_rV (cal 301 [ix_R (some a19), ix_I r1.1] h7)).bind fun r18 =>
      jX9_steps_79 cal K r18
    else
    if (ix_aI h7 a9 (r1.1 + (nI 1)).toNatClampNeg) = nI 6 then
      (ix_isr h7 10 (some v0)).bind fun a21 =>
      (ix_rV (cal 303 [ix_R (some a21), ix_I r1.1] h7)).bind fun r20 =>
      jX9_steps_79 cal K r20
    else
    if (ix_aI h7 a9 (r1.1 + (nI 1)).toNatClampNeg) = nI 7 then
      (ix_isr h7 10 (some v0)).bind fun a23 =>
      (ix_rV (cal 304 [ix_R (some a23), ix_I r1.1] h7)).bind fun r22 =>
      jX9_steps_79 cal K r22
    else
    if (ix_aI h7 a9 (r1.1 + (nI 1)).toNatClampNeg) = nI 8 then
      (ix_isr h7 10 (some v0)).bind fun a25 =>
      (ix_rV (cal 305 [ix_R (some a25), ix_I r1.1] h7)).bind fun r24 =>
      jX9_steps_79 cal K r24
    else
    if (ix_aI h7 a9 (r1.1 + (nI 1)).toNatClampNeg) = nI 9 then
      (ix_isr h7 10 (some v0)).bind fun a27 =>
      (ix_rV (cal 307 [ix_R (some a27), ix_I r1.1] h7)).bind fun r26 =>
      jX9_steps_79 cal K r26
    else
    if (ix_aI h7 a9 (r1.1 + (nI 1)).toNatClampNeg) = nI 10 then
      (ix_isr h7 10 (some v0)).bind fun a29 =>
      (ix_rV (cal 309 [ix_R (some a29), ix_I r1.1] h7)).bind fun r28 =>
      jX9_steps_79 cal K r28
    else
    if (ix_aI h7 a9 (r1.1 + (nI 1)).toNatClampNeg) = nI 11 then
      (ix_isr h7 10 (some v0)).bind fun a31 =>
      (ix_rV (cal 310 [ix_R (some a31), ix_I r1.1] h7)).bind fun r30 =>
      jX9_steps_79 cal K r30
    else
    if (ix_aI h7 a9 (r1.1 + (nI 1)).toNatClampNeg) = nI 12 then
      (ix_isr h7 10 (some v0)).bind fun a33 =>
      (ix_rV (cal 312 [ix_R (some a33), ix_I r1.1] h7)).bind fun r32 =>
      jX9_steps_79 cal K r32
    else
      (ix_isr h7 10 (some v0)).bind fun a35 =>
      (ix_rV (cal 313 [ix_R (some a35), ix_I r1.1] h7)).bind fun r34 =>
      jX9_steps_79 cal K r34
theorem eX9_steps (cal : ix_C) (K : ix_K) (v0 : Nat) (v1 : Int32) (h : ix_H) : ix_fwd cal K stX9_steps 0 [(0, ix_R (some v0)), (1, ix_I v1)] [] h = bX9_steps cal K v0 v1 h := rfl
theorem rX9_steps (N d : Nat) (v0 : Nat) (v1 : Int32) (h : ix_H) : ix_run iy_P N (d + 1) 282 [ix_R (some v0), ix_I v1] h = bX9_steps (ix_run iy_P N d) (ix_lp (ix_run iy_P N d) stX9_steps N) v0 v1 h := (rfl : ix_run iy_P N (d + 1) 282 [ix_R (some v0), ix_I v1] h = ix_fwd (ix_run iy_P N d) (ix_lp (ix_run iy_P N d) stX9_steps N) stX9_steps 0 [(0, ix_R (some v0)), (1, ix_I v1)] [] h).trans (eX9_steps _ _ v0 v1 h)
def jX9_finds_7 (cal : ix_C) (K : ix_K) (v0 : Nat) (v1 : Int32) (v2 : Int32) (h : ix_H) : ix_O :=
  (ix_is h 10 (some v0)).bind fun a4 =>
  (ix_atr h 101 (ix_fR h a4 43) v2).bind fun a5 =>
  (ix_is h 10 (some v0)).bind fun a6 =>
  (ix_atr h 101 (ix_fR h a6 35) (v1 + (nI 6))).bind fun a7 =>
  if (ix_aI h a5 v2.toNatClampNeg) ≤ (ix_aI h a7 (v1 + (nI 6)).toNatClampNeg) then
    (ix_is h 10 (some v0)).bind fun a8 =>
    (ix_is h 10 (some v0)).bind fun a9 =>
    (ix_atr h 101 (ix_fR h a9 44) v2).bind fun a10 =>
    (ix_at h 101 (ix_fR h a8 35) (v1 + (nI 2))).bind fun a11 =>
    ix_bd (ix_waI h a11 (v1 + (nI 2)).toNatClampNeg (ix_aI h a10 v2.toNatClampNeg)) fun h12 =>
    (ix_isr h12 10 (some v0)).bind fun a14 =>
    (ix_rV (cal 285 [ix_R (some a14), ix_I v1, ix_I (nI 2)] h12)).bind fun r13 =>
    some (.inl none, r13)
  else
    K 7 [(0, ix_R (some v0)), (1, ix_I v1), (2, ix_I (v2 + (-1)))] [] h
theorem jX9_finds_7_eq (cal : ix_C) (K : ix_K) (v0 : Nat) (v1 : Int32) (v2 : Int32) (h : ix_H) : ix_fwd cal K (stX9_finds.drop 7) 0 [(0, ix_R (some v0)), (1, ix_I v1), (2, ix_I v2)] [] h = jX9_finds_7 cal K v0 v1 v2 h := rfl
def bX9_finds (cal : ix_C) (K : ix_K) (v0 : Nat) (v1 : Int32) (h : ix_H) : ix_O :=
  (ix_isr h 10 (some v0)).bind fun a2 =>
  (ix_rV (cal 284 [ix_R (some a2)] h)).bind fun r1 =>
  (ix_is r1 10 (some v0)).bind fun a3 =>
  jX9_finds_7 cal K v0 v1 ((ix_fI r1 a3 45) - (nI 1)) r1
theorem eX9_finds (cal : ix_C) (K : ix_K) (v0 : Nat) (v1 : Int32) (h : ix_H) : ix_fwd cal K stX9_finds 0 [(0, ix_R (some v0)), (1, ix_I v1)] [] h = bX9_finds cal K v0 v1 h := rfl
theorem rX9_finds (N d : Nat) (v0 : Nat) (v1 : Int32) (h : ix_H) : ix_run iy_P N (d + 1) 283 [ix_R (some v0), ix_I v1] h = bX9_finds (ix_run iy_P N d) (ix_lp (ix_run iy_P N d) stX9_finds N) v0 v1 h := (rfl : ix_run iy_P N (d + 1) 283 [ix_R (some v0), ix_I v1] h = ix_fwd (ix_run iy_P N d) (ix_lp (ix_run iy_P N d) stX9_finds N) stX9_finds 0 [(0, ix_R (some v0)), (1, ix_I v1)] [] h).trans (eX9_finds _ _ v0 v1 h)
theorem lX9_finds_7 (cal : ix_C) (n : Nat) (v0 : Nat) (v1 : Int32) (v2 : Int32) (h : ix_H) : ix_lp cal stX9_finds (n + 1) 7 [(0, ix_R (some v0)), (1, ix_I v1), (2, ix_I v2)] [] h = jX9_finds_7 cal (ix_lp cal stX9_finds n) v0 v1 v2 h := jX9_finds_7_eq cal (ix_lp cal stX9_finds n) v0 v1 v2 h
def jX9_fillsBounds_9 (cal : ix_C) (K : ix_K) (v0 : Nat) (v1 : Int32) (h : ix_H) : ix_O :=
  (ix_is h 10 (some v0)).bind fun a6 =>
  if (ix_fI h a6 40) ≤ v1 then
    some (.inl none, h)
  else
    (ix_is h 10 (some v0)).bind fun a7 =>
    (ix_is h 10 (some v0)).bind fun a8 =>
    (ix_atr h 101 (ix_fR h a8 38) v1).bind fun a9 =>
    (ix_at h 101 (ix_fR h a7 43) v1).bind fun a10 =>
    ix_bd (ix_waI h a10 v1.toNatClampNeg (ix_aI h a9 v1.toNatClampNeg)) fun h11 =>
    (ix_is h11 10 (some v0)).bind fun a12 =>
    (ix_is h11 10 (some v0)).bind fun a13 =>
    (ix_atr h11 101 (ix_fR h11 a13 39) v1).bind fun a14 =>
    (ix_at h11 101 (ix_fR h11 a12 44) v1).bind fun a15 =>
    ix_bd (ix_waI h11 a15 v1.toNatClampNeg (ix_aI h11 a14 v1.toNatClampNeg)) fun h16 =>
    K 9 [(0, ix_R (some v0)), (1, ix_I (v1 + (nI 1)))] [] h16
theorem jX9_fillsBounds_9_eq (cal : ix_C) (K : ix_K) (v0 : Nat) (v1 : Int32) (h : ix_H) : ix_fwd cal K (stX9_fillsBounds.drop 9) 0 [(0, ix_R (some v0)), (1, ix_I v1)] [] h = jX9_fillsBounds_9 cal K v0 v1 h := rfl
def bX9_fillsBounds (cal : ix_C) (K : ix_K) (v0 : Nat) (h : ix_H) : ix_O :=
  (ix_isr h 10 (some v0)).bind fun a2 =>
  (ix_rV (cal 268 [ix_R (some a2), ix_I (nI 0)] h)).bind fun r1 =>
  (ix_is r1 10 (some v0)).bind fun a3 =>
  (ix_is r1 10 (some v0)).bind fun a4 =>
  ix_bd (ix_wfI r1 a4 45 (ix_fI r1 a3 40)) fun h5 =>
  jX9_fillsBounds_9 cal K v0 (nI 0) h5
theorem eX9_fillsBounds (cal : ix_C) (K : ix_K) (v0 : Nat) (h : ix_H) : ix_fwd cal K stX9_fillsBounds 0 [(0, ix_R (some v0))] [] h = bX9_fillsBounds cal K v0 h := rfl
theorem rX9_fillsBounds (N d : Nat) (v0 : Nat) (h : ix_H) : ix_run iy_P N (d + 1) 284 [ix_R (some v0)] h = bX9_fillsBounds (ix_run iy_P N d) (ix_lp (ix_run iy_P N d) stX9_fillsBounds N) v0 h := (rfl : ix_run iy_P N (d + 1) 284 [ix_R (some v0)] h = ix_fwd (ix_run iy_P N d) (ix_lp (ix_run iy_P N d) stX9_fillsBounds N) stX9_fillsBounds 0 [(0, ix_R (some v0))] [] h).trans (eX9_fillsBounds _ _ v0 h)
theorem lX9_fillsBounds_9 (cal : ix_C) (n : Nat) (v0 : Nat) (v1 : Int32) (h : ix_H) : ix_lp cal stX9_fillsBounds (n + 1) 9 [(0, ix_R (some v0)), (1, ix_I v1)] [] h = jX9_fillsBounds_9 cal (ix_lp cal stX9_fillsBounds n) v0 v1 h := jX9_fillsBounds_9_eq cal (ix_lp cal stX9_fillsBounds n) v0 v1 h
def bX9_stands (cal : ix_C) (K : ix_K) (v0 : Nat) (v1 : Int32) (v2 : Int32) (h : ix_H) : ix_O :=
  (ix_is h 10 (some v0)).bind fun a1 =>
  (ix_at h 101 (ix_fR h a1 35) (v1 + (nI 1))).bind fun a2 =>
  ix_bd (ix_waI h a2 (v1 + (nI 1)).toNatClampNeg v2) fun h3 =>
  some (.inl none, h3)
theorem eX9_stands (cal : ix_C) (K : ix_K) (v0 : Nat) (v1 : Int32) (v2 : Int32) (h : ix_H) : ix_fwd cal K stX9_stands 0 [(0, ix_R (some v0)), (1, ix_I v1), (2, ix_I v2)] [] h = bX9_stands cal K v0 v1 v2 h := rfl
theorem rX9_stands (N d : Nat) (v0 : Nat) (v1 : Int32) (v2 : Int32) (h : ix_H) : ix_run iy_P N (d + 1) 285 [ix_R (some v0), ix_I v1, ix_I v2] h = bX9_stands (ix_run iy_P N d) (ix_lp (ix_run iy_P N d) stX9_stands N) v0 v1 v2 h := (rfl : ix_run iy_P N (d + 1) 285 [ix_R (some v0), ix_I v1, ix_I v2] h = ix_fwd (ix_run iy_P N d) (ix_lp (ix_run iy_P N d) stX9_stands N) stX9_stands 0 [(0, ix_R (some v0)), (1, ix_I v1), (2, ix_I v2)] [] h).trans (eX9_stands _ _ v0 v1 v2 h)
def jX9_reads_129 (cal : ix_C) (K : ix_K) (h : ix_H) : ix_O :=
  some (.inl none, h)
theorem jX9_reads_129_eq (cal : ix_C) (K : ix_K) (h : ix_H) : ix_fwd cal K (stX9_reads.drop 129) 0 [] [] h = jX9_reads_129 cal K h := rfl
def jX9_reads_123 (cal : ix_C) (K : ix_K) (v0 : Nat) (v1 : Int32) (v2 : Int32) (h : ix_H) : ix_O :=
  (ix_isr h 10 (some v0)).bind fun a18 =>
  (ix_rV (cal 293 [ix_R (some a18), ix_I v1, ix_I v2, ix_I (nI 3)] h)).bind fun r17 =>
  jX9_reads_129 cal K r17
theorem jX9_reads_123_eq (cal : ix_C) (K : ix_K) (v0 : Nat) (v1 : Int32) (v2 : Int32) (h : ix_H) : ix_fwd cal K (stX9_reads.drop 123) 0 [(0, ix_R (some v0)), (1, ix_I v1), (2, ix_I v2)] [] h = jX9_reads_123 cal K v0 v1 v2 h := rfl
def jX9_reads_100 (cal : ix_C) (K : ix_K) (v0 : Nat) (v1 : Int32) (v2 : Int32) (v4 : Int32) (v5 : Int32) (h : ix_H) : ix_O :=
  (ix_is h 10 (some v0)).bind fun a16 =>
  if (ix_fI h a16 37) ≤ (nI 24) then
    if v5 = (nI 1) then
      if v4 = nI 0 then
        (ix_isr h 10 (some v0)).bind fun a20 =>
        (ix_rI (cal 292 [ix_R (some a20)] h)).bind fun r19 =>
        if r19.1 = nI 0 then
          jX9_reads_123 cal K v0 v1 v2 r19.2
        else
          (ix_isr r19.2 10 (some v0)).bind fun a22 =>
          (ix_rV (cal 291 [ix_R (some a22), ix_I v1, ix_I (-3 : Int32)] r19.2)).bind fun r21 =>
          jX9_reads_129 cal K r21
      else
        jX9_reads_123 cal K v0 v1 v2 h
    else
      jX9_reads_123 cal K v0 v1 v2 h
  else
    (ix_isr h 10 (some v0)).bind fun a24 =>
    (ix_rV (cal 285 [ix_R (some a24), ix_I v1, ix_I (nI 4)] h)).bind fun r23 =>
    jX9_reads_129 cal K r23
theorem jX9_reads_100_eq (cal : ix_C) (K : ix_K) (v0 : Nat) (v1 : Int32) (v2 : Int32) (v4 : Int32) (v5 : Int32) (h : ix_H) : ix_fwd cal K (stX9_reads.drop 100) 0 [(0, ix_R (some v0)), (1, ix_I v1), (2, ix_I v2), (4, ix_I v4), (5, ix_I v5)] [] h = jX9_reads_100 cal K v0 v1 v2 v4 v5 h := rfl
def jX9_reads_87 (cal : ix_C) (K : ix_K) (s0 : Option Nat) (s1 : Int32) (s2 : Int32) (h : ix_H) : ix_O :=
  (ix_isr h 10 s0).bind fun a28 =>
  (ix_rV (cal 291 [ix_R (some a28), ix_I s1, ix_I s2] h)).bind fun r27 =>
  jX9_reads_129 cal K r27
theorem jX9_reads_87_eq (cal : ix_C) (K : ix_K) (s0 : Option Nat) (s1 : Int32) (s2 : Int32) (h : ix_H) : ix_fwd cal K (stX9_reads.drop 87) 0 [] [ix_I s2, ix_I s1, ix_R s0] h = jX9_reads_87 cal K s0 s1 s2 h := rfl
def jX9_reads_59 (cal : ix_C) (K : ix_K) (h : ix_H) : ix_O :=
  some (.inl none, h)
theorem jX9_reads_59_eq (cal : ix_C) (K : ix_K) (h : ix_H) : ix_fwd cal K (stX9_reads.drop 59) 0 [] [] h = jX9_reads_59 cal K h := rfl
def bX9_reads (cal : ix_C) (K : ix_K) (v0 : Nat) (v1 : Int32) (h : ix_H) : ix_O :=
  (ix_is h 10 (some v0)).bind fun a1 =>
  (ix_atr h 101 (ix_fR h a1 35) (v1 + (nI 2))).bind fun a2 =>
  (ix_is h 10 (some v0)).bind fun a3 =>
  (ix_atr h 101 (ix_fR h a3 35) (v1 + (nI 6))).bind fun a4 =>
  (ix_isr h 10 (some v0)).bind fun a6 =>
  (ix_rI (cal 287 [ix_R (some a6), ix_I (ix_aI h a2 (v1 + (nI 2)).toNatClampNeg)] h)).bind fun r5 =>
  if r5.1 = nI 0 then
    (ix_isr r5.2 10 (some v0)).bind fun a8 =>
    (ix_rV (cal 284 [ix_R (some a8)] r5.2)).bind fun r7 =>
    (ix_isr r7 10 (some v0)).bind fun a10 =>
    (ix_rV (cal 268 [ix_R (some a10), ix_I (ix_aI h a2 (v1 + (nI 2)).toNatClampNeg)] r7)).bind fun r9 =>
    (ix_is r9 10 (some v0)).bind fun a11 =>
    if (ix_aI h a4 (v1 + (nI 6)).toNatClampNeg) < (ix_fI r9 a11 41) then
      (ix_isr r9 10 (some v0)).bind fun a13 =>
      (ix_rI (cal 276 [ix_R (some a13), ix_I (ix_aI h a4 (v1 + (nI 6)).toNatClampNeg)] r9)).bind fun r12 =>
      (ix_is r12.2 10 (some v0)).bind fun a14 =>
      (ix_atr r12.2 101 (ix_fR r12.2 a14 35) (v1 + (nI 0))).bind fun a15 =>
      if (ix_aI r12.2 a15 (v1 + (nI 0)).toNatClampNeg) = (nI 3) then
        if r12.1 = nI 0 then
          jX9_reads_87 cal K (some v0) v1 (nI 0) r12.2
        else
          (ix_is r12.2 10 (some v0)).bind fun a29 =>
          (ix_isr r12.2 10 (some v0)).bind fun a31 =>
          (ix_rI (cal 275 [ix_R (some a31), ix_I (ix_aI h a4 (v1 + (nI 6)).toNatClampNeg)] r12.2)).bind fun r30 =>
          (ix_atr r30.2 101 (ix_fR r12.2 a29 39) r30.1).bind fun a32 =>
          jX9_reads_87 cal K (some v0) v1 (ix_aI r30.2 a32 r30.1.toNatClampNeg) r30.2
      else
        if (ix_aI r12.2 a15 (v1 + (nI 0)).toNatClampNeg) = (nI 2) then
          if r12.1 = nI 0 then
            (ix_isr r12.2 10 (some v0)).bind fun a26 =>
            (ix_rV (cal 291 [ix_R (some a26), ix_I v1, ix_I (nI 0)] r12.2)).bind fun r25 =>
            jX9_reads_129 cal K r25
          else
            jX9_reads_100 cal K v0 v1 (ix_aI h a2 (v1 + (nI 2)).toNatClampNeg) r12.1 (ix_aI r12.2 a15 (v1 + (nI 0)).toNatClampNeg) r12.2
        else
          jX9_reads_100 cal K v0 v1 (ix_aI h a2 (v1 + (nI 2)).toNatClampNeg) r12.1 (ix_aI r12.2 a15 (v1 + (nI 0)).toNatClampNeg) r12.2
    else
      (ix_is r9 10 (some v0)).bind fun a33 =>
      (ix_isr r9 10 (some v0)).bind fun a35 =>
      (ix_rI (cal 289 [ix_R (some a35), ix_I (ix_fI r9 a33 41)] r9)).bind fun r34 =>
      (ix_is r34.2 10 (some v0)).bind fun a36 =>
      if r34.1 = (ix_fI r34.2 a36 42) then
        (ix_is r34.2 10 (some v0)).bind fun a41 =>
        (ix_is r34.2 10 (some v0)).bind fun a42 =>
        (ix_at r34.2 101 (ix_fR r34.2 a41 35) (v1 + (nI 2))).bind fun a43 =>
        ix_bd (ix_waI r34.2 a43 (v1 + (nI 2)).toNatClampNeg (ix_fI r34.2 a42 42)) fun h44 =>
        (ix_isr h44 10 (some v0)).bind fun a46 =>
        (ix_rV (cal 285 [ix_R (some a46), ix_I v1, ix_I (nI 2)] h44)).bind fun r45 =>
        jX9_reads_59 cal K r45
      else
        (ix_is r34.2 10 (some v0)).bind fun a37 =>
        (ix_is r34.2 10 (some v0)).bind fun a38 =>
        (ix_isr r34.2 10 (some v0)).bind fun a40 =>
        (ix_rV (cal 290 [ix_R (some a40), ix_I v1, ix_I (ix_fI r34.2 a37 41), ix_I (ix_fI r34.2 a38 42)] r34.2)).bind fun r39 =>
        jX9_reads_59 cal K r39
  else
    (ix_isr r5.2 10 (some v0)).bind fun a48 =>
    (ix_rV (cal 288 [ix_R (some a48), ix_I v1, ix_I (ix_aI h a2 (v1 + (nI 2)).toNatClampNeg)] r5.2)).bind fun r47 =>
    some (.inl none, r47)
theorem eX9_reads (cal : ix_C) (K : ix_K) (v0 : Nat) (v1 : Int32) (h : ix_H) : ix_fwd cal K stX9_reads 0 [(0, ix_R (some v0)), (1, ix_I v1)] [] h = bX9_reads cal K v0 v1 h := rfl
theorem rX9_reads (N d : Nat) (v0 : Nat) (v1 : Int32) (h : ix_H) : ix_run iy_P N (d + 1) 286 [ix_R (some v0), ix_I v1] h = bX9_reads (ix_run iy_P N d) (ix_lp (ix_run iy_P N d) stX9_reads N) v0 v1 h := (rfl : ix_run iy_P N (d + 1) 286 [ix_R (some v0), ix_I v1] h = ix_fwd (ix_run iy_P N d) (ix_lp (ix_run iy_P N d) stX9_reads N) stX9_reads 0 [(0, ix_R (some v0)), (1, ix_I v1)] [] h).trans (eX9_reads _ _ v0 v1 h)
def jX9_isGone_11 (cal : ix_C) (K : ix_K) (s0 : Int32) (h : ix_H) : ix_O :=
  cond (ix_okn 1 s0) (some (.inl (some (ix_I s0)), h)) none
theorem jX9_isGone_11_eq (cal : ix_C) (K : ix_K) (s0 : Int32) (h : ix_H) : ix_fwd cal K (stX9_isGone.drop 11) 0 [] [ix_I s0] h = jX9_isGone_11 cal K s0 h := rfl
def bX9_isGone (cal : ix_C) (K : ix_K) (v0 : Nat) (v1 : Int32) (h : ix_H) : ix_O :=
  (ix_isr h 10 (some v0)).bind fun a2 =>
  (ix_rI (cal 270 [ix_R (some a2), ix_I v1] h)).bind fun r1 =>
  (ix_isr r1.2 10 (some v0)).bind fun a4 =>
  (ix_rI (cal 239 [ix_R (some a4), ix_I r1.1, ix_I (nI 0)] r1.2)).bind fun r3 =>
  if r3.1 = (nI 4) then
    jX9_isGone_11 cal K (nI 1) r3.2
  else
    jX9_isGone_11 cal K (nI 0) r3.2
theorem eX9_isGone (cal : ix_C) (K : ix_K) (v0 : Nat) (v1 : Int32) (h : ix_H) : ix_fwd cal K stX9_isGone 0 [(0, ix_R (some v0)), (1, ix_I v1)] [] h = bX9_isGone cal K v0 v1 h := rfl
theorem rX9_isGone (N d : Nat) (v0 : Nat) (v1 : Int32) (h : ix_H) : ix_run iy_P N (d + 1) 287 [ix_R (some v0), ix_I v1] h = bX9_isGone (ix_run iy_P N d) (ix_lp (ix_run iy_P N d) stX9_isGone N) v0 v1 h := (rfl : ix_run iy_P N (d + 1) 287 [ix_R (some v0), ix_I v1] h = ix_fwd (ix_run iy_P N d) (ix_lp (ix_run iy_P N d) stX9_isGone N) stX9_isGone 0 [(0, ix_R (some v0)), (1, ix_I v1)] [] h).trans (eX9_isGone _ _ v0 v1 h)
def bX9_leaves (cal : ix_C) (K : ix_K) (v0 : Nat) (v1 : Int32) (v2 : Int32) (h : ix_H) : ix_O :=
  (ix_is h 10 (some v0)).bind fun a1 =>
  (ix_at h 101 (ix_fR h a1 35) (v1 + (nI 11))).bind fun a2 =>
  ix_bd (ix_waI h a2 (v1 + (nI 11)).toNatClampNeg v2) fun h3 =>
  (ix_isr h3 10 (some v0)).bind fun a5 =>
  (ix_rV (cal 285 [ix_R (some a5), ix_I v1, ix_I (nI 10)] h3)).bind fun r4 =>
  some (.inl none, r4)
theorem eX9_leaves (cal : ix_C) (K : ix_K) (v0 : Nat) (v1 : Int32) (v2 : Int32) (h : ix_H) : ix_fwd cal K stX9_leaves 0 [(0, ix_R (some v0)), (1, ix_I v1), (2, ix_I v2)] [] h = bX9_leaves cal K v0 v1 v2 h := rfl
theorem rX9_leaves (N d : Nat) (v0 : Nat) (v1 : Int32) (v2 : Int32) (h : ix_H) : ix_run iy_P N (d + 1) 288 [ix_R (some v0), ix_I v1, ix_I v2] h = bX9_leaves (ix_run iy_P N d) (ix_lp (ix_run iy_P N d) stX9_leaves N) v0 v1 v2 h := (rfl : ix_run iy_P N (d + 1) 288 [ix_R (some v0), ix_I v1, ix_I v2] h = ix_fwd (ix_run iy_P N d) (ix_lp (ix_run iy_P N d) stX9_leaves N) stX9_leaves 0 [(0, ix_R (some v0)), (1, ix_I v1), (2, ix_I v2)] [] h).trans (eX9_leaves _ _ v0 v1 v2 h)
def jX9_pageBy_2 (cal : ix_C) (K : ix_K) (v0 : Nat) (v1 : Int32) (v2 : Int32) (h : ix_H) : ix_O :=
  (ix_is h 10 (some v0)).bind fun a1 =>
  if (ix_fI h a1 45) ≤ v2 then
    some (.inl (some (ix_I (-1 : Int32))), h)
  else
    (ix_is h 10 (some v0)).bind fun a2 =>
    (ix_atr h 101 (ix_fR h a2 43) v2).bind fun a3 =>
    if (ix_aI h a3 v2.toNatClampNeg) = v1 then
      (ix_is h 10 (some v0)).bind fun a4 =>
      (ix_atr h 101 (ix_fR h a4 44) v2).bind fun a5 =>
      some (.inl (some (ix_I (ix_aI h a5 v2.toNatClampNeg))), h)
    else
      K 2 [(0, ix_R (some v0)), (1, ix_I v1), (2, ix_I (v2 + (nI 1)))] [] h
theorem jX9_pageBy_2_eq (cal : ix_C) (K : ix_K) (v0 : Nat) (v1 : Int32) (v2 : Int32) (h : ix_H) : ix_fwd cal K (stX9_pageBy.drop 2) 0 [(0, ix_R (some v0)), (1, ix_I v1), (2, ix_I v2)] [] h = jX9_pageBy_2 cal K v0 v1 v2 h := rfl
def bX9_pageBy (cal : ix_C) (K : ix_K) (v0 : Nat) (v1 : Int32) (h : ix_H) : ix_O :=
  jX9_pageBy_2 cal K v0 v1 (nI 0) h
theorem eX9_pageBy (cal : ix_C) (K : ix_K) (v0 : Nat) (v1 : Int32) (h : ix_H) : ix_fwd cal K stX9_pageBy 0 [(0, ix_R (some v0)), (1, ix_I v1)] [] h = bX9_pageBy cal K v0 v1 h := rfl
theorem rX9_pageBy (N d : Nat) (v0 : Nat) (v1 : Int32) (h : ix_H) : ix_run iy_P N (d + 1) 289 [ix_R (some v0), ix_I v1] h = bX9_pageBy (ix_run iy_P N d) (ix_lp (ix_run iy_P N d) stX9_pageBy N) v0 v1 h := (rfl : ix_run iy_P N (d + 1) 289 [ix_R (some v0), ix_I v1] h = ix_fwd (ix_run iy_P N d) (ix_lp (ix_run iy_P N d) stX9_pageBy N) stX9_pageBy 0 [(0, ix_R (some v0)), (1, ix_I v1)] [] h).trans (eX9_pageBy _ _ v0 v1 h)
theorem lX9_pageBy_2 (cal : ix_C) (n : Nat) (v0 : Nat) (v1 : Int32) (v2 : Int32) (h : ix_H) : ix_lp cal stX9_pageBy (n + 1) 2 [(0, ix_R (some v0)), (1, ix_I v1), (2, ix_I v2)] [] h = jX9_pageBy_2 cal (ix_lp cal stX9_pageBy n) v0 v1 v2 h := jX9_pageBy_2_eq cal (ix_lp cal stX9_pageBy n) v0 v1 v2 h
def bX9_notes (cal : ix_C) (K : ix_K) (v0 : Nat) (v1 : Int32) (v2 : Int32) (v3 : Int32) (h : ix_H) : ix_O :=
  (ix_is h 10 (some v0)).bind fun a1 =>
  (ix_at h 101 (ix_fR h a1 35) (v1 + (nI 12))).bind fun a2 =>
  ix_bd (ix_waI h a2 (v1 + (nI 12)).toNatClampNeg v2) fun h3 =>
  (ix_is h3 10 (some v0)).bind fun a4 =>
  (ix_at h3 101 (ix_fR h3 a4 35) (v1 + (nI 13))).bind fun a5 =>
  ix_bd (ix_waI h3 a5 (v1 + (nI 13)).toNatClampNeg v3) fun h6 =>
  (ix_isr h6 10 (some v0)).bind fun a8 =>
  (ix_rV (cal 285 [ix_R (some a8), ix_I v1, ix_I (nI 7)] h6)).bind fun r7 =>
  some (.inl none, r7)
theorem eX9_notes (cal : ix_C) (K : ix_K) (v0 : Nat) (v1 : Int32) (v2 : Int32) (v3 : Int32) (h : ix_H) : ix_fwd cal K stX9_notes 0 [(0, ix_R (some v0)), (1, ix_I v1), (2, ix_I v2), (3, ix_I v3)] [] h = bX9_notes cal K v0 v1 v2 v3 h := rfl
theorem rX9_notes (N d : Nat) (v0 : Nat) (v1 : Int32) (v2 : Int32) (v3 : Int32) (h : ix_H) : ix_run iy_P N (d + 1) 290 [ix_R (some v0), ix_I v1, ix_I v2, ix_I v3] h = bX9_notes (ix_run iy_P N d) (ix_lp (ix_run iy_P N d) stX9_notes N) v0 v1 v2 v3 h := (rfl : ix_run iy_P N (d + 1) 290 [ix_R (some v0), ix_I v1, ix_I v2, ix_I v3] h = ix_fwd (ix_run iy_P N d) (ix_lp (ix_run iy_P N d) stX9_notes N) stX9_notes 0 [(0, ix_R (some v0)), (1, ix_I v1), (2, ix_I v2), (3, ix_I v3)] [] h).trans (eX9_notes _ _ v0 v1 v2 v3 h)
def bX9_rests (cal : ix_C) (K : ix_K) (v0 : Nat) (v1 : Int32) (v2 : Int32) (h : ix_H) : ix_O :=
  (ix_is h 10 (some v0)).bind fun a1 =>
  (ix_at h 101 (ix_fR h a1 35) (v1 + (nI 8))).bind fun a2 =>
  ix_bd (ix_waI h a2 (v1 + (nI 8)).toNatClampNeg v2) fun h3 =>
  (ix_is h3 10 (some v0)).bind fun a4 =>
  (ix_at h3 101 (ix_fR h3 a4 35) (v1 + (nI 9))).bind fun a5 =>
  ix_bd (ix_waI h3 a5 (v1 + (nI 9)).toNatClampNeg (nI 1)) fun h6 =>
  (ix_is h6 10 (some v0)).bind fun a7 =>
  (ix_at h6 101 (ix_fR h6 a7 35) (v1 + (nI 1))).bind fun a8 =>
  ix_bd (ix_waI h6 a8 (v1 + (nI 1)).toNatClampNeg (nI 0)) fun h9 =>
  some (.inl none, h9)
theorem eX9_rests (cal : ix_C) (K : ix_K) (v0 : Nat) (v1 : Int32) (v2 : Int32) (h : ix_H) : ix_fwd cal K stX9_rests 0 [(0, ix_R (some v0)), (1, ix_I v1), (2, ix_I v2)] [] h = bX9_rests cal K v0 v1 v2 h := rfl
theorem rX9_rests (N d : Nat) (v0 : Nat) (v1 : Int32) (v2 : Int32) (h : ix_H) : ix_run iy_P N (d + 1) 291 [ix_R (some v0), ix_I v1, ix_I v2] h = bX9_rests (ix_run iy_P N d) (ix_lp (ix_run iy_P N d) stX9_rests N) v0 v1 v2 h := (rfl : ix_run iy_P N (d + 1) 291 [ix_R (some v0), ix_I v1, ix_I v2] h = ix_fwd (ix_run iy_P N d) (ix_lp (ix_run iy_P N d) stX9_rests N) stX9_rests 0 [(0, ix_R (some v0)), (1, ix_I v1), (2, ix_I v2)] [] h).trans (eX9_rests _ _ v0 v1 v2 h)
def jX9_isFull_9 (cal : ix_C) (K : ix_K) (s0 : Int32) (h : ix_H) : ix_O :=
  cond (ix_okn 1 s0) (some (.inl (some (ix_I s0)), h)) none
theorem jX9_isFull_9_eq (cal : ix_C) (K : ix_K) (s0 : Int32) (h : ix_H) : ix_fwd cal K (stX9_isFull.drop 9) 0 [] [ix_I s0] h = jX9_isFull_9 cal K s0 h := rfl
def bX9_isFull (cal : ix_C) (K : ix_K) (v0 : Nat) (h : ix_H) : ix_O :=
  (ix_isr h 10 (some v0)).bind fun a2 =>
  (ix_rV (cal 267 [ix_R (some a2)] h)).bind fun r1 =>
  (ix_is r1 10 (some v0)).bind fun a3 =>
  if (ix_fI r1 a3 48) < (nI 40) then
    jX9_isFull_9 cal K (nI 0) r1
  else
    jX9_isFull_9 cal K (nI 1) r1
theorem eX9_isFull (cal : ix_C) (K : ix_K) (v0 : Nat) (h : ix_H) : ix_fwd cal K stX9_isFull 0 [(0, ix_R (some v0))] [] h = bX9_isFull cal K v0 h := rfl
theorem rX9_isFull (N d : Nat) (v0 : Nat) (h : ix_H) : ix_run iy_P N (d + 1) 292 [ix_R (some v0)] h = bX9_isFull (ix_run iy_P N d) (ix_lp (ix_run iy_P N d) stX9_isFull N) v0 h := (rfl : ix_run iy_P N (d + 1) 292 [ix_R (some v0)] h = ix_fwd (ix_run iy_P N d) (ix_lp (ix_run iy_P N d) stX9_isFull N) stX9_isFull 0 [(0, ix_R (some v0))] [] h).trans (eX9_isFull _ _ v0 h)
def bX9_sees (cal : ix_C) (K : ix_K) (v0 : Nat) (v1 : Int32) (v2 : Int32) (v3 : Int32) (h : ix_H) : ix_O :=
  (ix_is h 10 (some v0)).bind fun a1 =>
  (ix_isr h 10 (some v0)).bind fun a3 =>
  (ix_rI (cal 270 [ix_R (some a3), ix_I v2] h)).bind fun r2 =>
  (ix_at r2.2 101 (ix_fR h a1 35) (v1 + (nI 10))).bind fun a4 =>
  ix_bd (ix_waI r2.2 a4 (v1 + (nI 10)).toNatClampNeg r2.1) fun h5 =>
  (ix_isr h5 10 (some v0)).bind fun a7 =>
  (ix_rV (cal 285 [ix_R (some a7), ix_I v1, ix_I v3] h5)).bind fun r6 =>
  some (.inl none, r6)
theorem eX9_sees (cal : ix_C) (K : ix_K) (v0 : Nat) (v1 : Int32) (v2 : Int32) (v3 : Int32) (h : ix_H) : ix_fwd cal K stX9_sees 0 [(0, ix_R (some v0)), (1, ix_I v1), (2, ix_I v2), (3, ix_I v3)] [] h = bX9_sees cal K v0 v1 v2 v3 h := rfl
theorem rX9_sees (N d : Nat) (v0 : Nat) (v1 : Int32) (v2 : Int32) (v3 : Int32) (h : ix_H) : ix_run iy_P N (d + 1) 293 [ix_R (some v0), ix_I v1, ix_I v2, ix_I v3] h = bX9_sees (ix_run iy_P N d) (ix_lp (ix_run iy_P N d) stX9_sees N) v0 v1 v2 v3 h := (rfl : ix_run iy_P N (d + 1) 293 [ix_R (some v0), ix_I v1, ix_I v2, ix_I v3] h = ix_fwd (ix_run iy_P N d) (ix_lp (ix_run iy_P N d) stX9_sees N) stX9_sees 0 [(0, ix_R (some v0)), (1, ix_I v1), (2, ix_I v2), (3, ix_I v3)] [] h).trans (eX9_sees _ _ v0 v1 v2 v3 h)
def jX9_prepends_92 (cal : ix_C) (K : ix_K) (h : ix_H) : ix_O :=
  some (.inl none, h)
theorem jX9_prepends_92_eq (cal : ix_C) (K : ix_K) (h : ix_H) : ix_fwd cal K (stX9_prepends.drop 92) 0 [] [] h = jX9_prepends_92 cal K h := rfl
def jX9_prepends_74 (cal : ix_C) (K : ix_K) (v0 : Nat) (v1 : Int32) (v2 : Int32) (s0 : Option Nat) (s1 : Int32) (s2 : Option Nat) (s3 : Int32) (s4 : Int32) (s5 : Int32) (h : ix_H) : ix_O :=
  (ix_isr h 10 (some v0)).bind fun a16 =>
  (ix_rI (cal 270 [ix_R (some a16), ix_I v2] h)).bind fun r15 =>
  (ix_isr r15.2 10 s2).bind fun a18 =>
  (ix_rI (cal 236 [ix_R (some a18), ix_I s3, ix_I s4, ix_I s5, ix_I r15.1] r15.2)).bind fun r17 =>
  (ix_isr r17.2 10 s0).bind fun a20 =>
  (ix_rV (cal 297 [ix_R (some a20), ix_I s1, ix_I r17.1] r17.2)).bind fun r19 =>
  (ix_isr r19 10 (some v0)).bind fun a22 =>
  (ix_rI (cal 298 [ix_R (some a22), ix_I v2] r19)).bind fun r21 =>
  (ix_is r21.2 10 (some v0)).bind fun a23 =>
  (ix_atr r21.2 101 (ix_fR r21.2 a23 35) (nI 5)).bind fun a24 =>
  if r21.1 ≤ (ix_aI r21.2 a24 (nI 5).toNatClampNeg) then
    jX9_prepends_92 cal K r21.2
  else
    (ix_isr r21.2 10 (some v0)).bind fun a26 =>
    (ix_rV (cal 285 [ix_R (some a26), ix_I v1, ix_I (nI 4)] r21.2)).bind fun r25 =>
    jX9_prepends_92 cal K r25
theorem jX9_prepends_74_eq (cal : ix_C) (K : ix_K) (v0 : Nat) (v1 : Int32) (v2 : Int32) (s0 : Option Nat) (s1 : Int32) (s2 : Option Nat) (s3 : Int32) (s4 : Int32) (s5 : Int32) (h : ix_H) : ix_fwd cal K (stX9_prepends.drop 74) 0 [(0, ix_R (some v0)), (1, ix_I v1), (2, ix_I v2)] [ix_I s5, ix_I s4, ix_I s3, ix_R s2, ix_I s1, ix_R s0] h = jX9_prepends_74 cal K v0 v1 v2 s0 s1 s2 s3 s4 s5 h := rfl
def jX9_prepends_62 (cal : ix_C) (K : ix_K) (v0 : Nat) (v1 : Int32) (v2 : Int32) (v3 : Int32) (v4 : Int32) (s0 : Option Nat) (s1 : Int32) (s2 : Option Nat) (s3 : Int32) (h : ix_H) : ix_O :=
  if v4 = nI 0 then
    jX9_prepends_74 cal K v0 v1 v2 s0 s1 s2 s3 v3 (-2 : Int32) h
  else
    (ix_is h 10 (some v0)).bind fun a27 =>
    (ix_atr h 101 (ix_fR h a27 35) (v1 + (nI 7))).bind fun a28 =>
    jX9_prepends_74 cal K v0 v1 v2 s0 s1 s2 s3 v3 (ix_aI h a28 (v1 + (nI 7)).toNatClampNeg) h
theorem jX9_prepends_62_eq (cal : ix_C) (K : ix_K) (v0 : Nat) (v1 : Int32) (v2 : Int32) (v3 : Int32) (v4 : Int32) (s0 : Option Nat) (s1 : Int32) (s2 : Option Nat) (s3 : Int32) (h : ix_H) : ix_fwd cal K (stX9_prepends.drop 62) 0 [(0, ix_R (some v0)), (1, ix_I v1), (2, ix_I v2), (3, ix_I v3), (4, ix_I v4)] [ix_I s3, ix_R s2, ix_I s1, ix_R s0] h = jX9_prepends_62 cal K v0 v1 v2 v3 v4 s0 s1 s2 s3 h := rfl
def jX9_prepends_52 (cal : ix_C) (K : ix_K) (v0 : Nat) (v1 : Int32) (v2 : Int32) (v3 : Int32) (s0 : Int32) (h : ix_H) : ix_O :=
  if s0 = nI 0 then
    jX9_prepends_62 cal K v0 v1 v2 v3 s0 (some v0) v2 (some v0) (nI 2) h
  else
    jX9_prepends_62 cal K v0 v1 v2 v3 s0 (some v0) v2 (some v0) (nI 1) h
theorem jX9_prepends_52_eq (cal : ix_C) (K : ix_K) (v0 : Nat) (v1 : Int32) (v2 : Int32) (v3 : Int32) (s0 : Int32) (h : ix_H) : ix_fwd cal K (stX9_prepends.drop 52) 0 [(0, ix_R (some v0)), (1, ix_I v1), (2, ix_I v2), (3, ix_I v3)] [ix_I s0] h = jX9_prepends_52 cal K v0 v1 v2 v3 s0 h := rfl
def jX9_prepends_39 (cal : ix_C) (K : ix_K) (v0 : Nat) (v1 : Int32) (v2 : Int32) (v3 : Int32) (s0 : Option Nat) (s1 : Int32) (s2 : Int32) (h : ix_H) : ix_O :=
  (ix_isr h 10 s0).bind fun a12 =>
  (ix_rV (cal 291 [ix_R (some a12), ix_I s1, ix_I s2] h)).bind fun r11 =>
  (ix_is r11 10 (some v0)).bind fun a13 =>
  (ix_atr r11 101 (ix_fR r11 a13 35) (v1 + (nI 0))).bind fun a14 =>
  if (ix_aI r11 a14 (v1 + (nI 0)).toNatClampNeg) = (nI 1) then
    jX9_prepends_52 cal K v0 v1 v2 v3 (nI 1) r11
  else
    jX9_prepends_52 cal K v0 v1 v2 v3 (nI 0) r11
theorem jX9_prepends_39_eq (cal : ix_C) (K : ix_K) (v0 : Nat) (v1 : Int32) (v2 : Int32) (v3 : Int32) (s0 : Option Nat) (s1 : Int32) (s2 : Int32) (h : ix_H) : ix_fwd cal K (stX9_prepends.drop 39) 0 [(0, ix_R (some v0)), (1, ix_I v1), (2, ix_I v2), (3, ix_I v3)] [ix_I s2, ix_I s1, ix_R s0] h = jX9_prepends_39 cal K v0 v1 v2 v3 s0 s1 s2 h := rfl
def bX9_prepends (cal : ix_C) (K : ix_K) (v0 : Nat) (v1 : Int32) (h : ix_H) : ix_O :=
  (ix_is h 10 (some v0)).bind fun a1 =>
  (ix_atr h 101 (ix_fR h a1 35) (v1 + (nI 2))).bind fun a2 =>
  (ix_is h 10 (some v0)).bind fun a3 =>
  (ix_atr h 101 (ix_fR h a3 35) (v1 + (nI 6))).bind fun a4 =>
  (ix_isr h 10 (some v0)).bind fun a6 =>
  (ix_rI (cal 295 [ix_R (some a6), ix_I v1, ix_I (ix_aI h a2 (v1 + (nI 2)).toNatClampNeg)] h)).bind fun r5 =>
  if r5.1 = nI 0 then
    (ix_isr r5.2 10 (some v0)).bind fun a30 =>
    (ix_rV (cal 296 [ix_R (some a30), ix_I v1] r5.2)).bind fun r29 =>
    (ix_isr r29 10 (some v0)).bind fun a32 =>
    (ix_rV (cal 285 [ix_R (some a32), ix_I v1, ix_I (nI 2)] r29)).bind fun r31 =>
    some (.inl none, r31)
  else
    (ix_isr r5.2 10 (some v0)).bind fun a8 =>
    (ix_rV (cal 268 [ix_R (some a8), ix_I (ix_aI h a2 (v1 + (nI 2)).toNatClampNeg)] r5.2)).bind fun r7 =>
    (ix_isr r7 10 (some v0)).bind fun a10 =>
    (ix_rI (cal 276 [ix_R (some a10), ix_I (ix_aI h a4 (v1 + (nI 6)).toNatClampNeg)] r7)).bind fun r9 =>
    if r9.1 = nI 0 then
      jX9_prepends_39 cal K v0 v1 (ix_aI h a2 (v1 + (nI 2)).toNatClampNeg) (ix_aI h a4 (v1 + (nI 6)).toNatClampNeg) (some v0) v1 (nI 0) r9.2
    else
      jX9_prepends_39 cal K v0 v1 (ix_aI h a2 (v1 + (nI 2)).toNatClampNeg) (ix_aI h a4 (v1 + (nI 6)).toNatClampNeg) (some v0) v1 (nI 1) r9.2
theorem eX9_prepends (cal : ix_C) (K : ix_K) (v0 : Nat) (v1 : Int32) (h : ix_H) : ix_fwd cal K stX9_prepends 0 [(0, ix_R (some v0)), (1, ix_I v1)] [] h = bX9_prepends cal K v0 v1 h := rfl
theorem rX9_prepends (N d : Nat) (v0 : Nat) (v1 : Int32) (h : ix_H) : ix_run iy_P N (d + 1) 294 [ix_R (some v0), ix_I v1] h = bX9_prepends (ix_run iy_P N d) (ix_lp (ix_run iy_P N d) stX9_prepends N) v0 v1 h := (rfl : ix_run iy_P N (d + 1) 294 [ix_R (some v0), ix_I v1] h = ix_fwd (ix_run iy_P N d) (ix_lp (ix_run iy_P N d) stX9_prepends N) stX9_prepends 0 [(0, ix_R (some v0)), (1, ix_I v1)] [] h).trans (eX9_prepends _ _ v0 v1 h)
def jX9_isSeen_13 (cal : ix_C) (K : ix_K) (s0 : Int32) (h : ix_H) : ix_O :=
  cond (ix_okn 1 s0) (some (.inl (some (ix_I s0)), h)) none
theorem jX9_isSeen_13_eq (cal : ix_C) (K : ix_K) (s0 : Int32) (h : ix_H) : ix_fwd cal K (stX9_isSeen.drop 13) 0 [] [ix_I s0] h = jX9_isSeen_13 cal K s0 h := rfl
def bX9_isSeen (cal : ix_C) (K : ix_K) (v0 : Nat) (v1 : Int32) (v2 : Int32) (h : ix_H) : ix_O :=
  (ix_isr h 10 (some v0)).bind fun a2 =>
  (ix_rI (cal 270 [ix_R (some a2), ix_I v2] h)).bind fun r1 =>
  (ix_is r1.2 10 (some v0)).bind fun a3 =>
  (ix_atr r1.2 101 (ix_fR r1.2 a3 35) (v1 + (nI 10))).bind fun a4 =>
  if r1.1 = (ix_aI r1.2 a4 (v1 + (nI 10)).toNatClampNeg) then
    jX9_isSeen_13 cal K (nI 1) r1.2
  else
    jX9_isSeen_13 cal K (nI 0) r1.2
theorem eX9_isSeen (cal : ix_C) (K : ix_K) (v0 : Nat) (v1 : Int32) (v2 : Int32) (h : ix_H) : ix_fwd cal K stX9_isSeen 0 [(0, ix_R (some v0)), (1, ix_I v1), (2, ix_I v2)] [] h = bX9_isSeen cal K v0 v1 v2 h := rfl
theorem rX9_isSeen (N d : Nat) (v0 : Nat) (v1 : Int32) (v2 : Int32) (h : ix_H) : ix_run iy_P N (d + 1) 295 [ix_R (some v0), ix_I v1, ix_I v2] h = bX9_isSeen (ix_run iy_P N d) (ix_lp (ix_run iy_P N d) stX9_isSeen N) v0 v1 v2 h := (rfl : ix_run iy_P N (d + 1) 295 [ix_R (some v0), ix_I v1, ix_I v2] h = ix_fwd (ix_run iy_P N d) (ix_lp (ix_run iy_P N d) stX9_isSeen N) stX9_isSeen 0 [(0, ix_R (some v0)), (1, ix_I v1), (2, ix_I v2)] [] h).trans (eX9_isSeen _ _ v0 v1 v2 h)
def bX9_loses (cal : ix_C) (K : ix_K) (v0 : Nat) (v1 : Int32) (h : ix_H) : ix_O :=
  (ix_is h 10 (some v0)).bind fun a1 =>
  (ix_atr h 101 (ix_fR h a1 35) (v1 + (nI 3))).bind fun a2 =>
  (ix_at h 101 (ix_fR h a1 35) (v1 + (nI 3))).bind fun a3 =>
  ix_bd (ix_waI h a3 (v1 + (nI 3)).toNatClampNeg ((ix_aI h a2 (v1 + (nI 3)).toNatClampNeg) + (nI 1))) fun h4 =>
  (ix_is h4 10 (some v0)).bind fun a5 =>
  (ix_atr h4 101 (ix_fR h4 a5 35) (nI 3)).bind fun a6 =>
  (ix_at h4 101 (ix_fR h4 a5 35) (nI 3)).bind fun a7 =>
  ix_bd (ix_waI h4 a7 (nI 3).toNatClampNeg ((ix_aI h4 a6 (nI 3).toNatClampNeg) + (nI 1))) fun h8 =>
  some (.inl none, h8)
theorem eX9_loses (cal : ix_C) (K : ix_K) (v0 : Nat) (v1 : Int32) (h : ix_H) : ix_fwd cal K stX9_loses 0 [(0, ix_R (some v0)), (1, ix_I v1)] [] h = bX9_loses cal K v0 v1 h := rfl
theorem rX9_loses (N d : Nat) (v0 : Nat) (v1 : Int32) (h : ix_H) : ix_run iy_P N (d + 1) 296 [ix_R (some v0), ix_I v1] h = bX9_loses (ix_run iy_P N d) (ix_lp (ix_run iy_P N d) stX9_loses N) v0 v1 h := (rfl : ix_run iy_P N (d + 1) 296 [ix_R (some v0), ix_I v1] h = ix_fwd (ix_run iy_P N d) (ix_lp (ix_run iy_P N d) stX9_loses N) stX9_loses 0 [(0, ix_R (some v0)), (1, ix_I v1)] [] h).trans (eX9_loses _ _ v0 v1 h)
def bX9_laysTop (cal : ix_C) (K : ix_K) (v0 : Nat) (v1 : Int32) (v2 : Int32) (h : ix_H) : ix_O :=
  (ix_is h 10 (some v0)).bind fun a1 =>
  (ix_at h 101 (ix_fR h a1 35) ((nI 10) + v1)).bind fun a2 =>
  ix_bd (ix_waI h a2 ((nI 10) + v1).toNatClampNeg v2) fun h3 =>
  some (.inl none, h3)
theorem eX9_laysTop (cal : ix_C) (K : ix_K) (v0 : Nat) (v1 : Int32) (v2 : Int32) (h : ix_H) : ix_fwd cal K stX9_laysTop 0 [(0, ix_R (some v0)), (1, ix_I v1), (2, ix_I v2)] [] h = bX9_laysTop cal K v0 v1 v2 h := rfl
theorem rX9_laysTop (N d : Nat) (v0 : Nat) (v1 : Int32) (v2 : Int32) (h : ix_H) : ix_run iy_P N (d + 1) 297 [ix_R (some v0), ix_I v1, ix_I v2] h = bX9_laysTop (ix_run iy_P N d) (ix_lp (ix_run iy_P N d) stX9_laysTop N) v0 v1 v2 h := (rfl : ix_run iy_P N (d + 1) 297 [ix_R (some v0), ix_I v1, ix_I v2] h = ix_fwd (ix_run iy_P N d) (ix_lp (ix_run iy_P N d) stX9_laysTop N) stX9_laysTop 0 [(0, ix_R (some v0)), (1, ix_I v1), (2, ix_I v2)] [] h).trans (eX9_laysTop _ _ v0 v1 v2 h)
def bX9_lengthOf (cal : ix_C) (K : ix_K) (v0 : Nat) (v1 : Int32) (h : ix_H) : ix_O :=
  (ix_isr h 10 (some v0)).bind fun a2 =>
  (ix_rV (cal 269 [ix_R (some a2), ix_I v1] h)).bind fun r1 =>
  (ix_is r1 10 (some v0)).bind fun a3 =>
  some (.inl (some (ix_I ((ix_fI r1 a3 37) - (nI 1)))), r1)
theorem eX9_lengthOf (cal : ix_C) (K : ix_K) (v0 : Nat) (v1 : Int32) (h : ix_H) : ix_fwd cal K stX9_lengthOf 0 [(0, ix_R (some v0)), (1, ix_I v1)] [] h = bX9_lengthOf cal K v0 v1 h := rfl
theorem rX9_lengthOf (N d : Nat) (v0 : Nat) (v1 : Int32) (h : ix_H) : ix_run iy_P N (d + 1) 298 [ix_R (some v0), ix_I v1] h = bX9_lengthOf (ix_run iy_P N d) (ix_lp (ix_run iy_P N d) stX9_lengthOf N) v0 v1 h := (rfl : ix_run iy_P N (d + 1) 298 [ix_R (some v0), ix_I v1] h = ix_fwd (ix_run iy_P N d) (ix_lp (ix_run iy_P N d) stX9_lengthOf N) stX9_lengthOf 0 [(0, ix_R (some v0)), (1, ix_I v1)] [] h).trans (eX9_lengthOf _ _ v0 v1 h)
def jX9_gathers_23 (cal : ix_C) (K : ix_K) (h : ix_H) : ix_O :=
  some (.inl none, h)
theorem jX9_gathers_23_eq (cal : ix_C) (K : ix_K) (h : ix_H) : ix_fwd cal K (stX9_gathers.drop 23) 0 [] [] h = jX9_gathers_23 cal K h := rfl
def jX9_gathers_17 (cal : ix_C) (K : ix_K) (v0 : Nat) (v1 : Int32) (v2 : Int32) (h : ix_H) : ix_O :=
  (ix_isr h 10 (some v0)).bind fun a4 =>
  (ix_rV (cal 293 [ix_R (some a4), ix_I v1, ix_I v2, ix_I (nI 5)] h)).bind fun r3 =>
  jX9_gathers_23 cal K r3
theorem jX9_gathers_17_eq (cal : ix_C) (K : ix_K) (v0 : Nat) (v1 : Int32) (v2 : Int32) (h : ix_H) : ix_fwd cal K (stX9_gathers.drop 17) 0 [(0, ix_R (some v0)), (1, ix_I v1), (2, ix_I v2)] [] h = jX9_gathers_17 cal K v0 v1 v2 h := rfl
def bX9_gathers (cal : ix_C) (K : ix_K) (v0 : Nat) (v1 : Int32) (h : ix_H) : ix_O :=
  (ix_is h 10 (some v0)).bind fun a1 =>
  (ix_atr h 101 (ix_fR h a1 35) (v1 + (nI 2))).bind fun a2 =>
  if (ix_aI h a2 (v1 + (nI 2)).toNatClampNeg) ≤ nI 0 then
    jX9_gathers_17 cal K v0 v1 (ix_aI h a2 (v1 + (nI 2)).toNatClampNeg) h
  else
    (ix_isr h 10 (some v0)).bind fun a6 =>
    (ix_rI (cal 287 [ix_R (some a6), ix_I (ix_aI h a2 (v1 + (nI 2)).toNatClampNeg)] h)).bind fun r5 =>
    if r5.1 = nI 0 then
      jX9_gathers_17 cal K v0 v1 (ix_aI h a2 (v1 + (nI 2)).toNatClampNeg) r5.2
    else
      (ix_isr r5.2 10 (some v0)).bind fun a8 =>
      (ix_rV (cal 300 [ix_R (some a8), ix_I v1] r5.2)).bind fun r7 =>
      jX9_gathers_23 cal K r7
theorem eX9_gathers (cal : ix_C) (K : ix_K) (v0 : Nat) (v1 : Int32) (h : ix_H) : ix_fwd cal K stX9_gathers 0 [(0, ix_R (some v0)), (1, ix_I v1)] [] h = bX9_gathers cal K v0 v1 h := rfl
theorem rX9_gathers (N d : Nat) (v0 : Nat) (v1 : Int32) (h : ix_H) : ix_run iy_P N (d + 1) 299 [ix_R (some v0), ix_I v1] h = bX9_gathers (ix_run iy_P N d) (ix_lp (ix_run iy_P N d) stX9_gathers N) v0 v1 h := (rfl : ix_run iy_P N (d + 1) 299 [ix_R (some v0), ix_I v1] h = ix_fwd (ix_run iy_P N d) (ix_lp (ix_run iy_P N d) stX9_gathers N) stX9_gathers 0 [(0, ix_R (some v0)), (1, ix_I v1)] [] h).trans (eX9_gathers _ _ v0 v1 h)
def jX9_goOn_16 (cal : ix_C) (K : ix_K) (s0 : Option Nat) (s1 : Int32) (s2 : Int32) (h : ix_H) : ix_O :=
  (ix_at h 101 s0 s1).bind fun a4 =>
  ix_bd (ix_waI h a4 s1.toNatClampNeg s2) fun h5 =>
  some (.inl none, h5)
theorem jX9_goOn_16_eq (cal : ix_C) (K : ix_K) (s0 : Option Nat) (s1 : Int32) (s2 : Int32) (h : ix_H) : ix_fwd cal K (stX9_goOn.drop 16) 0 [] [ix_I s2, ix_I s1, ix_R s0] h = jX9_goOn_16 cal K s0 s1 s2 h := rfl
def bX9_goOn (cal : ix_C) (K : ix_K) (v0 : Nat) (v1 : Int32) (h : ix_H) : ix_O :=
  (ix_is h 10 (some v0)).bind fun a1 =>
  (ix_is h 10 (some v0)).bind fun a2 =>
  (ix_atr h 101 (ix_fR h a2 35) (v1 + (nI 9))).bind fun a3 =>
  if (ix_aI h a3 (v1 + (nI 9)).toNatClampNeg) = (nI 1) then
    jX9_goOn_16 cal K (ix_fR h a1 35) (v1 + (nI 1)) (nI 0) h
  else
    jX9_goOn_16 cal K (ix_fR h a1 35) (v1 + (nI 1)) (nI 1) h
theorem eX9_goOn (cal : ix_C) (K : ix_K) (v0 : Nat) (v1 : Int32) (h : ix_H) : ix_fwd cal K stX9_goOn 0 [(0, ix_R (some v0)), (1, ix_I v1)] [] h = bX9_goOn cal K v0 v1 h := rfl
theorem rX9_goOn (N d : Nat) (v0 : Nat) (v1 : Int32) (h : ix_H) : ix_run iy_P N (d + 1) 300 [ix_R (some v0), ix_I v1] h = bX9_goOn (ix_run iy_P N d) (ix_lp (ix_run iy_P N d) stX9_goOn N) v0 v1 h := (rfl : ix_run iy_P N (d + 1) 300 [ix_R (some v0), ix_I v1] h = ix_fwd (ix_run iy_P N d) (ix_lp (ix_run iy_P N d) stX9_goOn N) stX9_goOn 0 [(0, ix_R (some v0)), (1, ix_I v1)] [] h).trans (eX9_goOn _ _ v0 v1 h)
def jX9_swaps_127 (cal : ix_C) (K : ix_K) (h : ix_H) : ix_O :=
  some (.inl none, h)
theorem jX9_swaps_127_eq (cal : ix_C) (K : ix_K) (h : ix_H) : ix_fwd cal K (stX9_swaps.drop 127) 0 [] [] h = jX9_swaps_127 cal K h := rfl
def jX9_swaps_123 (cal : ix_C) (K : ix_K) (v0 : Nat) (v1 : Int32) (h : ix_H) : ix_O :=
  (ix_isr h 10 (some v0)).bind fun a19 =>
  (ix_rV (cal 300 [ix_R (some a19), ix_I v1] h)).bind fun r18 =>
  jX9_swaps_127 cal K r18
theorem jX9_swaps_123_eq (cal : ix_C) (K : ix_K) (v0 : Nat) (v1 : Int32) (h : ix_H) : ix_fwd cal K (stX9_swaps.drop 123) 0 [(0, ix_R (some v0)), (1, ix_I v1)] [] h = jX9_swaps_123 cal K v0 v1 h := rfl
def jX9_swaps_108 (cal : ix_C) (K : ix_K) (v0 : Nat) (v1 : Int32) (v2 : Int32) (h : ix_H) : ix_O :=
  if v2 ≤ nI 0 then
    jX9_swaps_123 cal K v0 v1 h
  else
    (ix_is h 10 (some v0)).bind fun a20 =>
    (ix_is h 10 (some v0)).bind fun a21 =>
    (ix_atr h 101 (ix_fR h a21 35) (nI 7)).bind fun a22 =>
    if (ix_aI h a22 (nI 7).toNatClampNeg) ≤ (ix_fI h a20 40) then
      jX9_swaps_123 cal K v0 v1 h
    else
      (ix_isr h 10 (some v0)).bind fun a24 =>
      (ix_rV (cal 285 [ix_R (some a24), ix_I v1, ix_I (nI 9)] h)).bind fun r23 =>
      jX9_swaps_127 cal K r23
theorem jX9_swaps_108_eq (cal : ix_C) (K : ix_K) (v0 : Nat) (v1 : Int32) (v2 : Int32) (h : ix_H) : ix_fwd cal K (stX9_swaps.drop 108) 0 [(0, ix_R (some v0)), (1, ix_I v1), (2, ix_I v2)] [] h = jX9_swaps_108 cal K v0 v1 v2 h := rfl
def jX9_swaps_80 (cal : ix_C) (K : ix_K) (v0 : Nat) (v1 : Int32) (v2 : Int32) (v3 : Int32) (v4 : Int32) (h : ix_H) : ix_O :=
  K 51 [(0, ix_R (some v0)), (1, ix_I v1), (2, ix_I v2), (3, ix_I v3), (4, ix_I (v4 + (nI 1)))] [] h
theorem jX9_swaps_80_eq (cal : ix_C) (K : ix_K) (v0 : Nat) (v1 : Int32) (v2 : Int32) (v3 : Int32) (v4 : Int32) (h : ix_H) : ix_fwd cal K (stX9_swaps.drop 80) 0 [(0, ix_R (some v0)), (1, ix_I v1), (2, ix_I v2), (3, ix_I v3), (4, ix_I v4)] [] h = jX9_swaps_80 cal K v0 v1 v2 v3 v4 h := rfl
def jX9_swaps_51 (cal : ix_C) (K : ix_K) (v0 : Nat) (v1 : Int32) (v2 : Int32) (v3 : Int32) (v4 : Int32) (h : ix_H) : ix_O :=
  (ix_is h 10 (some v0)).bind fun a12 =>
  if (ix_fI h a12 37) ≤ v4 then
    (ix_isr h 10 (some v0)).bind fun a14 =>
    (ix_rV (cal 297 [ix_R (some a14), ix_I v2, ix_I v3] h)).bind fun r13 =>
    (ix_is r13 10 (some v0)).bind fun a15 =>
    (ix_at r13 101 (ix_fR r13 a15 35) (v1 + (nI 10))).bind fun a16 =>
    ix_bd (ix_waI r13 a16 (v1 + (nI 10)).toNatClampNeg v3) fun h17 =>
    if v2 ≤ nI 0 then
      jX9_swaps_108 cal K v0 v1 v2 h17
    else
      (ix_is h17 10 (some v0)).bind fun a25 =>
      (ix_is h17 10 (some v0)).bind fun a26 =>
      (ix_atr h17 101 (ix_fR h17 a26 35) (nI 6)).bind fun a27 =>
      if (ix_fI h17 a25 40) ≤ (ix_aI h17 a27 (nI 6).toNatClampNeg) then
        jX9_swaps_108 cal K v0 v1 v2 h17
      else
        (ix_isr h17 10 (some v0)).bind fun a29 =>
        (ix_rV (cal 285 [ix_R (some a29), ix_I v1, ix_I (nI 6)] h17)).bind fun r28 =>
        jX9_swaps_127 cal K r28
  else
    (ix_is h 10 (some v0)).bind fun a30 =>
    (ix_atr h 101 (ix_fR h a30 36) v4).bind fun a31 =>
    (ix_isr h 10 (some v0)).bind fun a33 =>
    (ix_rV (cal 302 [ix_R (some a33), ix_I (ix_aI h a31 v4.toNatClampNeg)] h)).bind fun r32 =>
    (ix_is r32 10 (some v0)).bind fun a34 =>
    (ix_atr r32 101 (ix_fR r32 a34 36) v4).bind fun a35 =>
    (ix_isr r32 10 (some v0)).bind fun a37 =>
    (ix_rI (cal 239 [ix_R (some a37), ix_I (ix_aI r32 a35 v4.toNatClampNeg), ix_I (nI 0)] r32)).bind fun r36 =>
    if r36.1 = (nI 5) then
      (ix_is r36.2 10 (some v0)).bind fun a38 =>
      (ix_atr r36.2 101 (ix_fR r36.2 a38 36) v4).bind fun a39 =>
      (ix_isr r36.2 10 (some v0)).bind fun a41 =>
      (ix_rI (cal 239 [ix_R (some a41), ix_I (ix_aI r36.2 a39 v4.toNatClampNeg), ix_I (nI 9)] r36.2)).bind fun r40 =>
      (ix_isr r40.2 10 (some v0)).bind fun a43 =>
      (ix_rV (cal 302 [ix_R (some a43), ix_I r40.1] r40.2)).bind fun r42 =>
      jX9_swaps_80 cal K v0 v1 v2 v3 v4 r42
    else
      jX9_swaps_80 cal K v0 v1 v2 v3 v4 r36.2
theorem jX9_swaps_51_eq (cal : ix_C) (K : ix_K) (v0 : Nat) (v1 : Int32) (v2 : Int32) (v3 : Int32) (v4 : Int32) (h : ix_H) : ix_fwd cal K (stX9_swaps.drop 51) 0 [(0, ix_R (some v0)), (1, ix_I v1), (2, ix_I v2), (3, ix_I v3), (4, ix_I v4)] [] h = jX9_swaps_51 cal K v0 v1 v2 v3 v4 h := rfl
def jX9_swaps_31 (cal : ix_C) (K : ix_K) (v0 : Nat) (v1 : Int32) (v2 : Int32) (v3 : Int32) (v4 : Int32) (h : ix_H) : ix_O :=
  (ix_is h 10 (some v0)).bind fun a11 =>
  if (ix_fI h a11 40) ≤ v4 then
    jX9_swaps_51 cal K v0 v1 v2 v3 (nI 0) h
  else
    (ix_is h 10 (some v0)).bind fun a44 =>
    (ix_atr h 101 (ix_fR h a44 38) v4).bind fun a45 =>
    (ix_is h 10 (some v0)).bind fun a46 =>
    (ix_atr h 101 (ix_fR h a46 39) v4).bind fun a47 =>
    (ix_isr h 10 (some v0)).bind fun a49 =>
    (ix_rV (cal 238 [ix_R (some a49), ix_I v3, ix_I (ix_aI h a45 v4.toNatClampNeg), ix_I (ix_aI h a47 v4.toNatClampNeg)] h)).bind fun r48 =>
    K 31 [(0, ix_R (some v0)), (1, ix_I v1), (2, ix_I v2), (3, ix_I v3), (4, ix_I (v4 + (nI 1)))] [] r48
theorem jX9_swaps_31_eq (cal : ix_C) (K : ix_K) (v0 : Nat) (v1 : Int32) (v2 : Int32) (v3 : Int32) (v4 : Int32) (h : ix_H) : ix_fwd cal K (stX9_swaps.drop 31) 0 [(0, ix_R (some v0)), (1, ix_I v1), (2, ix_I v2), (3, ix_I v3), (4, ix_I v4)] [] h = jX9_swaps_31 cal K v0 v1 v2 v3 v4 h := rfl
def bX9_swaps (cal : ix_C) (K : ix_K) (v0 : Nat) (v1 : Int32) (h : ix_H) : ix_O :=
  (ix_is h 10 (some v0)).bind fun a1 =>
  (ix_atr h 101 (ix_fR h a1 35) (v1 + (nI 2))).bind fun a2 =>
  (ix_isr h 10 (some v0)).bind fun a4 =>
  (ix_rI (cal 295 [ix_R (some a4), ix_I v1, ix_I (ix_aI h a2 (v1 + (nI 2)).toNatClampNeg)] h)).bind fun r3 =>
  if r3.1 = nI 0 then
    (ix_isr r3.2 10 (some v0)).bind fun a51 =>
    (ix_rV (cal 296 [ix_R (some a51), ix_I v1] r3.2)).bind fun r50 =>
    (ix_isr r50 10 (some v0)).bind fun a53 =>
    (ix_rV (cal 300 [ix_R (some a53), ix_I v1] r50)).bind fun r52 =>
    some (.inl none, r52)
  else
    (ix_isr r3.2 10 (some v0)).bind fun a6 =>
    (ix_rV (cal 268 [ix_R (some a6), ix_I (ix_aI h a2 (v1 + (nI 2)).toNatClampNeg)] r3.2)).bind fun r5 =>
    (ix_is r5 10 (some v0)).bind fun a7 =>
    (ix_is r5 10 (some v0)).bind fun a8 =>
    (ix_isr r5 10 (some v0)).bind fun a10 =>
    (ix_rI (cal 235 [ix_R (some a10), ix_I (ix_fI r5 a7 41), ix_I (ix_fI r5 a8 42)] r5)).bind fun r9 =>
    jX9_swaps_31 cal K v0 v1 (ix_aI h a2 (v1 + (nI 2)).toNatClampNeg) r9.1 (nI 0) r9.2
theorem eX9_swaps (cal : ix_C) (K : ix_K) (v0 : Nat) (v1 : Int32) (h : ix_H) : ix_fwd cal K stX9_swaps 0 [(0, ix_R (some v0)), (1, ix_I v1)] [] h = bX9_swaps cal K v0 v1 h := rfl
theorem rX9_swaps (N d : Nat) (v0 : Nat) (v1 : Int32) (h : ix_H) : ix_run iy_P N (d + 1) 301 [ix_R (some v0), ix_I v1] h = bX9_swaps (ix_run iy_P N d) (ix_lp (ix_run iy_P N d) stX9_swaps N) v0 v1 h := (rfl : ix_run iy_P N (d + 1) 301 [ix_R (some v0), ix_I v1] h = ix_fwd (ix_run iy_P N d) (ix_lp (ix_run iy_P N d) stX9_swaps N) stX9_swaps 0 [(0, ix_R (some v0)), (1, ix_I v1)] [] h).trans (eX9_swaps _ _ v0 v1 h)
theorem lX9_swaps_31 (cal : ix_C) (n : Nat) (v0 : Nat) (v1 : Int32) (v2 : Int32) (v3 : Int32) (v4 : Int32) (h : ix_H) : ix_lp cal stX9_swaps (n + 1) 31 [(0, ix_R (some v0)), (1, ix_I v1), (2, ix_I v2), (3, ix_I v3), (4, ix_I v4)] [] h = jX9_swaps_31 cal (ix_lp cal stX9_swaps n) v0 v1 v2 v3 v4 h := jX9_swaps_31_eq cal (ix_lp cal stX9_swaps n) v0 v1 v2 v3 v4 h
theorem lX9_swaps_51 (cal : ix_C) (n : Nat) (v0 : Nat) (v1 : Int32) (v2 : Int32) (v3 : Int32) (v4 : Int32) (h : ix_H) : ix_lp cal stX9_swaps (n + 1) 51 [(0, ix_R (some v0)), (1, ix_I v1), (2, ix_I v2), (3, ix_I v3), (4, ix_I v4)] [] h = jX9_swaps_51 cal (ix_lp cal stX9_swaps n) v0 v1 v2 v3 v4 h := jX9_swaps_51_eq cal (ix_lp cal stX9_swaps n) v0 v1 v2 v3 v4 h
def bX9_retires (cal : ix_C) (K : ix_K) (v0 : Nat) (v1 : Int32) (h : ix_H) : ix_O :=
  (ix_is h 10 (some v0)).bind fun a1 =>
  (ix_rI (cal 237 [ix_I v1] h)).bind fun r2 =>
  (ix_is r2.2 10 (some v0)).bind fun a3 =>
  (ix_atr r2.2 101 (ix_fR r2.2 a3 35) (nI 2)).bind fun a4 =>
  (ix_at r2.2 101 (ix_fR h a1 35) (r2.1 + (nI 4))).bind fun a5 =>
  ix_bd (ix_waI r2.2 a5 (r2.1 + (nI 4)).toNatClampNeg (ix_aI r2.2 a4 (nI 2).toNatClampNeg)) fun h6 =>
  some (.inl none, h6)
theorem eX9_retires (cal : ix_C) (K : ix_K) (v0 : Nat) (v1 : Int32) (h : ix_H) : ix_fwd cal K stX9_retires 0 [(0, ix_R (some v0)), (1, ix_I v1)] [] h = bX9_retires cal K v0 v1 h := rfl
theorem rX9_retires (N d : Nat) (v0 : Nat) (v1 : Int32) (h : ix_H) : ix_run iy_P N (d + 1) 302 [ix_R (some v0), ix_I v1] h = bX9_retires (ix_run iy_P N d) (ix_lp (ix_run iy_P N d) stX9_retires N) v0 v1 h := (rfl : ix_run iy_P N (d + 1) 302 [ix_R (some v0), ix_I v1] h = ix_fwd (ix_run iy_P N d) (ix_lp (ix_run iy_P N d) stX9_retires N) stX9_retires 0 [(0, ix_R (some v0)), (1, ix_I v1)] [] h).trans (eX9_retires _ _ v0 v1 h)
def jX9_splits_18 (cal : ix_C) (K : ix_K) (v0 : Nat) (v1 : Int32) (h : ix_H) : ix_O :=
  (ix_isr h 10 (some v0)).bind fun a6 =>
  (ix_rV (cal 300 [ix_R (some a6), ix_I v1] h)).bind fun r5 =>
  some (.inl none, r5)
theorem jX9_splits_18_eq (cal : ix_C) (K : ix_K) (v0 : Nat) (v1 : Int32) (h : ix_H) : ix_fwd cal K (stX9_splits.drop 18) 0 [(0, ix_R (some v0)), (1, ix_I v1)] [] h = jX9_splits_18 cal K v0 v1 h := rfl
def jX9_splits_45 (cal : ix_C) (K : ix_K) (v0 : Nat) (v1 : Int32) (v2 : Int32) (v3 : Int32) (v4 : Int32) (v5 : Int32) (v6 : Int32) (h : ix_H) : ix_O :=
  (ix_is h 10 (some v0)).bind fun a18 =>
  if (ix_fI h a18 40) ≤ v6 then
    (ix_isr h 10 (some v0)).bind fun a20 =>
    (ix_rV (cal 297 [ix_R (some a20), ix_I v4, ix_I v5] h)).bind fun r19 =>
    (ix_is r19 10 (some v0)).bind fun a21 =>
    (ix_atr r19 101 (ix_fR r19 a21 35) (nI 1)).bind fun a22 =>
    (ix_at r19 101 (ix_fR r19 a21 35) (nI 1)).bind fun a23 =>
    ix_bd (ix_waI r19 a23 (nI 1).toNatClampNeg ((ix_aI r19 a22 (nI 1).toNatClampNeg) + (nI 1))) fun h24 =>
    (ix_is h24 10 (some v0)).bind fun a25 =>
    (ix_atr h24 101 (ix_fR h24 a25 38) v3).bind fun a26 =>
    (ix_isr h24 10 (some v0)).bind fun a28 =>
    (ix_rI (cal 270 [ix_R (some a28), ix_I v2] h24)).bind fun r27 =>
    (ix_isr r27.2 10 (some v0)).bind fun a30 =>
    (ix_rI (cal 236 [ix_R (some a30), ix_I (nI 3), ix_I (ix_aI h24 a26 v3.toNatClampNeg), ix_I v4, ix_I r27.1] r27.2)).bind fun r29 =>
    (ix_isr r29.2 10 (some v0)).bind fun a32 =>
    (ix_rV (cal 297 [ix_R (some a32), ix_I v2, ix_I r29.1] r29.2)).bind fun r31 =>
    (ix_is r31 10 (some v0)).bind fun a33 =>
    (ix_atr r31 101 (ix_fR r31 a33 38) v3).bind fun a34 =>
    (ix_isr r31 10 (some v0)).bind fun a36 =>
    (ix_rV (cal 290 [ix_R (some a36), ix_I v1, ix_I (ix_aI r31 a34 v3.toNatClampNeg), ix_I v4] r31)).bind fun r35 =>
    some (.inl none, r35)
  else
    (ix_is h 10 (some v0)).bind fun a37 =>
    (ix_atr h 101 (ix_fR h a37 38) v6).bind fun a38 =>
    (ix_is h 10 (some v0)).bind fun a39 =>
    (ix_atr h 101 (ix_fR h a39 39) v6).bind fun a40 =>
    (ix_isr h 10 (some v0)).bind fun a42 =>
    (ix_rV (cal 238 [ix_R (some a42), ix_I v5, ix_I (ix_aI h a38 v6.toNatClampNeg), ix_I (ix_aI h a40 v6.toNatClampNeg)] h)).bind fun r41 =>
    K 45 [(0, ix_R (some v0)), (1, ix_I v1), (2, ix_I v2), (3, ix_I v3), (4, ix_I v4), (5, ix_I v5), (6, ix_I (v6 + (nI 1)))] [] r41
theorem jX9_splits_45_eq (cal : ix_C) (K : ix_K) (v0 : Nat) (v1 : Int32) (v2 : Int32) (v3 : Int32) (v4 : Int32) (v5 : Int32) (v6 : Int32) (h : ix_H) : ix_fwd cal K (stX9_splits.drop 45) 0 [(0, ix_R (some v0)), (1, ix_I v1), (2, ix_I v2), (3, ix_I v3), (4, ix_I v4), (5, ix_I v5), (6, ix_I v6)] [] h = jX9_splits_45 cal K v0 v1 v2 v3 v4 v5 v6 h := rfl
def bX9_splits (cal : ix_C) (K : ix_K) (v0 : Nat) (v1 : Int32) (h : ix_H) : ix_O :=
  (ix_is h 10 (some v0)).bind fun a1 =>
  (ix_atr h 101 (ix_fR h a1 35) (v1 + (nI 2))).bind fun a2 =>
  (ix_isr h 10 (some v0)).bind fun a4 =>
  (ix_rI (cal 295 [ix_R (some a4), ix_I v1, ix_I (ix_aI h a2 (v1 + (nI 2)).toNatClampNeg)] h)).bind fun r3 =>
  if r3.1 = nI 0 then
    jX9_splits_18 cal K v0 v1 r3.2
  else
    (ix_is r3.2 10 (some v0)).bind fun a7 =>
    (ix_atr r3.2 101 (ix_fR r3.2 a7 35) (nI 1)).bind fun a8 =>
    if (ix_aI r3.2 a8 (nI 1).toNatClampNeg) < (nI 32) then
      (ix_isr r3.2 10 (some v0)).bind fun a10 =>
      (ix_rV (cal 268 [ix_R (some a10), ix_I (ix_aI h a2 (v1 + (nI 2)).toNatClampNeg)] r3.2)).bind fun r9 =>
      (ix_is r9 10 (some v0)).bind fun a11 =>
      if (nI 2) = nI 0 then none else
      (ix_is r9 10 (some v0)).bind fun a12 =>
      (ix_atr r9 101 (ix_fR r9 a12 35) (nI 1)).bind fun a13 =>
      (ix_is r9 10 (some v0)).bind fun a14 =>
      (ix_is r9 10 (some v0)).bind fun a15 =>
      (ix_isr r9 10 (some v0)).bind fun a17 =>
      (ix_rI (cal 235 [ix_R (some a17), ix_I (ix_fI r9 a14 41), ix_I (ix_fI r9 a15 42)] r9)).bind fun r16 =>
      jX9_splits_45 cal K v0 v1 (ix_aI h a2 (v1 + (nI 2)).toNatClampNeg) ((ix_fI r9 a11 40) / (nI 2)) (ix_aI r9 a13 (nI 1).toNatClampNeg) r16.1 ((ix_fI r9 a11 40) / (nI 2)) r16.2
    else
      jX9_splits_18 cal K v0 v1 r3.2
theorem eX9_splits (cal : ix_C) (K : ix_K) (v0 : Nat) (v1 : Int32) (h : ix_H) : ix_fwd cal K stX9_splits 0 [(0, ix_R (some v0)), (1, ix_I v1)] [] h = bX9_splits cal K v0 v1 h := rfl
theorem rX9_splits (N d : Nat) (v0 : Nat) (v1 : Int32) (h : ix_H) : ix_run iy_P N (d + 1) 303 [ix_R (some v0), ix_I v1] h = bX9_splits (ix_run iy_P N d) (ix_lp (ix_run iy_P N d) stX9_splits N) v0 v1 h := (rfl : ix_run iy_P N (d + 1) 303 [ix_R (some v0), ix_I v1] h = ix_fwd (ix_run iy_P N d) (ix_lp (ix_run iy_P N d) stX9_splits N) stX9_splits 0 [(0, ix_R (some v0)), (1, ix_I v1)] [] h).trans (eX9_splits _ _ v0 v1 h)
theorem lX9_splits_45 (cal : ix_C) (n : Nat) (v0 : Nat) (v1 : Int32) (v2 : Int32) (v3 : Int32) (v4 : Int32) (v5 : Int32) (v6 : Int32) (h : ix_H) : ix_lp cal stX9_splits (n + 1) 45 [(0, ix_R (some v0)), (1, ix_I v1), (2, ix_I v2), (3, ix_I v3), (4, ix_I v4), (5, ix_I v5), (6, ix_I v6)] [] h = jX9_splits_45 cal (ix_lp cal stX9_splits n) v0 v1 v2 v3 v4 v5 v6 h := jX9_splits_45_eq cal (ix_lp cal stX9_splits n) v0 v1 v2 v3 v4 v5 v6 h
def jX9_looksUp_42 (cal : ix_C) (K : ix_K) (h : ix_H) : ix_O :=
  some (.inl none, h)
theorem jX9_looksUp_42_eq (cal : ix_C) (K : ix_K) (h : ix_H) : ix_fwd cal K (stX9_looksUp.drop 42) 0 [] [] h = jX9_looksUp_42 cal K h := rfl
def bX9_looksUp (cal : ix_C) (K : ix_K) (v0 : Nat) (v1 : Int32) (h : ix_H) : ix_O :=
  (ix_isr h 10 (some v0)).bind fun a2 =>
  (ix_rV (cal 284 [ix_R (some a2)] h)).bind fun r1 =>
  (ix_is r1 10 (some v0)).bind fun a3 =>
  (ix_atr r1 101 (ix_fR r1 a3 35) (v1 + (nI 12))).bind fun a4 =>
  (ix_isr r1 10 (some v0)).bind fun a6 =>
  (ix_rI (cal 289 [ix_R (some a6), ix_I (ix_aI r1 a4 (v1 + (nI 12)).toNatClampNeg)] r1)).bind fun r5 =>
  (ix_is r5.2 10 (some v0)).bind fun a7 =>
  (ix_atr r5.2 101 (ix_fR r5.2 a7 35) (v1 + (nI 13))).bind fun a8 =>
  if r5.1 = (ix_aI r5.2 a8 (v1 + (nI 13)).toNatClampNeg) then
    (ix_isr r5.2 10 (some v0)).bind fun a17 =>
    (ix_rV (cal 300 [ix_R (some a17), ix_I v1] r5.2)).bind fun r16 =>
    jX9_looksUp_42 cal K r16
  else
    if r5.1 < nI 0 then
      (ix_isr r5.2 10 (some v0)).bind fun a10 =>
      (ix_rV (cal 293 [ix_R (some a10), ix_I v1, ix_I (nI 0), ix_I (nI 8)] r5.2)).bind fun r9 =>
      jX9_looksUp_42 cal K r9
    else
      (ix_is r5.2 10 (some v0)).bind fun a11 =>
      (ix_at r5.2 101 (ix_fR r5.2 a11 35) (v1 + (nI 11))).bind fun a12 =>
      ix_bd (ix_waI r5.2 a12 (v1 + (nI 11)).toNatClampNeg r5.1) fun h13 =>
      (ix_isr h13 10 (some v0)).bind fun a15 =>
      (ix_rV (cal 285 [ix_R (some a15), ix_I v1, ix_I (nI 12)] h13)).bind fun r14 =>
      jX9_looksUp_42 cal K r14
theorem eX9_looksUp (cal : ix_C) (K : ix_K) (v0 : Nat) (v1 : Int32) (h : ix_H) : ix_fwd cal K stX9_looksUp 0 [(0, ix_R (some v0)), (1, ix_I v1)] [] h = bX9_looksUp cal K v0 v1 h := rfl
theorem rX9_looksUp (N d : Nat) (v0 : Nat) (v1 : Int32) (h : ix_H) : ix_run iy_P N (d + 1) 304 [ix_R (some v0), ix_I v1] h = bX9_looksUp (ix_run iy_P N d) (ix_lp (ix_run iy_P N d) stX9_looksUp N) v0 v1 h := (rfl : ix_run iy_P N (d + 1) 304 [ix_R (some v0), ix_I v1] h = ix_fwd (ix_run iy_P N d) (ix_lp (ix_run iy_P N d) stX9_looksUp N) stX9_looksUp 0 [(0, ix_R (some v0)), (1, ix_I v1)] [] h).trans (eX9_looksUp _ _ v0 v1 h)
def bX9_enters (cal : ix_C) (K : ix_K) (v0 : Nat) (v1 : Int32) (h : ix_H) : ix_O :=
  (ix_isr h 10 (some v0)).bind fun a2 =>
  (ix_rI (cal 295 [ix_R (some a2), ix_I v1, ix_I (nI 0)] h)).bind fun r1 =>
  if r1.1 = nI 0 then
    (ix_isr r1.2 10 (some v0)).bind fun a4 =>
    (ix_rV (cal 296 [ix_R (some a4), ix_I v1] r1.2)).bind fun r3 =>
    (ix_isr r3 10 (some v0)).bind fun a6 =>
    (ix_rV (cal 285 [ix_R (some a6), ix_I v1, ix_I (nI 7)] r3)).bind fun r5 =>
    some (.inl none, r5)
  else
    (ix_is r1.2 10 (some v0)).bind fun a7 =>
    (ix_atr r1.2 101 (ix_fR r1.2 a7 35) (v1 + (nI 12))).bind fun a8 =>
    (ix_is r1.2 10 (some v0)).bind fun a9 =>
    (ix_atr r1.2 101 (ix_fR r1.2 a9 35) (v1 + (nI 13))).bind fun a10 =>
    (ix_isr r1.2 10 (some v0)).bind fun a12 =>
    (ix_rV (cal 306 [ix_R (some a12), ix_I v1, ix_I (nI 6), ix_I (ix_aI r1.2 a8 (v1 + (nI 12)).toNatClampNeg), ix_I (ix_aI r1.2 a10 (v1 + (nI 13)).toNatClampNeg)] r1.2)).bind fun r11 =>
    some (.inl none, r11)
theorem eX9_enters (cal : ix_C) (K : ix_K) (v0 : Nat) (v1 : Int32) (h : ix_H) : ix_fwd cal K stX9_enters 0 [(0, ix_R (some v0)), (1, ix_I v1)] [] h = bX9_enters cal K v0 v1 h := rfl
theorem rX9_enters (N d : Nat) (v0 : Nat) (v1 : Int32) (h : ix_H) : ix_run iy_P N (d + 1) 305 [ix_R (some v0), ix_I v1] h = bX9_enters (ix_run iy_P N d) (ix_lp (ix_run iy_P N d) stX9_enters N) v0 v1 h := (rfl : ix_run iy_P N (d + 1) 305 [ix_R (some v0), ix_I v1] h = ix_fwd (ix_run iy_P N d) (ix_lp (ix_run iy_P N d) stX9_enters N) stX9_enters 0 [(0, ix_R (some v0)), (1, ix_I v1)] [] h).trans (eX9_enters _ _ v0 v1 h)
def jX9_changes_34 (cal : ix_C) (K : ix_K) (h : ix_H) : ix_O :=
  some (.inl none, h)
theorem jX9_changes_34_eq (cal : ix_C) (K : ix_K) (h : ix_H) : ix_fwd cal K (stX9_changes.drop 34) 0 [] [] h = jX9_changes_34 cal K h := rfl
def bX9_changes (cal : ix_C) (K : ix_K) (v0 : Nat) (v1 : Int32) (v2 : Int32) (v3 : Int32) (v4 : Int32) (h : ix_H) : ix_O :=
  (ix_isr h 10 (some v0)).bind fun a2 =>
  (ix_rI (cal 270 [ix_R (some a2), ix_I (nI 0)] h)).bind fun r1 =>
  (ix_isr r1.2 10 (some v0)).bind fun a4 =>
  (ix_rI (cal 236 [ix_R (some a4), ix_I v2, ix_I v3, ix_I v4, ix_I r1.1] r1.2)).bind fun r3 =>
  (ix_isr r3.2 10 (some v0)).bind fun a6 =>
  (ix_rV (cal 297 [ix_R (some a6), ix_I (nI 0), ix_I r3.1] r3.2)).bind fun r5 =>
  (ix_isr r5 10 (some v0)).bind fun a8 =>
  (ix_rI (cal 298 [ix_R (some a8), ix_I (nI 0)] r5)).bind fun r7 =>
  (ix_is r7.2 10 (some v0)).bind fun a9 =>
  (ix_atr r7.2 101 (ix_fR r7.2 a9 35) (nI 5)).bind fun a10 =>
  if r7.1 ≤ (ix_aI r7.2 a10 (nI 5).toNatClampNeg) then
    (ix_isr r7.2 10 (some v0)).bind fun a12 =>
    (ix_rV (cal 300 [ix_R (some a12), ix_I v1] r7.2)).bind fun r11 =>
    jX9_changes_34 cal K r11
  else
    (ix_is r7.2 10 (some v0)).bind fun a13 =>
    (ix_at r7.2 101 (ix_fR r7.2 a13 35) (v1 + (nI 2))).bind fun a14 =>
    ix_bd (ix_waI r7.2 a14 (v1 + (nI 2)).toNatClampNeg (nI 0)) fun h15 =>
    (ix_isr h15 10 (some v0)).bind fun a17 =>
    (ix_rV (cal 285 [ix_R (some a17), ix_I v1, ix_I (nI 4)] h15)).bind fun r16 =>
    jX9_changes_34 cal K r16
theorem eX9_changes (cal : ix_C) (K : ix_K) (v0 : Nat) (v1 : Int32) (v2 : Int32) (v3 : Int32) (v4 : Int32) (h : ix_H) : ix_fwd cal K stX9_changes 0 [(0, ix_R (some v0)), (1, ix_I v1), (2, ix_I v2), (3, ix_I v3), (4, ix_I v4)] [] h = bX9_changes cal K v0 v1 v2 v3 v4 h := rfl
theorem rX9_changes (N d : Nat) (v0 : Nat) (v1 : Int32) (v2 : Int32) (v3 : Int32) (v4 : Int32) (h : ix_H) : ix_run iy_P N (d + 1) 306 [ix_R (some v0), ix_I v1, ix_I v2, ix_I v3, ix_I v4] h = bX9_changes (ix_run iy_P N d) (ix_lp (ix_run iy_P N d) stX9_changes N) v0 v1 v2 v3 v4 h := (rfl : ix_run iy_P N (d + 1) 306 [ix_R (some v0), ix_I v1, ix_I v2, ix_I v3, ix_I v4] h = ix_fwd (ix_run iy_P N d) (ix_lp (ix_run iy_P N d) stX9_changes N) stX9_changes 0 [(0, ix_R (some v0)), (1, ix_I v1), (2, ix_I v2), (3, ix_I v3), (4, ix_I v4)] [] h).trans (eX9_changes _ _ v0 v1 v2 v3 v4 h)
def jX9_removes_25 (cal : ix_C) (K : ix_K) (v0 : Nat) (v1 : Int32) (h : ix_H) : ix_O :=
  (ix_isr h 10 (some v0)).bind fun a10 =>
  (ix_rV (cal 300 [ix_R (some a10), ix_I v1] h)).bind fun r9 =>
  some (.inl none, r9)
theorem jX9_removes_25_eq (cal : ix_C) (K : ix_K) (v0 : Nat) (v1 : Int32) (h : ix_H) : ix_fwd cal K (stX9_removes.drop 25) 0 [(0, ix_R (some v0)), (1, ix_I v1)] [] h = jX9_removes_25 cal K v0 v1 h := rfl
def bX9_removes (cal : ix_C) (K : ix_K) (v0 : Nat) (v1 : Int32) (h : ix_H) : ix_O :=
  (ix_is h 10 (some v0)).bind fun a1 =>
  (ix_atr h 101 (ix_fR h a1 35) (v1 + (nI 2))).bind fun a2 =>
  (ix_isr h 10 (some v0)).bind fun a4 =>
  (ix_rV (cal 284 [ix_R (some a4)] h)).bind fun r3 =>
  (ix_isr r3 10 (some v0)).bind fun a6 =>
  (ix_rI (cal 308 [ix_R (some a6), ix_I (ix_aI h a2 (v1 + (nI 2)).toNatClampNeg)] r3)).bind fun r5 =>
  (ix_isr r5.2 10 (some v0)).bind fun a8 =>
  (ix_rI (cal 295 [ix_R (some a8), ix_I v1, ix_I (ix_aI h a2 (v1 + (nI 2)).toNatClampNeg)] r5.2)).bind fun r7 =>
  if r7.1 = nI 0 then
    jX9_removes_25 cal K v0 v1 r7.2
  else
    if r5.1 < nI 0 then
      jX9_removes_25 cal K v0 v1 r7.2
    else
      (ix_is r7.2 10 (some v0)).bind fun a11 =>
      (ix_atr r7.2 101 (ix_fR r7.2 a11 43) r5.1).bind fun a12 =>
      if (ix_aI r7.2 a12 r5.1.toNatClampNeg) = nI 0 then
        jX9_removes_25 cal K v0 v1 r7.2
      else
        (ix_isr r7.2 10 (some v0)).bind fun a14 =>
        (ix_rI (cal 270 [ix_R (some a14), ix_I (ix_aI h a2 (v1 + (nI 2)).toNatClampNeg)] r7.2)).bind fun r13 =>
        (ix_isr r13.2 10 (some v0)).bind fun a16 =>
        (ix_rI (cal 236 [ix_R (some a16), ix_I (nI 4), ix_I (-2 : Int32), ix_I (-2 : Int32), ix_I r13.1] r13.2)).bind fun r15 =>
        (ix_isr r15.2 10 (some v0)).bind fun a18 =>
        (ix_rV (cal 297 [ix_R (some a18), ix_I (ix_aI h a2 (v1 + (nI 2)).toNatClampNeg), ix_I r15.1] r15.2)).bind fun r17 =>
        (ix_isr r17 10 (some v0)).bind fun a20 =>
        (ix_rV (cal 288 [ix_R (some a20), ix_I v1, ix_I (ix_aI h a2 (v1 + (nI 2)).toNatClampNeg)] r17)).bind fun r19 =>
        some (.inl none, r19)
theorem eX9_removes (cal : ix_C) (K : ix_K) (v0 : Nat) (v1 : Int32) (h : ix_H) : ix_fwd cal K stX9_removes 0 [(0, ix_R (some v0)), (1, ix_I v1)] [] h = bX9_removes cal K v0 v1 h := rfl
theorem rX9_removes (N d : Nat) (v0 : Nat) (v1 : Int32) (h : ix_H) : ix_run iy_P N (d + 1) 307 [ix_R (some v0), ix_I v1] h = bX9_removes (ix_run iy_P N d) (ix_lp (ix_run iy_P N d) stX9_removes N) v0 v1 h := (rfl : ix_run iy_P N (d + 1) 307 [ix_R (some v0), ix_I v1] h = ix_fwd (ix_run iy_P N d) (ix_lp (ix_run iy_P N d) stX9_removes N) stX9_removes 0 [(0, ix_R (some v0)), (1, ix_I v1)] [] h).trans (eX9_removes _ _ v0 v1 h)
def jX9_boundOf_2 (cal : ix_C) (K : ix_K) (v0 : Nat) (v1 : Int32) (v2 : Int32) (h : ix_H) : ix_O :=
  (ix_is h 10 (some v0)).bind fun a1 =>
  if (ix_fI h a1 45) ≤ v2 then
    some (.inl (some (ix_I (-1 : Int32))), h)
  else
    (ix_is h 10 (some v0)).bind fun a2 =>
    (ix_atr h 101 (ix_fR h a2 44) v2).bind fun a3 =>
    if (ix_aI h a3 v2.toNatClampNeg) = v1 then
      some (.inl (some (ix_I v2)), h)
    else
      K 2 [(0, ix_R (some v0)), (1, ix_I v1), (2, ix_I (v2 + (nI 1)))] [] h
theorem jX9_boundOf_2_eq (cal : ix_C) (K : ix_K) (v0 : Nat) (v1 : Int32) (v2 : Int32) (h : ix_H) : ix_fwd cal K (stX9_boundOf.drop 2) 0 [(0, ix_R (some v0)), (1, ix_I v1), (2, ix_I v2)] [] h = jX9_boundOf_2 cal K v0 v1 v2 h := rfl
def bX9_boundOf (cal : ix_C) (K : ix_K) (v0 : Nat) (v1 : Int32) (h : ix_H) : ix_O :=
  jX9_boundOf_2 cal K v0 v1 (nI 0) h
theorem eX9_boundOf (cal : ix_C) (K : ix_K) (v0 : Nat) (v1 : Int32) (h : ix_H) : ix_fwd cal K stX9_boundOf 0 [(0, ix_R (some v0)), (1, ix_I v1)] [] h = bX9_boundOf cal K v0 v1 h := rfl
theorem rX9_boundOf (N d : Nat) (v0 : Nat) (v1 : Int32) (h : ix_H) : ix_run iy_P N (d + 1) 308 [ix_R (some v0), ix_I v1] h = bX9_boundOf (ix_run iy_P N d) (ix_lp (ix_run iy_P N d) stX9_boundOf N) v0 v1 h := (rfl : ix_run iy_P N (d + 1) 308 [ix_R (some v0), ix_I v1] h = ix_fwd (ix_run iy_P N d) (ix_lp (ix_run iy_P N d) stX9_boundOf N) stX9_boundOf 0 [(0, ix_R (some v0)), (1, ix_I v1)] [] h).trans (eX9_boundOf _ _ v0 v1 h)
theorem lX9_boundOf_2 (cal : ix_C) (n : Nat) (v0 : Nat) (v1 : Int32) (v2 : Int32) (h : ix_H) : ix_lp cal stX9_boundOf (n + 1) 2 [(0, ix_R (some v0)), (1, ix_I v1), (2, ix_I v2)] [] h = jX9_boundOf_2 cal (ix_lp cal stX9_boundOf n) v0 v1 v2 h := jX9_boundOf_2_eq cal (ix_lp cal stX9_boundOf n) v0 v1 v2 h
def jX9_goesLeft_93 (cal : ix_C) (K : ix_K) (h : ix_H) : ix_O :=
  some (.inl none, h)
theorem jX9_goesLeft_93_eq (cal : ix_C) (K : ix_K) (h : ix_H) : ix_fwd cal K (stX9_goesLeft.drop 93) 0 [] [] h = jX9_goesLeft_93 cal K h := rfl
def jX9_goesLeft_88 (cal : ix_C) (K : ix_K) (v0 : Nat) (v1 : Int32) (h : ix_H) : ix_O :=
  (ix_isr h 10 (some v0)).bind fun a20 =>
  (ix_rV (cal 285 [ix_R (some a20), ix_I v1, ix_I (nI 12)] h)).bind fun r19 =>
  jX9_goesLeft_93 cal K r19
theorem jX9_goesLeft_88_eq (cal : ix_C) (K : ix_K) (v0 : Nat) (v1 : Int32) (h : ix_H) : ix_fwd cal K (stX9_goesLeft.drop 88) 0 [(0, ix_R (some v0)), (1, ix_I v1)] [] h = jX9_goesLeft_88 cal K v0 v1 h := rfl
def bX9_goesLeft (cal : ix_C) (K : ix_K) (v0 : Nat) (v1 : Int32) (h : ix_H) : ix_O :=
  (ix_is h 10 (some v0)).bind fun a1 =>
  (ix_atr h 101 (ix_fR h a1 35) (v1 + (nI 11))).bind fun a2 =>
  (ix_isr h 10 (some v0)).bind fun a4 =>
  (ix_rV (cal 284 [ix_R (some a4)] h)).bind fun r3 =>
  (ix_isr r3 10 (some v0)).bind fun a6 =>
  (ix_rI (cal 308 [ix_R (some a6), ix_I (ix_aI h a2 (v1 + (nI 11)).toNatClampNeg)] r3)).bind fun r5 =>
  if (nI 1) ≤ r5.1 then
    (ix_is r5.2 10 (some v0)).bind fun a7 =>
    (ix_atr r5.2 101 (ix_fR r5.2 a7 44) (r5.1 - (nI 1))).bind fun a8 =>
    (ix_isr r5.2 10 (some v0)).bind fun a10 =>
    (ix_rI (cal 287 [ix_R (some a10), ix_I (ix_aI r5.2 a8 (r5.1 - (nI 1)).toNatClampNeg)] r5.2)).bind fun r9 =>
    if r9.1 = nI 0 then
      (ix_isr r9.2 10 (some v0)).bind fun a12 =>
      (ix_rV (cal 268 [ix_R (some a12), ix_I (ix_aI r5.2 a8 (r5.1 - (nI 1)).toNatClampNeg)] r9.2)).bind fun r11 =>
      (ix_is r11 10 (some v0)).bind fun a13 =>
      (ix_is r11 10 (some v0)).bind fun a14 =>
      (ix_atr r11 101 (ix_fR r11 a14 43) r5.1).bind fun a15 =>
      if (ix_aI r11 a15 r5.1.toNatClampNeg) ≤ (ix_fI r11 a13 41) then
        (ix_is r11 10 (some v0)).bind fun a16 =>
        (ix_is r11 10 (some v0)).bind fun a17 =>
        (ix_atr r11 101 (ix_fR r11 a17 43) r5.1).bind fun a18 =>
        if (ix_fI r11 a16 41) = (ix_aI r11 a18 r5.1.toNatClampNeg) then
          (ix_is r11 10 (some v0)).bind fun a21 =>
          if (ix_fI r11 a21 42) = (ix_aI h a2 (v1 + (nI 11)).toNatClampNeg) then
            (ix_is r11 10 (some v0)).bind fun a22 =>
            (ix_is r11 10 (some v0)).bind fun a23 =>
            (ix_atr r11 101 (ix_fR r11 a23 43) r5.1).bind fun a24 =>
            (ix_at r11 101 (ix_fR r11 a22 35) (v1 + (nI 12))).bind fun a25 =>
            ix_bd (ix_waI r11 a25 (v1 + (nI 12)).toNatClampNeg (ix_aI r11 a24 r5.1.toNatClampNeg)) fun h26 =>
            (ix_is h26 10 (some v0)).bind fun a27 =>
            (ix_at h26 101 (ix_fR h26 a27 35) (v1 + (nI 13))).bind fun a28 =>
            ix_bd (ix_waI h26 a28 (v1 + (nI 13)).toNatClampNeg (ix_aI r5.2 a8 (r5.1 - (nI 1)).toNatClampNeg)) fun h29 =>
            (ix_isr h29 10 (some v0)).bind fun a31 =>
            (ix_rV (cal 293 [ix_R (some a31), ix_I v1, ix_I (ix_aI r5.2 a8 (r5.1 - (nI 1)).toNatClampNeg), ix_I (nI 11)] h29)).bind fun r30 =>
            jX9_goesLeft_93 cal K r30
          else
            jX9_goesLeft_88 cal K v0 v1 r11
        else
          jX9_goesLeft_88 cal K v0 v1 r11
      else
        (ix_is r11 10 (some v0)).bind fun a32 =>
        (ix_is r11 10 (some v0)).bind fun a33 =>
        (ix_isr r11 10 (some v0)).bind fun a35 =>
        (ix_rV (cal 290 [ix_R (some a35), ix_I v1, ix_I (ix_fI r11 a32 41), ix_I (ix_fI r11 a33 42)] r11)).bind fun r34 =>
        jX9_goesLeft_93 cal K r34
    else
      (ix_isr r9.2 10 (some v0)).bind fun a37 =>
      (ix_rV (cal 288 [ix_R (some a37), ix_I v1, ix_I (ix_aI r5.2 a8 (r5.1 - (nI 1)).toNatClampNeg)] r9.2)).bind fun r36 =>
      some (.inl none, r36)
  else
    (ix_isr r5.2 10 (some v0)).bind fun a39 =>
    (ix_rV (cal 300 [ix_R (some a39), ix_I v1] r5.2)).bind fun r38 =>
    some (.inl none, r38)
theorem eX9_goesLeft (cal : ix_C) (K : ix_K) (v0 : Nat) (v1 : Int32) (h : ix_H) : ix_fwd cal K stX9_goesLeft 0 [(0, ix_R (some v0)), (1, ix_I v1)] [] h = bX9_goesLeft cal K v0 v1 h := rfl
theorem rX9_goesLeft (N d : Nat) (v0 : Nat) (v1 : Int32) (h : ix_H) : ix_run iy_P N (d + 1) 309 [ix_R (some v0), ix_I v1] h = bX9_goesLeft (ix_run iy_P N d) (ix_lp (ix_run iy_P N d) stX9_goesLeft N) v0 v1 h := (rfl : ix_run iy_P N (d + 1) 309 [ix_R (some v0), ix_I v1] h = ix_fwd (ix_run iy_P N d) (ix_lp (ix_run iy_P N d) stX9_goesLeft N) stX9_goesLeft 0 [(0, ix_R (some v0)), (1, ix_I v1)] [] h).trans (eX9_goesLeft _ _ v0 v1 h)
def bX9_merges (cal : ix_C) (K : ix_K) (v0 : Nat) (v1 : Int32) (h : ix_H) : ix_O :=
  (ix_is h 10 (some v0)).bind fun a1 =>
  (ix_atr h 101 (ix_fR h a1 35) (v1 + (nI 13))).bind fun a2 =>
  (ix_is h 10 (some v0)).bind fun a3 =>
  (ix_atr h 101 (ix_fR h a3 35) (v1 + (nI 11))).bind fun a4 =>
  (ix_isr h 10 (some v0)).bind fun a6 =>
  (ix_rI (cal 295 [ix_R (some a6), ix_I v1, ix_I (ix_aI h a2 (v1 + (nI 13)).toNatClampNeg)] h)).bind fun r5 =>
  if r5.1 = nI 0 then
    (ix_isr r5.2 10 (some v0)).bind fun a24 =>
    (ix_rV (cal 296 [ix_R (some a24), ix_I v1] r5.2)).bind fun r23 =>
    (ix_isr r23 10 (some v0)).bind fun a26 =>
    (ix_rV (cal 285 [ix_R (some a26), ix_I v1, ix_I (nI 10)] r23)).bind fun r25 =>
    some (.inl none, r25)
  else
    (ix_isr r5.2 10 (some v0)).bind fun a8 =>
    (ix_rI (cal 311 [ix_R (some a8), ix_I (ix_aI h a4 (v1 + (nI 11)).toNatClampNeg)] r5.2)).bind fun r7 =>
    (ix_is r7.2 10 (some v0)).bind fun a9 =>
    (ix_atr r7.2 101 (ix_fR r7.2 a9 35) (v1 + (nI 12))).bind fun a10 =>
    (ix_isr r7.2 10 (some v0)).bind fun a12 =>
    (ix_rI (cal 270 [ix_R (some a12), ix_I (ix_aI h a2 (v1 + (nI 13)).toNatClampNeg)] r7.2)).bind fun r11 =>
    (ix_isr r11.2 10 (some v0)).bind fun a14 =>
    (ix_rI (cal 236 [ix_R (some a14), ix_I (nI 5), ix_I (ix_aI r7.2 a10 (v1 + (nI 12)).toNatClampNeg), ix_I (ix_aI h a4 (v1 + (nI 11)).toNatClampNeg), ix_I r11.1] r11.2)).bind fun r13 =>
    (ix_is r13.2 10 (some v0)).bind fun a15 =>
    (ix_rI (cal 237 [ix_I r13.1] r13.2)).bind fun r16 =>
    (ix_at r16.2 101 (ix_fR r13.2 a15 35) (r16.1 + (nI 9))).bind fun a17 =>
    ix_bd (ix_waI r16.2 a17 (r16.1 + (nI 9)).toNatClampNeg r7.1) fun h18 =>
    (ix_isr h18 10 (some v0)).bind fun a20 =>
    (ix_rV (cal 297 [ix_R (some a20), ix_I (ix_aI h a2 (v1 + (nI 13)).toNatClampNeg), ix_I r13.1] h18)).bind fun r19 =>
    (ix_isr r19 10 (some v0)).bind fun a22 =>
    (ix_rV (cal 285 [ix_R (some a22), ix_I v1, ix_I (nI 12)] r19)).bind fun r21 =>
    some (.inl none, r21)
theorem eX9_merges (cal : ix_C) (K : ix_K) (v0 : Nat) (v1 : Int32) (h : ix_H) : ix_fwd cal K stX9_merges 0 [(0, ix_R (some v0)), (1, ix_I v1)] [] h = bX9_merges cal K v0 v1 h := rfl
theorem rX9_merges (N d : Nat) (v0 : Nat) (v1 : Int32) (h : ix_H) : ix_run iy_P N (d + 1) 310 [ix_R (some v0), ix_I v1] h = bX9_merges (ix_run iy_P N d) (ix_lp (ix_run iy_P N d) stX9_merges N) v0 v1 h := (rfl : ix_run iy_P N (d + 1) 310 [ix_R (some v0), ix_I v1] h = ix_fwd (ix_run iy_P N d) (ix_lp (ix_run iy_P N d) stX9_merges N) stX9_merges 0 [(0, ix_R (some v0)), (1, ix_I v1)] [] h).trans (eX9_merges _ _ v0 v1 h)
def bX9_baseOf (cal : ix_C) (K : ix_K) (v0 : Nat) (v1 : Int32) (h : ix_H) : ix_O :=
  (ix_isr h 10 (some v0)).bind fun a2 =>
  (ix_rV (cal 269 [ix_R (some a2), ix_I v1] h)).bind fun r1 =>
  (ix_is r1 10 (some v0)).bind fun a3 =>
  (ix_is r1 10 (some v0)).bind fun a4 =>
  (ix_atr r1 101 (ix_fR r1 a3 36) ((ix_fI r1 a4 37) - (nI 1))).bind fun a5 =>
  some (.inl (some (ix_I (ix_aI r1 a5 ((ix_fI r1 a4 37) - (nI 1)).toNatClampNeg))), r1)
theorem eX9_baseOf (cal : ix_C) (K : ix_K) (v0 : Nat) (v1 : Int32) (h : ix_H) : ix_fwd cal K stX9_baseOf 0 [(0, ix_R (some v0)), (1, ix_I v1)] [] h = bX9_baseOf cal K v0 v1 h := rfl
theorem rX9_baseOf (N d : Nat) (v0 : Nat) (v1 : Int32) (h : ix_H) : ix_run iy_P N (d + 1) 311 [ix_R (some v0), ix_I v1] h = bX9_baseOf (ix_run iy_P N d) (ix_lp (ix_run iy_P N d) stX9_baseOf N) v0 v1 h := (rfl : ix_run iy_P N (d + 1) 311 [ix_R (some v0), ix_I v1] h = ix_fwd (ix_run iy_P N d) (ix_lp (ix_run iy_P N d) stX9_baseOf N) stX9_baseOf 0 [(0, ix_R (some v0)), (1, ix_I v1)] [] h).trans (eX9_baseOf _ _ v0 v1 h)
def jX9_looksOn_20 (cal : ix_C) (K : ix_K) (h : ix_H) : ix_O :=
  some (.inl none, h)
theorem jX9_looksOn_20_eq (cal : ix_C) (K : ix_K) (h : ix_H) : ix_fwd cal K (stX9_looksOn.drop 20) 0 [] [] h = jX9_looksOn_20 cal K h := rfl
def bX9_looksOn (cal : ix_C) (K : ix_K) (v0 : Nat) (v1 : Int32) (h : ix_H) : ix_O :=
  (ix_isr h 10 (some v0)).bind fun a2 =>
  (ix_rV (cal 284 [ix_R (some a2)] h)).bind fun r1 =>
  (ix_is r1 10 (some v0)).bind fun a3 =>
  (ix_atr r1 101 (ix_fR r1 a3 35) (v1 + (nI 11))).bind fun a4 =>
  (ix_isr r1 10 (some v0)).bind fun a6 =>
  (ix_rI (cal 308 [ix_R (some a6), ix_I (ix_aI r1 a4 (v1 + (nI 11)).toNatClampNeg)] r1)).bind fun r5 =>
  if nI 0 ≤ r5.1 then
    (ix_isr r5.2 10 (some v0)).bind fun a8 =>
    (ix_rV (cal 293 [ix_R (some a8), ix_I v1, ix_I (nI 0), ix_I (nI 13)] r5.2)).bind fun r7 =>
    jX9_looksOn_20 cal K r7
  else
    (ix_isr r5.2 10 (some v0)).bind fun a10 =>
    (ix_rV (cal 300 [ix_R (some a10), ix_I v1] r5.2)).bind fun r9 =>
    jX9_looksOn_20 cal K r9
theorem eX9_looksOn (cal : ix_C) (K : ix_K) (v0 : Nat) (v1 : Int32) (h : ix_H) : ix_fwd cal K stX9_looksOn 0 [(0, ix_R (some v0)), (1, ix_I v1)] [] h = bX9_looksOn cal K v0 v1 h := rfl
theorem rX9_looksOn (N d : Nat) (v0 : Nat) (v1 : Int32) (h : ix_H) : ix_run iy_P N (d + 1) 312 [ix_R (some v0), ix_I v1] h = bX9_looksOn (ix_run iy_P N d) (ix_lp (ix_run iy_P N d) stX9_looksOn N) v0 v1 h := (rfl : ix_run iy_P N (d + 1) 312 [ix_R (some v0), ix_I v1] h = ix_fwd (ix_run iy_P N d) (ix_lp (ix_run iy_P N d) stX9_looksOn N) stX9_looksOn 0 [(0, ix_R (some v0)), (1, ix_I v1)] [] h).trans (eX9_looksOn _ _ v0 v1 h)
def jX9_strikes_38 (cal : ix_C) (K : ix_K) (v0 : Nat) (v1 : Int32) (v3 : Int32) (h : ix_H) : ix_O :=
  (ix_isr h 10 (some v0)).bind fun a14 =>
  (ix_rV (cal 306 [ix_R (some a14), ix_I v1, ix_I (nI 7), ix_I v3, ix_I (-2 : Int32)] h)).bind fun r13 =>
  some (.inl none, r13)
theorem jX9_strikes_38_eq (cal : ix_C) (K : ix_K) (v0 : Nat) (v1 : Int32) (v3 : Int32) (h : ix_H) : ix_fwd cal K (stX9_strikes.drop 38) 0 [(0, ix_R (some v0)), (1, ix_I v1), (3, ix_I v3)] [] h = jX9_strikes_38 cal K v0 v1 v3 h := rfl
def bX9_strikes (cal : ix_C) (K : ix_K) (v0 : Nat) (v1 : Int32) (h : ix_H) : ix_O :=
  (ix_is h 10 (some v0)).bind fun a1 =>
  (ix_atr h 101 (ix_fR h a1 35) (v1 + (nI 11))).bind fun a2 =>
  (ix_isr h 10 (some v0)).bind fun a4 =>
  (ix_rI (cal 295 [ix_R (some a4), ix_I v1, ix_I (nI 0)] h)).bind fun r3 =>
  if r3.1 = nI 0 then
    (ix_isr r3.2 10 (some v0)).bind fun a20 =>
    (ix_rV (cal 296 [ix_R (some a20), ix_I v1] r3.2)).bind fun r19 =>
    (ix_isr r19 10 (some v0)).bind fun a22 =>
    (ix_rV (cal 285 [ix_R (some a22), ix_I v1, ix_I (nI 12)] r19)).bind fun r21 =>
    some (.inl none, r21)
  else
    (ix_isr r3.2 10 (some v0)).bind fun a6 =>
    (ix_rV (cal 284 [ix_R (some a6)] r3.2)).bind fun r5 =>
    (ix_is r5 10 (some v0)).bind fun a7 =>
    (ix_isr r5 10 (some v0)).bind fun a9 =>
    (ix_rI (cal 308 [ix_R (some a9), ix_I (ix_aI h a2 (v1 + (nI 11)).toNatClampNeg)] r5)).bind fun r8 =>
    (ix_atr r8.2 101 (ix_fR r5 a7 43) r8.1).bind fun a10 =>
    (ix_isr r8.2 10 (some v0)).bind fun a12 =>
    (ix_rI (cal 287 [ix_R (some a12), ix_I (ix_aI h a2 (v1 + (nI 11)).toNatClampNeg)] r8.2)).bind fun r11 =>
    if r11.1 = nI 0 then
      jX9_strikes_38 cal K v0 v1 (ix_aI r8.2 a10 r8.1.toNatClampNeg) r11.2
    else
      (ix_isr r11.2 10 (some v0)).bind fun a16 =>
      (ix_rI (cal 270 [ix_R (some a16), ix_I (ix_aI h a2 (v1 + (nI 11)).toNatClampNeg)] r11.2)).bind fun r15 =>
      (ix_isr r15.2 10 (some v0)).bind fun a18 =>
      (ix_rV (cal 302 [ix_R (some a18), ix_I r15.1] r15.2)).bind fun r17 =>
      jX9_strikes_38 cal K v0 v1 (ix_aI r8.2 a10 r8.1.toNatClampNeg) r17
theorem eX9_strikes (cal : ix_C) (K : ix_K) (v0 : Nat) (v1 : Int32) (h : ix_H) : ix_fwd cal K stX9_strikes 0 [(0, ix_R (some v0)), (1, ix_I v1)] [] h = bX9_strikes cal K v0 v1 h := rfl
theorem rX9_strikes (N d : Nat) (v0 : Nat) (v1 : Int32) (h : ix_H) : ix_run iy_P N (d + 1) 313 [ix_R (some v0), ix_I v1] h = bX9_strikes (ix_run iy_P N d) (ix_lp (ix_run iy_P N d) stX9_strikes N) v0 v1 h := (rfl : ix_run iy_P N (d + 1) 313 [ix_R (some v0), ix_I v1] h = ix_fwd (ix_run iy_P N d) (ix_lp (ix_run iy_P N d) stX9_strikes N) stX9_strikes 0 [(0, ix_R (some v0)), (1, ix_I v1)] [] h).trans (eX9_strikes _ _ v0 v1 h)
def jX9_sweeps_93 (cal : ix_C) (K : ix_K) (v0 : Nat) (v1 : Int32) (v2 : Int32) (v3 : Int32) (h : ix_H) : ix_O :=
  K 51 [(0, ix_R (some v0)), (1, ix_I v1), (2, ix_I v2), (3, ix_I (v3 + (nI 1)))] [] h
theorem jX9_sweeps_93_eq (cal : ix_C) (K : ix_K) (v0 : Nat) (v1 : Int32) (v2 : Int32) (v3 : Int32) (h : ix_H) : ix_fwd cal K (stX9_sweeps.drop 93) 0 [(0, ix_R (some v0)), (1, ix_I v1), (2, ix_I v2), (3, ix_I v3)] [] h = jX9_sweeps_93 cal K v0 v1 v2 v3 h := rfl
def jX9_sweeps_51 (cal : ix_C) (K : ix_K) (v0 : Nat) (v1 : Int32) (v2 : Int32) (v3 : Int32) (h : ix_H) : ix_O :=
  (ix_is h 10 (some v0)).bind fun a7 =>
  (ix_atr h 101 (ix_fR h a7 35) (nI 0)).bind fun a8 =>
  if (ix_aI h a8 (nI 0).toNatClampNeg) ≤ v3 then
    some (.inl (some (ix_I v2)), h)
  else
    (ix_rI (cal 237 [ix_I v3] h)).bind fun r9 =>
    (ix_is r9.2 10 (some v0)).bind fun a10 =>
    (ix_atr r9.2 101 (ix_fR r9.2 a10 35) (r9.1 + (nI 4))).bind fun a11 =>
    if (ix_aI r9.2 a11 (r9.1 + (nI 4)).toNatClampNeg) < nI 0 then
      jX9_sweeps_93 cal K v0 v1 v2 v3 r9.2
    else
      (ix_is r9.2 10 (some v0)).bind fun a12 =>
      (ix_atr r9.2 101 (ix_fR r9.2 a12 35) (r9.1 + (nI 4))).bind fun a13 =>
      if v1 ≤ (ix_aI r9.2 a13 (r9.1 + (nI 4)).toNatClampNeg) then
        jX9_sweeps_93 cal K v0 v1 v2 v3 r9.2
      else
        (ix_is r9.2 10 (some v0)).bind fun a14 =>
        (ix_atr r9.2 101 (ix_fR r9.2 a14 35) (r9.1 + (nI 5))).bind fun a15 =>
        if (ix_aI r9.2 a15 (r9.1 + (nI 5)).toNatClampNeg) = (nI 1) then
          jX9_sweeps_93 cal K v0 v1 v2 v3 r9.2
        else
          (ix_is r9.2 10 (some v0)).bind fun a16 =>
          (ix_at r9.2 101 (ix_fR r9.2 a16 35) (r9.1 + (nI 5))).bind fun a17 =>
          ix_bd (ix_waI r9.2 a17 (r9.1 + (nI 5)).toNatClampNeg (nI 1)) fun h18 =>
          jX9_sweeps_93 cal K v0 v1 (v2 + (nI 1)) v3 h18
theorem jX9_sweeps_51_eq (cal : ix_C) (K : ix_K) (v0 : Nat) (v1 : Int32) (v2 : Int32) (v3 : Int32) (h : ix_H) : ix_fwd cal K (stX9_sweeps.drop 51) 0 [(0, ix_R (some v0)), (1, ix_I v1), (2, ix_I v2), (3, ix_I v3)] [] h = jX9_sweeps_51 cal K v0 v1 v2 v3 h := rfl
def jX9_sweeps_44 (cal : ix_C) (K : ix_K) (v0 : Nat) (v1 : Int32) (v2 : Int32) (h : ix_H) : ix_O :=
  K 15 [(0, ix_R (some v0)), (1, ix_I v1), (2, ix_I (v2 + (nI 1)))] [] h
theorem jX9_sweeps_44_eq (cal : ix_C) (K : ix_K) (v0 : Nat) (v1 : Int32) (v2 : Int32) (h : ix_H) : ix_fwd cal K (stX9_sweeps.drop 44) 0 [(0, ix_R (some v0)), (1, ix_I v1), (2, ix_I v2)] [] h = jX9_sweeps_44 cal K v0 v1 v2 h := rfl
def jX9_sweeps_15 (cal : ix_C) (K : ix_K) (v0 : Nat) (v1 : Int32) (v2 : Int32) (h : ix_H) : ix_O :=
  if (nI 4) ≤ v2 then
    jX9_sweeps_51 cal K v0 v1 (nI 0) (nI 0) h
  else
    (ix_is h 10 (some v0)).bind fun a19 =>
    (ix_rI (cal 234 [ix_I v2] h)).bind fun r20 =>
    (ix_atr r20.2 101 (ix_fR h a19 35) (r20.1 + (nI 1))).bind fun a21 =>
    if (ix_aI r20.2 a21 (r20.1 + (nI 1)).toNatClampNeg) ≤ nI 0 then
      jX9_sweeps_44 cal K v0 v1 v2 r20.2
    else
      (ix_is r20.2 10 (some v0)).bind fun a22 =>
      (ix_rI (cal 234 [ix_I v2] r20.2)).bind fun r23 =>
      (ix_atr r23.2 101 (ix_fR r20.2 a22 35) (r23.1 + (nI 5))).bind fun a24 =>
      if v1 ≤ (ix_aI r23.2 a24 (r23.1 + (nI 5)).toNatClampNeg) then
        jX9_sweeps_44 cal K v0 v1 v2 r23.2
      else
        (ix_is r23.2 10 (some v0)).bind fun a25 =>
        (ix_rI (cal 234 [ix_I v2] r23.2)).bind fun r26 =>
        (ix_atr r26.2 101 (ix_fR r23.2 a25 35) (r26.1 + (nI 5))).bind fun a27 =>
        jX9_sweeps_44 cal K v0 (ix_aI r26.2 a27 (r26.1 + (nI 5)).toNatClampNeg) v2 r26.2
theorem jX9_sweeps_15_eq (cal : ix_C) (K : ix_K) (v0 : Nat) (v1 : Int32) (v2 : Int32) (h : ix_H) : ix_fwd cal K (stX9_sweeps.drop 15) 0 [(0, ix_R (some v0)), (1, ix_I v1), (2, ix_I v2)] [] h = jX9_sweeps_15 cal K v0 v1 v2 h := rfl
def bX9_sweeps (cal : ix_C) (K : ix_K) (v0 : Nat) (h : ix_H) : ix_O :=
  (ix_is h 10 (some v0)).bind fun a1 =>
  (ix_atr h 101 (ix_fR h a1 35) (nI 2)).bind fun a2 =>
  (ix_at h 101 (ix_fR h a1 35) (nI 2)).bind fun a3 =>
  ix_bd (ix_waI h a3 (nI 2).toNatClampNeg ((ix_aI h a2 (nI 2).toNatClampNeg) + (nI 1))) fun h4 =>
  (ix_is h4 10 (some v0)).bind fun a5 =>
  (ix_atr h4 101 (ix_fR h4 a5 35) (nI 2)).bind fun a6 =>
  jX9_sweeps_15 cal K v0 (ix_aI h4 a6 (nI 2).toNatClampNeg) (nI 0) h4
theorem eX9_sweeps (cal : ix_C) (K : ix_K) (v0 : Nat) (h : ix_H) : ix_fwd cal K stX9_sweeps 0 [(0, ix_R (some v0))] [] h = bX9_sweeps cal K v0 h := rfl
theorem rX9_sweeps (N d : Nat) (v0 : Nat) (h : ix_H) : ix_run iy_P N (d + 1) 314 [ix_R (some v0)] h = bX9_sweeps (ix_run iy_P N d) (ix_lp (ix_run iy_P N d) stX9_sweeps N) v0 h := (rfl : ix_run iy_P N (d + 1) 314 [ix_R (some v0)] h = ix_fwd (ix_run iy_P N d) (ix_lp (ix_run iy_P N d) stX9_sweeps N) stX9_sweeps 0 [(0, ix_R (some v0))] [] h).trans (eX9_sweeps _ _ v0 h)
theorem lX9_sweeps_15 (cal : ix_C) (n : Nat) (v0 : Nat) (v1 : Int32) (v2 : Int32) (h : ix_H) : ix_lp cal stX9_sweeps (n + 1) 15 [(0, ix_R (some v0)), (1, ix_I v1), (2, ix_I v2)] [] h = jX9_sweeps_15 cal (ix_lp cal stX9_sweeps n) v0 v1 v2 h := jX9_sweeps_15_eq cal (ix_lp cal stX9_sweeps n) v0 v1 v2 h
theorem lX9_sweeps_51 (cal : ix_C) (n : Nat) (v0 : Nat) (v1 : Int32) (v2 : Int32) (v3 : Int32) (h : ix_H) : ix_lp cal stX9_sweeps (n + 1) 51 [(0, ix_R (some v0)), (1, ix_I v1), (2, ix_I v2), (3, ix_I v3)] [] h = jX9_sweeps_51 cal (ix_lp cal stX9_sweeps n) v0 v1 v2 v3 h := jX9_sweeps_51_eq cal (ix_lp cal stX9_sweeps n) v0 v1 v2 v3 h
def bX9_place (cal : ix_C) (K : ix_K) (v0 : Nat) (h : ix_H) : ix_O :=
  (ix_is h 10 (some v0)).bind fun a1 =>
  some (.inl (some (ix_I (ix_fI h a1 17))), h)
theorem eX9_place (cal : ix_C) (K : ix_K) (v0 : Nat) (h : ix_H) : ix_fwd cal K stX9_place 0 [(0, ix_R (some v0))] [] h = bX9_place cal K v0 h := rfl
theorem rX9_place (N d : Nat) (v0 : Nat) (h : ix_H) : ix_run iy_P N (d + 1) 315 [ix_R (some v0)] h = bX9_place (ix_run iy_P N d) (ix_lp (ix_run iy_P N d) stX9_place N) v0 h := (rfl : ix_run iy_P N (d + 1) 315 [ix_R (some v0)] h = ix_fwd (ix_run iy_P N d) (ix_lp (ix_run iy_P N d) stX9_place N) stX9_place 0 [(0, ix_R (some v0))] [] h).trans (eX9_place _ _ v0 h)
def jX9_begin_22 (cal : ix_C) (K : ix_K) (s0 : Int32) (h : ix_H) : ix_O :=
  cond (ix_okn 1 s0) (some (.inl (some (ix_I s0)), h)) none
theorem jX9_begin_22_eq (cal : ix_C) (K : ix_K) (s0 : Int32) (h : ix_H) : ix_fwd cal K (stX9_begin.drop 22) 0 [] [ix_I s0] h = jX9_begin_22 cal K s0 h := rfl
def jX9_begin_20 (cal : ix_C) (K : ix_K) (h : ix_H) : ix_O :=
  jX9_begin_22 cal K (nI 0) h
theorem jX9_begin_20_eq (cal : ix_C) (K : ix_K) (h : ix_H) : ix_fwd cal K (stX9_begin.drop 20) 0 [] [] h = jX9_begin_20 cal K h := rfl
def bX9_begin (cal : ix_C) (K : ix_K) (v0 : Nat) (v1 : Int32) (v2 : Int32) (v3 : Int32) (v4 : Int32) (h : ix_H) : ix_O :=
  (ix_rI (cal 317 [ix_I v1] h)).bind fun r1 =>
  if r1.1 = nI 0 then
    jX9_begin_20 cal K r1.2
  else
    (ix_rI (cal 318 [ix_I v2, ix_I (nI 1), ix_I (nI 3)] r1.2)).bind fun r2 =>
    if r2.1 = nI 0 then
      jX9_begin_20 cal K r2.2
    else
      (ix_rI (cal 319 [ix_I v3] r2.2)).bind fun r3 =>
      if r3.1 = nI 0 then
        jX9_begin_20 cal K r3.2
      else
        (ix_isr r3.2 10 (some v0)).bind fun a5 =>
        (ix_rI (cal 280 [ix_R (some a5), ix_I v1, ix_I v2, ix_I v3, ix_I v4] r3.2)).bind fun r4 =>
        if r4.1 = nI 0 then
          jX9_begin_20 cal K r4.2
        else
          jX9_begin_22 cal K (nI 1) r4.2
theorem eX9_begin (cal : ix_C) (K : ix_K) (v0 : Nat) (v1 : Int32) (v2 : Int32) (v3 : Int32) (v4 : Int32) (h : ix_H) : ix_fwd cal K stX9_begin 0 [(0, ix_R (some v0)), (1, ix_I v1), (2, ix_I v2), (3, ix_I v3), (4, ix_I v4)] [] h = bX9_begin cal K v0 v1 v2 v3 v4 h := rfl
theorem rX9_begin (N d : Nat) (v0 : Nat) (v1 : Int32) (v2 : Int32) (v3 : Int32) (v4 : Int32) (h : ix_H) : ix_run iy_P N (d + 1) 316 [ix_R (some v0), ix_I v1, ix_I v2, ix_I v3, ix_I v4] h = bX9_begin (ix_run iy_P N d) (ix_lp (ix_run iy_P N d) stX9_begin N) v0 v1 v2 v3 v4 h := (rfl : ix_run iy_P N (d + 1) 316 [ix_R (some v0), ix_I v1, ix_I v2, ix_I v3, ix_I v4] h = ix_fwd (ix_run iy_P N d) (ix_lp (ix_run iy_P N d) stX9_begin N) stX9_begin 0 [(0, ix_R (some v0)), (1, ix_I v1), (2, ix_I v2), (3, ix_I v3), (4, ix_I v4)] [] h).trans (eX9_begin _ _ v0 v1 v2 v3 v4 h)
def bX9_isHand (cal : ix_C) (K : ix_K) (v0 : Int32) (h : ix_H) : ix_O :=
  (ix_rI (cal 318 [ix_I v0, ix_I (nI 0), ix_I (nI 3)] h)).bind fun r1 =>
  cond (ix_okn 1 r1.1) (some (.inl (some (ix_I r1.1)), r1.2)) none
theorem eX9_isHand (cal : ix_C) (K : ix_K) (v0 : Int32) (h : ix_H) : ix_fwd cal K stX9_isHand 0 [(0, ix_I v0)] [] h = bX9_isHand cal K v0 h := rfl
theorem rX9_isHand (N d : Nat) (v0 : Int32) (h : ix_H) : ix_run iy_P N (d + 1) 317 [ix_I v0] h = bX9_isHand (ix_run iy_P N d) (ix_lp (ix_run iy_P N d) stX9_isHand N) v0 h := (rfl : ix_run iy_P N (d + 1) 317 [ix_I v0] h = ix_fwd (ix_run iy_P N d) (ix_lp (ix_run iy_P N d) stX9_isHand N) stX9_isHand 0 [(0, ix_I v0)] [] h).trans (eX9_isHand _ _ v0 h)
def jX9_in_10 (cal : ix_C) (K : ix_K) (s0 : Int32) (h : ix_H) : ix_O :=
  cond (ix_okn 1 s0) (some (.inl (some (ix_I s0)), h)) none
theorem jX9_in_10_eq (cal : ix_C) (K : ix_K) (s0 : Int32) (h : ix_H) : ix_fwd cal K (stX9_in.drop 10) 0 [] [ix_I s0] h = jX9_in_10 cal K s0 h := rfl
def jX9_in_8 (cal : ix_C) (K : ix_K) (h : ix_H) : ix_O :=
  jX9_in_10 cal K (nI 0) h
theorem jX9_in_8_eq (cal : ix_C) (K : ix_K) (h : ix_H) : ix_fwd cal K (stX9_in.drop 8) 0 [] [] h = jX9_in_8 cal K h := rfl
def bX9_in (cal : ix_C) (K : ix_K) (v0 : Int32) (v1 : Int32) (v2 : Int32) (h : ix_H) : ix_O :=
  if v0 < v1 then
    jX9_in_8 cal K h
  else
    if v2 < v0 then
      jX9_in_8 cal K h
    else
      jX9_in_10 cal K (nI 1) h
theorem eX9_in (cal : ix_C) (K : ix_K) (v0 : Int32) (v1 : Int32) (v2 : Int32) (h : ix_H) : ix_fwd cal K stX9_in 0 [(0, ix_I v0), (1, ix_I v1), (2, ix_I v2)] [] h = bX9_in cal K v0 v1 v2 h := rfl
theorem rX9_in (N d : Nat) (v0 : Int32) (v1 : Int32) (v2 : Int32) (h : ix_H) : ix_run iy_P N (d + 1) 318 [ix_I v0, ix_I v1, ix_I v2] h = bX9_in (ix_run iy_P N d) (ix_lp (ix_run iy_P N d) stX9_in N) v0 v1 v2 h := (rfl : ix_run iy_P N (d + 1) 318 [ix_I v0, ix_I v1, ix_I v2] h = ix_fwd (ix_run iy_P N d) (ix_lp (ix_run iy_P N d) stX9_in N) stX9_in 0 [(0, ix_I v0), (1, ix_I v1), (2, ix_I v2)] [] h).trans (eX9_in _ _ v0 v1 v2 h)
def bX9_isKey (cal : ix_C) (K : ix_K) (v0 : Int32) (h : ix_H) : ix_O :=
  (ix_rI (cal 318 [ix_I v0, ix_I (nI 0), ix_I (nI 999)] h)).bind fun r1 =>
  cond (ix_okn 1 r1.1) (some (.inl (some (ix_I r1.1)), r1.2)) none
theorem eX9_isKey (cal : ix_C) (K : ix_K) (v0 : Int32) (h : ix_H) : ix_fwd cal K stX9_isKey 0 [(0, ix_I v0)] [] h = bX9_isKey cal K v0 h := rfl
theorem rX9_isKey (N d : Nat) (v0 : Int32) (h : ix_H) : ix_run iy_P N (d + 1) 319 [ix_I v0] h = bX9_isKey (ix_run iy_P N d) (ix_lp (ix_run iy_P N d) stX9_isKey N) v0 h := (rfl : ix_run iy_P N (d + 1) 319 [ix_I v0] h = ix_fwd (ix_run iy_P N d) (ix_lp (ix_run iy_P N d) stX9_isKey N) stX9_isKey 0 [(0, ix_I v0)] [] h).trans (eX9_isKey _ _ v0 h)
def jX9_step_11 (cal : ix_C) (K : ix_K) (h : ix_H) : ix_O :=
  some (.inl (some (ix_I (-1 : Int32))), h)
theorem jX9_step_11_eq (cal : ix_C) (K : ix_K) (h : ix_H) : ix_fwd cal K (stX9_step.drop 11) 0 [] [] h = jX9_step_11 cal K h := rfl
def bX9_step (cal : ix_C) (K : ix_K) (v0 : Nat) (v1 : Int32) (h : ix_H) : ix_O :=
  (ix_rI (cal 317 [ix_I v1] h)).bind fun r1 =>
  if r1.1 = nI 0 then
    jX9_step_11 cal K r1.2
  else
    (ix_is r1.2 10 (some v0)).bind fun a2 =>
    (ix_rI (cal 234 [ix_I v1] r1.2)).bind fun r3 =>
    (ix_atr r3.2 101 (ix_fR r1.2 a2 35) (r3.1 + (nI 1))).bind fun a4 =>
    if (ix_aI r3.2 a4 (r3.1 + (nI 1)).toNatClampNeg) = nI 0 then
      jX9_step_11 cal K r3.2
    else
      (ix_isr r3.2 10 (some v0)).bind fun a6 =>
      (ix_rV (cal 282 [ix_R (some a6), ix_I v1] r3.2)).bind fun r5 =>
      (ix_is r5 10 (some v0)).bind fun a7 =>
      (ix_rI (cal 234 [ix_I v1] r5)).bind fun r8 =>
      (ix_atr r8.2 101 (ix_fR r5 a7 35) (r8.1 + (nI 1))).bind fun a9 =>
      some (.inl (some (ix_I (ix_aI r8.2 a9 (r8.1 + (nI 1)).toNatClampNeg))), r8.2)
theorem eX9_step (cal : ix_C) (K : ix_K) (v0 : Nat) (v1 : Int32) (h : ix_H) : ix_fwd cal K stX9_step 0 [(0, ix_R (some v0)), (1, ix_I v1)] [] h = bX9_step cal K v0 v1 h := rfl
theorem rX9_step (N d : Nat) (v0 : Nat) (v1 : Int32) (h : ix_H) : ix_run iy_P N (d + 1) 320 [ix_R (some v0), ix_I v1] h = bX9_step (ix_run iy_P N d) (ix_lp (ix_run iy_P N d) stX9_step N) v0 v1 h := (rfl : ix_run iy_P N (d + 1) 320 [ix_R (some v0), ix_I v1] h = ix_fwd (ix_run iy_P N d) (ix_lp (ix_run iy_P N d) stX9_step N) stX9_step 0 [(0, ix_R (some v0)), (1, ix_I v1)] [] h).trans (eX9_step _ _ v0 v1 h)
def jX9_close_8 (cal : ix_C) (K : ix_K) (s0 : Int32) (h : ix_H) : ix_O :=
  some (.inl (some (ix_I s0)), h)
theorem jX9_close_8_eq (cal : ix_C) (K : ix_K) (s0 : Int32) (h : ix_H) : ix_fwd cal K (stX9_close.drop 8) 0 [] [ix_I s0] h = jX9_close_8 cal K s0 h := rfl
def bX9_close (cal : ix_C) (K : ix_K) (v0 : Nat) (v1 : Int32) (h : ix_H) : ix_O :=
  (ix_rI (cal 317 [ix_I v1] h)).bind fun r1 =>
  if r1.1 = nI 0 then
    jX9_close_8 cal K (-1 : Int32) r1.2
  else
    (ix_isr r1.2 10 (some v0)).bind fun a3 =>
    (ix_rI (cal 281 [ix_R (some a3), ix_I v1] r1.2)).bind fun r2 =>
    jX9_close_8 cal K r2.1 r2.2
theorem eX9_close (cal : ix_C) (K : ix_K) (v0 : Nat) (v1 : Int32) (h : ix_H) : ix_fwd cal K stX9_close 0 [(0, ix_R (some v0)), (1, ix_I v1)] [] h = bX9_close cal K v0 v1 h := rfl
theorem rX9_close (N d : Nat) (v0 : Nat) (v1 : Int32) (h : ix_H) : ix_run iy_P N (d + 1) 321 [ix_R (some v0), ix_I v1] h = bX9_close (ix_run iy_P N d) (ix_lp (ix_run iy_P N d) stX9_close N) v0 v1 h := (rfl : ix_run iy_P N (d + 1) 321 [ix_R (some v0), ix_I v1] h = ix_fwd (ix_run iy_P N d) (ix_lp (ix_run iy_P N d) stX9_close N) stX9_close 0 [(0, ix_R (some v0)), (1, ix_I v1)] [] h).trans (eX9_close _ _ v0 v1 h)
def bX9_sweep (cal : ix_C) (K : ix_K) (v0 : Nat) (h : ix_H) : ix_O :=
  (ix_isr h 10 (some v0)).bind fun a2 =>
  (ix_rI (cal 314 [ix_R (some a2)] h)).bind fun r1 =>
  some (.inl (some (ix_I r1.1)), r1.2)
theorem eX9_sweep (cal : ix_C) (K : ix_K) (v0 : Nat) (h : ix_H) : ix_fwd cal K stX9_sweep 0 [(0, ix_R (some v0))] [] h = bX9_sweep cal K v0 h := rfl
theorem rX9_sweep (N d : Nat) (v0 : Nat) (h : ix_H) : ix_run iy_P N (d + 1) 322 [ix_R (some v0)] h = bX9_sweep (ix_run iy_P N d) (ix_lp (ix_run iy_P N d) stX9_sweep N) v0 h := (rfl : ix_run iy_P N (d + 1) 322 [ix_R (some v0)] h = ix_fwd (ix_run iy_P N d) (ix_lp (ix_run iy_P N d) stX9_sweep N) stX9_sweep 0 [(0, ix_R (some v0))] [] h).trans (eX9_sweep _ _ v0 h)
def jX9_has_14 (cal : ix_C) (K : ix_K) (s0 : Int32) (h : ix_H) : ix_O :=
  some (.inl (some (ix_I s0)), h)
theorem jX9_has_14_eq (cal : ix_C) (K : ix_K) (s0 : Int32) (h : ix_H) : ix_fwd cal K (stX9_has.drop 14) 0 [] [ix_I s0] h = jX9_has_14 cal K s0 h := rfl
def bX9_has (cal : ix_C) (K : ix_K) (v0 : Nat) (v1 : Int32) (h : ix_H) : ix_O :=
  (ix_rI (cal 319 [ix_I v1] h)).bind fun r1 =>
  if r1.1 = nI 0 then
    some (.inl (some (ix_I (-1 : Int32))), r1.2)
  else
    (ix_isr r1.2 10 (some v0)).bind fun a3 =>
    (ix_rV (cal 267 [ix_R (some a3)] r1.2)).bind fun r2 =>
    (ix_isr r2 10 (some v0)).bind fun a5 =>
    (ix_rI (cal 324 [ix_R (some a5), ix_I v1] r2)).bind fun r4 =>
    if nI 0 ≤ r4.1 then
      jX9_has_14 cal K (nI 1) r4.2
    else
      jX9_has_14 cal K (nI 0) r4.2
theorem eX9_has (cal : ix_C) (K : ix_K) (v0 : Nat) (v1 : Int32) (h : ix_H) : ix_fwd cal K stX9_has 0 [(0, ix_R (some v0)), (1, ix_I v1)] [] h = bX9_has cal K v0 v1 h := rfl
theorem rX9_has (N d : Nat) (v0 : Nat) (v1 : Int32) (h : ix_H) : ix_run iy_P N (d + 1) 323 [ix_R (some v0), ix_I v1] h = bX9_has (ix_run iy_P N d) (ix_lp (ix_run iy_P N d) stX9_has N) v0 v1 h := (rfl : ix_run iy_P N (d + 1) 323 [ix_R (some v0), ix_I v1] h = ix_fwd (ix_run iy_P N d) (ix_lp (ix_run iy_P N d) stX9_has N) stX9_has 0 [(0, ix_R (some v0)), (1, ix_I v1)] [] h).trans (eX9_has _ _ v0 v1 h)
def jX9_allAt_2 (cal : ix_C) (K : ix_K) (v0 : Nat) (v1 : Int32) (v2 : Int32) (h : ix_H) : ix_O :=
  (ix_is h 10 (some v0)).bind fun a1 =>
  if (ix_fI h a1 48) ≤ v2 then
    some (.inl (some (ix_I (-1 : Int32))), h)
  else
    (ix_is h 10 (some v0)).bind fun a2 =>
    (ix_atr h 101 (ix_fR h a2 46) v2).bind fun a3 =>
    if (ix_aI h a3 v2.toNatClampNeg) = v1 then
      some (.inl (some (ix_I v2)), h)
    else
      K 2 [(0, ix_R (some v0)), (1, ix_I v1), (2, ix_I (v2 + (nI 1)))] [] h
theorem jX9_allAt_2_eq (cal : ix_C) (K : ix_K) (v0 : Nat) (v1 : Int32) (v2 : Int32) (h : ix_H) : ix_fwd cal K (stX9_allAt.drop 2) 0 [(0, ix_R (some v0)), (1, ix_I v1), (2, ix_I v2)] [] h = jX9_allAt_2 cal K v0 v1 v2 h := rfl
def bX9_allAt (cal : ix_C) (K : ix_K) (v0 : Nat) (v1 : Int32) (h : ix_H) : ix_O :=
  jX9_allAt_2 cal K v0 v1 (nI 0) h
theorem eX9_allAt (cal : ix_C) (K : ix_K) (v0 : Nat) (v1 : Int32) (h : ix_H) : ix_fwd cal K stX9_allAt 0 [(0, ix_R (some v0)), (1, ix_I v1)] [] h = bX9_allAt cal K v0 v1 h := rfl
theorem rX9_allAt (N d : Nat) (v0 : Nat) (v1 : Int32) (h : ix_H) : ix_run iy_P N (d + 1) 324 [ix_R (some v0), ix_I v1] h = bX9_allAt (ix_run iy_P N d) (ix_lp (ix_run iy_P N d) stX9_allAt N) v0 v1 h := (rfl : ix_run iy_P N (d + 1) 324 [ix_R (some v0), ix_I v1] h = ix_fwd (ix_run iy_P N d) (ix_lp (ix_run iy_P N d) stX9_allAt N) stX9_allAt 0 [(0, ix_R (some v0)), (1, ix_I v1)] [] h).trans (eX9_allAt _ _ v0 v1 h)
theorem lX9_allAt_2 (cal : ix_C) (n : Nat) (v0 : Nat) (v1 : Int32) (v2 : Int32) (h : ix_H) : ix_lp cal stX9_allAt (n + 1) 2 [(0, ix_R (some v0)), (1, ix_I v1), (2, ix_I v2)] [] h = jX9_allAt_2 cal (ix_lp cal stX9_allAt n) v0 v1 v2 h := jX9_allAt_2_eq cal (ix_lp cal stX9_allAt n) v0 v1 v2 h
def jX9_value_19 (cal : ix_C) (K : ix_K) (s0 : Int32) (h : ix_H) : ix_O :=
  some (.inl (some (ix_I s0)), h)
theorem jX9_value_19_eq (cal : ix_C) (K : ix_K) (s0 : Int32) (h : ix_H) : ix_fwd cal K (stX9_value.drop 19) 0 [] [ix_I s0] h = jX9_value_19 cal K s0 h := rfl
def bX9_value (cal : ix_C) (K : ix_K) (v0 : Nat) (v1 : Int32) (h : ix_H) : ix_O :=
  (ix_rI (cal 319 [ix_I v1] h)).bind fun r1 =>
  if r1.1 = nI 0 then
    some (.inl (some (ix_I (nI 0))), r1.2)
  else
    (ix_isr r1.2 10 (some v0)).bind fun a3 =>
    (ix_rV (cal 267 [ix_R (some a3)] r1.2)).bind fun r2 =>
    (ix_isr r2 10 (some v0)).bind fun a5 =>
    (ix_rI (cal 324 [ix_R (some a5), ix_I v1] r2)).bind fun r4 =>
    if nI 0 ≤ r4.1 then
      (ix_is r4.2 10 (some v0)).bind fun a6 =>
      (ix_isr r4.2 10 (some v0)).bind fun a8 =>
      (ix_rI (cal 324 [ix_R (some a8), ix_I v1] r4.2)).bind fun r7 =>
      (ix_atr r7.2 101 (ix_fR r4.2 a6 47) r7.1).bind fun a9 =>
      jX9_value_19 cal K (ix_aI r7.2 a9 r7.1.toNatClampNeg) r7.2
    else
      jX9_value_19 cal K (nI 0) r4.2
theorem eX9_value (cal : ix_C) (K : ix_K) (v0 : Nat) (v1 : Int32) (h : ix_H) : ix_fwd cal K stX9_value 0 [(0, ix_R (some v0)), (1, ix_I v1)] [] h = bX9_value cal K v0 v1 h := rfl
theorem rX9_value (N d : Nat) (v0 : Nat) (v1 : Int32) (h : ix_H) : ix_run iy_P N (d + 1) 325 [ix_R (some v0), ix_I v1] h = bX9_value (ix_run iy_P N d) (ix_lp (ix_run iy_P N d) stX9_value N) v0 v1 h := (rfl : ix_run iy_P N (d + 1) 325 [ix_R (some v0), ix_I v1] h = ix_fwd (ix_run iy_P N d) (ix_lp (ix_run iy_P N d) stX9_value N) stX9_value 0 [(0, ix_R (some v0)), (1, ix_I v1)] [] h).trans (eX9_value _ _ v0 v1 h)
def jX9_many_6 (cal : ix_C) (K : ix_K) (h : ix_H) : ix_O :=
  some (.inl (some (ix_I (-1 : Int32))), h)
theorem jX9_many_6_eq (cal : ix_C) (K : ix_K) (h : ix_H) : ix_fwd cal K (stX9_many.drop 6) 0 [] [] h = jX9_many_6 cal K h := rfl
def jX9_many_29 (cal : ix_C) (K : ix_K) (v0 : Nat) (v1 : Int32) (v2 : Int32) (v3 : Int32) (v4 : Int32) (h : ix_H) : ix_O :=
  K 15 [(0, ix_R (some v0)), (1, ix_I v1), (2, ix_I v2), (3, ix_I v3), (4, ix_I (v4 + (nI 1)))] [] h
theorem jX9_many_29_eq (cal : ix_C) (K : ix_K) (v0 : Nat) (v1 : Int32) (v2 : Int32) (v3 : Int32) (v4 : Int32) (h : ix_H) : ix_fwd cal K (stX9_many.drop 29) 0 [(0, ix_R (some v0)), (1, ix_I v1), (2, ix_I v2), (3, ix_I v3), (4, ix_I v4)] [] h = jX9_many_29 cal K v0 v1 v2 v3 v4 h := rfl
def jX9_many_15 (cal : ix_C) (K : ix_K) (v0 : Nat) (v1 : Int32) (v2 : Int32) (v3 : Int32) (v4 : Int32) (h : ix_H) : ix_O :=
  (ix_is h 10 (some v0)).bind fun a5 =>
  if (ix_fI h a5 48) ≤ v4 then
    some (.inl (some (ix_I v3)), h)
  else
    (ix_is h 10 (some v0)).bind fun a6 =>
    (ix_atr h 101 (ix_fR h a6 46) v4).bind fun a7 =>
    (ix_rI (cal 318 [ix_I (ix_aI h a7 v4.toNatClampNeg), ix_I v1, ix_I v2] h)).bind fun r8 =>
    if r8.1 = nI 0 then
      jX9_many_29 cal K v0 v1 v2 v3 v4 r8.2
    else
      jX9_many_29 cal K v0 v1 v2 (v3 + (nI 1)) v4 r8.2
theorem jX9_many_15_eq (cal : ix_C) (K : ix_K) (v0 : Nat) (v1 : Int32) (v2 : Int32) (v3 : Int32) (v4 : Int32) (h : ix_H) : ix_fwd cal K (stX9_many.drop 15) 0 [(0, ix_R (some v0)), (1, ix_I v1), (2, ix_I v2), (3, ix_I v3), (4, ix_I v4)] [] h = jX9_many_15 cal K v0 v1 v2 v3 v4 h := rfl
def bX9_many (cal : ix_C) (K : ix_K) (v0 : Nat) (v1 : Int32) (v2 : Int32) (h : ix_H) : ix_O :=
  (ix_rI (cal 319 [ix_I v1] h)).bind fun r1 =>
  if r1.1 = nI 0 then
    jX9_many_6 cal K r1.2
  else
    (ix_rI (cal 319 [ix_I v2] r1.2)).bind fun r2 =>
    if r2.1 = nI 0 then
      jX9_many_6 cal K r2.2
    else
      (ix_isr r2.2 10 (some v0)).bind fun a4 =>
      (ix_rV (cal 267 [ix_R (some a4)] r2.2)).bind fun r3 =>
      jX9_many_15 cal K v0 v1 v2 (nI 0) (nI 0) r3
theorem eX9_many (cal : ix_C) (K : ix_K) (v0 : Nat) (v1 : Int32) (v2 : Int32) (h : ix_H) : ix_fwd cal K stX9_many 0 [(0, ix_R (some v0)), (1, ix_I v1), (2, ix_I v2)] [] h = bX9_many cal K v0 v1 v2 h := rfl
theorem rX9_many (N d : Nat) (v0 : Nat) (v1 : Int32) (v2 : Int32) (h : ix_H) : ix_run iy_P N (d + 1) 326 [ix_R (some v0), ix_I v1, ix_I v2] h = bX9_many (ix_run iy_P N d) (ix_lp (ix_run iy_P N d) stX9_many N) v0 v1 v2 h := (rfl : ix_run iy_P N (d + 1) 326 [ix_R (some v0), ix_I v1, ix_I v2] h = ix_fwd (ix_run iy_P N d) (ix_lp (ix_run iy_P N d) stX9_many N) stX9_many 0 [(0, ix_R (some v0)), (1, ix_I v1), (2, ix_I v2)] [] h).trans (eX9_many _ _ v0 v1 v2 h)
theorem lX9_many_15 (cal : ix_C) (n : Nat) (v0 : Nat) (v1 : Int32) (v2 : Int32) (v3 : Int32) (v4 : Int32) (h : ix_H) : ix_lp cal stX9_many (n + 1) 15 [(0, ix_R (some v0)), (1, ix_I v1), (2, ix_I v2), (3, ix_I v3), (4, ix_I v4)] [] h = jX9_many_15 cal (ix_lp cal stX9_many n) v0 v1 v2 v3 v4 h := jX9_many_15_eq cal (ix_lp cal stX9_many n) v0 v1 v2 v3 v4 h
def jX9_sum_6 (cal : ix_C) (K : ix_K) (h : ix_H) : ix_O :=
  some (.inl (some (ix_I (nI 0))), h)
theorem jX9_sum_6_eq (cal : ix_C) (K : ix_K) (h : ix_H) : ix_fwd cal K (stX9_sum.drop 6) 0 [] [] h = jX9_sum_6 cal K h := rfl
def jX9_sum_35 (cal : ix_C) (K : ix_K) (v0 : Nat) (v1 : Int32) (v2 : Int32) (v3 : Int32) (v4 : Int32) (h : ix_H) : ix_O :=
  K 15 [(0, ix_R (some v0)), (1, ix_I v1), (2, ix_I v2), (3, ix_I v3), (4, ix_I (v4 + (nI 1)))] [] h
theorem jX9_sum_35_eq (cal : ix_C) (K : ix_K) (v0 : Nat) (v1 : Int32) (v2 : Int32) (v3 : Int32) (v4 : Int32) (h : ix_H) : ix_fwd cal K (stX9_sum.drop 35) 0 [(0, ix_R (some v0)), (1, ix_I v1), (2, ix_I v2), (3, ix_I v3), (4, ix_I v4)] [] h = jX9_sum_35 cal K v0 v1 v2 v3 v4 h := rfl
def jX9_sum_15 (cal : ix_C) (K : ix_K) (v0 : Nat) (v1 : Int32) (v2 : Int32) (v3 : Int32) (v4 : Int32) (h : ix_H) : ix_O :=
  (ix_is h 10 (some v0)).bind fun a5 =>
  if (ix_fI h a5 48) ≤ v4 then
    some (.inl (some (ix_I v3)), h)
  else
    (ix_is h 10 (some v0)).bind fun a6 =>
    (ix_atr h 101 (ix_fR h a6 46) v4).bind fun a7 =>
    (ix_rI (cal 318 [ix_I (ix_aI h a7 v4.toNatClampNeg), ix_I v1, ix_I v2] h)).bind fun r8 =>
    if r8.1 = nI 0 then
      jX9_sum_35 cal K v0 v1 v2 v3 v4 r8.2
    else
      (ix_is r8.2 10 (some v0)).bind fun a9 =>
      (ix_atr r8.2 101 (ix_fR r8.2 a9 47) v4).bind fun a10 =>
      jX9_sum_35 cal K v0 v1 v2 (v3 + (ix_aI r8.2 a10 v4.toNatClampNeg)) v4 r8.2
theorem jX9_sum_15_eq (cal : ix_C) (K : ix_K) (v0 : Nat) (v1 : Int32) (v2 : Int32) (v3 : Int32) (v4 : Int32) (h : ix_H) : ix_fwd cal K (stX9_sum.drop 15) 0 [(0, ix_R (some v0)), (1, ix_I v1), (2, ix_I v2), (3, ix_I v3), (4, ix_I v4)] [] h = jX9_sum_15 cal K v0 v1 v2 v3 v4 h := rfl
def bX9_sum (cal : ix_C) (K : ix_K) (v0 : Nat) (v1 : Int32) (v2 : Int32) (h : ix_H) : ix_O :=
  (ix_rI (cal 319 [ix_I v1] h)).bind fun r1 =>
  if r1.1 = nI 0 then
    jX9_sum_6 cal K r1.2
  else
    (ix_rI (cal 319 [ix_I v2] r1.2)).bind fun r2 =>
    if r2.1 = nI 0 then
      jX9_sum_6 cal K r2.2
    else
      (ix_isr r2.2 10 (some v0)).bind fun a4 =>
      (ix_rV (cal 267 [ix_R (some a4)] r2.2)).bind fun r3 =>
      jX9_sum_15 cal K v0 v1 v2 (nI 0) (nI 0) r3
theorem eX9_sum (cal : ix_C) (K : ix_K) (v0 : Nat) (v1 : Int32) (v2 : Int32) (h : ix_H) : ix_fwd cal K stX9_sum 0 [(0, ix_R (some v0)), (1, ix_I v1), (2, ix_I v2)] [] h = bX9_sum cal K v0 v1 v2 h := rfl
theorem rX9_sum (N d : Nat) (v0 : Nat) (v1 : Int32) (v2 : Int32) (h : ix_H) : ix_run iy_P N (d + 1) 327 [ix_R (some v0), ix_I v1, ix_I v2] h = bX9_sum (ix_run iy_P N d) (ix_lp (ix_run iy_P N d) stX9_sum N) v0 v1 v2 h := (rfl : ix_run iy_P N (d + 1) 327 [ix_R (some v0), ix_I v1, ix_I v2] h = ix_fwd (ix_run iy_P N d) (ix_lp (ix_run iy_P N d) stX9_sum N) stX9_sum 0 [(0, ix_R (some v0)), (1, ix_I v1), (2, ix_I v2)] [] h).trans (eX9_sum _ _ v0 v1 v2 h)
theorem lX9_sum_15 (cal : ix_C) (n : Nat) (v0 : Nat) (v1 : Int32) (v2 : Int32) (v3 : Int32) (v4 : Int32) (h : ix_H) : ix_lp cal stX9_sum (n + 1) 15 [(0, ix_R (some v0)), (1, ix_I v1), (2, ix_I v2), (3, ix_I v3), (4, ix_I v4)] [] h = jX9_sum_15 cal (ix_lp cal stX9_sum n) v0 v1 v2 v3 v4 h := jX9_sum_15_eq cal (ix_lp cal stX9_sum n) v0 v1 v2 v3 v4 h
def jX9_nth_16 (cal : ix_C) (K : ix_K) (s0 : Int32) (h : ix_H) : ix_O :=
  some (.inl (some (ix_I s0)), h)
theorem jX9_nth_16_eq (cal : ix_C) (K : ix_K) (s0 : Int32) (h : ix_H) : ix_fwd cal K (stX9_nth.drop 16) 0 [] [ix_I s0] h = jX9_nth_16 cal K s0 h := rfl
def bX9_nth (cal : ix_C) (K : ix_K) (v0 : Nat) (v1 : Int32) (h : ix_H) : ix_O :=
  if nI 0 ≤ v1 then
    (ix_isr h 10 (some v0)).bind fun a2 =>
    (ix_rV (cal 267 [ix_R (some a2)] h)).bind fun r1 =>
    (ix_is r1 10 (some v0)).bind fun a3 =>
    if (ix_fI r1 a3 48) ≤ v1 then
      jX9_nth_16 cal K (-2 : Int32) r1
    else
      (ix_is r1 10 (some v0)).bind fun a4 =>
      (ix_atr r1 101 (ix_fR r1 a4 46) v1).bind fun a5 =>
      jX9_nth_16 cal K (ix_aI r1 a5 v1.toNatClampNeg) r1
  else
    some (.inl (some (ix_I (-1 : Int32))), h)
theorem eX9_nth (cal : ix_C) (K : ix_K) (v0 : Nat) (v1 : Int32) (h : ix_H) : ix_fwd cal K stX9_nth 0 [(0, ix_R (some v0)), (1, ix_I v1)] [] h = bX9_nth cal K v0 v1 h := rfl
theorem rX9_nth (N d : Nat) (v0 : Nat) (v1 : Int32) (h : ix_H) : ix_run iy_P N (d + 1) 328 [ix_R (some v0), ix_I v1] h = bX9_nth (ix_run iy_P N d) (ix_lp (ix_run iy_P N d) stX9_nth N) v0 v1 h := (rfl : ix_run iy_P N (d + 1) 328 [ix_R (some v0), ix_I v1] h = ix_fwd (ix_run iy_P N d) (ix_lp (ix_run iy_P N d) stX9_nth N) stX9_nth 0 [(0, ix_R (some v0)), (1, ix_I v1)] [] h).trans (eX9_nth _ _ v0 v1 h)
def jX9_page_36 (cal : ix_C) (K : ix_K) (s0 : Int32) (h : ix_H) : ix_O :=
  some (.inl (some (ix_I s0)), h)
theorem jX9_page_36_eq (cal : ix_C) (K : ix_K) (s0 : Int32) (h : ix_H) : ix_fwd cal K (stX9_page.drop 36) 0 [] [ix_I s0] h = jX9_page_36 cal K s0 h := rfl
def jX9_page_47 (cal : ix_C) (K : ix_K) (s0 : Int32) (h : ix_H) : ix_O :=
  some (.inl (some (ix_I s0)), h)
theorem jX9_page_47_eq (cal : ix_C) (K : ix_K) (s0 : Int32) (h : ix_H) : ix_fwd cal K (stX9_page.drop 47) 0 [] [ix_I s0] h = jX9_page_47 cal K s0 h := rfl
def jX9_page_42 (cal : ix_C) (K : ix_K) (h : ix_H) : ix_O :=
  jX9_page_47 cal K (nI 0) h
theorem jX9_page_42_eq (cal : ix_C) (K : ix_K) (h : ix_H) : ix_fwd cal K (stX9_page.drop 42) 0 [] [] h = jX9_page_42 cal K h := rfl
def jX9_page_58 (cal : ix_C) (K : ix_K) (s0 : Int32) (h : ix_H) : ix_O :=
  some (.inl (some (ix_I s0)), h)
theorem jX9_page_58_eq (cal : ix_C) (K : ix_K) (s0 : Int32) (h : ix_H) : ix_fwd cal K (stX9_page.drop 58) 0 [] [ix_I s0] h = jX9_page_58 cal K s0 h := rfl
def jX9_page_53 (cal : ix_C) (K : ix_K) (h : ix_H) : ix_O :=
  jX9_page_58 cal K (-2 : Int32) h
theorem jX9_page_53_eq (cal : ix_C) (K : ix_K) (h : ix_H) : ix_fwd cal K (stX9_page.drop 53) 0 [] [] h = jX9_page_53 cal K h := rfl
def jX9_page_65 (cal : ix_C) (K : ix_K) (s0 : Int32) (h : ix_H) : ix_O :=
  some (.inl (some (ix_I s0)), h)
theorem jX9_page_65_eq (cal : ix_C) (K : ix_K) (s0 : Int32) (h : ix_H) : ix_fwd cal K (stX9_page.drop 65) 0 [] [ix_I s0] h = jX9_page_65 cal K s0 h := rfl
def bX9_page (cal : ix_C) (K : ix_K) (v0 : Nat) (v1 : Int32) (v2 : Int32) (h : ix_H) : ix_O :=
  (ix_is h 10 (some v0)).bind fun a1 =>
  (ix_atr h 101 (ix_fR h a1 35) (nI 1)).bind fun a2 =>
  (ix_rI (cal 318 [ix_I v1, ix_I (nI 0), ix_I ((ix_aI h a2 (nI 1).toNatClampNeg) - (nI 1))] h)).bind fun r3 =>
  if r3.1 = nI 0 then
    some (.inl (some (ix_I (-1 : Int32))), r3.2)
  else
    (ix_isr r3.2 10 (some v0)).bind fun a5 =>
    (ix_rV (cal 268 [ix_R (some a5), ix_I v1] r3.2)).bind fun r4 =>
    (ix_isr r4 10 (some v0)).bind fun a7 =>
    (ix_rI (cal 287 [ix_R (some a7), ix_I v1] r4)).bind fun r6 =>
    if v2 = nI 0 then
      (ix_isr r6.2 10 (some v0)).bind fun a9 =>
      (ix_rI (cal 270 [ix_R (some a9), ix_I v1] r6.2)).bind fun r8 =>
      some (.inl (some (ix_I r8.1)), r8.2)
    else
    if v2 = nI 1 then
      (ix_is r6.2 10 (some v0)).bind fun a10 =>
      some (.inl (some (ix_I ((ix_fI r6.2 a10 37) - (nI 1)))), r6.2)
    else
    if v2 = nI 2 then
      if r6.1 = nI 0 then
        (ix_is r6.2 10 (some v0)).bind fun a11 =>
        jX9_page_36 cal K (ix_fI r6.2 a11 40) r6.2
      else
        jX9_page_36 cal K (nI 0) r6.2
    else
    if v2 = nI 3 then
      if r6.1 = nI 0 then
        if v1 = nI 0 then
          jX9_page_42 cal K r6.2
        else
          (ix_is r6.2 10 (some v0)).bind fun a12 =>
          jX9_page_47 cal K (ix_fI r6.2 a12 41) r6.2
      else
        jX9_page_42 cal K r6.2
    else
    if v2 = nI 4 then
      if r6.1 = nI 0 then
        if v1 = nI 0 then
          jX9_page_53 cal K r6.2
        else
          (ix_is r6.2 10 (some v0)).bind fun a13 =>
          jX9_page_58 cal K (ix_fI r6.2 a13 42) r6.2
      else
        jX9_page_53 cal K r6.2
    else
    if v2 = nI 5 then
      if r6.1 = nI 0 then
        jX9_page_65 cal K (nI 0) r6.2
      else
        jX9_page_65 cal K (nI 1) r6.2
    else
      some (.inl (some (ix_I (-1 : Int32))), r6.2)
theorem eX9_page (cal : ix_C) (K : ix_K) (v0 : Nat) (v1 : Int32) (v2 : Int32) (h : ix_H) : ix_fwd cal K stX9_page 0 [(0, ix_R (some v0)), (1, ix_I v1), (2, ix_I v2)] [] h = bX9_page cal K v0 v1 v2 h := rfl
theorem rX9_page (N d : Nat) (v0 : Nat) (v1 : Int32) (v2 : Int32) (h : ix_H) : ix_run iy_P N (d + 1) 329 [ix_R (some v0), ix_I v1, ix_I v2] h = bX9_page (ix_run iy_P N d) (ix_lp (ix_run iy_P N d) stX9_page N) v0 v1 v2 h := (rfl : ix_run iy_P N (d + 1) 329 [ix_R (some v0), ix_I v1, ix_I v2] h = ix_fwd (ix_run iy_P N d) (ix_lp (ix_run iy_P N d) stX9_page N) stX9_page 0 [(0, ix_R (some v0)), (1, ix_I v1), (2, ix_I v2)] [] h).trans (eX9_page _ _ v0 v1 v2 h)
def jX9_bound_15 (cal : ix_C) (K : ix_K) (h : ix_H) : ix_O :=
  some (.inl (some (ix_I (-1 : Int32))), h)
theorem jX9_bound_15_eq (cal : ix_C) (K : ix_K) (h : ix_H) : ix_fwd cal K (stX9_bound.drop 15) 0 [] [] h = jX9_bound_15 cal K h := rfl
def jX9_bound_29 (cal : ix_C) (K : ix_K) (s0 : Int32) (h : ix_H) : ix_O :=
  some (.inl (some (ix_I s0)), h)
theorem jX9_bound_29_eq (cal : ix_C) (K : ix_K) (s0 : Int32) (h : ix_H) : ix_fwd cal K (stX9_bound.drop 29) 0 [] [ix_I s0] h = jX9_bound_29 cal K s0 h := rfl
def bX9_bound (cal : ix_C) (K : ix_K) (v0 : Nat) (v1 : Int32) (v2 : Int32) (h : ix_H) : ix_O :=
  (ix_isr h 10 (some v0)).bind fun a2 =>
  (ix_rV (cal 284 [ix_R (some a2)] h)).bind fun r1 =>
  (ix_is r1 10 (some v0)).bind fun a3 =>
  (ix_rI (cal 318 [ix_I v1, ix_I (nI 0), ix_I ((ix_fI r1 a3 45) - (nI 1))] r1)).bind fun r4 =>
  if r4.1 = nI 0 then
    jX9_bound_15 cal K r4.2
  else
    (ix_rI (cal 318 [ix_I v2, ix_I (nI 0), ix_I (nI 1)] r4.2)).bind fun r5 =>
    if r5.1 = nI 0 then
      jX9_bound_15 cal K r5.2
    else
      if v2 = nI 0 then
        (ix_is r5.2 10 (some v0)).bind fun a8 =>
        (ix_atr r5.2 101 (ix_fR r5.2 a8 43) v1).bind fun a9 =>
        jX9_bound_29 cal K (ix_aI r5.2 a9 v1.toNatClampNeg) r5.2
      else
        (ix_is r5.2 10 (some v0)).bind fun a6 =>
        (ix_atr r5.2 101 (ix_fR r5.2 a6 44) v1).bind fun a7 =>
        jX9_bound_29 cal K (ix_aI r5.2 a7 v1.toNatClampNeg) r5.2
theorem eX9_bound (cal : ix_C) (K : ix_K) (v0 : Nat) (v1 : Int32) (v2 : Int32) (h : ix_H) : ix_fwd cal K stX9_bound 0 [(0, ix_R (some v0)), (1, ix_I v1), (2, ix_I v2)] [] h = bX9_bound cal K v0 v1 v2 h := rfl
theorem rX9_bound (N d : Nat) (v0 : Nat) (v1 : Int32) (v2 : Int32) (h : ix_H) : ix_run iy_P N (d + 1) 330 [ix_R (some v0), ix_I v1, ix_I v2] h = bX9_bound (ix_run iy_P N d) (ix_lp (ix_run iy_P N d) stX9_bound N) v0 v1 v2 h := (rfl : ix_run iy_P N (d + 1) 330 [ix_R (some v0), ix_I v1, ix_I v2] h = ix_fwd (ix_run iy_P N d) (ix_lp (ix_run iy_P N d) stX9_bound N) stX9_bound 0 [(0, ix_R (some v0)), (1, ix_I v1), (2, ix_I v2)] [] h).trans (eX9_bound _ _ v0 v1 v2 h)
def jX9_record_16 (cal : ix_C) (K : ix_K) (s0 : Int32) (h : ix_H) : ix_O :=
  some (.inl (some (ix_I s0)), h)
theorem jX9_record_16_eq (cal : ix_C) (K : ix_K) (s0 : Int32) (h : ix_H) : ix_fwd cal K (stX9_record.drop 16) 0 [] [ix_I s0] h = jX9_record_16 cal K s0 h := rfl
def jX9_record_14 (cal : ix_C) (K : ix_K) (h : ix_H) : ix_O :=
  jX9_record_16 cal K (-1000 : Int32) h
theorem jX9_record_14_eq (cal : ix_C) (K : ix_K) (h : ix_H) : ix_fwd cal K (stX9_record.drop 14) 0 [] [] h = jX9_record_14 cal K h := rfl
def bX9_record (cal : ix_C) (K : ix_K) (v0 : Nat) (v1 : Int32) (v2 : Int32) (h : ix_H) : ix_O :=
  (ix_isr h 10 (some v0)).bind fun a2 =>
  (ix_rI (cal 332 [ix_R (some a2), ix_I v1] h)).bind fun r1 =>
  if r1.1 = nI 0 then
    jX9_record_14 cal K r1.2
  else
    (ix_rI (cal 318 [ix_I v2, ix_I (nI 0), ix_I (nI 6)] r1.2)).bind fun r3 =>
    if r3.1 = nI 0 then
      jX9_record_14 cal K r3.2
    else
      (ix_isr r3.2 10 (some v0)).bind fun a5 =>
      (ix_rI (cal 239 [ix_R (some a5), ix_I v1, ix_I v2] r3.2)).bind fun r4 =>
      jX9_record_16 cal K r4.1 r4.2
theorem eX9_record (cal : ix_C) (K : ix_K) (v0 : Nat) (v1 : Int32) (v2 : Int32) (h : ix_H) : ix_fwd cal K stX9_record 0 [(0, ix_R (some v0)), (1, ix_I v1), (2, ix_I v2)] [] h = bX9_record cal K v0 v1 v2 h := rfl
theorem rX9_record (N d : Nat) (v0 : Nat) (v1 : Int32) (v2 : Int32) (h : ix_H) : ix_run iy_P N (d + 1) 331 [ix_R (some v0), ix_I v1, ix_I v2] h = bX9_record (ix_run iy_P N d) (ix_lp (ix_run iy_P N d) stX9_record N) v0 v1 v2 h := (rfl : ix_run iy_P N (d + 1) 331 [ix_R (some v0), ix_I v1, ix_I v2] h = ix_fwd (ix_run iy_P N d) (ix_lp (ix_run iy_P N d) stX9_record N) stX9_record 0 [(0, ix_R (some v0)), (1, ix_I v1), (2, ix_I v2)] [] h).trans (eX9_record _ _ v0 v1 v2 h)
def bX9_isRecord (cal : ix_C) (K : ix_K) (v0 : Nat) (v1 : Int32) (h : ix_H) : ix_O :=
  (ix_is h 10 (some v0)).bind fun a1 =>
  (ix_atr h 101 (ix_fR h a1 35) (nI 0)).bind fun a2 =>
  (ix_rI (cal 318 [ix_I v1, ix_I (nI 0), ix_I ((ix_aI h a2 (nI 0).toNatClampNeg) - (nI 1))] h)).bind fun r3 =>
  cond (ix_okn 1 r3.1) (some (.inl (some (ix_I r3.1)), r3.2)) none
theorem eX9_isRecord (cal : ix_C) (K : ix_K) (v0 : Nat) (v1 : Int32) (h : ix_H) : ix_fwd cal K stX9_isRecord 0 [(0, ix_R (some v0)), (1, ix_I v1)] [] h = bX9_isRecord cal K v0 v1 h := rfl
theorem rX9_isRecord (N d : Nat) (v0 : Nat) (v1 : Int32) (h : ix_H) : ix_run iy_P N (d + 1) 332 [ix_R (some v0), ix_I v1] h = bX9_isRecord (ix_run iy_P N d) (ix_lp (ix_run iy_P N d) stX9_isRecord N) v0 v1 h := (rfl : ix_run iy_P N (d + 1) 332 [ix_R (some v0), ix_I v1] h = ix_fwd (ix_run iy_P N d) (ix_lp (ix_run iy_P N d) stX9_isRecord N) stX9_isRecord 0 [(0, ix_R (some v0)), (1, ix_I v1)] [] h).trans (eX9_isRecord _ _ v0 v1 h)
def jX9_base_30 (cal : ix_C) (K : ix_K) (s0 : Int32) (h : ix_H) : ix_O :=
  some (.inl (some (ix_I s0)), h)
theorem jX9_base_30_eq (cal : ix_C) (K : ix_K) (s0 : Int32) (h : ix_H) : ix_fwd cal K (stX9_base.drop 30) 0 [] [ix_I s0] h = jX9_base_30 cal K s0 h := rfl
def jX9_base_28 (cal : ix_C) (K : ix_K) (h : ix_H) : ix_O :=
  jX9_base_30 cal K (-1000 : Int32) h
theorem jX9_base_28_eq (cal : ix_C) (K : ix_K) (h : ix_H) : ix_fwd cal K (stX9_base.drop 28) 0 [] [] h = jX9_base_28 cal K h := rfl
def bX9_base (cal : ix_C) (K : ix_K) (v0 : Nat) (v1 : Int32) (v2 : Int32) (v3 : Int32) (h : ix_H) : ix_O :=
  (ix_isr h 10 (some v0)).bind fun a2 =>
  (ix_rI (cal 332 [ix_R (some a2), ix_I v1] h)).bind fun r1 =>
  if r1.1 = nI 0 then
    jX9_base_28 cal K r1.2
  else
    (ix_isr r1.2 10 (some v0)).bind fun a4 =>
    (ix_rI (cal 239 [ix_R (some a4), ix_I v1, ix_I (nI 6)] r1.2)).bind fun r3 =>
    (ix_rI (cal 318 [ix_I v2, ix_I (nI 0), ix_I (r3.1 - (nI 1))] r3.2)).bind fun r5 =>
    if r5.1 = nI 0 then
      jX9_base_28 cal K r5.2
    else
      (ix_rI (cal 318 [ix_I v3, ix_I (nI 0), ix_I (nI 1)] r5.2)).bind fun r6 =>
      if r6.1 = nI 0 then
        jX9_base_28 cal K r6.2
      else
        (ix_is r6.2 10 (some v0)).bind fun a7 =>
        (ix_rI (cal 273 [ix_I v1, ix_I v2] r6.2)).bind fun r8 =>
        (ix_atr r8.2 101 (ix_fR r6.2 a7 35) (r8.1 + v3)).bind fun a9 =>
        jX9_base_30 cal K (ix_aI r8.2 a9 (r8.1 + v3).toNatClampNeg) r8.2
theorem eX9_base (cal : ix_C) (K : ix_K) (v0 : Nat) (v1 : Int32) (v2 : Int32) (v3 : Int32) (h : ix_H) : ix_fwd cal K stX9_base 0 [(0, ix_R (some v0)), (1, ix_I v1), (2, ix_I v2), (3, ix_I v3)] [] h = bX9_base cal K v0 v1 v2 v3 h := rfl
theorem rX9_base (N d : Nat) (v0 : Nat) (v1 : Int32) (v2 : Int32) (v3 : Int32) (h : ix_H) : ix_run iy_P N (d + 1) 333 [ix_R (some v0), ix_I v1, ix_I v2, ix_I v3] h = bX9_base (ix_run iy_P N d) (ix_lp (ix_run iy_P N d) stX9_base N) v0 v1 v2 v3 h := (rfl : ix_run iy_P N (d + 1) 333 [ix_R (some v0), ix_I v1, ix_I v2, ix_I v3] h = ix_fwd (ix_run iy_P N d) (ix_lp (ix_run iy_P N d) stX9_base N) stX9_base 0 [(0, ix_R (some v0)), (1, ix_I v1), (2, ix_I v2), (3, ix_I v3)] [] h).trans (eX9_base _ _ v0 v1 v2 v3 h)
def jX9_hand_8 (cal : ix_C) (K : ix_K) (h : ix_H) : ix_O :=
  some (.inl (some (ix_I (-1 : Int32))), h)
theorem jX9_hand_8_eq (cal : ix_C) (K : ix_K) (h : ix_H) : ix_fwd cal K (stX9_hand.drop 8) 0 [] [] h = jX9_hand_8 cal K h := rfl
def jX9_hand_32 (cal : ix_C) (K : ix_K) (s0 : Int32) (h : ix_H) : ix_O :=
  some (.inl (some (ix_I s0)), h)
theorem jX9_hand_32_eq (cal : ix_C) (K : ix_K) (s0 : Int32) (h : ix_H) : ix_fwd cal K (stX9_hand.drop 32) 0 [] [ix_I s0] h = jX9_hand_32 cal K s0 h := rfl
def jX9_hand_24 (cal : ix_C) (K : ix_K) (v0 : Nat) (v1 : Int32) (v2 : Int32) (h : ix_H) : ix_O :=
  (ix_is h 10 (some v0)).bind fun a3 =>
  (ix_rI (cal 234 [ix_I v1] h)).bind fun r4 =>
  (ix_atr r4.2 101 (ix_fR h a3 35) (r4.1 + v2)).bind fun a5 =>
  jX9_hand_32 cal K (ix_aI r4.2 a5 (r4.1 + v2).toNatClampNeg) r4.2
theorem jX9_hand_24_eq (cal : ix_C) (K : ix_K) (v0 : Nat) (v1 : Int32) (v2 : Int32) (h : ix_H) : ix_fwd cal K (stX9_hand.drop 24) 0 [(0, ix_R (some v0)), (1, ix_I v1), (2, ix_I v2)] [] h = jX9_hand_24 cal K v0 v1 v2 h := rfl
def bX9_hand (cal : ix_C) (K : ix_K) (v0 : Nat) (v1 : Int32) (v2 : Int32) (h : ix_H) : ix_O :=
  (ix_rI (cal 317 [ix_I v1] h)).bind fun r1 =>
  if r1.1 = nI 0 then
    jX9_hand_8 cal K r1.2
  else
    (ix_rI (cal 318 [ix_I v2, ix_I (nI 0), ix_I (nI 6)] r1.2)).bind fun r2 =>
    if r2.1 = nI 0 then
      jX9_hand_8 cal K r2.2
    else
      if v2 = (nI 5) then
        (ix_is r2.2 10 (some v0)).bind fun a6 =>
        (ix_rI (cal 234 [ix_I v1] r2.2)).bind fun r7 =>
        (ix_atr r7.2 101 (ix_fR r2.2 a6 35) (r7.1 + (nI 1))).bind fun a8 =>
        if (ix_aI r7.2 a8 (r7.1 + (nI 1)).toNatClampNeg) = nI 0 then
          jX9_hand_32 cal K (-2 : Int32) r7.2
        else
          jX9_hand_24 cal K v0 v1 v2 r7.2
      else
        jX9_hand_24 cal K v0 v1 v2 r2.2
theorem eX9_hand (cal : ix_C) (K : ix_K) (v0 : Nat) (v1 : Int32) (v2 : Int32) (h : ix_H) : ix_fwd cal K stX9_hand 0 [(0, ix_R (some v0)), (1, ix_I v1), (2, ix_I v2)] [] h = bX9_hand cal K v0 v1 v2 h := rfl
theorem rX9_hand (N d : Nat) (v0 : Nat) (v1 : Int32) (v2 : Int32) (h : ix_H) : ix_run iy_P N (d + 1) 334 [ix_R (some v0), ix_I v1, ix_I v2] h = bX9_hand (ix_run iy_P N d) (ix_lp (ix_run iy_P N d) stX9_hand N) v0 v1 v2 h := (rfl : ix_run iy_P N (d + 1) 334 [ix_R (some v0), ix_I v1, ix_I v2] h = ix_fwd (ix_run iy_P N d) (ix_lp (ix_run iy_P N d) stX9_hand N) stX9_hand 0 [(0, ix_R (some v0)), (1, ix_I v1), (2, ix_I v2)] [] h).trans (eX9_hand _ _ v0 v1 v2 h)
def jX9_result_22 (cal : ix_C) (K : ix_K) (s0 : Int32) (h : ix_H) : ix_O :=
  some (.inl (some (ix_I s0)), h)
theorem jX9_result_22_eq (cal : ix_C) (K : ix_K) (s0 : Int32) (h : ix_H) : ix_fwd cal K (stX9_result.drop 22) 0 [] [ix_I s0] h = jX9_result_22 cal K s0 h := rfl
def jX9_result_20 (cal : ix_C) (K : ix_K) (h : ix_H) : ix_O :=
  jX9_result_22 cal K (nI 0) h
theorem jX9_result_20_eq (cal : ix_C) (K : ix_K) (h : ix_H) : ix_fwd cal K (stX9_result.drop 20) 0 [] [] h = jX9_result_20 cal K h := rfl
def bX9_result (cal : ix_C) (K : ix_K) (v0 : Nat) (v1 : Int32) (h : ix_H) : ix_O :=
  (ix_rI (cal 317 [ix_I v1] h)).bind fun r1 =>
  if r1.1 = nI 0 then
    jX9_result_20 cal K r1.2
  else
    (ix_is r1.2 10 (some v0)).bind fun a2 =>
    (ix_rI (cal 234 [ix_I v1] r1.2)).bind fun r3 =>
    (ix_atr r3.2 101 (ix_fR r1.2 a2 35) (r3.1 + (nI 9))).bind fun a4 =>
    if (ix_aI r3.2 a4 (r3.1 + (nI 9)).toNatClampNeg) = (nI 1) then
      (ix_is r3.2 10 (some v0)).bind fun a5 =>
      (ix_rI (cal 234 [ix_I v1] r3.2)).bind fun r6 =>
      (ix_atr r6.2 101 (ix_fR r3.2 a5 35) (r6.1 + (nI 8))).bind fun a7 =>
      jX9_result_22 cal K (ix_aI r6.2 a7 (r6.1 + (nI 8)).toNatClampNeg) r6.2
    else
      jX9_result_20 cal K r3.2
theorem eX9_result (cal : ix_C) (K : ix_K) (v0 : Nat) (v1 : Int32) (h : ix_H) : ix_fwd cal K stX9_result 0 [(0, ix_R (some v0)), (1, ix_I v1)] [] h = bX9_result cal K v0 v1 h := rfl
theorem rX9_result (N d : Nat) (v0 : Nat) (v1 : Int32) (h : ix_H) : ix_run iy_P N (d + 1) 335 [ix_R (some v0), ix_I v1] h = bX9_result (ix_run iy_P N d) (ix_lp (ix_run iy_P N d) stX9_result N) v0 v1 h := (rfl : ix_run iy_P N (d + 1) 335 [ix_R (some v0), ix_I v1] h = ix_fwd (ix_run iy_P N d) (ix_lp (ix_run iy_P N d) stX9_result N) stX9_result 0 [(0, ix_R (some v0)), (1, ix_I v1)] [] h).trans (eX9_result _ _ v0 v1 h)
def jX9_halves_12 (cal : ix_C) (K : ix_K) (s0 : Int32) (h : ix_H) : ix_O :=
  some (.inl (some (ix_I s0)), h)
theorem jX9_halves_12_eq (cal : ix_C) (K : ix_K) (s0 : Int32) (h : ix_H) : ix_fwd cal K (stX9_halves.drop 12) 0 [] [ix_I s0] h = jX9_halves_12 cal K s0 h := rfl
def bX9_halves (cal : ix_C) (K : ix_K) (v0 : Nat) (v1 : Int32) (h : ix_H) : ix_O :=
  if v1 = nI 0 then
    (ix_isr h 10 (some v0)).bind fun a4 =>
    (ix_rI (cal 337 [ix_R (some a4)] h)).bind fun r3 =>
    jX9_halves_12 cal K r3.1 r3.2
  else
    if v1 = (nI 1) then
      (ix_isr h 10 (some v0)).bind fun a2 =>
      (ix_rI (cal 338 [ix_R (some a2)] h)).bind fun r1 =>
      jX9_halves_12 cal K r1.1 r1.2
    else
      jX9_halves_12 cal K (-1 : Int32) h
theorem eX9_halves (cal : ix_C) (K : ix_K) (v0 : Nat) (v1 : Int32) (h : ix_H) : ix_fwd cal K stX9_halves 0 [(0, ix_R (some v0)), (1, ix_I v1)] [] h = bX9_halves cal K v0 v1 h := rfl
theorem rX9_halves (N d : Nat) (v0 : Nat) (v1 : Int32) (h : ix_H) : ix_run iy_P N (d + 1) 336 [ix_R (some v0), ix_I v1] h = bX9_halves (ix_run iy_P N d) (ix_lp (ix_run iy_P N d) stX9_halves N) v0 v1 h := (rfl : ix_run iy_P N (d + 1) 336 [ix_R (some v0), ix_I v1] h = ix_fwd (ix_run iy_P N d) (ix_lp (ix_run iy_P N d) stX9_halves N) stX9_halves 0 [(0, ix_R (some v0)), (1, ix_I v1)] [] h).trans (eX9_halves _ _ v0 v1 h)
def jX9_halfSplits_27 (cal : ix_C) (K : ix_K) (v0 : Nat) (v1 : Int32) (h : ix_H) : ix_O :=
  (ix_is h 10 (some v0)).bind fun a6 =>
  K 6 [(0, ix_R (some v0)), (1, ix_I v1), (2, ix_I (ix_fI h a6 42))] [] h
theorem jX9_halfSplits_27_eq (cal : ix_C) (K : ix_K) (v0 : Nat) (v1 : Int32) (h : ix_H) : ix_fwd cal K (stX9_halfSplits.drop 27) 0 [(0, ix_R (some v0)), (1, ix_I v1)] [] h = jX9_halfSplits_27 cal K v0 v1 h := rfl
def jX9_halfSplits_6 (cal : ix_C) (K : ix_K) (v0 : Nat) (v1 : Int32) (v2 : Int32) (h : ix_H) : ix_O :=
  if v2 < nI 0 then
    some (.inl (some (ix_I v1)), h)
  else
    (ix_isr h 10 (some v0)).bind fun a4 =>
    (ix_rV (cal 268 [ix_R (some a4), ix_I v2] h)).bind fun r3 =>
    (ix_is r3 10 (some v0)).bind fun a5 =>
    if (ix_fI r3 a5 42) < nI 0 then
      jX9_halfSplits_27 cal K v0 v1 r3
    else
      (ix_isr r3 10 (some v0)).bind fun a8 =>
      (ix_rI (cal 287 [ix_R (some a8), ix_I v2] r3)).bind fun r7 =>
      if r7.1 = nI 0 then
        (ix_is r7.2 10 (some v0)).bind fun a9 =>
        (ix_isr r7.2 10 (some v0)).bind fun a11 =>
        (ix_rI (cal 289 [ix_R (some a11), ix_I (ix_fI r7.2 a9 41)] r7.2)).bind fun r10 =>
        (ix_is r10.2 10 (some v0)).bind fun a12 =>
        if r10.1 = (ix_fI r10.2 a12 42) then
          jX9_halfSplits_27 cal K v0 v1 r10.2
        else
          jX9_halfSplits_27 cal K v0 (v1 + (nI 1)) r10.2
      else
        jX9_halfSplits_27 cal K v0 v1 r7.2
theorem jX9_halfSplits_6_eq (cal : ix_C) (K : ix_K) (v0 : Nat) (v1 : Int32) (v2 : Int32) (h : ix_H) : ix_fwd cal K (stX9_halfSplits.drop 6) 0 [(0, ix_R (some v0)), (1, ix_I v1), (2, ix_I v2)] [] h = jX9_halfSplits_6 cal K v0 v1 v2 h := rfl
def bX9_halfSplits (cal : ix_C) (K : ix_K) (v0 : Nat) (h : ix_H) : ix_O :=
  (ix_isr h 10 (some v0)).bind fun a2 =>
  (ix_rV (cal 284 [ix_R (some a2)] h)).bind fun r1 =>
  jX9_halfSplits_6 cal K v0 (nI 0) (nI 1) r1
theorem eX9_halfSplits (cal : ix_C) (K : ix_K) (v0 : Nat) (h : ix_H) : ix_fwd cal K stX9_halfSplits 0 [(0, ix_R (some v0))] [] h = bX9_halfSplits cal K v0 h := rfl
theorem rX9_halfSplits (N d : Nat) (v0 : Nat) (h : ix_H) : ix_run iy_P N (d + 1) 337 [ix_R (some v0)] h = bX9_halfSplits (ix_run iy_P N d) (ix_lp (ix_run iy_P N d) stX9_halfSplits N) v0 h := (rfl : ix_run iy_P N (d + 1) 337 [ix_R (some v0)] h = ix_fwd (ix_run iy_P N d) (ix_lp (ix_run iy_P N d) stX9_halfSplits N) stX9_halfSplits 0 [(0, ix_R (some v0))] [] h).trans (eX9_halfSplits _ _ v0 h)
theorem lX9_halfSplits_6 (cal : ix_C) (n : Nat) (v0 : Nat) (v1 : Int32) (v2 : Int32) (h : ix_H) : ix_lp cal stX9_halfSplits (n + 1) 6 [(0, ix_R (some v0)), (1, ix_I v1), (2, ix_I v2)] [] h = jX9_halfSplits_6 cal (ix_lp cal stX9_halfSplits n) v0 v1 v2 h := jX9_halfSplits_6_eq cal (ix_lp cal stX9_halfSplits n) v0 v1 v2 h
def jX9_halfGone_22 (cal : ix_C) (K : ix_K) (v0 : Nat) (v1 : Int32) (v2 : Int32) (h : ix_H) : ix_O :=
  K 6 [(0, ix_R (some v0)), (1, ix_I v1), (2, ix_I (v2 + (nI 1)))] [] h
theorem jX9_halfGone_22_eq (cal : ix_C) (K : ix_K) (v0 : Nat) (v1 : Int32) (v2 : Int32) (h : ix_H) : ix_fwd cal K (stX9_halfGone.drop 22) 0 [(0, ix_R (some v0)), (1, ix_I v1), (2, ix_I v2)] [] h = jX9_halfGone_22 cal K v0 v1 v2 h := rfl
def jX9_halfGone_6 (cal : ix_C) (K : ix_K) (v0 : Nat) (v1 : Int32) (v2 : Int32) (h : ix_H) : ix_O :=
  (ix_is h 10 (some v0)).bind fun a3 =>
  (ix_atr h 101 (ix_fR h a3 35) (nI 1)).bind fun a4 =>
  if (ix_aI h a4 (nI 1).toNatClampNeg) ≤ v2 then
    some (.inl (some (ix_I v1)), h)
  else
    (ix_isr h 10 (some v0)).bind fun a6 =>
    (ix_rI (cal 287 [ix_R (some a6), ix_I v2] h)).bind fun r5 =>
    if r5.1 = nI 0 then
      jX9_halfGone_22 cal K v0 v1 v2 r5.2
    else
      (ix_isr r5.2 10 (some v0)).bind fun a8 =>
      (ix_rI (cal 308 [ix_R (some a8), ix_I v2] r5.2)).bind fun r7 =>
      if r7.1 < nI 0 then
        jX9_halfGone_22 cal K v0 v1 v2 r7.2
      else
        jX9_halfGone_22 cal K v0 (v1 + (nI 1)) v2 r7.2
theorem jX9_halfGone_6_eq (cal : ix_C) (K : ix_K) (v0 : Nat) (v1 : Int32) (v2 : Int32) (h : ix_H) : ix_fwd cal K (stX9_halfGone.drop 6) 0 [(0, ix_R (some v0)), (1, ix_I v1), (2, ix_I v2)] [] h = jX9_halfGone_6 cal K v0 v1 v2 h := rfl
def bX9_halfGone (cal : ix_C) (K : ix_K) (v0 : Nat) (h : ix_H) : ix_O :=
  (ix_isr h 10 (some v0)).bind fun a2 =>
  (ix_rV (cal 284 [ix_R (some a2)] h)).bind fun r1 =>
  jX9_halfGone_6 cal K v0 (nI 0) (nI 0) r1
theorem eX9_halfGone (cal : ix_C) (K : ix_K) (v0 : Nat) (h : ix_H) : ix_fwd cal K stX9_halfGone 0 [(0, ix_R (some v0))] [] h = bX9_halfGone cal K v0 h := rfl
theorem rX9_halfGone (N d : Nat) (v0 : Nat) (h : ix_H) : ix_run iy_P N (d + 1) 338 [ix_R (some v0)] h = bX9_halfGone (ix_run iy_P N d) (ix_lp (ix_run iy_P N d) stX9_halfGone N) v0 h := (rfl : ix_run iy_P N (d + 1) 338 [ix_R (some v0)] h = ix_fwd (ix_run iy_P N d) (ix_lp (ix_run iy_P N d) stX9_halfGone N) stX9_halfGone 0 [(0, ix_R (some v0))] [] h).trans (eX9_halfGone _ _ v0 h)
theorem lX9_halfGone_6 (cal : ix_C) (n : Nat) (v0 : Nat) (v1 : Int32) (v2 : Int32) (h : ix_H) : ix_lp cal stX9_halfGone (n + 1) 6 [(0, ix_R (some v0)), (1, ix_I v1), (2, ix_I v2)] [] h = jX9_halfGone_6 cal (ix_lp cal stX9_halfGone n) v0 v1 v2 h := jX9_halfGone_6_eq cal (ix_lp cal stX9_halfGone n) v0 v1 v2 h
def jX9_replay_19 (cal : ix_C) (K : ix_K) (h : ix_H) : ix_O :=
  some (.inl (some (ix_I (-1 : Int32))), h)
theorem jX9_replay_19_eq (cal : ix_C) (K : ix_K) (h : ix_H) : ix_fwd cal K (stX9_replay.drop 19) 0 [] [] h = jX9_replay_19 cal K h := rfl
def jX9_replay_109 (cal : ix_C) (K : ix_K) (s0 : Int32) (h : ix_H) : ix_O :=
  some (.inl (some (ix_I s0)), h)
theorem jX9_replay_109_eq (cal : ix_C) (K : ix_K) (s0 : Int32) (h : ix_H) : ix_fwd cal K (stX9_replay.drop 109) 0 [] [ix_I s0] h = jX9_replay_109 cal K s0 h := rfl
def jX9_replay_89 (cal : ix_C) (K : ix_K) (v0 : Nat) (v1 : Int32) (v2 : Int32) (v3 : Int32) (v4 : Int32) (v5 : Int32) (v6 : Int32) (v7 : Int32) (v8 : Int32) (v9 : Int32) (h : ix_H) : ix_O :=
  (ix_isr h 10 (some v0)).bind fun a20 =>
  (ix_rV (cal 344 [ix_R (some a20)] h)).bind fun r19 =>
  K 34 [(0, ix_R (some v0)), (1, ix_I v1), (2, ix_I v2), (3, ix_I v3), (4, ix_I v4), (5, ix_I v5), (6, ix_I v6), (7, ix_I v7), (8, ix_I v8), (9, ix_I (v9 + (nI 1)))] [] r19
theorem jX9_replay_89_eq (cal : ix_C) (K : ix_K) (v0 : Nat) (v1 : Int32) (v2 : Int32) (v3 : Int32) (v4 : Int32) (v5 : Int32) (v6 : Int32) (v7 : Int32) (v8 : Int32) (v9 : Int32) (h : ix_H) : ix_fwd cal K (stX9_replay.drop 89) 0 [(0, ix_R (some v0)), (1, ix_I v1), (2, ix_I v2), (3, ix_I v3), (4, ix_I v4), (5, ix_I v5), (6, ix_I v6), (7, ix_I v7), (8, ix_I v8), (9, ix_I v9)] [] h = jX9_replay_89 cal K v0 v1 v2 v3 v4 v5 v6 v7 v8 v9 h := rfl
def jX9_replay_83 (cal : ix_C) (K : ix_K) (v0 : Nat) (v1 : Int32) (v2 : Int32) (v3 : Int32) (v4 : Int32) (v5 : Int32) (v6 : Int32) (v7 : Int32) (v8 : Int32) (v9 : Int32) (v11 : Int32) (h : ix_H) : ix_O :=
  if v8 ≤ v11 then
    jX9_replay_89 cal K v0 v1 v2 v3 v4 v5 v6 v7 v8 v9 h
  else
    jX9_replay_89 cal K v0 v1 v2 v3 v4 v5 v6 v7 v11 v9 h
theorem jX9_replay_83_eq (cal : ix_C) (K : ix_K) (v0 : Nat) (v1 : Int32) (v2 : Int32) (v3 : Int32) (v4 : Int32) (v5 : Int32) (v6 : Int32) (v7 : Int32) (v8 : Int32) (v9 : Int32) (v11 : Int32) (h : ix_H) : ix_fwd cal K (stX9_replay.drop 83) 0 [(0, ix_R (some v0)), (1, ix_I v1), (2, ix_I v2), (3, ix_I v3), (4, ix_I v4), (5, ix_I v5), (6, ix_I v6), (7, ix_I v7), (8, ix_I v8), (9, ix_I v9), (11, ix_I v11)] [] h = jX9_replay_83 cal K v0 v1 v2 v3 v4 v5 v6 v7 v8 v9 v11 h := rfl
def jX9_replay_55 (cal : ix_C) (K : ix_K) (v0 : Nat) (v1 : Int32) (v2 : Int32) (v3 : Int32) (v4 : Int32) (v5 : Int32) (v6 : Int32) (v7 : Int32) (v8 : Int32) (v9 : Int32) (h : ix_H) : ix_O :=
  (ix_is h 10 (some v0)).bind fun a11 =>
  (ix_atr h 101 (ix_fR h a11 35) (nI 3)).bind fun a12 =>
  (ix_is h 10 (some v0)).bind fun a13 =>
  (ix_atr h 101 (ix_fR h a13 49) (nI 3)).bind fun a14 =>
  (ix_is h 10 (some v0)).bind fun a15 =>
  (ix_atr h 101 (ix_fR h a15 35) (nI 0)).bind fun a16 =>
  (ix_is h 10 (some v0)).bind fun a17 =>
  (ix_atr h 101 (ix_fR h a17 49) (nI 0)).bind fun a18 =>
  if ((ix_aI h a12 (nI 3).toNatClampNeg) - (ix_aI h a14 (nI 3).toNatClampNeg)) ≤ v6 then
    jX9_replay_83 cal K v0 v1 v2 v3 v4 v5 v6 v7 v8 v9 ((ix_aI h a16 (nI 0).toNatClampNeg) - (ix_aI h a18 (nI 0).toNatClampNeg)) h
  else
    jX9_replay_83 cal K v0 v1 v2 v3 v4 v5 ((ix_aI h a12 (nI 3).toNatClampNeg) - (ix_aI h a14 (nI 3).toNatClampNeg)) v9 v8 v9 ((ix_aI h a16 (nI 0).toNatClampNeg) - (ix_aI h a18 (nI 0).toNatClampNeg)) h
theorem jX9_replay_55_eq (cal : ix_C) (K : ix_K) (v0 : Nat) (v1 : Int32) (v2 : Int32) (v3 : Int32) (v4 : Int32) (v5 : Int32) (v6 : Int32) (v7 : Int32) (v8 : Int32) (v9 : Int32) (h : ix_H) : ix_fwd cal K (stX9_replay.drop 55) 0 [(0, ix_R (some v0)), (1, ix_I v1), (2, ix_I v2), (3, ix_I v3), (4, ix_I v4), (5, ix_I v5), (6, ix_I v6), (7, ix_I v7), (8, ix_I v8), (9, ix_I v9)] [] h = jX9_replay_55 cal K v0 v1 v2 v3 v4 v5 v6 v7 v8 v9 h := rfl
def jX9_replay_50 (cal : ix_C) (K : ix_K) (v0 : Nat) (v1 : Int32) (v2 : Int32) (v3 : Int32) (v4 : Int32) (v5 : Int32) (v6 : Int32) (v7 : Int32) (v8 : Int32) (v9 : Int32) (h : ix_H) : ix_O :=
  (ix_isr h 10 (some v0)).bind fun a10 =>
  (ix_rI (cal 343 [ix_R (some a10)] h)).bind fun r9 =>
  if r9.1 = nI 0 then
    jX9_replay_55 cal K v0 v1 v2 v3 v4 v5 v6 v7 v8 v9 r9.2
  else
    jX9_replay_55 cal K v0 v1 v2 v3 v4 (v5 + (nI 1)) v6 v7 v8 v9 r9.2
theorem jX9_replay_50_eq (cal : ix_C) (K : ix_K) (v0 : Nat) (v1 : Int32) (v2 : Int32) (v3 : Int32) (v4 : Int32) (v5 : Int32) (v6 : Int32) (v7 : Int32) (v8 : Int32) (v9 : Int32) (h : ix_H) : ix_fwd cal K (stX9_replay.drop 50) 0 [(0, ix_R (some v0)), (1, ix_I v1), (2, ix_I v2), (3, ix_I v3), (4, ix_I v4), (5, ix_I v5), (6, ix_I v6), (7, ix_I v7), (8, ix_I v8), (9, ix_I v9)] [] h = jX9_replay_50 cal K v0 v1 v2 v3 v4 v5 v6 v7 v8 v9 h := rfl
def jX9_replay_34 (cal : ix_C) (K : ix_K) (v0 : Nat) (v1 : Int32) (v2 : Int32) (v3 : Int32) (v4 : Int32) (v5 : Int32) (v6 : Int32) (v7 : Int32) (v8 : Int32) (v9 : Int32) (h : ix_H) : ix_O :=
  if ((nI 1) <<< (v3 &&& 31)) ≤ v9 then
    if v4 = nI 0 then
      jX9_replay_109 cal K v5 h
    else
      if v4 = (nI 1) then
        jX9_replay_109 cal K v6 h
      else
        if v4 = (nI 2) then
          jX9_replay_109 cal K v7 h
        else
          jX9_replay_109 cal K v8 h
  else
    (ix_isr h 10 (some v0)).bind fun a8 =>
    (ix_rV (cal 341 [ix_R (some a8), ix_I v1, ix_I v2, ix_I v3, ix_I v9] h)).bind fun r7 =>
    if v9 = nI 0 then
      (ix_isr r7 10 (some v0)).bind fun a22 =>
      (ix_rV (cal 342 [ix_R (some a22)] r7)).bind fun r21 =>
      jX9_replay_50 cal K v0 v1 v2 v3 v4 v5 v6 v7 v8 v9 r21
    else
      jX9_replay_50 cal K v0 v1 v2 v3 v4 v5 v6 v7 v8 v9 r7
theorem jX9_replay_34_eq (cal : ix_C) (K : ix_K) (v0 : Nat) (v1 : Int32) (v2 : Int32) (v3 : Int32) (v4 : Int32) (v5 : Int32) (v6 : Int32) (v7 : Int32) (v8 : Int32) (v9 : Int32) (h : ix_H) : ix_fwd cal K (stX9_replay.drop 34) 0 [(0, ix_R (some v0)), (1, ix_I v1), (2, ix_I v2), (3, ix_I v3), (4, ix_I v4), (5, ix_I v5), (6, ix_I v6), (7, ix_I v7), (8, ix_I v8), (9, ix_I v9)] [] h = jX9_replay_34 cal K v0 v1 v2 v3 v4 v5 v6 v7 v8 v9 h := rfl
def bX9_replay (cal : ix_C) (K : ix_K) (v0 : Nat) (v1 : Int32) (v2 : Int32) (v3 : Int32) (v4 : Int32) (h : ix_H) : ix_O :=
  (ix_rI (cal 317 [ix_I v1] h)).bind fun r1 =>
  if r1.1 = nI 0 then
    jX9_replay_19 cal K r1.2
  else
    (ix_rI (cal 317 [ix_I v2] r1.2)).bind fun r2 =>
    if r2.1 = nI 0 then
      jX9_replay_19 cal K r2.2
    else
      if v1 = v2 then
        jX9_replay_19 cal K r2.2
      else
        (ix_rI (cal 318 [ix_I v3, ix_I (nI 0), ix_I (nI 8)] r2.2)).bind fun r3 =>
        if r3.1 = nI 0 then
          jX9_replay_19 cal K r3.2
        else
          (ix_rI (cal 318 [ix_I v4, ix_I (nI 0), ix_I (nI 3)] r3.2)).bind fun r4 =>
          if r4.1 = nI 0 then
            jX9_replay_19 cal K r4.2
          else
            (ix_isr r4.2 10 (some v0)).bind fun a6 =>
            (ix_rV (cal 340 [ix_R (some a6)] r4.2)).bind fun r5 =>
            jX9_replay_34 cal K v0 v1 v2 v3 v4 (nI 0) (-1 : Int32) (nI 0) (nI 9999) (nI 0) r5
theorem eX9_replay (cal : ix_C) (K : ix_K) (v0 : Nat) (v1 : Int32) (v2 : Int32) (v3 : Int32) (v4 : Int32) (h : ix_H) : ix_fwd cal K stX9_replay 0 [(0, ix_R (some v0)), (1, ix_I v1), (2, ix_I v2), (3, ix_I v3), (4, ix_I v4)] [] h = bX9_replay cal K v0 v1 v2 v3 v4 h := rfl
theorem rX9_replay (N d : Nat) (v0 : Nat) (v1 : Int32) (v2 : Int32) (v3 : Int32) (v4 : Int32) (h : ix_H) : ix_run iy_P N (d + 1) 339 [ix_R (some v0), ix_I v1, ix_I v2, ix_I v3, ix_I v4] h = bX9_replay (ix_run iy_P N d) (ix_lp (ix_run iy_P N d) stX9_replay N) v0 v1 v2 v3 v4 h := (rfl : ix_run iy_P N (d + 1) 339 [ix_R (some v0), ix_I v1, ix_I v2, ix_I v3, ix_I v4] h = ix_fwd (ix_run iy_P N d) (ix_lp (ix_run iy_P N d) stX9_replay N) stX9_replay 0 [(0, ix_R (some v0)), (1, ix_I v1), (2, ix_I v2), (3, ix_I v3), (4, ix_I v4)] [] h).trans (eX9_replay _ _ v0 v1 v2 v3 v4 h)
theorem lX9_replay_34 (cal : ix_C) (n : Nat) (v0 : Nat) (v1 : Int32) (v2 : Int32) (v3 : Int32) (v4 : Int32) (v5 : Int32) (v6 : Int32) (v7 : Int32) (v8 : Int32) (v9 : Int32) (h : ix_H) : ix_lp cal stX9_replay (n + 1) 34 [(0, ix_R (some v0)), (1, ix_I v1), (2, ix_I v2), (3, ix_I v3), (4, ix_I v4), (5, ix_I v5), (6, ix_I v6), (7, ix_I v7), (8, ix_I v8), (9, ix_I v9)] [] h = jX9_replay_34 cal (ix_lp cal stX9_replay n) v0 v1 v2 v3 v4 v5 v6 v7 v8 v9 h := jX9_replay_34_eq cal (ix_lp cal stX9_replay n) v0 v1 v2 v3 v4 v5 v6 v7 v8 v9 h
def jX9_keeps_2 (cal : ix_C) (K : ix_K) (v0 : Nat) (v1 : Int32) (h : ix_H) : ix_O :=
  if (nI 14100) ≤ v1 then
    some (.inl none, h)
  else
    (ix_is h 10 (some v0)).bind fun a1 =>
    (ix_is h 10 (some v0)).bind fun a2 =>
    (ix_atr h 101 (ix_fR h a2 35) v1).bind fun a3 =>
    (ix_at h 101 (ix_fR h a1 49) v1).bind fun a4 =>
    ix_bd (ix_waI h a4 v1.toNatClampNeg (ix_aI h a3 v1.toNatClampNeg)) fun h5 =>
    K 2 [(0, ix_R (some v0)), (1, ix_I (v1 + (nI 1)))] [] h5
theorem jX9_keeps_2_eq (cal : ix_C) (K : ix_K) (v0 : Nat) (v1 : Int32) (h : ix_H) : ix_fwd cal K (stX9_keeps.drop 2) 0 [(0, ix_R (some v0)), (1, ix_I v1)] [] h = jX9_keeps_2 cal K v0 v1 h := rfl
def bX9_keeps (cal : ix_C) (K : ix_K) (v0 : Nat) (h : ix_H) : ix_O :=
  jX9_keeps_2 cal K v0 (nI 0) h
theorem eX9_keeps (cal : ix_C) (K : ix_K) (v0 : Nat) (h : ix_H) : ix_fwd cal K stX9_keeps 0 [(0, ix_R (some v0))] [] h = bX9_keeps cal K v0 h := rfl
theorem rX9_keeps (N d : Nat) (v0 : Nat) (h : ix_H) : ix_run iy_P N (d + 1) 340 [ix_R (some v0)] h = bX9_keeps (ix_run iy_P N d) (ix_lp (ix_run iy_P N d) stX9_keeps N) v0 h := (rfl : ix_run iy_P N (d + 1) 340 [ix_R (some v0)] h = ix_fwd (ix_run iy_P N d) (ix_lp (ix_run iy_P N d) stX9_keeps N) stX9_keeps 0 [(0, ix_R (some v0))] [] h).trans (eX9_keeps _ _ v0 h)
theorem lX9_keeps_2 (cal : ix_C) (n : Nat) (v0 : Nat) (v1 : Int32) (h : ix_H) : ix_lp cal stX9_keeps (n + 1) 2 [(0, ix_R (some v0)), (1, ix_I v1)] [] h = jX9_keeps_2 cal (ix_lp cal stX9_keeps n) v0 v1 h := jX9_keeps_2_eq cal (ix_lp cal stX9_keeps n) v0 v1 h
def jX9_rowDone_16 (cal : ix_C) (K : ix_K) (v0 : Nat) (v1 : Int32) (v2 : Int32) (v3 : Int32) (v4 : Int32) (v5 : Int32) (s0 : Option Nat) (s1 : Int32) (h : ix_H) : ix_O :=
  (ix_isr h 10 s0).bind fun a8 =>
  (ix_rV (cal 282 [ix_R (some a8), ix_I s1] h)).bind fun r7 =>
  K 2 [(0, ix_R (some v0)), (1, ix_I v1), (2, ix_I v2), (3, ix_I v3), (4, ix_I v4), (5, ix_I (v5 + (nI 1)))] [] r7
theorem jX9_rowDone_16_eq (cal : ix_C) (K : ix_K) (v0 : Nat) (v1 : Int32) (v2 : Int32) (v3 : Int32) (v4 : Int32) (v5 : Int32) (s0 : Option Nat) (s1 : Int32) (h : ix_H) : ix_fwd cal K (stX9_rowDone.drop 16) 0 [(0, ix_R (some v0)), (1, ix_I v1), (2, ix_I v2), (3, ix_I v3), (4, ix_I v4), (5, ix_I v5)] [ix_I s1, ix_R s0] h = jX9_rowDone_16 cal K v0 v1 v2 v3 v4 v5 s0 s1 h := rfl
def jX9_rowDone_2 (cal : ix_C) (K : ix_K) (v0 : Nat) (v1 : Int32) (v2 : Int32) (v3 : Int32) (v4 : Int32) (v5 : Int32) (h : ix_H) : ix_O :=
  if v3 ≤ v5 then
    (ix_isr h 10 (some v0)).bind fun a2 =>
    (ix_rI (cal 281 [ix_R (some a2), ix_I v1] h)).bind fun r1 =>
    (ix_isr r1.2 10 (some v0)).bind fun a4 =>
    (ix_rI (cal 281 [ix_R (some a4), ix_I v2] r1.2)).bind fun r3 =>
    (ix_isr r3.2 10 (some v0)).bind fun a6 =>
    (ix_rV (cal 267 [ix_R (some a6)] r3.2)).bind fun r5 =>
    some (.inl none, r5)
  else
    if ((v4 >>> (v5 &&& 31)) &&& (nI 1)) = nI 0 then
      jX9_rowDone_16 cal K v0 v1 v2 v3 v4 v5 (some v0) v1 h
    else
      jX9_rowDone_16 cal K v0 v1 v2 v3 v4 v5 (some v0) v2 h
theorem jX9_rowDone_2_eq (cal : ix_C) (K : ix_K) (v0 : Nat) (v1 : Int32) (v2 : Int32) (v3 : Int32) (v4 : Int32) (v5 : Int32) (h : ix_H) : ix_fwd cal K (stX9_rowDone.drop 2) 0 [(0, ix_R (some v0)), (1, ix_I v1), (2, ix_I v2), (3, ix_I v3), (4, ix_I v4), (5, ix_I v5)] [] h = jX9_rowDone_2 cal K v0 v1 v2 v3 v4 v5 h := rfl
def bX9_rowDone (cal : ix_C) (K : ix_K) (v0 : Nat) (v1 : Int32) (v2 : Int32) (v3 : Int32) (v4 : Int32) (h : ix_H) : ix_O :=
  jX9_rowDone_2 cal K v0 v1 v2 v3 v4 (nI 0) h
theorem eX9_rowDone (cal : ix_C) (K : ix_K) (v0 : Nat) (v1 : Int32) (v2 : Int32) (v3 : Int32) (v4 : Int32) (h : ix_H) : ix_fwd cal K stX9_rowDone 0 [(0, ix_R (some v0)), (1, ix_I v1), (2, ix_I v2), (3, ix_I v3), (4, ix_I v4)] [] h = bX9_rowDone cal K v0 v1 v2 v3 v4 h := rfl
theorem rX9_rowDone (N d : Nat) (v0 : Nat) (v1 : Int32) (v2 : Int32) (v3 : Int32) (v4 : Int32) (h : ix_H) : ix_run iy_P N (d + 1) 341 [ix_R (some v0), ix_I v1, ix_I v2, ix_I v3, ix_I v4] h = bX9_rowDone (ix_run iy_P N d) (ix_lp (ix_run iy_P N d) stX9_rowDone N) v0 v1 v2 v3 v4 h := (rfl : ix_run iy_P N (d + 1) 341 [ix_R (some v0), ix_I v1, ix_I v2, ix_I v3, ix_I v4] h = ix_fwd (ix_run iy_P N d) (ix_lp (ix_run iy_P N d) stX9_rowDone N) stX9_rowDone 0 [(0, ix_R (some v0)), (1, ix_I v1), (2, ix_I v2), (3, ix_I v3), (4, ix_I v4)] [] h).trans (eX9_rowDone _ _ v0 v1 v2 v3 v4 h)
theorem lX9_rowDone_2 (cal : ix_C) (n : Nat) (v0 : Nat) (v1 : Int32) (v2 : Int32) (v3 : Int32) (v4 : Int32) (v5 : Int32) (h : ix_H) : ix_lp cal stX9_rowDone (n + 1) 2 [(0, ix_R (some v0)), (1, ix_I v1), (2, ix_I v2), (3, ix_I v3), (4, ix_I v4), (5, ix_I v5)] [] h = jX9_rowDone_2 cal (ix_lp cal stX9_rowDone n) v0 v1 v2 v3 v4 v5 h := jX9_rowDone_2_eq cal (ix_lp cal stX9_rowDone n) v0 v1 v2 v3 v4 v5 h
def jX9_keepsFirst_6 (cal : ix_C) (K : ix_K) (v0 : Nat) (v1 : Int32) (h : ix_H) : ix_O :=
  (ix_is h 10 (some v0)).bind fun a4 =>
  if (ix_fI h a4 48) ≤ v1 then
    some (.inl none, h)
  else
    (ix_is h 10 (some v0)).bind fun a5 =>
    (ix_is h 10 (some v0)).bind fun a6 =>
    (ix_atr h 101 (ix_fR h a6 46) v1).bind fun a7 =>
    (ix_at h 101 (ix_fR h a5 50) v1).bind fun a8 =>
    ix_bd (ix_waI h a8 v1.toNatClampNeg (ix_aI h a7 v1.toNatClampNeg)) fun h9 =>
    (ix_is h9 10 (some v0)).bind fun a10 =>
    (ix_is h9 10 (some v0)).bind fun a11 =>
    (ix_atr h9 101 (ix_fR h9 a11 47) v1).bind fun a12 =>
    (ix_at h9 101 (ix_fR h9 a10 51) v1).bind fun a13 =>
    ix_bd (ix_waI h9 a13 v1.toNatClampNeg (ix_aI h9 a12 v1.toNatClampNeg)) fun h14 =>
    K 6 [(0, ix_R (some v0)), (1, ix_I (v1 + (nI 1)))] [] h14
theorem jX9_keepsFirst_6_eq (cal : ix_C) (K : ix_K) (v0 : Nat) (v1 : Int32) (h : ix_H) : ix_fwd cal K (stX9_keepsFirst.drop 6) 0 [(0, ix_R (some v0)), (1, ix_I v1)] [] h = jX9_keepsFirst_6 cal K v0 v1 h := rfl
def bX9_keepsFirst (cal : ix_C) (K : ix_K) (v0 : Nat) (h : ix_H) : ix_O :=
  (ix_is h 10 (some v0)).bind fun a1 =>
  (ix_is h 10 (some v0)).bind fun a2 =>
  ix_bd (ix_wfI h a2 52 (ix_fI h a1 48)) fun h3 =>
  jX9_keepsFirst_6 cal K v0 (nI 0) h3
theorem eX9_keepsFirst (cal : ix_C) (K : ix_K) (v0 : Nat) (h : ix_H) : ix_fwd cal K stX9_keepsFirst 0 [(0, ix_R (some v0))] [] h = bX9_keepsFirst cal K v0 h := rfl
theorem rX9_keepsFirst (N d : Nat) (v0 : Nat) (h : ix_H) : ix_run iy_P N (d + 1) 342 [ix_R (some v0)] h = bX9_keepsFirst (ix_run iy_P N d) (ix_lp (ix_run iy_P N d) stX9_keepsFirst N) v0 h := (rfl : ix_run iy_P N (d + 1) 342 [ix_R (some v0)] h = ix_fwd (ix_run iy_P N d) (ix_lp (ix_run iy_P N d) stX9_keepsFirst N) stX9_keepsFirst 0 [(0, ix_R (some v0))] [] h).trans (eX9_keepsFirst _ _ v0 h)
theorem lX9_keepsFirst_6 (cal : ix_C) (n : Nat) (v0 : Nat) (v1 : Int32) (h : ix_H) : ix_lp cal stX9_keepsFirst (n + 1) 6 [(0, ix_R (some v0)), (1, ix_I v1)] [] h = jX9_keepsFirst_6 cal (ix_lp cal stX9_keepsFirst n) v0 v1 h := jX9_keepsFirst_6_eq cal (ix_lp cal stX9_keepsFirst n) v0 v1 h
def jX9_isAsFirst_32 (cal : ix_C) (K : ix_K) (h : ix_H) : ix_O :=
  cond (ix_okn 1 (nI 0)) (some (.inl (some (ix_I (nI 0))), h)) none
theorem jX9_isAsFirst_32_eq (cal : ix_C) (K : ix_K) (h : ix_H) : ix_fwd cal K (stX9_isAsFirst.drop 32) 0 [] [] h = jX9_isAsFirst_32 cal K h := rfl
def jX9_isAsFirst_9 (cal : ix_C) (K : ix_K) (v0 : Nat) (v1 : Int32) (h : ix_H) : ix_O :=
  (ix_is h 10 (some v0)).bind fun a3 =>
  if (ix_fI h a3 48) ≤ v1 then
    cond (ix_okn 1 (nI 1)) (some (.inl (some (ix_I (nI 1))), h)) none
  else
    (ix_is h 10 (some v0)).bind fun a4 =>
    (ix_atr h 101 (ix_fR h a4 46) v1).bind fun a5 =>
    (ix_is h 10 (some v0)).bind fun a6 =>
    (ix_atr h 101 (ix_fR h a6 50) v1).bind fun a7 =>
    if (ix_aI h a5 v1.toNatClampNeg) = (ix_aI h a7 v1.toNatClampNeg) then
      (ix_is h 10 (some v0)).bind fun a8 =>
      (ix_atr h 101 (ix_fR h a8 47) v1).bind fun a9 =>
      (ix_is h 10 (some v0)).bind fun a10 =>
      (ix_atr h 101 (ix_fR h a10 51) v1).bind fun a11 =>
      if (ix_aI h a9 v1.toNatClampNeg) = (ix_aI h a11 v1.toNatClampNeg) then
        K 9 [(0, ix_R (some v0)), (1, ix_I (v1 + (nI 1)))] [] h
      else
        jX9_isAsFirst_32 cal K h
    else
      jX9_isAsFirst_32 cal K h
theorem jX9_isAsFirst_9_eq (cal : ix_C) (K : ix_K) (v0 : Nat) (v1 : Int32) (h : ix_H) : ix_fwd cal K (stX9_isAsFirst.drop 9) 0 [(0, ix_R (some v0)), (1, ix_I v1)] [] h = jX9_isAsFirst_9 cal K v0 v1 h := rfl
def bX9_isAsFirst (cal : ix_C) (K : ix_K) (v0 : Nat) (h : ix_H) : ix_O :=
  (ix_is h 10 (some v0)).bind fun a1 =>
  (ix_is h 10 (some v0)).bind fun a2 =>
  if (ix_fI h a1 48) = (ix_fI h a2 52) then
    jX9_isAsFirst_9 cal K v0 (nI 0) h
  else
    cond (ix_okn 1 (nI 0)) (some (.inl (some (ix_I (nI 0))), h)) none
theorem eX9_isAsFirst (cal : ix_C) (K : ix_K) (v0 : Nat) (h : ix_H) : ix_fwd cal K stX9_isAsFirst 0 [(0, ix_R (some v0))] [] h = bX9_isAsFirst cal K v0 h := rfl
theorem rX9_isAsFirst (N d : Nat) (v0 : Nat) (h : ix_H) : ix_run iy_P N (d + 1) 343 [ix_R (some v0)] h = bX9_isAsFirst (ix_run iy_P N d) (ix_lp (ix_run iy_P N d) stX9_isAsFirst N) v0 h := (rfl : ix_run iy_P N (d + 1) 343 [ix_R (some v0)] h = ix_fwd (ix_run iy_P N d) (ix_lp (ix_run iy_P N d) stX9_isAsFirst N) stX9_isAsFirst 0 [(0, ix_R (some v0))] [] h).trans (eX9_isAsFirst _ _ v0 h)
theorem lX9_isAsFirst_9 (cal : ix_C) (n : Nat) (v0 : Nat) (v1 : Int32) (h : ix_H) : ix_lp cal stX9_isAsFirst (n + 1) 9 [(0, ix_R (some v0)), (1, ix_I v1)] [] h = jX9_isAsFirst_9 cal (ix_lp cal stX9_isAsFirst n) v0 v1 h := jX9_isAsFirst_9_eq cal (ix_lp cal stX9_isAsFirst n) v0 v1 h
def jX9_givesBack_2 (cal : ix_C) (K : ix_K) (v0 : Nat) (v1 : Int32) (h : ix_H) : ix_O :=
  if (nI 14100) ≤ v1 then
    some (.inl none, h)
  else
    (ix_is h 10 (some v0)).bind fun a1 =>
    (ix_is h 10 (some v0)).bind fun a2 =>
    (ix_atr h 101 (ix_fR h a2 49) v1).bind fun a3 =>
    (ix_at h 101 (ix_fR h a1 35) v1).bind fun a4 =>
    ix_bd (ix_waI h a4 v1.toNatClampNeg (ix_aI h a3 v1.toNatClampNeg)) fun h5 =>
    K 2 [(0, ix_R (some v0)), (1, ix_I (v1 + (nI 1)))] [] h5
theorem jX9_givesBack_2_eq (cal : ix_C) (K : ix_K) (v0 : Nat) (v1 : Int32) (h : ix_H) : ix_fwd cal K (stX9_givesBack.drop 2) 0 [(0, ix_R (some v0)), (1, ix_I v1)] [] h = jX9_givesBack_2 cal K v0 v1 h := rfl
def bX9_givesBack (cal : ix_C) (K : ix_K) (v0 : Nat) (h : ix_H) : ix_O :=
  jX9_givesBack_2 cal K v0 (nI 0) h
theorem eX9_givesBack (cal : ix_C) (K : ix_K) (v0 : Nat) (h : ix_H) : ix_fwd cal K stX9_givesBack 0 [(0, ix_R (some v0))] [] h = bX9_givesBack cal K v0 h := rfl
theorem rX9_givesBack (N d : Nat) (v0 : Nat) (h : ix_H) : ix_run iy_P N (d + 1) 344 [ix_R (some v0)] h = bX9_givesBack (ix_run iy_P N d) (ix_lp (ix_run iy_P N d) stX9_givesBack N) v0 h := (rfl : ix_run iy_P N (d + 1) 344 [ix_R (some v0)] h = ix_fwd (ix_run iy_P N d) (ix_lp (ix_run iy_P N d) stX9_givesBack N) stX9_givesBack 0 [(0, ix_R (some v0))] [] h).trans (eX9_givesBack _ _ v0 h)
theorem lX9_givesBack_2 (cal : ix_C) (n : Nat) (v0 : Nat) (v1 : Int32) (h : ix_H) : ix_lp cal stX9_givesBack (n + 1) 2 [(0, ix_R (some v0)), (1, ix_I v1)] [] h = jX9_givesBack_2 cal (ix_lp cal stX9_givesBack n) v0 v1 h := jX9_givesBack_2_eq cal (ix_lp cal stX9_givesBack n) v0 v1 h
def jX9_hold_14 (cal : ix_C) (K : ix_K) (v0 : Nat) (v1 : Int32) (v2 : Int32) (h : ix_H) : ix_O :=
  if (nI 137300) ≤ v2 then
    cond (ix_okn 1 (nI 1)) (some (.inl (some (ix_I (nI 1))), h)) none
  else
    (ix_is h 10 (some v0)).bind fun a5 =>
    (ix_is h 10 (some v0)).bind fun a6 =>
    (ix_atr h 101 (ix_fR h a6 35) v2).bind fun a7 =>
    (ix_at h 101 (ix_fR h a5 54) (((nI 137300) * v1) + v2)).bind fun a8 =>
    ix_bd (ix_waI h a8 (((nI 137300) * v1) + v2).toNatClampNeg (ix_aI h a7 v2.toNatClampNeg)) fun h9 =>
    K 14 [(0, ix_R (some v0)), (1, ix_I v1), (2, ix_I (v2 + (nI 1)))] [] h9
theorem jX9_hold_14_eq (cal : ix_C) (K : ix_K) (v0 : Nat) (v1 : Int32) (v2 : Int32) (h : ix_H) : ix_fwd cal K (stX9_hold.drop 14) 0 [(0, ix_R (some v0)), (1, ix_I v1), (2, ix_I v2)] [] h = jX9_hold_14 cal K v0 v1 v2 h := rfl
def bX9_hold (cal : ix_C) (K : ix_K) (v0 : Nat) (v1 : Int32) (h : ix_H) : ix_O :=
  (ix_rI (cal 318 [ix_I v1, ix_I (nI 0), ix_I (nI 2)] h)).bind fun r1 =>
  if r1.1 = nI 0 then
    cond (ix_okn 1 (nI 0)) (some (.inl (some (ix_I (nI 0))), r1.2)) none
  else
    (ix_is r1.2 10 (some v0)).bind fun a2 =>
    (ix_at r1.2 105 (ix_fR r1.2 a2 53) v1).bind fun a3 =>
    ix_bd (ix_waI r1.2 a3 v1.toNatClampNeg (ix_nar 1 (nI 1))) fun h4 =>
    jX9_hold_14 cal K v0 v1 (nI 0) h4
theorem eX9_hold (cal : ix_C) (K : ix_K) (v0 : Nat) (v1 : Int32) (h : ix_H) : ix_fwd cal K stX9_hold 0 [(0, ix_R (some v0)), (1, ix_I v1)] [] h = bX9_hold cal K v0 v1 h := rfl
theorem rX9_hold (N d : Nat) (v0 : Nat) (v1 : Int32) (h : ix_H) : ix_run iy_P N (d + 1) 345 [ix_R (some v0), ix_I v1] h = bX9_hold (ix_run iy_P N d) (ix_lp (ix_run iy_P N d) stX9_hold N) v0 v1 h := (rfl : ix_run iy_P N (d + 1) 345 [ix_R (some v0), ix_I v1] h = ix_fwd (ix_run iy_P N d) (ix_lp (ix_run iy_P N d) stX9_hold N) stX9_hold 0 [(0, ix_R (some v0)), (1, ix_I v1)] [] h).trans (eX9_hold _ _ v0 v1 h)
theorem lX9_hold_14 (cal : ix_C) (n : Nat) (v0 : Nat) (v1 : Int32) (v2 : Int32) (h : ix_H) : ix_lp cal stX9_hold (n + 1) 14 [(0, ix_R (some v0)), (1, ix_I v1), (2, ix_I v2)] [] h = jX9_hold_14 cal (ix_lp cal stX9_hold n) v0 v1 v2 h := jX9_hold_14_eq cal (ix_lp cal stX9_hold n) v0 v1 v2 h
def jX9_restore_10 (cal : ix_C) (K : ix_K) (h : ix_H) : ix_O :=
  cond (ix_okn 1 (nI 0)) (some (.inl (some (ix_I (nI 0))), h)) none
theorem jX9_restore_10_eq (cal : ix_C) (K : ix_K) (h : ix_H) : ix_fwd cal K (stX9_restore.drop 10) 0 [] [] h = jX9_restore_10 cal K h := rfl
def jX9_restore_15 (cal : ix_C) (K : ix_K) (v0 : Nat) (v1 : Int32) (v2 : Int32) (h : ix_H) : ix_O :=
  if (nI 137300) ≤ v2 then
    cond (ix_okn 1 (nI 1)) (some (.inl (some (ix_I (nI 1))), h)) none
  else
    (ix_is h 10 (some v0)).bind fun a4 =>
    (ix_is h 10 (some v0)).bind fun a5 =>
    (ix_atr h 101 (ix_fR h a5 54) (((nI 137300) * v1) + v2)).bind fun a6 =>
    (ix_at h 101 (ix_fR h a4 35) v2).bind fun a7 =>
    ix_bd (ix_waI h a7 v2.toNatClampNeg (ix_aI h a6 (((nI 137300) * v1) + v2).toNatClampNeg)) fun h8 =>
    K 15 [(0, ix_R (some v0)), (1, ix_I v1), (2, ix_I (v2 + (nI 1)))] [] h8
theorem jX9_restore_15_eq (cal : ix_C) (K : ix_K) (v0 : Nat) (v1 : Int32) (v2 : Int32) (h : ix_H) : ix_fwd cal K (stX9_restore.drop 15) 0 [(0, ix_R (some v0)), (1, ix_I v1), (2, ix_I v2)] [] h = jX9_restore_15 cal K v0 v1 v2 h := rfl
def bX9_restore (cal : ix_C) (K : ix_K) (v0 : Nat) (v1 : Int32) (h : ix_H) : ix_O :=
  (ix_rI (cal 318 [ix_I v1, ix_I (nI 0), ix_I (nI 2)] h)).bind fun r1 =>
  if r1.1 = nI 0 then
    jX9_restore_10 cal K r1.2
  else
    (ix_is r1.2 10 (some v0)).bind fun a2 =>
    (ix_atr r1.2 105 (ix_fR r1.2 a2 53) v1).bind fun a3 =>
    if (ix_aI r1.2 a3 v1.toNatClampNeg) = nI 0 then
      jX9_restore_10 cal K r1.2
    else
      jX9_restore_15 cal K v0 v1 (nI 0) r1.2
theorem eX9_restore (cal : ix_C) (K : ix_K) (v0 : Nat) (v1 : Int32) (h : ix_H) : ix_fwd cal K stX9_restore 0 [(0, ix_R (some v0)), (1, ix_I v1)] [] h = bX9_restore cal K v0 v1 h := rfl
theorem rX9_restore (N d : Nat) (v0 : Nat) (v1 : Int32) (h : ix_H) : ix_run iy_P N (d + 1) 346 [ix_R (some v0), ix_I v1] h = bX9_restore (ix_run iy_P N d) (ix_lp (ix_run iy_P N d) stX9_restore N) v0 v1 h := (rfl : ix_run iy_P N (d + 1) 346 [ix_R (some v0), ix_I v1] h = ix_fwd (ix_run iy_P N d) (ix_lp (ix_run iy_P N d) stX9_restore N) stX9_restore 0 [(0, ix_R (some v0)), (1, ix_I v1)] [] h).trans (eX9_restore _ _ v0 v1 h)
theorem lX9_restore_15 (cal : ix_C) (n : Nat) (v0 : Nat) (v1 : Int32) (v2 : Int32) (h : ix_H) : ix_lp cal stX9_restore (n + 1) 15 [(0, ix_R (some v0)), (1, ix_I v1), (2, ix_I v2)] [] h = jX9_restore_15 cal (ix_lp cal stX9_restore n) v0 v1 v2 h := jX9_restore_15_eq cal (ix_lp cal stX9_restore n) v0 v1 v2 h
def jX9_count_52 (cal : ix_C) (K : ix_K) (v0 : Nat) (v2 : Int32) (v3 : Int32) (h : ix_H) : ix_O :=
  K 34 [(0, ix_R (some v0)), (2, ix_I v2), (3, ix_I (v3 + (nI 1)))] [] h
theorem jX9_count_52_eq (cal : ix_C) (K : ix_K) (v0 : Nat) (v2 : Int32) (v3 : Int32) (h : ix_H) : ix_fwd cal K (stX9_count.drop 52) 0 [(0, ix_R (some v0)), (2, ix_I v2), (3, ix_I v3)] [] h = jX9_count_52 cal K v0 v2 v3 h := rfl
def jX9_count_34 (cal : ix_C) (K : ix_K) (v0 : Nat) (v2 : Int32) (v3 : Int32) (h : ix_H) : ix_O :=
  if (nI 4) ≤ v3 then
    some (.inl (some (ix_I v2)), h)
  else
    (ix_is h 10 (some v0)).bind fun a14 =>
    (ix_rI (cal 234 [ix_I v3] h)).bind fun r15 =>
    (ix_atr r15.2 101 (ix_fR h a14 35) (r15.1 + (nI 1))).bind fun a16 =>
    if (ix_aI r15.2 a16 (r15.1 + (nI 1)).toNatClampNeg) ≤ nI 0 then
      jX9_count_52 cal K v0 v2 v3 r15.2
    else
      jX9_count_52 cal K v0 (v2 ||| ((nI 1) <<< (v3 &&& 31))) v3 r15.2
theorem jX9_count_34_eq (cal : ix_C) (K : ix_K) (v0 : Nat) (v2 : Int32) (v3 : Int32) (h : ix_H) : ix_fwd cal K (stX9_count.drop 34) 0 [(0, ix_R (some v0)), (2, ix_I v2), (3, ix_I v3)] [] h = jX9_count_34 cal K v0 v2 v3 h := rfl
def jX9_count_92 (cal : ix_C) (K : ix_K) (s0 : Int32) (s1 : Int32) (h : ix_H) : ix_O :=
  some (.inl (some (ix_I (s0 + s1))), h)
theorem jX9_count_92_eq (cal : ix_C) (K : ix_K) (s0 : Int32) (s1 : Int32) (h : ix_H) : ix_fwd cal K (stX9_count.drop 92) 0 [] [ix_I s1, ix_I s0] h = jX9_count_92 cal K s0 s1 h := rfl
def jX9_count_82 (cal : ix_C) (K : ix_K) (v0 : Nat) (s0 : Int32) (s1 : Int32) (h : ix_H) : ix_O :=
  (ix_is h 10 (some v0)).bind fun a24 =>
  (ix_atr h 105 (ix_fR h a24 53) (nI 2)).bind fun a25 =>
  if (ix_aI h a25 (nI 2).toNatClampNeg) = nI 0 then
    jX9_count_92 cal K (s0 + s1) (nI 0) h
  else
    jX9_count_92 cal K (s0 + s1) (nI 1) h
theorem jX9_count_82_eq (cal : ix_C) (K : ix_K) (v0 : Nat) (s0 : Int32) (s1 : Int32) (h : ix_H) : ix_fwd cal K (stX9_count.drop 82) 0 [(0, ix_R (some v0))] [ix_I s1, ix_I s0] h = jX9_count_82 cal K v0 s0 s1 h := rfl
def jX9_count_73 (cal : ix_C) (K : ix_K) (v0 : Nat) (s0 : Int32) (h : ix_H) : ix_O :=
  (ix_is h 10 (some v0)).bind fun a22 =>
  (ix_atr h 105 (ix_fR h a22 53) (nI 1)).bind fun a23 =>
  if (ix_aI h a23 (nI 1).toNatClampNeg) = nI 0 then
    jX9_count_82 cal K v0 s0 (nI 0) h
  else
    jX9_count_82 cal K v0 s0 (nI 1) h
theorem jX9_count_73_eq (cal : ix_C) (K : ix_K) (v0 : Nat) (s0 : Int32) (h : ix_H) : ix_fwd cal K (stX9_count.drop 73) 0 [(0, ix_R (some v0))] [ix_I s0] h = jX9_count_73 cal K v0 s0 h := rfl
def bX9_count (cal : ix_C) (K : ix_K) (v0 : Nat) (v1 : Int32) (h : ix_H) : ix_O :=
  if v1 = nI 0 then
    (ix_isr h 10 (some v0)).bind fun a2 =>
    (ix_rV (cal 267 [ix_R (some a2)] h)).bind fun r1 =>
    (ix_is r1 10 (some v0)).bind fun a3 =>
    some (.inl (some (ix_I (ix_fI r1 a3 48))), r1)
  else
  if v1 = nI 1 then
    (ix_is h 10 (some v0)).bind fun a4 =>
    (ix_atr h 101 (ix_fR h a4 35) (nI 0)).bind fun a5 =>
    some (.inl (some (ix_I (ix_aI h a5 (nI 0).toNatClampNeg))), h)
  else
  if v1 = nI 2 then
    (ix_is h 10 (some v0)).bind fun a6 =>
    (ix_atr h 101 (ix_fR h a6 35) (nI 1)).bind fun a7 =>
    some (.inl (some (ix_I (ix_aI h a7 (nI 1).toNatClampNeg))), h)
  else
  if v1 = nI 3 then
    (ix_is h 10 (some v0)).bind fun a8 =>
    (ix_atr h 101 (ix_fR h a8 35) (nI 2)).bind fun a9 =>
    some (.inl (some (ix_I (ix_aI h a9 (nI 2).toNatClampNeg))), h)
  else
  if v1 = nI 4 then
    (ix_isr h 10 (some v0)).bind fun a11 =>
    (ix_rI (cal 348 [ix_R (some a11), ix_I (nI 4)] h)).bind fun r10 =>
    some (.inl (some (ix_I r10.1)), r10.2)
  else
  if v1 = nI 5 then
    (ix_isr h 10 (some v0)).bind fun a13 =>
    (ix_rI (cal 348 [ix_R (some a13), ix_I (nI 5)] h)).bind fun r12 =>
    some (.inl (some (ix_I r12.1)), r12.2)
  else
  if v1 = nI 6 then
    jX9_count_34 cal K v0 (nI 0) (nI 0) h
  else
  if v1 = nI 7 then
    (ix_is h 10 (some v0)).bind fun a17 =>
    (ix_atr h 101 (ix_fR h a17 35) (nI 3)).bind fun a18 =>
    some (.inl (some (ix_I (ix_aI h a18 (nI 3).toNatClampNeg))), h)
  else
  if v1 = nI 8 then
    (ix_is h 10 (some v0)).bind fun a19 =>
    some (.inl (some (ix_I (ix_fI h a19 2))), h)
  else
  if v1 = nI 9 then
    (ix_is h 10 (some v0)).bind fun a20 =>
    (ix_atr h 105 (ix_fR h a20 53) (nI 0)).bind fun a21 =>
    if (ix_aI h a21 (nI 0).toNatClampNeg) = nI 0 then
      jX9_count_73 cal K v0 (nI 0) h
    else
      jX9_count_73 cal K v0 (nI 1) h
  else
  if v1 = nI 10 then
    (ix_is h 10 (some v0)).bind fun a26 =>
    (ix_atr h 101 (ix_fR h a26 35) (nI 5)).bind fun a27 =>
    some (.inl (some (ix_I (ix_aI h a27 (nI 5).toNatClampNeg))), h)
  else
  if v1 = nI 11 then
    (ix_is h 10 (some v0)).bind fun a28 =>
    (ix_atr h 101 (ix_fR h a28 35) (nI 6)).bind fun a29 =>
    some (.inl (some (ix_I (ix_aI h a29 (nI 6).toNatClampNeg))), h)
  else
  if v1 = nI 12 then
    (ix_is h 10 (some v0)).bind fun a30 =>
    (ix_atr h 101 (ix_fR h a30 35) (nI 7)).bind fun a31 =>
    some (.inl (some (ix_I (ix_aI h a31 (nI 7).toNatClampNeg))), h)
  else
  if v1 = nI 13 then
    (ix_is h 10 (some v0)).bind fun a32 =>
    (ix_atr h 101 (ix_fR h a32 35) (nI 4)).bind fun a33 =>
    some (.inl (some (ix_I (ix_aI h a33 (nI 4).toNatClampNeg))), h)
  else
    some (.inl (some (ix_I (-1 : Int32))), h)
theorem eX9_count (cal : ix_C) (K : ix_K) (v0 : Nat) (v1 : Int32) (h : ix_H) : ix_fwd cal K stX9_count 0 [(0, ix_R (some v0)), (1, ix_I v1)] [] h = bX9_count cal K v0 v1 h := rfl
theorem rX9_count (N d : Nat) (v0 : Nat) (v1 : Int32) (h : ix_H) : ix_run iy_P N (d + 1) 347 [ix_R (some v0), ix_I v1] h = bX9_count (ix_run iy_P N d) (ix_lp (ix_run iy_P N d) stX9_count N) v0 v1 h := (rfl : ix_run iy_P N (d + 1) 347 [ix_R (some v0), ix_I v1] h = ix_fwd (ix_run iy_P N d) (ix_lp (ix_run iy_P N d) stX9_count N) stX9_count 0 [(0, ix_R (some v0)), (1, ix_I v1)] [] h).trans (eX9_count _ _ v0 v1 h)
theorem lX9_count_34 (cal : ix_C) (n : Nat) (v0 : Nat) (v2 : Int32) (v3 : Int32) (h : ix_H) : ix_lp cal stX9_count (n + 1) 34 [(0, ix_R (some v0)), (2, ix_I v2), (3, ix_I v3)] [] h = jX9_count_34 cal (ix_lp cal stX9_count n) v0 v2 v3 h := jX9_count_34_eq cal (ix_lp cal stX9_count n) v0 v2 v3 h
def jX9_sumOf_28 (cal : ix_C) (K : ix_K) (v0 : Nat) (v1 : Int32) (v2 : Int32) (v3 : Int32) (h : ix_H) : ix_O :=
  K 4 [(0, ix_R (some v0)), (1, ix_I v1), (2, ix_I v2), (3, ix_I (v3 + (nI 1)))] [] h
theorem jX9_sumOf_28_eq (cal : ix_C) (K : ix_K) (v0 : Nat) (v1 : Int32) (v2 : Int32) (v3 : Int32) (h : ix_H) : ix_fwd cal K (stX9_sumOf.drop 28) 0 [(0, ix_R (some v0)), (1, ix_I v1), (2, ix_I v2), (3, ix_I v3)] [] h = jX9_sumOf_28 cal K v0 v1 v2 v3 h := rfl
def jX9_sumOf_26 (cal : ix_C) (K : ix_K) (v0 : Nat) (v1 : Int32) (v2 : Int32) (v3 : Int32) (h : ix_H) : ix_O :=
  jX9_sumOf_28 cal K v0 v1 (v2 + (nI 1)) v3 h
theorem jX9_sumOf_26_eq (cal : ix_C) (K : ix_K) (v0 : Nat) (v1 : Int32) (v2 : Int32) (v3 : Int32) (h : ix_H) : ix_fwd cal K (stX9_sumOf.drop 26) 0 [(0, ix_R (some v0)), (1, ix_I v1), (2, ix_I v2), (3, ix_I v3)] [] h = jX9_sumOf_26 cal K v0 v1 v2 v3 h := rfl
def jX9_sumOf_4 (cal : ix_C) (K : ix_K) (v0 : Nat) (v1 : Int32) (v2 : Int32) (v3 : Int32) (h : ix_H) : ix_O :=
  (ix_is h 10 (some v0)).bind fun a1 =>
  (ix_atr h 101 (ix_fR h a1 35) (nI 0)).bind fun a2 =>
  if (ix_aI h a2 (nI 0).toNatClampNeg) ≤ v3 then
    some (.inl (some (ix_I v2)), h)
  else
    if v1 = (nI 4) then
      (ix_isr h 10 (some v0)).bind fun a6 =>
      (ix_rI (cal 239 [ix_R (some a6), ix_I v3, ix_I (nI 4)] h)).bind fun r5 =>
      if r5.1 < nI 0 then
        jX9_sumOf_28 cal K v0 v1 v2 v3 r5.2
      else
        jX9_sumOf_26 cal K v0 v1 v2 v3 r5.2
    else
      (ix_isr h 10 (some v0)).bind fun a4 =>
      (ix_rI (cal 239 [ix_R (some a4), ix_I v3, ix_I (nI 5)] h)).bind fun r3 =>
      if r3.1 = (nI 1) then
        jX9_sumOf_26 cal K v0 v1 v2 v3 r3.2
      else
        jX9_sumOf_28 cal K v0 v1 v2 v3 r3.2
theorem jX9_sumOf_4_eq (cal : ix_C) (K : ix_K) (v0 : Nat) (v1 : Int32) (v2 : Int32) (v3 : Int32) (h : ix_H) : ix_fwd cal K (stX9_sumOf.drop 4) 0 [(0, ix_R (some v0)), (1, ix_I v1), (2, ix_I v2), (3, ix_I v3)] [] h = jX9_sumOf_4 cal K v0 v1 v2 v3 h := rfl
def bX9_sumOf (cal : ix_C) (K : ix_K) (v0 : Nat) (v1 : Int32) (h : ix_H) : ix_O :=
  jX9_sumOf_4 cal K v0 v1 (nI 0) (nI 0) h
theorem eX9_sumOf (cal : ix_C) (K : ix_K) (v0 : Nat) (v1 : Int32) (h : ix_H) : ix_fwd cal K stX9_sumOf 0 [(0, ix_R (some v0)), (1, ix_I v1)] [] h = bX9_sumOf cal K v0 v1 h := rfl
theorem rX9_sumOf (N d : Nat) (v0 : Nat) (v1 : Int32) (h : ix_H) : ix_run iy_P N (d + 1) 348 [ix_R (some v0), ix_I v1] h = bX9_sumOf (ix_run iy_P N d) (ix_lp (ix_run iy_P N d) stX9_sumOf N) v0 v1 h := (rfl : ix_run iy_P N (d + 1) 348 [ix_R (some v0), ix_I v1] h = ix_fwd (ix_run iy_P N d) (ix_lp (ix_run iy_P N d) stX9_sumOf N) stX9_sumOf 0 [(0, ix_R (some v0)), (1, ix_I v1)] [] h).trans (eX9_sumOf _ _ v0 v1 h)
theorem lX9_sumOf_4 (cal : ix_C) (n : Nat) (v0 : Nat) (v1 : Int32) (v2 : Int32) (v3 : Int32) (h : ix_H) : ix_lp cal stX9_sumOf (n + 1) 4 [(0, ix_R (some v0)), (1, ix_I v1), (2, ix_I v2), (3, ix_I v3)] [] h = jX9_sumOf_4 cal (ix_lp cal stX9_sumOf n) v0 v1 v2 v3 h := jX9_sumOf_4_eq cal (ix_lp cal stX9_sumOf n) v0 v1 v2 v3 h
