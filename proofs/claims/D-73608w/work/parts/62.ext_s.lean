/-! BODIES. Written by gen_ext.py -/
set_option maxRecDepth 100000
def jX4_init_35 (cal : ix_C) (K : ix_K) (v0 : Nat) (v1 : Int32) (h : ix_H) : ix_O :=
  if (nI 4) ≤ v1 then
    some (.inl none, h)
  else
    (ix_is h 5 (some v0)).bind fun a29 =>
    ix_bd (ix_nwO h 7 16) fun h30 =>
    (ix_isr h30 7 (some (ix_sz h))).bind fun a32 =>
    (ix_rV (cal 218 [ix_R (some a32)] h30)).bind fun r31 =>
    (ix_at r31 112 (ix_fR h a29 2) v1).bind fun a33 =>
    cond (ix_of r31 [7] (some (ix_sz h))) (
    ix_bd (ix_waR r31 a33 v1.toNatClampNeg (some (ix_sz h))) fun h34 =>
      K 35 [(0, ix_R (some v0)), (1, ix_I (v1 + (nI 1)))] [] h34) none
theorem jX4_init_35_eq (cal : ix_C) (K : ix_K) (v0 : Nat) (v1 : Int32) (h : ix_H) : ix_fwd cal K (stX4_init.drop 35) 0 [(0, ix_R (some v0)), (1, ix_I v1)] [] h = jX4_init_35 cal K v0 v1 h := rfl
def bX4_init (cal : ix_C) (K : ix_K) (v0 : Nat) (h : ix_H) : ix_O :=
  cond (ix_in (nI 2000) 1000001) (
  ix_bd (ix_nwA h 111 (nI 2000).toNatClampNeg) fun h2 =>
    (ix_is h2 5 (some v0)).bind fun a3 =>
    ix_bd (ix_wfR h2 a3 0 (some (ix_sz h))) fun h4 =>
    cond (ix_in (nI 32) 1000001) (
    ix_bd (ix_nwA h4 101 (nI 32).toNatClampNeg) fun h5 =>
      (ix_is h5 5 (some v0)).bind fun a6 =>
      ix_bd (ix_wfR h5 a6 1 (some (ix_sz h4))) fun h7 =>
      cond (ix_in (nI 4) 1000001) (
      ix_bd (ix_nwA h7 112 (nI 4).toNatClampNeg) fun h8 =>
        (ix_is h8 5 (some v0)).bind fun a9 =>
        ix_bd (ix_wfR h8 a9 2 (some (ix_sz h7))) fun h10 =>
        ix_bd (ix_nwO h10 6 12) fun h11 =>
        (ix_isr h11 6 (some (ix_sz h10))).bind fun a13 =>
        (ix_rV (cal 207 [ix_R (some a13)] h11)).bind fun r12 =>
        (ix_is r12 5 (some v0)).bind fun a14 =>
        ix_bd (ix_wfR r12 a14 9 (some (ix_sz h10))) fun h15 =>
        ix_bd (ix_nwO h15 6 12) fun h16 =>
        (ix_isr h16 6 (some (ix_sz h15))).bind fun a18 =>
        (ix_rV (cal 207 [ix_R (some a18)] h16)).bind fun r17 =>
        (ix_is r17 5 (some v0)).bind fun a19 =>
        ix_bd (ix_wfR r17 a19 10 (some (ix_sz h15))) fun h20 =>
        ix_bd (ix_nwO h20 6 12) fun h21 =>
        (ix_isr h21 6 (some (ix_sz h20))).bind fun a23 =>
        (ix_rV (cal 207 [ix_R (some a23)] h21)).bind fun r22 =>
        (ix_is r22 5 (some v0)).bind fun a24 =>
        ix_bd (ix_wfR r22 a24 11 (some (ix_sz h20))) fun h25 =>
        cond (ix_in (nI 2000) 1000001) (
        ix_bd (ix_nwA h25 101 (nI 2000).toNatClampNeg) fun h26 =>
          (ix_is h26 5 (some v0)).bind fun a27 =>
          ix_bd (ix_wfR h26 a27 12 (some (ix_sz h25))) fun h28 =>
          jX4_init_35 cal K v0 (nI 0) h28) none) none) none) none
theorem eX4_init (cal : ix_C) (K : ix_K) (v0 : Nat) (h : ix_H) : ix_fwd cal K stX4_init 0 [(0, ix_R (some v0))] [] h = bX4_init cal K v0 h := rfl
theorem rX4_init (N d : Nat) (v0 : Nat) (h : ix_H) : ix_run iy_P N (d + 1) 171 [ix_R (some v0)] h = bX4_init (ix_run iy_P N d) (ix_lp (ix_run iy_P N d) stX4_init N) v0 h := (rfl : ix_run iy_P N (d + 1) 171 [ix_R (some v0)] h = ix_fwd (ix_run iy_P N d) (ix_lp (ix_run iy_P N d) stX4_init N) stX4_init 0 [(0, ix_R (some v0))] [] h).trans (eX4_init _ _ v0 h)
theorem lX4_init_35 (cal : ix_C) (n : Nat) (v0 : Nat) (v1 : Int32) (h : ix_H) : ix_lp cal stX4_init (n + 1) 35 [(0, ix_R (some v0)), (1, ix_I v1)] [] h = jX4_init_35 cal (ix_lp cal stX4_init n) v0 v1 h := jX4_init_35_eq cal (ix_lp cal stX4_init n) v0 v1 h
def jX4_begins_20 (cal : ix_C) (K : ix_K) (v0 : Nat) (v2 : Int32) (h : ix_H) : ix_O :=
  if (nI 4) ≤ v2 then
    (ix_is h 5 (some v0)).bind fun a14 =>
    (ix_isr h 5 (some v0)).bind fun a16 =>
    (ix_rI (cal 173 [ix_R (some a16), ix_I (nI 0), ix_I (-2 : Int32), ix_I (-2 : Int32), ix_I (-2 : Int32)] h)).bind fun r15 =>
    (ix_at r15.2 101 (ix_fR h a14 1) (nI 0)).bind fun a17 =>
    ix_bd (ix_waI r15.2 a17 (nI 0).toNatClampNeg r15.1) fun h18 =>
    (ix_is h18 5 (some v0)).bind fun a19 =>
    (ix_is h18 5 (some v0)).bind fun a20 =>
    (ix_atr h18 101 (ix_fR h18 a20 1) (nI 0)).bind fun a21 =>
    (ix_atr h18 111 (ix_fR h18 a19 0) (ix_aI h18 a21 (nI 0).toNatClampNeg)).bind fun a22 =>
    (ix_isr h18 6 (ix_aR h18 a22 (ix_aI h18 a21 (nI 0).toNatClampNeg).toNatClampNeg)).bind fun a24 =>
    (ix_rV (cal 209 [ix_R (some a24), ix_I (nI 0), ix_I (nI 1)] h18)).bind fun r23 =>
    (ix_is r23 5 (some v0)).bind fun a25 =>
    (ix_isr r23 5 (some v0)).bind fun a27 =>
    (ix_rI (cal 173 [ix_R (some a27), ix_I (nI 0), ix_I (-2 : Int32), ix_I (-2 : Int32), ix_I (-2 : Int32)] r23)).bind fun r26 =>
    (ix_at r26.2 101 (ix_fR r23 a25 1) (nI 1)).bind fun a28 =>
    ix_bd (ix_waI r26.2 a28 (nI 1).toNatClampNeg r26.1) fun h29 =>
    (ix_is h29 5 (some v0)).bind fun a30 =>
    (ix_is h29 5 (some v0)).bind fun a31 =>
    (ix_atr h29 101 (ix_fR h29 a31 1) (nI 1)).bind fun a32 =>
    (ix_atr h29 111 (ix_fR h29 a30 0) (ix_aI h29 a32 (nI 1).toNatClampNeg)).bind fun a33 =>
    (ix_is h29 6 (ix_aR h29 a33 (ix_aI h29 a32 (nI 1).toNatClampNeg).toNatClampNeg)).bind fun a34 =>
    ix_bd (ix_wfI h29 a34 4 (nI 1000)) fun h35 =>
    (ix_is h35 5 (some v0)).bind fun a36 =>
    ix_bd (ix_wfI h35 a36 4 (nI 2)) fun h37 =>
    some (.inl none, h37)
  else
    (ix_is h 5 (some v0)).bind fun a38 =>
    (ix_atr h 112 (ix_fR h a38 2) v2).bind fun a39 =>
    (ix_isr h 7 (ix_aR h a39 v2.toNatClampNeg)).bind fun a41 =>
    (ix_rV (cal 219 [ix_R (some a41)] h)).bind fun r40 =>
    K 20 [(0, ix_R (some v0)), (2, ix_I (v2 + (nI 1)))] [] r40
theorem jX4_begins_20_eq (cal : ix_C) (K : ix_K) (v0 : Nat) (v2 : Int32) (h : ix_H) : ix_fwd cal K (stX4_begins.drop 20) 0 [(0, ix_R (some v0)), (2, ix_I v2)] [] h = jX4_begins_20 cal K v0 v2 h := rfl
def bX4_begins (cal : ix_C) (K : ix_K) (v0 : Nat) (v1 : Option Nat) (h : ix_H) : ix_O :=
  (ix_is h 8 v1).bind fun a1 =>
  (ix_is h 5 (some v0)).bind fun a2 =>
  ix_bd (ix_wfI h a2 6 (ix_fI h a1 1)) fun h3 =>
  (ix_is h3 8 v1).bind fun a4 =>
  (ix_is h3 5 (some v0)).bind fun a5 =>
  ix_bd (ix_wfI h3 a5 7 (ix_fI h3 a4 2)) fun h6 =>
  (ix_is h6 8 v1).bind fun a7 =>
  (ix_is h6 5 (some v0)).bind fun a8 =>
  ix_bd (ix_wfI h6 a8 8 (ix_fI h6 a7 3)) fun h9 =>
  (ix_is h9 5 (some v0)).bind fun a10 =>
  ix_bd (ix_wfI h9 a10 3 (nI 0)) fun h11 =>
  (ix_is h11 5 (some v0)).bind fun a12 =>
  ix_bd (ix_wfI h11 a12 5 (nI 0)) fun h13 =>
  jX4_begins_20 cal K v0 (nI 0) h13
theorem eX4_begins (cal : ix_C) (K : ix_K) (v0 : Nat) (v1 : Option Nat) (h : ix_H) : ix_fwd cal K stX4_begins 0 [(0, ix_R (some v0)), (1, ix_R v1)] [] h = bX4_begins cal K v0 v1 h := rfl
theorem rX4_begins (N d : Nat) (v0 : Nat) (v1 : Option Nat) (h : ix_H) : ix_run iy_P N (d + 1) 172 [ix_R (some v0), ix_R v1] h = bX4_begins (ix_run iy_P N d) (ix_lp (ix_run iy_P N d) stX4_begins N) v0 v1 h := (rfl : ix_run iy_P N (d + 1) 172 [ix_R (some v0), ix_R v1] h = ix_fwd (ix_run iy_P N d) (ix_lp (ix_run iy_P N d) stX4_begins N) stX4_begins 0 [(0, ix_R (some v0)), (1, ix_R v1)] [] h).trans (eX4_begins _ _ v0 v1 h)
theorem lX4_begins_20 (cal : ix_C) (n : Nat) (v0 : Nat) (v2 : Int32) (h : ix_H) : ix_lp cal stX4_begins (n + 1) 20 [(0, ix_R (some v0)), (2, ix_I v2)] [] h = jX4_begins_20 cal (ix_lp cal stX4_begins n) v0 v2 h := jX4_begins_20_eq cal (ix_lp cal stX4_begins n) v0 v2 h
def jX4_makes_14 (cal : ix_C) (K : ix_K) (v0 : Nat) (v1 : Int32) (v2 : Int32) (v3 : Int32) (v4 : Int32) (h : ix_H) : ix_O :=
  (ix_is h 5 (some v0)).bind fun a4 =>
  (ix_is h 5 (some v0)).bind fun a5 =>
  (ix_atr h 111 (ix_fR h a4 0) (ix_fI h a5 3)).bind fun a6 =>
  (ix_isr h 6 (ix_aR h a6 (ix_fI h a5 3).toNatClampNeg)).bind fun a8 =>
  (ix_rV (cal 208 [ix_R (some a8), ix_I v1, ix_I v2, ix_I v3, ix_I v4] h)).bind fun r7 =>
  (ix_is r7 5 (some v0)).bind fun a9 =>
  (ix_is r7 5 (some v0)).bind fun a10 =>
  ix_bd (ix_wfI r7 a10 3 ((ix_fI r7 a9 3) + (nI 1))) fun h11 =>
  (ix_is h11 5 (some v0)).bind fun a12 =>
  some (.inl (some (ix_I ((ix_fI h11 a12 3) - (nI 1)))), h11)
theorem jX4_makes_14_eq (cal : ix_C) (K : ix_K) (v0 : Nat) (v1 : Int32) (v2 : Int32) (v3 : Int32) (v4 : Int32) (h : ix_H) : ix_fwd cal K (stX4_makes.drop 14) 0 [(0, ix_R (some v0)), (1, ix_I v1), (2, ix_I v2), (3, ix_I v3), (4, ix_I v4)] [] h = jX4_makes_14 cal K v0 v1 v2 v3 v4 h := rfl
def bX4_makes (cal : ix_C) (K : ix_K) (v0 : Nat) (v1 : Int32) (v2 : Int32) (v3 : Int32) (v4 : Int32) (h : ix_H) : ix_O :=
  (ix_is h 5 (some v0)).bind fun a1 =>
  (ix_is h 5 (some v0)).bind fun a2 =>
  (ix_atr h 111 (ix_fR h a1 0) (ix_fI h a2 3)).bind fun a3 =>
  if (ix_aR h a3 (ix_fI h a2 3).toNatClampNeg) = none then
    (ix_is h 5 (some v0)).bind fun a13 =>
    (ix_is h 5 (some v0)).bind fun a14 =>
    ix_bd (ix_nwO h 6 12) fun h15 =>
    (ix_isr h15 6 (some (ix_sz h))).bind fun a17 =>
    (ix_rV (cal 207 [ix_R (some a17)] h15)).bind fun r16 =>
    (ix_at r16 111 (ix_fR h a13 0) (ix_fI h a14 3)).bind fun a18 =>
    cond (ix_of r16 [6] (some (ix_sz h))) (
    ix_bd (ix_waR r16 a18 (ix_fI h a14 3).toNatClampNeg (some (ix_sz h))) fun h19 =>
      jX4_makes_14 cal K v0 v1 v2 v3 v4 h19) none
  else
    jX4_makes_14 cal K v0 v1 v2 v3 v4 h
theorem eX4_makes (cal : ix_C) (K : ix_K) (v0 : Nat) (v1 : Int32) (v2 : Int32) (v3 : Int32) (v4 : Int32) (h : ix_H) : ix_fwd cal K stX4_makes 0 [(0, ix_R (some v0)), (1, ix_I v1), (2, ix_I v2), (3, ix_I v3), (4, ix_I v4)] [] h = bX4_makes cal K v0 v1 v2 v3 v4 h := rfl
theorem rX4_makes (N d : Nat) (v0 : Nat) (v1 : Int32) (v2 : Int32) (v3 : Int32) (v4 : Int32) (h : ix_H) : ix_run iy_P N (d + 1) 173 [ix_R (some v0), ix_I v1, ix_I v2, ix_I v3, ix_I v4] h = bX4_makes (ix_run iy_P N d) (ix_lp (ix_run iy_P N d) stX4_makes N) v0 v1 v2 v3 v4 h := (rfl : ix_run iy_P N (d + 1) 173 [ix_R (some v0), ix_I v1, ix_I v2, ix_I v3, ix_I v4] h = ix_fwd (ix_run iy_P N d) (ix_lp (ix_run iy_P N d) stX4_makes N) stX4_makes 0 [(0, ix_R (some v0)), (1, ix_I v1), (2, ix_I v2), (3, ix_I v3), (4, ix_I v4)] [] h).trans (eX4_makes _ _ v0 v1 v2 v3 v4 h)
def jX4_keys_4 (cal : ix_C) (K : ix_K) (v0 : Nat) (v1 : Int32) (v2 : Int32) (h : ix_H) : ix_O :=
  if v2 < nI 0 then
    some (.inl (some (ix_I v1)), h)
  else
    (ix_is h 5 (some v0)).bind fun a1 =>
    (ix_isr h 5 (some v0)).bind fun a3 =>
    (ix_rV (cal 175 [ix_R (some a3), ix_I v2, ix_R (ix_fR h a1 11)] h)).bind fun r2 =>
    (ix_is r2 5 (some v0)).bind fun a4 =>
    (ix_is r2 6 (ix_fR r2 a4 11)).bind fun a5 =>
    (ix_is r2 5 (some v0)).bind fun a6 =>
    (ix_is r2 6 (ix_fR r2 a6 11)).bind fun a7 =>
    K 4 [(0, ix_R (some v0)), (1, ix_I (v1 + (ix_fI r2 a5 3))), (2, ix_I (ix_fI r2 a7 5))] [] r2
theorem jX4_keys_4_eq (cal : ix_C) (K : ix_K) (v0 : Nat) (v1 : Int32) (v2 : Int32) (h : ix_H) : ix_fwd cal K (stX4_keys.drop 4) 0 [(0, ix_R (some v0)), (1, ix_I v1), (2, ix_I v2)] [] h = jX4_keys_4 cal K v0 v1 v2 h := rfl
def bX4_keys (cal : ix_C) (K : ix_K) (v0 : Nat) (h : ix_H) : ix_O :=
  jX4_keys_4 cal K v0 (nI 0) (nI 1) h
theorem eX4_keys (cal : ix_C) (K : ix_K) (v0 : Nat) (h : ix_H) : ix_fwd cal K stX4_keys 0 [(0, ix_R (some v0))] [] h = bX4_keys cal K v0 h := rfl
theorem rX4_keys (N d : Nat) (v0 : Nat) (h : ix_H) : ix_run iy_P N (d + 1) 174 [ix_R (some v0)] h = bX4_keys (ix_run iy_P N d) (ix_lp (ix_run iy_P N d) stX4_keys N) v0 h := (rfl : ix_run iy_P N (d + 1) 174 [ix_R (some v0)] h = ix_fwd (ix_run iy_P N d) (ix_lp (ix_run iy_P N d) stX4_keys N) stX4_keys 0 [(0, ix_R (some v0))] [] h).trans (eX4_keys _ _ v0 h)
theorem lX4_keys_4 (cal : ix_C) (n : Nat) (v0 : Nat) (v1 : Int32) (v2 : Int32) (h : ix_H) : ix_lp cal stX4_keys (n + 1) 4 [(0, ix_R (some v0)), (1, ix_I v1), (2, ix_I v2)] [] h = jX4_keys_4 cal (ix_lp cal stX4_keys n) v0 v1 v2 h := jX4_keys_4_eq cal (ix_lp cal stX4_keys n) v0 v1 v2 h
def jX4_lays_36 (cal : ix_C) (K : ix_K) (v0 : Nat) (v2 : Option Nat) (v4 : Int32) (h : ix_H) : ix_O :=
  if v4 < nI 0 then
    some (.inl none, h)
  else
    (ix_is h 5 (some v0)).bind fun a10 =>
    (ix_is h 5 (some v0)).bind fun a11 =>
    (ix_atr h 101 (ix_fR h a11 12) v4).bind fun a12 =>
    (ix_atr h 111 (ix_fR h a10 0) (ix_aI h a12 v4.toNatClampNeg)).bind fun a13 =>
    (ix_is h 5 (some v0)).bind fun a14 =>
    (ix_isr h 6 v2).bind fun a16 =>
    (ix_rV (cal 212 [ix_R (some a16), ix_R (ix_aR h a13 (ix_aI h a12 v4.toNatClampNeg).toNatClampNeg), ix_R (ix_fR h a14 0)] h)).bind fun r15 =>
    K 36 [(0, ix_R (some v0)), (2, ix_R v2), (4, ix_I (v4 + (-1)))] [] r15
theorem jX4_lays_36_eq (cal : ix_C) (K : ix_K) (v0 : Nat) (v2 : Option Nat) (v4 : Int32) (h : ix_H) : ix_fwd cal K (stX4_lays.drop 36) 0 [(0, ix_R (some v0)), (2, ix_R v2), (4, ix_I v4)] [] h = jX4_lays_36 cal K v0 v2 v4 h := rfl
def jX4_lays_7 (cal : ix_C) (K : ix_K) (v0 : Nat) (v1 : Int32) (v2 : Option Nat) (v3 : Int32) (v4 : Int32) (h : ix_H) : ix_O :=
  (ix_is h 5 (some v0)).bind fun a3 =>
  (ix_atr h 111 (ix_fR h a3 0) v4).bind fun a4 =>
  (ix_is h 6 (ix_aR h a4 v4.toNatClampNeg)).bind fun a5 =>
  if (ix_fI h a5 2) = nI 0 then
    (ix_isr h 5 (some v0)).bind fun a7 =>
    (ix_rR (cal 176 [ix_R (some a7), ix_I v1] h)).bind fun r6 =>
    (ix_isr r6.2 6 v2).bind fun a9 =>
    (ix_rV (cal 211 [ix_R (some a9), ix_R r6.1] r6.2)).bind fun r8 =>
    jX4_lays_36 cal K v0 v2 (v3 - (nI 1)) r8
  else
    (ix_is h 5 (some v0)).bind fun a17 =>
    (ix_at h 101 (ix_fR h a17 12) v3).bind fun a18 =>
    ix_bd (ix_waI h a18 v3.toNatClampNeg v4) fun h19 =>
    (ix_is h19 5 (some v0)).bind fun a20 =>
    (ix_atr h19 111 (ix_fR h19 a20 0) v4).bind fun a21 =>
    (ix_is h19 6 (ix_aR h19 a21 v4.toNatClampNeg)).bind fun a22 =>
    K 7 [(0, ix_R (some v0)), (1, ix_I v1), (2, ix_R v2), (3, ix_I (v3 + (nI 1))), (4, ix_I (ix_fI h19 a22 8))] [] h19
theorem jX4_lays_7_eq (cal : ix_C) (K : ix_K) (v0 : Nat) (v1 : Int32) (v2 : Option Nat) (v3 : Int32) (v4 : Int32) (h : ix_H) : ix_fwd cal K (stX4_lays.drop 7) 0 [(0, ix_R (some v0)), (1, ix_I v1), (2, ix_R v2), (3, ix_I v3), (4, ix_I v4)] [] h = jX4_lays_7 cal K v0 v1 v2 v3 v4 h := rfl
def bX4_lays (cal : ix_C) (K : ix_K) (v0 : Nat) (v1 : Int32) (v2 : Option Nat) (h : ix_H) : ix_O :=
  (ix_is h 5 (some v0)).bind fun a1 =>
  (ix_atr h 101 (ix_fR h a1 1) v1).bind fun a2 =>
  jX4_lays_7 cal K v0 v1 v2 (nI 0) (ix_aI h a2 v1.toNatClampNeg) h
theorem eX4_lays (cal : ix_C) (K : ix_K) (v0 : Nat) (v1 : Int32) (v2 : Option Nat) (h : ix_H) : ix_fwd cal K stX4_lays 0 [(0, ix_R (some v0)), (1, ix_I v1), (2, ix_R v2)] [] h = bX4_lays cal K v0 v1 v2 h := rfl
theorem rX4_lays (N d : Nat) (v0 : Nat) (v1 : Int32) (v2 : Option Nat) (h : ix_H) : ix_run iy_P N (d + 1) 175 [ix_R (some v0), ix_I v1, ix_R v2] h = bX4_lays (ix_run iy_P N d) (ix_lp (ix_run iy_P N d) stX4_lays N) v0 v1 v2 h := (rfl : ix_run iy_P N (d + 1) 175 [ix_R (some v0), ix_I v1, ix_R v2] h = ix_fwd (ix_run iy_P N d) (ix_lp (ix_run iy_P N d) stX4_lays N) stX4_lays 0 [(0, ix_R (some v0)), (1, ix_I v1), (2, ix_R v2)] [] h).trans (eX4_lays _ _ v0 v1 v2 h)
theorem lX4_lays_7 (cal : ix_C) (n : Nat) (v0 : Nat) (v1 : Int32) (v2 : Option Nat) (v3 : Int32) (v4 : Int32) (h : ix_H) : ix_lp cal stX4_lays (n + 1) 7 [(0, ix_R (some v0)), (1, ix_I v1), (2, ix_R v2), (3, ix_I v3), (4, ix_I v4)] [] h = jX4_lays_7 cal (ix_lp cal stX4_lays n) v0 v1 v2 v3 v4 h := jX4_lays_7_eq cal (ix_lp cal stX4_lays n) v0 v1 v2 v3 v4 h
theorem lX4_lays_36 (cal : ix_C) (n : Nat) (v0 : Nat) (v2 : Option Nat) (v4 : Int32) (h : ix_H) : ix_lp cal stX4_lays (n + 1) 36 [(0, ix_R (some v0)), (2, ix_R v2), (4, ix_I v4)] [] h = jX4_lays_36 cal (ix_lp cal stX4_lays n) v0 v2 v4 h := jX4_lays_36_eq cal (ix_lp cal stX4_lays n) v0 v2 v4 h
def jX4_baseOf_5 (cal : ix_C) (K : ix_K) (v0 : Nat) (v2 : Int32) (h : ix_H) : ix_O :=
  (ix_is h 5 (some v0)).bind fun a3 =>
  (ix_atr h 111 (ix_fR h a3 0) v2).bind fun a4 =>
  (ix_is h 6 (ix_aR h a4 v2.toNatClampNeg)).bind fun a5 =>
  if (ix_fI h a5 2) = nI 0 then
    (ix_is h 5 (some v0)).bind fun a6 =>
    (ix_atr h 111 (ix_fR h a6 0) v2).bind fun a7 =>
    some (.inl (some (ix_R (ix_aR h a7 v2.toNatClampNeg))), h)
  else
    (ix_is h 5 (some v0)).bind fun a8 =>
    (ix_atr h 111 (ix_fR h a8 0) v2).bind fun a9 =>
    (ix_is h 6 (ix_aR h a9 v2.toNatClampNeg)).bind fun a10 =>
    K 5 [(0, ix_R (some v0)), (2, ix_I (ix_fI h a10 8))] [] h
theorem jX4_baseOf_5_eq (cal : ix_C) (K : ix_K) (v0 : Nat) (v2 : Int32) (h : ix_H) : ix_fwd cal K (stX4_baseOf.drop 5) 0 [(0, ix_R (some v0)), (2, ix_I v2)] [] h = jX4_baseOf_5 cal K v0 v2 h := rfl
def bX4_baseOf (cal : ix_C) (K : ix_K) (v0 : Nat) (v1 : Int32) (h : ix_H) : ix_O :=
  (ix_is h 5 (some v0)).bind fun a1 =>
  (ix_atr h 101 (ix_fR h a1 1) v1).bind fun a2 =>
  jX4_baseOf_5 cal K v0 (ix_aI h a2 v1.toNatClampNeg) h
theorem eX4_baseOf (cal : ix_C) (K : ix_K) (v0 : Nat) (v1 : Int32) (h : ix_H) : ix_fwd cal K stX4_baseOf 0 [(0, ix_R (some v0)), (1, ix_I v1)] [] h = bX4_baseOf cal K v0 v1 h := rfl
theorem rX4_baseOf (N d : Nat) (v0 : Nat) (v1 : Int32) (h : ix_H) : ix_run iy_P N (d + 1) 176 [ix_R (some v0), ix_I v1] h = bX4_baseOf (ix_run iy_P N d) (ix_lp (ix_run iy_P N d) stX4_baseOf N) v0 v1 h := (rfl : ix_run iy_P N (d + 1) 176 [ix_R (some v0), ix_I v1] h = ix_fwd (ix_run iy_P N d) (ix_lp (ix_run iy_P N d) stX4_baseOf N) stX4_baseOf 0 [(0, ix_R (some v0)), (1, ix_I v1)] [] h).trans (eX4_baseOf _ _ v0 v1 h)
theorem lX4_baseOf_5 (cal : ix_C) (n : Nat) (v0 : Nat) (v2 : Int32) (h : ix_H) : ix_lp cal stX4_baseOf (n + 1) 5 [(0, ix_R (some v0)), (2, ix_I v2)] [] h = jX4_baseOf_5 cal (ix_lp cal stX4_baseOf n) v0 v2 h := jX4_baseOf_5_eq cal (ix_lp cal stX4_baseOf n) v0 v2 h
def jX4_lostOfAll_4 (cal : ix_C) (K : ix_K) (v0 : Nat) (v1 : Int32) (v2 : Int32) (h : ix_H) : ix_O :=
  if (nI 4) ≤ v2 then
    some (.inl (some (ix_I v1)), h)
  else
    (ix_is h 5 (some v0)).bind fun a1 =>
    (ix_atr h 112 (ix_fR h a1 2) v2).bind fun a2 =>
    (ix_is h 7 (ix_aR h a2 v2.toNatClampNeg)).bind fun a3 =>
    K 4 [(0, ix_R (some v0)), (1, ix_I (v1 + (ix_fI h a3 11))), (2, ix_I (v2 + (nI 1)))] [] h
theorem jX4_lostOfAll_4_eq (cal : ix_C) (K : ix_K) (v0 : Nat) (v1 : Int32) (v2 : Int32) (h : ix_H) : ix_fwd cal K (stX4_lostOfAll.drop 4) 0 [(0, ix_R (some v0)), (1, ix_I v1), (2, ix_I v2)] [] h = jX4_lostOfAll_4 cal K v0 v1 v2 h := rfl
def bX4_lostOfAll (cal : ix_C) (K : ix_K) (v0 : Nat) (h : ix_H) : ix_O :=
  jX4_lostOfAll_4 cal K v0 (nI 0) (nI 0) h
theorem eX4_lostOfAll (cal : ix_C) (K : ix_K) (v0 : Nat) (h : ix_H) : ix_fwd cal K stX4_lostOfAll 0 [(0, ix_R (some v0))] [] h = bX4_lostOfAll cal K v0 h := rfl
theorem rX4_lostOfAll (N d : Nat) (v0 : Nat) (h : ix_H) : ix_run iy_P N (d + 1) 177 [ix_R (some v0)] h = bX4_lostOfAll (ix_run iy_P N d) (ix_lp (ix_run iy_P N d) stX4_lostOfAll N) v0 h := (rfl : ix_run iy_P N (d + 1) 177 [ix_R (some v0)] h = ix_fwd (ix_run iy_P N d) (ix_lp (ix_run iy_P N d) stX4_lostOfAll N) stX4_lostOfAll 0 [(0, ix_R (some v0))] [] h).trans (eX4_lostOfAll _ _ v0 h)
theorem lX4_lostOfAll_4 (cal : ix_C) (n : Nat) (v0 : Nat) (v1 : Int32) (v2 : Int32) (h : ix_H) : ix_lp cal stX4_lostOfAll (n + 1) 4 [(0, ix_R (some v0)), (1, ix_I v1), (2, ix_I v2)] [] h = jX4_lostOfAll_4 cal (ix_lp cal stX4_lostOfAll n) v0 v1 v2 h := jX4_lostOfAll_4_eq cal (ix_lp cal stX4_lostOfAll n) v0 v1 v2 h
def jX4_takesUp_16 (cal : ix_C) (K : ix_K) (h : ix_H) : ix_O :=
  cond (ix_okn 1 (nI 0)) (some (.inl (some (ix_I (nI 0))), h)) none
theorem jX4_takesUp_16_eq (cal : ix_C) (K : ix_K) (h : ix_H) : ix_fwd cal K (stX4_takesUp.drop 16) 0 [] [] h = jX4_takesUp_16 cal K h := rfl
def bX4_takesUp (cal : ix_C) (K : ix_K) (v0 : Nat) (v1 : Int32) (v2 : Int32) (v3 : Int32) (v4 : Int32) (h : ix_H) : ix_O :=
  (ix_is h 5 (some v0)).bind fun a1 =>
  (ix_atr h 112 (ix_fR h a1 2) v1).bind fun a2 =>
  (ix_is h 7 (ix_aR h a2 v1.toNatClampNeg)).bind fun a3 =>
  if (ix_fI h a3 3) = nI 0 then
    (ix_is h 5 (some v0)).bind fun a4 =>
    if (nI 640) ≤ (ix_fI h a4 3) then
      jX4_takesUp_16 cal K h
    else
      (ix_is h 5 (some v0)).bind fun a5 =>
      if (ix_fI h a5 4) < (nI 28) then
        (ix_is h 7 (ix_aR h a2 v1.toNatClampNeg)).bind fun a6 =>
        ix_bd (ix_wfI h a6 0 v2) fun h7 =>
        (ix_is h7 7 (ix_aR h a2 v1.toNatClampNeg)).bind fun a8 =>
        ix_bd (ix_wfI h7 a8 1 v3) fun h9 =>
        (ix_is h9 7 (ix_aR h a2 v1.toNatClampNeg)).bind fun a10 =>
        ix_bd (ix_wfI h9 a10 2 v4) fun h11 =>
        (ix_is h11 7 (ix_aR h a2 v1.toNatClampNeg)).bind fun a12 =>
        ix_bd (ix_wfI h11 a12 3 (nI 1)) fun h13 =>
        (ix_is h13 7 (ix_aR h a2 v1.toNatClampNeg)).bind fun a14 =>
        ix_bd (ix_wfI h13 a14 14 (nI 0)) fun h15 =>
        (ix_is h15 7 (ix_aR h a2 v1.toNatClampNeg)).bind fun a16 =>
        cond (ix_okn 1 (nI 0)) (
        ix_bd (ix_wfI h15 a16 15 (nI 0)) fun h17 =>
          (ix_is h17 5 (some v0)).bind fun a18 =>
          (ix_is h17 7 (ix_aR h a2 v1.toNatClampNeg)).bind fun a19 =>
          ix_bd (ix_wfI h17 a19 13 (ix_fI h17 a18 5)) fun h20 =>
          cond (ix_okn 1 (nI 1)) (some (.inl (some (ix_I (nI 1))), h20)) none) none
      else
        jX4_takesUp_16 cal K h
  else
    jX4_takesUp_16 cal K h
theorem eX4_takesUp (cal : ix_C) (K : ix_K) (v0 : Nat) (v1 : Int32) (v2 : Int32) (v3 : Int32) (v4 : Int32) (h : ix_H) : ix_fwd cal K stX4_takesUp 0 [(0, ix_R (some v0)), (1, ix_I v1), (2, ix_I v2), (3, ix_I v3), (4, ix_I v4)] [] h = bX4_takesUp cal K v0 v1 v2 v3 v4 h := rfl
theorem rX4_takesUp (N d : Nat) (v0 : Nat) (v1 : Int32) (v2 : Int32) (v3 : Int32) (v4 : Int32) (h : ix_H) : ix_run iy_P N (d + 1) 178 [ix_R (some v0), ix_I v1, ix_I v2, ix_I v3, ix_I v4] h = bX4_takesUp (ix_run iy_P N d) (ix_lp (ix_run iy_P N d) stX4_takesUp N) v0 v1 v2 v3 v4 h := (rfl : ix_run iy_P N (d + 1) 178 [ix_R (some v0), ix_I v1, ix_I v2, ix_I v3, ix_I v4] h = ix_fwd (ix_run iy_P N d) (ix_lp (ix_run iy_P N d) stX4_takesUp N) stX4_takesUp 0 [(0, ix_R (some v0)), (1, ix_I v1), (2, ix_I v2), (3, ix_I v3), (4, ix_I v4)] [] h).trans (eX4_takesUp _ _ v0 v1 v2 v3 v4 h)
def jX4_closes_18 (cal : ix_C) (K : ix_K) (v2 : Int32) (h : ix_H) : ix_O :=
  some (.inl (some (ix_I v2)), h)
theorem jX4_closes_18_eq (cal : ix_C) (K : ix_K) (v2 : Int32) (h : ix_H) : ix_fwd cal K (stX4_closes.drop 18) 0 [(2, ix_I v2)] [] h = jX4_closes_18 cal K v2 h := rfl
def jX4_closes_2 (cal : ix_C) (K : ix_K) (v0 : Nat) (v1 : Int32) (v2 : Int32) (h : ix_H) : ix_O :=
  (ix_is h 5 (some v0)).bind fun a1 =>
  (ix_atr h 112 (ix_fR h a1 2) v1).bind fun a2 =>
  (ix_is h 7 (ix_aR h a2 v1.toNatClampNeg)).bind fun a3 =>
  if (ix_fI h a3 3) = nI 0 then
    jX4_closes_18 cal K v2 h
  else
    if (nI 200) ≤ v2 then
      jX4_closes_18 cal K v2 h
    else
      (ix_isr h 5 (some v0)).bind fun a5 =>
      (ix_rI (cal 180 [ix_R (some a5), ix_I v1] h)).bind fun r4 =>
      K 2 [(0, ix_R (some v0)), (1, ix_I v1), (2, ix_I (v2 + (nI 1)))] [] r4.2
theorem jX4_closes_2_eq (cal : ix_C) (K : ix_K) (v0 : Nat) (v1 : Int32) (v2 : Int32) (h : ix_H) : ix_fwd cal K (stX4_closes.drop 2) 0 [(0, ix_R (some v0)), (1, ix_I v1), (2, ix_I v2)] [] h = jX4_closes_2 cal K v0 v1 v2 h := rfl
def bX4_closes (cal : ix_C) (K : ix_K) (v0 : Nat) (v1 : Int32) (h : ix_H) : ix_O :=
  jX4_closes_2 cal K v0 v1 (nI 0) h
theorem eX4_closes (cal : ix_C) (K : ix_K) (v0 : Nat) (v1 : Int32) (h : ix_H) : ix_fwd cal K stX4_closes 0 [(0, ix_R (some v0)), (1, ix_I v1)] [] h = bX4_closes cal K v0 v1 h := rfl
theorem rX4_closes (N d : Nat) (v0 : Nat) (v1 : Int32) (h : ix_H) : ix_run iy_P N (d + 1) 179 [ix_R (some v0), ix_I v1] h = bX4_closes (ix_run iy_P N d) (ix_lp (ix_run iy_P N d) stX4_closes N) v0 v1 h := (rfl : ix_run iy_P N (d + 1) 179 [ix_R (some v0), ix_I v1] h = ix_fwd (ix_run iy_P N d) (ix_lp (ix_run iy_P N d) stX4_closes N) stX4_closes 0 [(0, ix_R (some v0)), (1, ix_I v1)] [] h).trans (eX4_closes _ _ v0 v1 h)
theorem lX4_closes_2 (cal : ix_C) (n : Nat) (v0 : Nat) (v1 : Int32) (v2 : Int32) (h : ix_H) : ix_lp cal stX4_closes (n + 1) 2 [(0, ix_R (some v0)), (1, ix_I v1), (2, ix_I v2)] [] h = jX4_closes_2 cal (ix_lp cal stX4_closes n) v0 v1 v2 h := jX4_closes_2_eq cal (ix_lp cal stX4_closes n) v0 v1 v2 h
def jX4_steps_71 (cal : ix_C) (K : ix_K) (v2 : Option Nat) (s0 : Option Nat) (s1 : Int32) (h : ix_H) : ix_O :=
  (ix_is h 7 s0).bind fun a10 =>
  ix_bd (ix_wfI h a10 3 s1) fun h11 =>
  (ix_is h11 7 v2).bind fun a12 =>
  some (.inl (some (ix_I (ix_fI h11 a12 3))), h11)
theorem jX4_steps_71_eq (cal : ix_C) (K : ix_K) (v2 : Option Nat) (s0 : Option Nat) (s1 : Int32) (h : ix_H) : ix_fwd cal K (stX4_steps.drop 71) 0 [(2, ix_R v2)] [ix_I s1, ix_R s0] h = jX4_steps_71 cal K v2 s0 s1 h := rfl
def bX4_steps (cal : ix_C) (K : ix_K) (v0 : Nat) (v1 : Int32) (h : ix_H) : ix_O :=
  (ix_is h 5 (some v0)).bind fun a1 =>
  (ix_atr h 112 (ix_fR h a1 2) v1).bind fun a2 =>
  (ix_is h 7 (ix_aR h a2 v1.toNatClampNeg)).bind fun a3 =>
  if (ix_fI h a3 3) = nI 0 then
    some (.inl (some (ix_I (-1 : Int32))), h)
  else
    (ix_is h 7 (ix_aR h a2 v1.toNatClampNeg)).bind fun a4 =>
    (ix_is h 7 (ix_aR h a2 v1.toNatClampNeg)).bind fun a5 =>
    ix_bd (ix_wfI h a5 12 ((ix_fI h a4 12) + (nI 1))) fun h6 =>
    (ix_is h6 7 (ix_aR h a2 v1.toNatClampNeg)).bind fun a7 =>
    if (ix_fI h6 a7 3) = nI 1 then
      (ix_isr h6 5 (some v0)).bind fun a9 =>
      (ix_rI (cal 181 [ix_R (some a9), ix_R (ix_aR h a2 v1.toNatClampNeg)] h6)).bind fun r8 =>
      jX4_steps_71 cal K (ix_aR h a2 v1.toNatClampNeg) (ix_aR h a2 v1.toNatClampNeg) r8.1 r8.2
    else
    if (ix_fI h6 a7 3) = nI 2 then
      (ix_isr h6 5 (some v0)).bind fun a14 =>
      (ix_rI (cal 183 [ix_R (some a14), ix_R (ix_aR h a2 v1.toNatClampNeg)] h6)).bind fun r13 =>
      jX4_steps_71 cal K (ix_aR h a2 v1.toNatClampNeg) (ix_aR h a2 v1.toNatClampNeg) r13.1 r13.2
    else
    if (ix_fI h6 a7 3) = nI 3 then
      (ix_isr h6 5 (some v0)).bind fun a16 =>
      (ix_rI (cal 188 [ix_R (some a16), ix_R (ix_aR h a2 v1.toNatClampNeg)] h6)).bind fun r15 =>
      jX4_steps_71 cal K (ix_aR h a2 v1.toNatClampNeg) (ix_aR h a2 v1.toNatClampNeg) r15.1 r15.2
    else
    if (ix_fI h6 a7 3) = nI 4 then
      (ix_isr h6 5 (some v0)).bind fun a18 =>
      (ix_rI (cal 189 [ix_R (some a18), ix_R (ix_aR h a2 v1.toNatClampNeg)] h6)).bind fun r17 =>
      jX4_steps_71 cal K (ix_aR h a2 v1.toNatClampNeg) (ix_aR h a2 v1.toNatClampNeg) r17.1 r17.2
    else
    if (ix_fI h6 a7 3) = nI 5 then
      (ix_isr h6 5 (some v0)).bind fun a20 =>
      (ix_rI (cal 190 [ix_R (some a20), ix_R (ix_aR h a2 v1.toNatClampNeg)] h6)).bind fun r19 =>
      jX4_steps_71 cal K (ix_aR h a2 v1.toNatClampNeg) (ix_aR h a2 v1.toNatClampNeg) r19.1 r19.2
    else
    if (ix_fI h6 a7 3) = nI 6 then
      (ix_isr h6 5 (some v0)).bind fun a22 =>
      (ix_rI (cal 192 [ix_R (some a22), ix_R (ix_aR h a2 v1.toNatClampNeg)] h6)).bind fun r21 =>
      jX4_steps_71 cal K (ix_aR h a2 v1.toNatClampNeg) (ix_aR h a2 v1.toNatClampNeg) r21.1 r21.2
    else
    if (ix_fI h6 a7 3) = nI 7 then
      (ix_isr h6 5 (some v0)).bind fun a24 =>
      (ix_rI (cal 193 [ix_R (some a24), ix_R (ix_aR h a2 v1.toNatClampNeg)] h6)).bind fun r23 =>
      jX4_steps_71 cal K (ix_aR h a2 v1.toNatClampNeg) (ix_aR h a2 v1.toNatClampNeg) r23.1 r23.2
    else
    if (ix_fI h6 a7 3) = nI 8 then
      (ix_isr h6 5 (some v0)).bind fun a26 =>
      (ix_rI (cal 194 [ix_R (some a26), ix_R (ix_aR h a2 v1.toNatClampNeg)] h6)).bind fun r25 =>
      jX4_steps_71 cal K (ix_aR h a2 v1.toNatClampNeg) (ix_aR h a2 v1.toNatClampNeg) r25.1 r25.2
    else
    if (ix_fI h6 a7 3) = nI 9 then
      (ix_isr h6 5 (some v0)).bind fun a28 =>
      (ix_rI (cal 196 [ix_R (some a28), ix_R (ix_aR h a2 v1.toNatClampNeg)] h6)).bind fun r27 =>
      jX4_steps_71 cal K (ix_aR h a2 v1.toNatClampNeg) (ix_aR h a2 v1.toNatClampNeg) r27.1 r27.2
    else
    if (ix_fI h6 a7 3) = nI 10 then
      (ix_isr h6 5 (some v0)).bind fun a30 =>
      (ix_rI (cal 198 [ix_R (some a30), ix_R (ix_aR h a2 v1.toNatClampNeg)] h6)).bind fun r29 =>
      jX4_steps_71 cal K (ix_aR h a2 v1.toNatClampNeg) (ix_aR h a2 v1.toNatClampNeg) r29.1 r29.2
    else
    if (ix_fI h6 a7 3) = nI 11 then
      (ix_isr h6 5 (some v0)).bind fun a32 =>
      (ix_rI (cal 199 [ix_R (some a32), ix_R (ix_aR h a2 v1.toNatClampNeg)] h6)).bind fun r31 =>
      jX4_steps_71 cal K (ix_aR h a2 v1.toNatClampNeg) (ix_aR h a2 v1.toNatClampNeg) r31.1 r31.2
    else
    if (ix_fI h6 a7 3) = nI 12 then
      (ix_isr h6 5 (some v0)).bind fun a34 =>
      (ix_rI (cal 200 [ix_R (some a34), ix_R (ix_aR h a2 v1.toNatClampNeg)] h6)).bind fun r33 =>
      jX4_steps_71 cal K (ix_aR h a2 v1.toNatClampNeg) (ix_aR h a2 v1.toNatClampNeg) r33.1 r33.2
    else
      (ix_isr h6 5 (some v0)).bind fun a36 =>
      (ix_rI (cal 201 [ix_R (some a36), ix_R (ix_aR h a2 v1.toNatClampNeg)] h6)).bind fun r35 =>
      jX4_steps_71 cal K (ix_aR h a2 v1.toNatClampNeg) (ix_aR h a2 v1.toNatClampNeg) r35.1 r35.2
theorem eX4_steps (cal : ix_C) (K : ix_K) (v0 : Nat) (v1 : Int32) (h : ix_H) : ix_fwd cal K stX4_steps 0 [(0, ix_R (some v0)), (1, ix_I v1)] [] h = bX4_steps cal K v0 v1 h := rfl
theorem rX4_steps (N d : Nat) (v0 : Nat) (v1 : Int32) (h : ix_H) : ix_run iy_P N (d + 1) 180 [ix_R (some v0), ix_I v1] h = bX4_steps (ix_run iy_P N d) (ix_lp (ix_run iy_P N d) stX4_steps N) v0 v1 h := (rfl : ix_run iy_P N (d + 1) 180 [ix_R (some v0), ix_I v1] h = ix_fwd (ix_run iy_P N d) (ix_lp (ix_run iy_P N d) stX4_steps N) stX4_steps 0 [(0, ix_R (some v0)), (1, ix_I v1)] [] h).trans (eX4_steps _ _ v0 v1 h)
def bX4_finds (cal : ix_C) (K : ix_K) (v0 : Nat) (v1 : Option Nat) (h : ix_H) : ix_O :=
  (ix_isr h 5 (some v0)).bind fun a2 =>
  (ix_rR (cal 182 [ix_R (some a2)] h)).bind fun r1 =>
  (ix_is r1.2 6 r1.1).bind fun a3 =>
  (ix_is r1.2 7 v1).bind fun a4 =>
  (ix_isr r1.2 6 r1.1).bind fun a6 =>
  (ix_rI (cal 216 [ix_R (some a6), ix_I (ix_fI r1.2 a4 1)] r1.2)).bind fun r5 =>
  (ix_atr r5.2 101 (ix_fR r1.2 a3 1) r5.1).bind fun a7 =>
  (ix_is r5.2 7 v1).bind fun a8 =>
  ix_bd (ix_wfI r5.2 a8 4 (ix_aI r5.2 a7 r5.1.toNatClampNeg)) fun h9 =>
  some (.inl (some (ix_I (nI 2))), h9)
theorem eX4_finds (cal : ix_C) (K : ix_K) (v0 : Nat) (v1 : Option Nat) (h : ix_H) : ix_fwd cal K stX4_finds 0 [(0, ix_R (some v0)), (1, ix_R v1)] [] h = bX4_finds cal K v0 v1 h := rfl
theorem rX4_finds (N d : Nat) (v0 : Nat) (v1 : Option Nat) (h : ix_H) : ix_run iy_P N (d + 1) 181 [ix_R (some v0), ix_R v1] h = bX4_finds (ix_run iy_P N d) (ix_lp (ix_run iy_P N d) stX4_finds N) v0 v1 h := (rfl : ix_run iy_P N (d + 1) 181 [ix_R (some v0), ix_R v1] h = ix_fwd (ix_run iy_P N d) (ix_lp (ix_run iy_P N d) stX4_finds N) stX4_finds 0 [(0, ix_R (some v0)), (1, ix_R v1)] [] h).trans (eX4_finds _ _ v0 v1 h)
def bX4_bounds (cal : ix_C) (K : ix_K) (v0 : Nat) (h : ix_H) : ix_O :=
  (ix_is h 5 (some v0)).bind fun a1 =>
  (ix_isr h 5 (some v0)).bind fun a3 =>
  (ix_rV (cal 175 [ix_R (some a3), ix_I (nI 0), ix_R (ix_fR h a1 10)] h)).bind fun r2 =>
  (ix_is r2 5 (some v0)).bind fun a4 =>
  some (.inl (some (ix_R (ix_fR r2 a4 10))), r2)
theorem eX4_bounds (cal : ix_C) (K : ix_K) (v0 : Nat) (h : ix_H) : ix_fwd cal K stX4_bounds 0 [(0, ix_R (some v0))] [] h = bX4_bounds cal K v0 h := rfl
theorem rX4_bounds (N d : Nat) (v0 : Nat) (h : ix_H) : ix_run iy_P N (d + 1) 182 [ix_R (some v0)] h = bX4_bounds (ix_run iy_P N d) (ix_lp (ix_run iy_P N d) stX4_bounds N) v0 h := (rfl : ix_run iy_P N (d + 1) 182 [ix_R (some v0)] h = ix_fwd (ix_run iy_P N d) (ix_lp (ix_run iy_P N d) stX4_bounds N) stX4_bounds 0 [(0, ix_R (some v0))] [] h).trans (eX4_bounds _ _ v0 h)
def jX4_reads_105 (cal : ix_C) (K : ix_K) (v0 : Nat) (v1 : Option Nat) (h : ix_H) : ix_O :=
  (ix_is h 5 (some v0)).bind fun a21 =>
  (ix_is h 7 v1).bind fun a22 =>
  (ix_atr h 101 (ix_fR h a21 1) (ix_fI h a22 4)).bind fun a23 =>
  (ix_is h 7 v1).bind fun a24 =>
  ix_bd (ix_wfI h a24 5 (ix_aI h a23 (ix_fI h a22 4).toNatClampNeg)) fun h25 =>
  some (.inl (some (ix_I (nI 3))), h25)
theorem jX4_reads_105_eq (cal : ix_C) (K : ix_K) (v0 : Nat) (v1 : Option Nat) (h : ix_H) : ix_fwd cal K (stX4_reads.drop 105) 0 [(0, ix_R (some v0)), (1, ix_R v1)] [] h = jX4_reads_105 cal K v0 v1 h := rfl
def jX4_reads_82 (cal : ix_C) (K : ix_K) (v0 : Nat) (v1 : Option Nat) (v2 : Int32) (h : ix_H) : ix_O :=
  (ix_is h 7 v1).bind fun a17 =>
  (ix_isr h 5 (some v0)).bind fun a19 =>
  (ix_rI (cal 187 [ix_R (some a19), ix_I (ix_fI h a17 4)] h)).bind fun r18 =>
  if r18.1 < (nI 24) then
    (ix_is r18.2 7 v1).bind fun a20 =>
    if (ix_fI r18.2 a20 0) = (nI 1) then
      if nI 0 ≤ v2 then
        jX4_reads_105 cal K v0 v1 r18.2
      else
        (ix_isr r18.2 5 (some v0)).bind fun a27 =>
        (ix_rI (cal 174 [ix_R (some a27)] r18.2)).bind fun r26 =>
        if r26.1 < (nI 40) then
          jX4_reads_105 cal K v0 v1 r26.2
        else
          (ix_isr r26.2 7 v1).bind fun a29 =>
          (ix_rI (cal 220 [ix_R (some a29), ix_I (-3 : Int32)] r26.2)).bind fun r28 =>
          some (.inl (some (ix_I r28.1)), r28.2)
    else
      jX4_reads_105 cal K v0 v1 r18.2
  else
    some (.inl (some (ix_I (nI 4))), r18.2)
theorem jX4_reads_82_eq (cal : ix_C) (K : ix_K) (v0 : Nat) (v1 : Option Nat) (v2 : Int32) (h : ix_H) : ix_fwd cal K (stX4_reads.drop 82) 0 [(0, ix_R (some v0)), (1, ix_R v1), (2, ix_I v2)] [] h = jX4_reads_82 cal K v0 v1 v2 h := rfl
def jX4_reads_69 (cal : ix_C) (K : ix_K) (s0 : Option Nat) (s1 : Int32) (h : ix_H) : ix_O :=
  (ix_isr h 7 s0).bind fun a36 =>
  (ix_rI (cal 220 [ix_R (some a36), ix_I s1] h)).bind fun r35 =>
  some (.inl (some (ix_I r35.1)), r35.2)
theorem jX4_reads_69_eq (cal : ix_C) (K : ix_K) (s0 : Option Nat) (s1 : Int32) (h : ix_H) : ix_fwd cal K (stX4_reads.drop 69) 0 [] [ix_I s1, ix_R s0] h = jX4_reads_69 cal K s0 s1 h := rfl
def bX4_reads (cal : ix_C) (K : ix_K) (v0 : Nat) (v1 : Option Nat) (h : ix_H) : ix_O :=
  (ix_is h 7 v1).bind fun a1 =>
  (ix_isr h 5 (some v0)).bind fun a3 =>
  (ix_rI (cal 184 [ix_R (some a3), ix_I (ix_fI h a1 4)] h)).bind fun r2 =>
  if r2.1 = nI 0 then
    (ix_is r2.2 7 v1).bind fun a4 =>
    (ix_is r2.2 5 (some v0)).bind fun a5 =>
    (ix_isr r2.2 5 (some v0)).bind fun a7 =>
    (ix_rV (cal 175 [ix_R (some a7), ix_I (ix_fI r2.2 a4 4), ix_R (ix_fR r2.2 a5 9)] r2.2)).bind fun r6 =>
    (ix_is r6 7 v1).bind fun a8 =>
    (ix_is r6 5 (some v0)).bind fun a9 =>
    (ix_is r6 6 (ix_fR r6 a9 9)).bind fun a10 =>
    if (ix_fI r6 a8 1) < (ix_fI r6 a10 4) then
      (ix_is r6 5 (some v0)).bind fun a11 =>
      (ix_is r6 7 v1).bind fun a12 =>
      (ix_isr r6 6 (ix_fR r6 a11 9)).bind fun a14 =>
      (ix_rI (cal 210 [ix_R (some a14), ix_I (ix_fI r6 a12 1)] r6)).bind fun r13 =>
      (ix_is r13.2 7 v1).bind fun a15 =>
      if (ix_fI r13.2 a15 0) = (nI 3) then
        if nI 0 ≤ r13.1 then
          (ix_is r13.2 5 (some v0)).bind fun a32 =>
          (ix_is r13.2 6 (ix_fR r13.2 a32 9)).bind fun a33 =>
          (ix_atr r13.2 101 (ix_fR r13.2 a33 1) r13.1).bind fun a34 =>
          jX4_reads_69 cal K v1 (ix_aI r13.2 a34 r13.1.toNatClampNeg) r13.2
        else
          jX4_reads_69 cal K v1 (nI 0) r13.2
      else
        (ix_is r13.2 7 v1).bind fun a16 =>
        if (ix_fI r13.2 a16 0) = (nI 2) then
          if nI 0 ≤ r13.1 then
            jX4_reads_82 cal K v0 v1 r13.1 r13.2
          else
            (ix_isr r13.2 7 v1).bind fun a31 =>
            (ix_rI (cal 220 [ix_R (some a31), ix_I (nI 0)] r13.2)).bind fun r30 =>
            some (.inl (some (ix_I r30.1)), r30.2)
        else
          jX4_reads_82 cal K v0 v1 r13.1 r13.2
    else
      (ix_is r6 5 (some v0)).bind fun a37 =>
      (ix_is r6 6 (ix_fR r6 a37 9)).bind fun a38 =>
      (ix_is r6 5 (some v0)).bind fun a39 =>
      (ix_is r6 6 (ix_fR r6 a39 9)).bind fun a40 =>
      (ix_isr r6 5 (some v0)).bind fun a42 =>
      (ix_rI (cal 185 [ix_R (some a42), ix_I (ix_fI r6 a38 4), ix_I (ix_fI r6 a40 5)] r6)).bind fun r41 =>
      if r41.1 = nI 0 then
        (ix_is r41.2 5 (some v0)).bind fun a47 =>
        (ix_is r41.2 6 (ix_fR r41.2 a47 9)).bind fun a48 =>
        (ix_is r41.2 5 (some v0)).bind fun a49 =>
        (ix_is r41.2 6 (ix_fR r41.2 a49 9)).bind fun a50 =>
        (ix_isr r41.2 5 (some v0)).bind fun a52 =>
        (ix_rI (cal 186 [ix_R (some a52), ix_R v1, ix_I (ix_fI r41.2 a48 4), ix_I (ix_fI r41.2 a50 5)] r41.2)).bind fun r51 =>
        some (.inl (some (ix_I r51.1)), r51.2)
      else
        (ix_is r41.2 5 (some v0)).bind fun a43 =>
        (ix_is r41.2 6 (ix_fR r41.2 a43 9)).bind fun a44 =>
        (ix_is r41.2 7 v1).bind fun a45 =>
        ix_bd (ix_wfI r41.2 a45 4 (ix_fI r41.2 a44 5)) fun h46 =>
        some (.inl (some (ix_I (nI 2))), h46)
  else
    (ix_is r2.2 7 v1).bind fun a53 =>
    (ix_is r2.2 7 v1).bind fun a54 =>
    ix_bd (ix_wfI r2.2 a54 9 (ix_fI r2.2 a53 4)) fun h55 =>
    some (.inl (some (ix_I (nI 10))), h55)
theorem eX4_reads (cal : ix_C) (K : ix_K) (v0 : Nat) (v1 : Option Nat) (h : ix_H) : ix_fwd cal K stX4_reads 0 [(0, ix_R (some v0)), (1, ix_R v1)] [] h = bX4_reads cal K v0 v1 h := rfl
theorem rX4_reads (N d : Nat) (v0 : Nat) (v1 : Option Nat) (h : ix_H) : ix_run iy_P N (d + 1) 183 [ix_R (some v0), ix_R v1] h = bX4_reads (ix_run iy_P N d) (ix_lp (ix_run iy_P N d) stX4_reads N) v0 v1 h := (rfl : ix_run iy_P N (d + 1) 183 [ix_R (some v0), ix_R v1] h = ix_fwd (ix_run iy_P N d) (ix_lp (ix_run iy_P N d) stX4_reads N) stX4_reads 0 [(0, ix_R (some v0)), (1, ix_R v1)] [] h).trans (eX4_reads _ _ v0 v1 h)
def jX4_isGone_13 (cal : ix_C) (K : ix_K) (s0 : Int32) (h : ix_H) : ix_O :=
  cond (ix_okn 1 s0) (some (.inl (some (ix_I s0)), h)) none
theorem jX4_isGone_13_eq (cal : ix_C) (K : ix_K) (s0 : Int32) (h : ix_H) : ix_fwd cal K (stX4_isGone.drop 13) 0 [] [ix_I s0] h = jX4_isGone_13 cal K s0 h := rfl
def bX4_isGone (cal : ix_C) (K : ix_K) (v0 : Nat) (v1 : Int32) (h : ix_H) : ix_O :=
  (ix_is h 5 (some v0)).bind fun a1 =>
  (ix_is h 5 (some v0)).bind fun a2 =>
  (ix_atr h 101 (ix_fR h a2 1) v1).bind fun a3 =>
  (ix_atr h 111 (ix_fR h a1 0) (ix_aI h a3 v1.toNatClampNeg)).bind fun a4 =>
  (ix_is h 6 (ix_aR h a4 (ix_aI h a3 v1.toNatClampNeg).toNatClampNeg)).bind fun a5 =>
  if (ix_fI h a5 2) = (nI 4) then
    jX4_isGone_13 cal K (nI 1) h
  else
    jX4_isGone_13 cal K (nI 0) h
theorem eX4_isGone (cal : ix_C) (K : ix_K) (v0 : Nat) (v1 : Int32) (h : ix_H) : ix_fwd cal K stX4_isGone 0 [(0, ix_R (some v0)), (1, ix_I v1)] [] h = bX4_isGone cal K v0 v1 h := rfl
theorem rX4_isGone (N d : Nat) (v0 : Nat) (v1 : Int32) (h : ix_H) : ix_run iy_P N (d + 1) 184 [ix_R (some v0), ix_I v1] h = bX4_isGone (ix_run iy_P N d) (ix_lp (ix_run iy_P N d) stX4_isGone N) v0 v1 h := (rfl : ix_run iy_P N (d + 1) 184 [ix_R (some v0), ix_I v1] h = ix_fwd (ix_run iy_P N d) (ix_lp (ix_run iy_P N d) stX4_isGone N) stX4_isGone 0 [(0, ix_R (some v0)), (1, ix_I v1)] [] h).trans (eX4_isGone _ _ v0 v1 h)
def jX4_isNoted_18 (cal : ix_C) (K : ix_K) (s0 : Int32) (h : ix_H) : ix_O :=
  cond (ix_okn 1 s0) (some (.inl (some (ix_I s0)), h)) none
theorem jX4_isNoted_18_eq (cal : ix_C) (K : ix_K) (s0 : Int32) (h : ix_H) : ix_fwd cal K (stX4_isNoted.drop 18) 0 [] [ix_I s0] h = jX4_isNoted_18 cal K s0 h := rfl
def jX4_isNoted_16 (cal : ix_C) (K : ix_K) (h : ix_H) : ix_O :=
  jX4_isNoted_18 cal K (nI 0) h
theorem jX4_isNoted_16_eq (cal : ix_C) (K : ix_K) (h : ix_H) : ix_fwd cal K (stX4_isNoted.drop 16) 0 [] [] h = jX4_isNoted_16 cal K h := rfl
def bX4_isNoted (cal : ix_C) (K : ix_K) (v0 : Nat) (v1 : Int32) (v2 : Int32) (h : ix_H) : ix_O :=
  (ix_isr h 5 (some v0)).bind fun a2 =>
  (ix_rR (cal 182 [ix_R (some a2)] h)).bind fun r1 =>
  (ix_isr r1.2 6 r1.1).bind fun a4 =>
  (ix_rI (cal 210 [ix_R (some a4), ix_I v1] r1.2)).bind fun r3 =>
  if r3.1 < nI 0 then
    jX4_isNoted_16 cal K r3.2
  else
    (ix_is r3.2 5 (some v0)).bind fun a5 =>
    (ix_is r3.2 6 (ix_fR r3.2 a5 10)).bind fun a6 =>
    (ix_atr r3.2 101 (ix_fR r3.2 a6 1) r3.1).bind fun a7 =>
    if (ix_aI r3.2 a7 r3.1.toNatClampNeg) = v2 then
      jX4_isNoted_18 cal K (nI 1) r3.2
    else
      jX4_isNoted_16 cal K r3.2
theorem eX4_isNoted (cal : ix_C) (K : ix_K) (v0 : Nat) (v1 : Int32) (v2 : Int32) (h : ix_H) : ix_fwd cal K stX4_isNoted 0 [(0, ix_R (some v0)), (1, ix_I v1), (2, ix_I v2)] [] h = bX4_isNoted cal K v0 v1 v2 h := rfl
theorem rX4_isNoted (N d : Nat) (v0 : Nat) (v1 : Int32) (v2 : Int32) (h : ix_H) : ix_run iy_P N (d + 1) 185 [ix_R (some v0), ix_I v1, ix_I v2] h = bX4_isNoted (ix_run iy_P N d) (ix_lp (ix_run iy_P N d) stX4_isNoted N) v0 v1 v2 h := (rfl : ix_run iy_P N (d + 1) 185 [ix_R (some v0), ix_I v1, ix_I v2] h = ix_fwd (ix_run iy_P N d) (ix_lp (ix_run iy_P N d) stX4_isNoted N) stX4_isNoted 0 [(0, ix_R (some v0)), (1, ix_I v1), (2, ix_I v2)] [] h).trans (eX4_isNoted _ _ v0 v1 v2 h)
def bX4_noting (cal : ix_C) (K : ix_K) (v0 : Nat) (v1 : Option Nat) (v2 : Int32) (v3 : Int32) (h : ix_H) : ix_O :=
  (ix_is h 7 v1).bind fun a1 =>
  ix_bd (ix_wfI h a1 7 v2) fun h2 =>
  (ix_is h2 7 v1).bind fun a3 =>
  ix_bd (ix_wfI h2 a3 8 v3) fun h4 =>
  some (.inl (some (ix_I (nI 7))), h4)
theorem eX4_noting (cal : ix_C) (K : ix_K) (v0 : Nat) (v1 : Option Nat) (v2 : Int32) (v3 : Int32) (h : ix_H) : ix_fwd cal K stX4_noting 0 [(0, ix_R (some v0)), (1, ix_R v1), (2, ix_I v2), (3, ix_I v3)] [] h = bX4_noting cal K v0 v1 v2 v3 h := rfl
theorem rX4_noting (N d : Nat) (v0 : Nat) (v1 : Option Nat) (v2 : Int32) (v3 : Int32) (h : ix_H) : ix_run iy_P N (d + 1) 186 [ix_R (some v0), ix_R v1, ix_I v2, ix_I v3] h = bX4_noting (ix_run iy_P N d) (ix_lp (ix_run iy_P N d) stX4_noting N) v0 v1 v2 v3 h := (rfl : ix_run iy_P N (d + 1) 186 [ix_R (some v0), ix_R v1, ix_I v2, ix_I v3] h = ix_fwd (ix_run iy_P N d) (ix_lp (ix_run iy_P N d) stX4_noting N) stX4_noting 0 [(0, ix_R (some v0)), (1, ix_R v1), (2, ix_I v2), (3, ix_I v3)] [] h).trans (eX4_noting _ _ v0 v1 v2 v3 h)
def jX4_length_7 (cal : ix_C) (K : ix_K) (v0 : Nat) (v2 : Int32) (v3 : Int32) (h : ix_H) : ix_O :=
  (ix_is h 5 (some v0)).bind fun a3 =>
  (ix_atr h 111 (ix_fR h a3 0) v3).bind fun a4 =>
  (ix_is h 6 (ix_aR h a4 v3.toNatClampNeg)).bind fun a5 =>
  if (ix_fI h a5 2) = nI 0 then
    some (.inl (some (ix_I v2)), h)
  else
    (ix_is h 5 (some v0)).bind fun a6 =>
    (ix_atr h 111 (ix_fR h a6 0) v3).bind fun a7 =>
    (ix_is h 6 (ix_aR h a7 v3.toNatClampNeg)).bind fun a8 =>
    K 7 [(0, ix_R (some v0)), (2, ix_I (v2 + (nI 1))), (3, ix_I (ix_fI h a8 8))] [] h
theorem jX4_length_7_eq (cal : ix_C) (K : ix_K) (v0 : Nat) (v2 : Int32) (v3 : Int32) (h : ix_H) : ix_fwd cal K (stX4_length.drop 7) 0 [(0, ix_R (some v0)), (2, ix_I v2), (3, ix_I v3)] [] h = jX4_length_7 cal K v0 v2 v3 h := rfl
def bX4_length (cal : ix_C) (K : ix_K) (v0 : Nat) (v1 : Int32) (h : ix_H) : ix_O :=
  (ix_is h 5 (some v0)).bind fun a1 =>
  (ix_atr h 101 (ix_fR h a1 1) v1).bind fun a2 =>
  jX4_length_7 cal K v0 (nI 0) (ix_aI h a2 v1.toNatClampNeg) h
theorem eX4_length (cal : ix_C) (K : ix_K) (v0 : Nat) (v1 : Int32) (h : ix_H) : ix_fwd cal K stX4_length 0 [(0, ix_R (some v0)), (1, ix_I v1)] [] h = bX4_length cal K v0 v1 h := rfl
theorem rX4_length (N d : Nat) (v0 : Nat) (v1 : Int32) (h : ix_H) : ix_run iy_P N (d + 1) 187 [ix_R (some v0), ix_I v1] h = bX4_length (ix_run iy_P N d) (ix_lp (ix_run iy_P N d) stX4_length N) v0 v1 h := (rfl : ix_run iy_P N (d + 1) 187 [ix_R (some v0), ix_I v1] h = ix_fwd (ix_run iy_P N d) (ix_lp (ix_run iy_P N d) stX4_length N) stX4_length 0 [(0, ix_R (some v0)), (1, ix_I v1)] [] h).trans (eX4_length _ _ v0 v1 h)
theorem lX4_length_7 (cal : ix_C) (n : Nat) (v0 : Nat) (v2 : Int32) (v3 : Int32) (h : ix_H) : ix_lp cal stX4_length (n + 1) 7 [(0, ix_R (some v0)), (2, ix_I v2), (3, ix_I v3)] [] h = jX4_length_7 cal (ix_lp cal stX4_length n) v0 v2 v3 h := jX4_length_7_eq cal (ix_lp cal stX4_length n) v0 v2 v3 h
def jX4_prepends_66 (cal : ix_C) (K : ix_K) (s0 : Int32) (h : ix_H) : ix_O :=
  some (.inl (some (ix_I s0)), h)
theorem jX4_prepends_66_eq (cal : ix_C) (K : ix_K) (s0 : Int32) (h : ix_H) : ix_fwd cal K (stX4_prepends.drop 66) 0 [] [ix_I s0] h = jX4_prepends_66 cal K s0 h := rfl
def jX4_prepends_50 (cal : ix_C) (K : ix_K) (v0 : Nat) (v1 : Option Nat) (s0 : Option Nat) (s1 : Int32) (s2 : Option Nat) (s3 : Int32) (s4 : Int32) (s5 : Int32) (h : ix_H) : ix_O :=
  (ix_is h 7 v1).bind fun a22 =>
  (ix_isr h 5 s2).bind fun a24 =>
  (ix_rI (cal 173 [ix_R (some a24), ix_I s3, ix_I s4, ix_I s5, ix_I (ix_fI h a22 5)] h)).bind fun r23 =>
  (ix_at r23.2 101 s0 s1).bind fun a25 =>
  ix_bd (ix_waI r23.2 a25 s1.toNatClampNeg r23.1) fun h26 =>
  (ix_is h26 7 v1).bind fun a27 =>
  (ix_isr h26 5 (some v0)).bind fun a29 =>
  (ix_rI (cal 187 [ix_R (some a29), ix_I (ix_fI h26 a27 4)] h26)).bind fun r28 =>
  (ix_is r28.2 5 (some v0)).bind fun a30 =>
  if r28.1 ≤ (ix_fI r28.2 a30 6) then
    (ix_isr r28.2 7 v1).bind fun a32 =>
    (ix_rI (cal 221 [ix_R (some a32)] r28.2)).bind fun r31 =>
    jX4_prepends_66 cal K r31.1 r31.2
  else
    jX4_prepends_66 cal K (nI 4) r28.2
theorem jX4_prepends_50_eq (cal : ix_C) (K : ix_K) (v0 : Nat) (v1 : Option Nat) (s0 : Option Nat) (s1 : Int32) (s2 : Option Nat) (s3 : Int32) (s4 : Int32) (s5 : Int32) (h : ix_H) : ix_fwd cal K (stX4_prepends.drop 50) 0 [(0, ix_R (some v0)), (1, ix_R v1)] [ix_I s5, ix_I s4, ix_I s3, ix_R s2, ix_I s1, ix_R s0] h = jX4_prepends_50 cal K v0 v1 s0 s1 s2 s3 s4 s5 h := rfl
def jX4_prepends_28 (cal : ix_C) (K : ix_K) (v0 : Nat) (v1 : Option Nat) (s0 : Option Nat) (s1 : Int32) (h : ix_H) : ix_O :=
  (ix_is h 7 s0).bind fun a13 =>
  ix_bd (ix_wfI h a13 14 s1) fun h14 =>
  (ix_is h14 7 v1).bind fun a15 =>
  cond (ix_okn 1 (nI 1)) (
  ix_bd (ix_wfI h14 a15 15 (nI 1)) fun h16 =>
    (ix_is h16 5 (some v0)).bind fun a17 =>
    (ix_is h16 7 v1).bind fun a18 =>
    (ix_is h16 7 v1).bind fun a19 =>
    (ix_is h16 7 v1).bind fun a20 =>
    (ix_is h16 7 v1).bind fun a21 =>
    if (ix_fI h16 a21 0) = (nI 1) then
      (ix_is h16 7 v1).bind fun a33 =>
      jX4_prepends_50 cal K v0 v1 (ix_fR h16 a17 1) (ix_fI h16 a18 4) (some v0) (ix_fI h16 a19 0) (ix_fI h16 a20 1) (ix_fI h16 a33 2) h16
    else
      jX4_prepends_50 cal K v0 v1 (ix_fR h16 a17 1) (ix_fI h16 a18 4) (some v0) (ix_fI h16 a19 0) (ix_fI h16 a20 1) (-2 : Int32) h16) none
theorem jX4_prepends_28_eq (cal : ix_C) (K : ix_K) (v0 : Nat) (v1 : Option Nat) (s0 : Option Nat) (s1 : Int32) (h : ix_H) : ix_fwd cal K (stX4_prepends.drop 28) 0 [(0, ix_R (some v0)), (1, ix_R v1)] [ix_I s1, ix_R s0] h = jX4_prepends_28 cal K v0 v1 s0 s1 h := rfl
def bX4_prepends (cal : ix_C) (K : ix_K) (v0 : Nat) (v1 : Option Nat) (h : ix_H) : ix_O :=
  (ix_is h 5 (some v0)).bind fun a1 =>
  (ix_is h 7 v1).bind fun a2 =>
  (ix_atr h 101 (ix_fR h a1 1) (ix_fI h a2 4)).bind fun a3 =>
  (ix_is h 7 v1).bind fun a4 =>
  if (ix_aI h a3 (ix_fI h a2 4).toNatClampNeg) = (ix_fI h a4 5) then
    (ix_is h 7 v1).bind fun a5 =>
    (ix_is h 5 (some v0)).bind fun a6 =>
    (ix_isr h 5 (some v0)).bind fun a8 =>
    (ix_rV (cal 175 [ix_R (some a8), ix_I (ix_fI h a5 4), ix_R (ix_fR h a6 9)] h)).bind fun r7 =>
    (ix_is r7 5 (some v0)).bind fun a9 =>
    (ix_is r7 7 v1).bind fun a10 =>
    (ix_isr r7 6 (ix_fR r7 a9 9)).bind fun a12 =>
    (ix_rI (cal 210 [ix_R (some a12), ix_I (ix_fI r7 a10 1)] r7)).bind fun r11 =>
    if r11.1 < nI 0 then
      jX4_prepends_28 cal K v0 v1 v1 (nI 0) r11.2
    else
      jX4_prepends_28 cal K v0 v1 v1 (nI 1) r11.2
  else
    (ix_isr h 7 v1).bind fun a35 =>
    (ix_rI (cal 222 [ix_R (some a35), ix_I (nI 2)] h)).bind fun r34 =>
    some (.inl (some (ix_I r34.1)), r34.2)
theorem eX4_prepends (cal : ix_C) (K : ix_K) (v0 : Nat) (v1 : Option Nat) (h : ix_H) : ix_fwd cal K stX4_prepends 0 [(0, ix_R (some v0)), (1, ix_R v1)] [] h = bX4_prepends cal K v0 v1 h := rfl
theorem rX4_prepends (N d : Nat) (v0 : Nat) (v1 : Option Nat) (h : ix_H) : ix_run iy_P N (d + 1) 188 [ix_R (some v0), ix_R v1] h = bX4_prepends (ix_run iy_P N d) (ix_lp (ix_run iy_P N d) stX4_prepends N) v0 v1 h := (rfl : ix_run iy_P N (d + 1) 188 [ix_R (some v0), ix_R v1] h = ix_fwd (ix_run iy_P N d) (ix_lp (ix_run iy_P N d) stX4_prepends N) stX4_prepends 0 [(0, ix_R (some v0)), (1, ix_R v1)] [] h).trans (eX4_prepends _ _ v0 v1 h)
def jX4_gathers_11 (cal : ix_C) (K : ix_K) (v0 : Nat) (v1 : Option Nat) (h : ix_H) : ix_O :=
  (ix_is h 5 (some v0)).bind fun a2 =>
  (ix_is h 7 v1).bind fun a3 =>
  (ix_atr h 101 (ix_fR h a2 1) (ix_fI h a3 4)).bind fun a4 =>
  (ix_is h 7 v1).bind fun a5 =>
  ix_bd (ix_wfI h a5 5 (ix_aI h a4 (ix_fI h a3 4).toNatClampNeg)) fun h6 =>
  some (.inl (some (ix_I (nI 5))), h6)
theorem jX4_gathers_11_eq (cal : ix_C) (K : ix_K) (v0 : Nat) (v1 : Option Nat) (h : ix_H) : ix_fwd cal K (stX4_gathers.drop 11) 0 [(0, ix_R (some v0)), (1, ix_R v1)] [] h = jX4_gathers_11 cal K v0 v1 h := rfl
def bX4_gathers (cal : ix_C) (K : ix_K) (v0 : Nat) (v1 : Option Nat) (h : ix_H) : ix_O :=
  (ix_is h 7 v1).bind fun a1 =>
  if (ix_fI h a1 4) ≤ nI 0 then
    jX4_gathers_11 cal K v0 v1 h
  else
    (ix_is h 7 v1).bind fun a7 =>
    (ix_isr h 5 (some v0)).bind fun a9 =>
    (ix_rI (cal 184 [ix_R (some a9), ix_I (ix_fI h a7 4)] h)).bind fun r8 =>
    if r8.1 = nI 0 then
      jX4_gathers_11 cal K v0 v1 r8.2
    else
      (ix_isr r8.2 7 v1).bind fun a11 =>
      (ix_rI (cal 223 [ix_R (some a11)] r8.2)).bind fun r10 =>
      some (.inl (some (ix_I r10.1)), r10.2)
theorem eX4_gathers (cal : ix_C) (K : ix_K) (v0 : Nat) (v1 : Option Nat) (h : ix_H) : ix_fwd cal K stX4_gathers 0 [(0, ix_R (some v0)), (1, ix_R v1)] [] h = bX4_gathers cal K v0 v1 h := rfl
theorem rX4_gathers (N d : Nat) (v0 : Nat) (v1 : Option Nat) (h : ix_H) : ix_run iy_P N (d + 1) 189 [ix_R (some v0), ix_R v1] h = bX4_gathers (ix_run iy_P N d) (ix_lp (ix_run iy_P N d) stX4_gathers N) v0 v1 h := (rfl : ix_run iy_P N (d + 1) 189 [ix_R (some v0), ix_R v1] h = ix_fwd (ix_run iy_P N d) (ix_lp (ix_run iy_P N d) stX4_gathers N) stX4_gathers 0 [(0, ix_R (some v0)), (1, ix_R v1)] [] h).trans (eX4_gathers _ _ v0 v1 h)
def jX4_swaps_70 (cal : ix_C) (K : ix_K) (s0 : Int32) (h : ix_H) : ix_O :=
  some (.inl (some (ix_I s0)), h)
theorem jX4_swaps_70_eq (cal : ix_C) (K : ix_K) (s0 : Int32) (h : ix_H) : ix_fwd cal K (stX4_swaps.drop 70) 0 [] [ix_I s0] h = jX4_swaps_70 cal K s0 h := rfl
def bX4_swaps (cal : ix_C) (K : ix_K) (v0 : Nat) (v1 : Option Nat) (h : ix_H) : ix_O :=
  (ix_is h 5 (some v0)).bind fun a1 =>
  (ix_is h 7 v1).bind fun a2 =>
  (ix_atr h 101 (ix_fR h a1 1) (ix_fI h a2 4)).bind fun a3 =>
  (ix_is h 7 v1).bind fun a4 =>
  if (ix_aI h a3 (ix_fI h a2 4).toNatClampNeg) = (ix_fI h a4 5) then
    (ix_is h 7 v1).bind fun a5 =>
    (ix_is h 5 (some v0)).bind fun a6 =>
    (ix_isr h 5 (some v0)).bind fun a8 =>
    (ix_rV (cal 175 [ix_R (some a8), ix_I (ix_fI h a5 4), ix_R (ix_fR h a6 9)] h)).bind fun r7 =>
    (ix_is r7 7 v1).bind fun a9 =>
    (ix_isr r7 5 (some v0)).bind fun a11 =>
    (ix_rV (cal 191 [ix_R (some a11), ix_I (ix_fI r7 a9 5)] r7)).bind fun r10 =>
    (ix_isr r10 5 (some v0)).bind fun a13 =>
    (ix_rI (cal 173 [ix_R (some a13), ix_I (nI 0), ix_I (-2 : Int32), ix_I (-2 : Int32), ix_I (-2 : Int32)] r10)).bind fun r12 =>
    (ix_is r12.2 7 v1).bind fun a14 =>
    ix_bd (ix_wfI r12.2 a14 6 r12.1) fun h15 =>
    (ix_is h15 5 (some v0)).bind fun a16 =>
    (ix_is h15 7 v1).bind fun a17 =>
    (ix_atr h15 111 (ix_fR h15 a16 0) (ix_fI h15 a17 6)).bind fun a18 =>
    (ix_is h15 5 (some v0)).bind fun a19 =>
    (ix_isr h15 6 (ix_aR h15 a18 (ix_fI h15 a17 6).toNatClampNeg)).bind fun a21 =>
    (ix_rV (cal 211 [ix_R (some a21), ix_R (ix_fR h15 a19 9)] h15)).bind fun r20 =>
    (ix_is r20 5 (some v0)).bind fun a22 =>
    (ix_is r20 7 v1).bind fun a23 =>
    (ix_is r20 7 v1).bind fun a24 =>
    (ix_at r20 101 (ix_fR r20 a22 1) (ix_fI r20 a23 4)).bind fun a25 =>
    ix_bd (ix_waI r20 a25 (ix_fI r20 a23 4).toNatClampNeg (ix_fI r20 a24 6)) fun h26 =>
    (ix_is h26 7 v1).bind fun a27 =>
    if (ix_fI h26 a27 4) = nI 0 then
      (ix_isr h26 7 v1).bind fun a37 =>
      (ix_rI (cal 223 [ix_R (some a37)] h26)).bind fun r36 =>
      some (.inl (some (ix_I r36.1)), r36.2)
    else
      (ix_is h26 5 (some v0)).bind fun a28 =>
      (ix_is h26 6 (ix_fR h26 a28 9)).bind fun a29 =>
      (ix_is h26 5 (some v0)).bind fun a30 =>
      if (ix_fI h26 a29 3) ≤ (ix_fI h26 a30 7) then
        (ix_is h26 5 (some v0)).bind fun a31 =>
        (ix_is h26 6 (ix_fR h26 a31 9)).bind fun a32 =>
        (ix_is h26 5 (some v0)).bind fun a33 =>
        if (ix_fI h26 a33 8) ≤ (ix_fI h26 a32 3) then
          (ix_isr h26 7 v1).bind fun a35 =>
          (ix_rI (cal 223 [ix_R (some a35)] h26)).bind fun r34 =>
          jX4_swaps_70 cal K r34.1 r34.2
        else
          jX4_swaps_70 cal K (nI 9) h26
      else
        jX4_swaps_70 cal K (nI 6) h26
  else
    (ix_isr h 7 v1).bind fun a39 =>
    (ix_rI (cal 223 [ix_R (some a39)] h)).bind fun r38 =>
    (ix_isr r38.2 7 v1).bind fun a41 =>
    (ix_rI (cal 222 [ix_R (some a41), ix_I r38.1] r38.2)).bind fun r40 =>
    some (.inl (some (ix_I r40.1)), r40.2)
theorem eX4_swaps (cal : ix_C) (K : ix_K) (v0 : Nat) (v1 : Option Nat) (h : ix_H) : ix_fwd cal K stX4_swaps 0 [(0, ix_R (some v0)), (1, ix_R v1)] [] h = bX4_swaps cal K v0 v1 h := rfl
theorem rX4_swaps (N d : Nat) (v0 : Nat) (v1 : Option Nat) (h : ix_H) : ix_run iy_P N (d + 1) 190 [ix_R (some v0), ix_R v1] h = bX4_swaps (ix_run iy_P N d) (ix_lp (ix_run iy_P N d) stX4_swaps N) v0 v1 h := (rfl : ix_run iy_P N (d + 1) 190 [ix_R (some v0), ix_R v1] h = ix_fwd (ix_run iy_P N d) (ix_lp (ix_run iy_P N d) stX4_swaps N) stX4_swaps 0 [(0, ix_R (some v0)), (1, ix_R v1)] [] h).trans (eX4_swaps _ _ v0 v1 h)
def jX4_retires_30 (cal : ix_C) (K : ix_K) (v0 : Nat) (v2 : Int32) (h : ix_H) : ix_O :=
  (ix_is h 5 (some v0)).bind fun a9 =>
  (ix_atr h 111 (ix_fR h a9 0) v2).bind fun a10 =>
  (ix_is h 6 (ix_aR h a10 v2.toNatClampNeg)).bind fun a11 =>
  K 2 [(0, ix_R (some v0)), (2, ix_I (ix_fI h a11 8))] [] h
theorem jX4_retires_30_eq (cal : ix_C) (K : ix_K) (v0 : Nat) (v2 : Int32) (h : ix_H) : ix_fwd cal K (stX4_retires.drop 30) 0 [(0, ix_R (some v0)), (2, ix_I v2)] [] h = jX4_retires_30 cal K v0 v2 h := rfl
def jX4_retires_2 (cal : ix_C) (K : ix_K) (v0 : Nat) (v2 : Int32) (h : ix_H) : ix_O :=
  if v2 < nI 0 then
    some (.inl none, h)
  else
    (ix_is h 5 (some v0)).bind fun a1 =>
    (ix_atr h 111 (ix_fR h a1 0) v2).bind fun a2 =>
    (ix_is h 5 (some v0)).bind fun a3 =>
    (ix_is h 6 (ix_aR h a2 v2.toNatClampNeg)).bind fun a4 =>
    ix_bd (ix_wfI h a4 10 (ix_fI h a3 5)) fun h5 =>
    (ix_is h5 5 (some v0)).bind fun a6 =>
    (ix_atr h5 111 (ix_fR h5 a6 0) v2).bind fun a7 =>
    (ix_is h5 6 (ix_aR h5 a7 v2.toNatClampNeg)).bind fun a8 =>
    if (ix_fI h5 a8 2) = (nI 5) then
      (ix_is h5 5 (some v0)).bind fun a12 =>
      (ix_is h5 5 (some v0)).bind fun a13 =>
      (ix_atr h5 111 (ix_fR h5 a13 0) v2).bind fun a14 =>
      (ix_is h5 6 (ix_aR h5 a14 v2.toNatClampNeg)).bind fun a15 =>
      (ix_atr h5 111 (ix_fR h5 a12 0) (ix_fI h5 a15 9)).bind fun a16 =>
      (ix_is h5 5 (some v0)).bind fun a17 =>
      (ix_is h5 6 (ix_aR h5 a16 (ix_fI h5 a15 9).toNatClampNeg)).bind fun a18 =>
      ix_bd (ix_wfI h5 a18 10 (ix_fI h5 a17 5)) fun h19 =>
      jX4_retires_30 cal K v0 v2 h19
    else
      jX4_retires_30 cal K v0 v2 h5
theorem jX4_retires_2_eq (cal : ix_C) (K : ix_K) (v0 : Nat) (v2 : Int32) (h : ix_H) : ix_fwd cal K (stX4_retires.drop 2) 0 [(0, ix_R (some v0)), (2, ix_I v2)] [] h = jX4_retires_2 cal K v0 v2 h := rfl
def bX4_retires (cal : ix_C) (K : ix_K) (v0 : Nat) (v1 : Int32) (h : ix_H) : ix_O :=
  jX4_retires_2 cal K v0 v1 h
theorem eX4_retires (cal : ix_C) (K : ix_K) (v0 : Nat) (v1 : Int32) (h : ix_H) : ix_fwd cal K stX4_retires 0 [(0, ix_R (some v0)), (1, ix_I v1)] [] h = bX4_retires cal K v0 v1 h := rfl
theorem rX4_retires (N d : Nat) (v0 : Nat) (v1 : Int32) (h : ix_H) : ix_run iy_P N (d + 1) 191 [ix_R (some v0), ix_I v1] h = bX4_retires (ix_run iy_P N d) (ix_lp (ix_run iy_P N d) stX4_retires N) v0 v1 h := (rfl : ix_run iy_P N (d + 1) 191 [ix_R (some v0), ix_I v1] h = ix_fwd (ix_run iy_P N d) (ix_lp (ix_run iy_P N d) stX4_retires N) stX4_retires 0 [(0, ix_R (some v0)), (1, ix_I v1)] [] h).trans (eX4_retires _ _ v0 v1 h)
theorem lX4_retires_2 (cal : ix_C) (n : Nat) (v0 : Nat) (v2 : Int32) (h : ix_H) : ix_lp cal stX4_retires (n + 1) 2 [(0, ix_R (some v0)), (2, ix_I v2)] [] h = jX4_retires_2 cal (ix_lp cal stX4_retires n) v0 v2 h := jX4_retires_2_eq cal (ix_lp cal stX4_retires n) v0 v2 h
def jX4_splits_12 (cal : ix_C) (K : ix_K) (v1 : Option Nat) (h : ix_H) : ix_O :=
  (ix_isr h 7 v1).bind fun a6 =>
  (ix_rI (cal 223 [ix_R (some a6)] h)).bind fun r5 =>
  some (.inl (some (ix_I r5.1)), r5.2)
theorem jX4_splits_12_eq (cal : ix_C) (K : ix_K) (v1 : Option Nat) (h : ix_H) : ix_fwd cal K (stX4_splits.drop 12) 0 [(1, ix_R v1)] [] h = jX4_splits_12 cal K v1 h := rfl
def jX4_splits_41 (cal : ix_C) (K : ix_K) (v0 : Nat) (v1 : Option Nat) (v2 : Option Nat) (v4 : Int32) (v5 : Option Nat) (v6 : Int32) (h : ix_H) : ix_O :=
  (ix_is h 6 v2).bind fun a16 =>
  if (ix_fI h a16 3) ≤ v6 then
    (ix_is h 6 v2).bind fun a17 =>
    (ix_is h 6 v5).bind fun a18 =>
    ix_bd (ix_wfI h a18 4 (ix_fI h a17 4)) fun h19 =>
    (ix_is h19 6 v2).bind fun a20 =>
    (ix_is h19 6 v5).bind fun a21 =>
    ix_bd (ix_wfI h19 a21 5 (ix_fI h19 a20 5)) fun h22 =>
    (ix_is h22 5 (some v0)).bind fun a23 =>
    (ix_is h22 5 (some v0)).bind fun a24 =>
    (ix_at h22 101 (ix_fR h22 a23 1) (ix_fI h22 a24 4)).bind fun a25 =>
    ix_bd (ix_waI h22 a25 (ix_fI h22 a24 4).toNatClampNeg v4) fun h26 =>
    (ix_is h26 5 (some v0)).bind fun a27 =>
    (ix_is h26 5 (some v0)).bind fun a28 =>
    ix_bd (ix_wfI h26 a28 4 ((ix_fI h26 a27 4) + (nI 1))) fun h29 =>
    (ix_is h29 5 (some v0)).bind fun a30 =>
    (ix_is h29 7 v1).bind fun a31 =>
    (ix_is h29 6 v5).bind fun a32 =>
    (ix_atr h29 101 (ix_fR h29 a32 0) (nI 0)).bind fun a33 =>
    (ix_is h29 5 (some v0)).bind fun a34 =>
    (ix_is h29 7 v1).bind fun a35 =>
    (ix_isr h29 5 (some v0)).bind fun a37 =>
    (ix_rI (cal 173 [ix_R (some a37), ix_I (nI 3), ix_I (ix_aI h29 a33 (nI 0).toNatClampNeg), ix_I ((ix_fI h29 a34 4) - (nI 1)), ix_I (ix_fI h29 a35 6)] h29)).bind fun r36 =>
    (ix_at r36.2 101 (ix_fR h29 a30 1) (ix_fI h29 a31 4)).bind fun a38 =>
    ix_bd (ix_waI r36.2 a38 (ix_fI h29 a31 4).toNatClampNeg r36.1) fun h39 =>
    (ix_is h39 6 v5).bind fun a40 =>
    (ix_atr h39 101 (ix_fR h39 a40 0) (nI 0)).bind fun a41 =>
    (ix_is h39 5 (some v0)).bind fun a42 =>
    (ix_isr h39 5 (some v0)).bind fun a44 =>
    (ix_rI (cal 186 [ix_R (some a44), ix_R v1, ix_I (ix_aI h39 a41 (nI 0).toNatClampNeg), ix_I ((ix_fI h39 a42 4) - (nI 1))] h39)).bind fun r43 =>
    some (.inl (some (ix_I r43.1)), r43.2)
  else
    (ix_is h 6 v2).bind fun a45 =>
    (ix_atr h 101 (ix_fR h a45 0) v6).bind fun a46 =>
    (ix_is h 6 v2).bind fun a47 =>
    (ix_atr h 101 (ix_fR h a47 1) v6).bind fun a48 =>
    (ix_isr h 6 v5).bind fun a50 =>
    (ix_rV (cal 209 [ix_R (some a50), ix_I (ix_aI h a46 v6.toNatClampNeg), ix_I (ix_aI h a48 v6.toNatClampNeg)] h)).bind fun r49 =>
    K 41 [(0, ix_R (some v0)), (1, ix_R v1), (2, ix_R v2), (4, ix_I v4), (5, ix_R v5), (6, ix_I (v6 + (nI 1)))] [] r49
theorem jX4_splits_41_eq (cal : ix_C) (K : ix_K) (v0 : Nat) (v1 : Option Nat) (v2 : Option Nat) (v4 : Int32) (v5 : Option Nat) (v6 : Int32) (h : ix_H) : ix_fwd cal K (stX4_splits.drop 41) 0 [(0, ix_R (some v0)), (1, ix_R v1), (2, ix_R v2), (4, ix_I v4), (5, ix_R v5), (6, ix_I v6)] [] h = jX4_splits_41 cal K v0 v1 v2 v4 v5 v6 h := rfl
def bX4_splits (cal : ix_C) (K : ix_K) (v0 : Nat) (v1 : Option Nat) (h : ix_H) : ix_O :=
  (ix_is h 5 (some v0)).bind fun a1 =>
  (ix_is h 7 v1).bind fun a2 =>
  (ix_atr h 101 (ix_fR h a1 1) (ix_fI h a2 4)).bind fun a3 =>
  (ix_is h 7 v1).bind fun a4 =>
  if (ix_aI h a3 (ix_fI h a2 4).toNatClampNeg) = (ix_fI h a4 6) then
    (ix_is h 5 (some v0)).bind fun a7 =>
    if (ix_fI h a7 4) = (nI 32) then
      jX4_splits_12 cal K v1 h
    else
      (ix_is h 5 (some v0)).bind fun a8 =>
      (ix_is h 7 v1).bind fun a9 =>
      (ix_atr h 111 (ix_fR h a8 0) (ix_fI h a9 6)).bind fun a10 =>
      (ix_is h 6 (ix_aR h a10 (ix_fI h a9 6).toNatClampNeg)).bind fun a11 =>
      if (nI 2) = nI 0 then none else
      (ix_isr h 5 (some v0)).bind fun a13 =>
      (ix_rI (cal 173 [ix_R (some a13), ix_I (nI 0), ix_I (-2 : Int32), ix_I (-2 : Int32), ix_I (-2 : Int32)] h)).bind fun r12 =>
      (ix_is r12.2 5 (some v0)).bind fun a14 =>
      (ix_atr r12.2 111 (ix_fR r12.2 a14 0) r12.1).bind fun a15 =>
      jX4_splits_41 cal K v0 v1 (ix_aR h a10 (ix_fI h a9 6).toNatClampNeg) r12.1 (ix_aR r12.2 a15 r12.1.toNatClampNeg) ((ix_fI h a11 3) / (nI 2)) r12.2
  else
    jX4_splits_12 cal K v1 h
theorem eX4_splits (cal : ix_C) (K : ix_K) (v0 : Nat) (v1 : Option Nat) (h : ix_H) : ix_fwd cal K stX4_splits 0 [(0, ix_R (some v0)), (1, ix_R v1)] [] h = bX4_splits cal K v0 v1 h := rfl
theorem rX4_splits (N d : Nat) (v0 : Nat) (v1 : Option Nat) (h : ix_H) : ix_run iy_P N (d + 1) 192 [ix_R (some v0), ix_R v1] h = bX4_splits (ix_run iy_P N d) (ix_lp (ix_run iy_P N d) stX4_splits N) v0 v1 h := (rfl : ix_run iy_P N (d + 1) 192 [ix_R (some v0), ix_R v1] h = ix_fwd (ix_run iy_P N d) (ix_lp (ix_run iy_P N d) stX4_splits N) stX4_splits 0 [(0, ix_R (some v0)), (1, ix_R v1)] [] h).trans (eX4_splits _ _ v0 v1 h)
theorem lX4_splits_41 (cal : ix_C) (n : Nat) (v0 : Nat) (v1 : Option Nat) (v2 : Option Nat) (v4 : Int32) (v5 : Option Nat) (v6 : Int32) (h : ix_H) : ix_lp cal stX4_splits (n + 1) 41 [(0, ix_R (some v0)), (1, ix_R v1), (2, ix_R v2), (4, ix_I v4), (5, ix_R v5), (6, ix_I v6)] [] h = jX4_splits_41 cal (ix_lp cal stX4_splits n) v0 v1 v2 v4 v5 v6 h := jX4_splits_41_eq cal (ix_lp cal stX4_splits n) v0 v1 v2 v4 v5 v6 h
def jX4_notes_19 (cal : ix_C) (K : ix_K) (v0 : Nat) (v1 : Option Nat) (v2 : Int32) (h : ix_H) : ix_O :=
  if v2 < nI 0 then
    (ix_is h 5 (some v0)).bind fun a6 =>
    (ix_atr h 101 (ix_fR h a6 1) (nI 0)).bind fun a7 =>
    (ix_is h 7 v1).bind fun a8 =>
    ix_bd (ix_wfI h a8 5 (ix_aI h a7 (nI 0).toNatClampNeg)) fun h9 =>
    some (.inl (some (ix_I (nI 8))), h9)
  else
    (ix_is h 5 (some v0)).bind fun a10 =>
    (ix_is h 6 (ix_fR h a10 10)).bind fun a11 =>
    (ix_atr h 101 (ix_fR h a11 1) v2).bind fun a12 =>
    (ix_is h 7 v1).bind fun a13 =>
    ix_bd (ix_wfI h a13 9 (ix_aI h a12 v2.toNatClampNeg)) fun h14 =>
    some (.inl (some (ix_I (nI 12))), h14)
theorem jX4_notes_19_eq (cal : ix_C) (K : ix_K) (v0 : Nat) (v1 : Option Nat) (v2 : Int32) (h : ix_H) : ix_fwd cal K (stX4_notes.drop 19) 0 [(0, ix_R (some v0)), (1, ix_R v1), (2, ix_I v2)] [] h = jX4_notes_19 cal K v0 v1 v2 h := rfl
def bX4_notes (cal : ix_C) (K : ix_K) (v0 : Nat) (v1 : Option Nat) (h : ix_H) : ix_O :=
  (ix_isr h 5 (some v0)).bind fun a2 =>
  (ix_rR (cal 182 [ix_R (some a2)] h)).bind fun r1 =>
  (ix_is r1.2 7 v1).bind fun a3 =>
  (ix_isr r1.2 6 r1.1).bind fun a5 =>
  (ix_rI (cal 210 [ix_R (some a5), ix_I (ix_fI r1.2 a3 7)] r1.2)).bind fun r4 =>
  if r4.1 < nI 0 then
    jX4_notes_19 cal K v0 v1 r4.1 r4.2
  else
    (ix_is r4.2 5 (some v0)).bind fun a15 =>
    (ix_is r4.2 6 (ix_fR r4.2 a15 10)).bind fun a16 =>
    (ix_atr r4.2 101 (ix_fR r4.2 a16 1) r4.1).bind fun a17 =>
    (ix_is r4.2 7 v1).bind fun a18 =>
    if (ix_aI r4.2 a17 r4.1.toNatClampNeg) = (ix_fI r4.2 a18 8) then
      (ix_isr r4.2 7 v1).bind fun a20 =>
      (ix_rI (cal 223 [ix_R (some a20)] r4.2)).bind fun r19 =>
      some (.inl (some (ix_I r19.1)), r19.2)
    else
      jX4_notes_19 cal K v0 v1 r4.1 r4.2
theorem eX4_notes (cal : ix_C) (K : ix_K) (v0 : Nat) (v1 : Option Nat) (h : ix_H) : ix_fwd cal K stX4_notes 0 [(0, ix_R (some v0)), (1, ix_R v1)] [] h = bX4_notes cal K v0 v1 h := rfl
theorem rX4_notes (N d : Nat) (v0 : Nat) (v1 : Option Nat) (h : ix_H) : ix_run iy_P N (d + 1) 193 [ix_R (some v0), ix_R v1] h = bX4_notes (ix_run iy_P N d) (ix_lp (ix_run iy_P N d) stX4_notes N) v0 v1 h := (rfl : ix_run iy_P N (d + 1) 193 [ix_R (some v0), ix_R v1] h = ix_fwd (ix_run iy_P N d) (ix_lp (ix_run iy_P N d) stX4_notes N) stX4_notes 0 [(0, ix_R (some v0)), (1, ix_R v1)] [] h).trans (eX4_notes _ _ v0 v1 h)
def bX4_enters (cal : ix_C) (K : ix_K) (v0 : Nat) (v1 : Option Nat) (h : ix_H) : ix_O :=
  (ix_is h 5 (some v0)).bind fun a1 =>
  (ix_atr h 101 (ix_fR h a1 1) (nI 0)).bind fun a2 =>
  (ix_is h 7 v1).bind fun a3 =>
  if (ix_aI h a2 (nI 0).toNatClampNeg) = (ix_fI h a3 5) then
    (ix_is h 5 (some v0)).bind fun a4 =>
    (ix_is h 7 v1).bind fun a5 =>
    (ix_is h 7 v1).bind fun a6 =>
    (ix_is h 7 v1).bind fun a7 =>
    (ix_isr h 5 (some v0)).bind fun a9 =>
    (ix_rI (cal 173 [ix_R (some a9), ix_I (nI 6), ix_I (ix_fI h a5 7), ix_I (ix_fI h a6 8), ix_I (ix_fI h a7 5)] h)).bind fun r8 =>
    (ix_at r8.2 101 (ix_fR h a4 1) (nI 0)).bind fun a10 =>
    ix_bd (ix_waI r8.2 a10 (nI 0).toNatClampNeg r8.1) fun h11 =>
    (ix_isr h11 5 (some v0)).bind fun a13 =>
    (ix_rI (cal 195 [ix_R (some a13), ix_R v1] h11)).bind fun r12 =>
    some (.inl (some (ix_I r12.1)), r12.2)
  else
    (ix_isr h 7 v1).bind fun a15 =>
    (ix_rI (cal 222 [ix_R (some a15), ix_I (nI 7)] h)).bind fun r14 =>
    some (.inl (some (ix_I r14.1)), r14.2)
theorem eX4_enters (cal : ix_C) (K : ix_K) (v0 : Nat) (v1 : Option Nat) (h : ix_H) : ix_fwd cal K stX4_enters 0 [(0, ix_R (some v0)), (1, ix_R v1)] [] h = bX4_enters cal K v0 v1 h := rfl
theorem rX4_enters (N d : Nat) (v0 : Nat) (v1 : Option Nat) (h : ix_H) : ix_run iy_P N (d + 1) 194 [ix_R (some v0), ix_R v1] h = bX4_enters (ix_run iy_P N d) (ix_lp (ix_run iy_P N d) stX4_enters N) v0 v1 h := (rfl : ix_run iy_P N (d + 1) 194 [ix_R (some v0), ix_R v1] h = ix_fwd (ix_run iy_P N d) (ix_lp (ix_run iy_P N d) stX4_enters N) stX4_enters 0 [(0, ix_R (some v0)), (1, ix_R v1)] [] h).trans (eX4_enters _ _ v0 v1 h)
def bX4_noted (cal : ix_C) (K : ix_K) (v0 : Nat) (v1 : Option Nat) (h : ix_H) : ix_O :=
  (ix_isr h 5 (some v0)).bind fun a2 =>
  (ix_rI (cal 187 [ix_R (some a2), ix_I (nI 0)] h)).bind fun r1 =>
  (ix_is r1.2 5 (some v0)).bind fun a3 =>
  if (ix_fI r1.2 a3 6) < r1.1 then
    (ix_is r1.2 7 v1).bind fun a4 =>
    ix_bd (ix_wfI r1.2 a4 4 (nI 0)) fun h5 =>
    some (.inl (some (ix_I (nI 4))), h5)
  else
    (ix_isr r1.2 7 v1).bind fun a7 =>
    (ix_rI (cal 223 [ix_R (some a7)] r1.2)).bind fun r6 =>
    some (.inl (some (ix_I r6.1)), r6.2)
theorem eX4_noted (cal : ix_C) (K : ix_K) (v0 : Nat) (v1 : Option Nat) (h : ix_H) : ix_fwd cal K stX4_noted 0 [(0, ix_R (some v0)), (1, ix_R v1)] [] h = bX4_noted cal K v0 v1 h := rfl
theorem rX4_noted (N d : Nat) (v0 : Nat) (v1 : Option Nat) (h : ix_H) : ix_run iy_P N (d + 1) 195 [ix_R (some v0), ix_R v1] h = bX4_noted (ix_run iy_P N d) (ix_lp (ix_run iy_P N d) stX4_noted N) v0 v1 h := (rfl : ix_run iy_P N (d + 1) 195 [ix_R (some v0), ix_R v1] h = ix_fwd (ix_run iy_P N d) (ix_lp (ix_run iy_P N d) stX4_noted N) stX4_noted 0 [(0, ix_R (some v0)), (1, ix_R v1)] [] h).trans (eX4_noted _ _ v0 v1 h)
def jX4_removes_13 (cal : ix_C) (K : ix_K) (v1 : Option Nat) (h : ix_H) : ix_O :=
  (ix_isr h 7 v1).bind fun a6 =>
  (ix_rI (cal 223 [ix_R (some a6)] h)).bind fun r5 =>
  some (.inl (some (ix_I r5.1)), r5.2)
theorem jX4_removes_13_eq (cal : ix_C) (K : ix_K) (v1 : Option Nat) (h : ix_H) : ix_fwd cal K (stX4_removes.drop 13) 0 [(1, ix_R v1)] [] h = jX4_removes_13 cal K v1 h := rfl
def bX4_removes (cal : ix_C) (K : ix_K) (v0 : Nat) (v1 : Option Nat) (h : ix_H) : ix_O :=
  (ix_is h 5 (some v0)).bind fun a1 =>
  (ix_is h 7 v1).bind fun a2 =>
  (ix_atr h 101 (ix_fR h a1 1) (ix_fI h a2 4)).bind fun a3 =>
  (ix_is h 7 v1).bind fun a4 =>
  if (ix_aI h a3 (ix_fI h a2 4).toNatClampNeg) = (ix_fI h a4 6) then
    (ix_is h 7 v1).bind fun a7 =>
    (ix_isr h 5 (some v0)).bind fun a9 =>
    (ix_rI (cal 197 [ix_R (some a9), ix_I (ix_fI h a7 4)] h)).bind fun r8 =>
    if nI 0 < r8.1 then
      (ix_is r8.2 5 (some v0)).bind fun a10 =>
      (ix_is r8.2 7 v1).bind fun a11 =>
      (ix_is r8.2 7 v1).bind fun a12 =>
      (ix_isr r8.2 5 (some v0)).bind fun a14 =>
      (ix_rI (cal 173 [ix_R (some a14), ix_I (nI 4), ix_I (-2 : Int32), ix_I (-2 : Int32), ix_I (ix_fI r8.2 a12 6)] r8.2)).bind fun r13 =>
      (ix_at r13.2 101 (ix_fR r8.2 a10 1) (ix_fI r8.2 a11 4)).bind fun a15 =>
      ix_bd (ix_waI r13.2 a15 (ix_fI r8.2 a11 4).toNatClampNeg r13.1) fun h16 =>
      (ix_is h16 7 v1).bind fun a17 =>
      (ix_is h16 7 v1).bind fun a18 =>
      ix_bd (ix_wfI h16 a18 9 (ix_fI h16 a17 4)) fun h19 =>
      some (.inl (some (ix_I (nI 10))), h19)
    else
      jX4_removes_13 cal K v1 r8.2
  else
    jX4_removes_13 cal K v1 h
theorem eX4_removes (cal : ix_C) (K : ix_K) (v0 : Nat) (v1 : Option Nat) (h : ix_H) : ix_fwd cal K stX4_removes 0 [(0, ix_R (some v0)), (1, ix_R v1)] [] h = bX4_removes cal K v0 v1 h := rfl
theorem rX4_removes (N d : Nat) (v0 : Nat) (v1 : Option Nat) (h : ix_H) : ix_run iy_P N (d + 1) 196 [ix_R (some v0), ix_R v1] h = bX4_removes (ix_run iy_P N d) (ix_lp (ix_run iy_P N d) stX4_removes N) v0 v1 h := (rfl : ix_run iy_P N (d + 1) 196 [ix_R (some v0), ix_R v1] h = ix_fwd (ix_run iy_P N d) (ix_lp (ix_run iy_P N d) stX4_removes N) stX4_removes 0 [(0, ix_R (some v0)), (1, ix_R v1)] [] h).trans (eX4_removes _ _ v0 v1 h)
def jX4_boundOf_5 (cal : ix_C) (K : ix_K) (v1 : Int32) (v2 : Option Nat) (v3 : Int32) (h : ix_H) : ix_O :=
  (ix_is h 6 v2).bind fun a3 =>
  if (ix_fI h a3 3) ≤ v3 then
    some (.inl (some (ix_I (-1 : Int32))), h)
  else
    (ix_is h 6 v2).bind fun a4 =>
    (ix_atr h 101 (ix_fR h a4 1) v3).bind fun a5 =>
    if (ix_aI h a5 v3.toNatClampNeg) = v1 then
      (ix_is h 6 v2).bind fun a6 =>
      (ix_atr h 101 (ix_fR h a6 0) v3).bind fun a7 =>
      some (.inl (some (ix_I (ix_aI h a7 v3.toNatClampNeg))), h)
    else
      K 5 [(1, ix_I v1), (2, ix_R v2), (3, ix_I (v3 + (nI 1)))] [] h
theorem jX4_boundOf_5_eq (cal : ix_C) (K : ix_K) (v1 : Int32) (v2 : Option Nat) (v3 : Int32) (h : ix_H) : ix_fwd cal K (stX4_boundOf.drop 5) 0 [(1, ix_I v1), (2, ix_R v2), (3, ix_I v3)] [] h = jX4_boundOf_5 cal K v1 v2 v3 h := rfl
def bX4_boundOf (cal : ix_C) (K : ix_K) (v0 : Nat) (v1 : Int32) (h : ix_H) : ix_O :=
  (ix_isr h 5 (some v0)).bind fun a2 =>
  (ix_rR (cal 182 [ix_R (some a2)] h)).bind fun r1 =>
  jX4_boundOf_5 cal K v1 r1.1 (nI 0) r1.2
theorem eX4_boundOf (cal : ix_C) (K : ix_K) (v0 : Nat) (v1 : Int32) (h : ix_H) : ix_fwd cal K stX4_boundOf 0 [(0, ix_R (some v0)), (1, ix_I v1)] [] h = bX4_boundOf cal K v0 v1 h := rfl
theorem rX4_boundOf (N d : Nat) (v0 : Nat) (v1 : Int32) (h : ix_H) : ix_run iy_P N (d + 1) 197 [ix_R (some v0), ix_I v1] h = bX4_boundOf (ix_run iy_P N d) (ix_lp (ix_run iy_P N d) stX4_boundOf N) v0 v1 h := (rfl : ix_run iy_P N (d + 1) 197 [ix_R (some v0), ix_I v1] h = ix_fwd (ix_run iy_P N d) (ix_lp (ix_run iy_P N d) stX4_boundOf N) stX4_boundOf 0 [(0, ix_R (some v0)), (1, ix_I v1)] [] h).trans (eX4_boundOf _ _ v0 v1 h)
theorem lX4_boundOf_5 (cal : ix_C) (n : Nat) (v1 : Int32) (v2 : Option Nat) (v3 : Int32) (h : ix_H) : ix_lp cal stX4_boundOf (n + 1) 5 [(1, ix_I v1), (2, ix_R v2), (3, ix_I v3)] [] h = jX4_boundOf_5 cal (ix_lp cal stX4_boundOf n) v1 v2 v3 h := jX4_boundOf_5_eq cal (ix_lp cal stX4_boundOf n) v1 v2 v3 h
def jX4_looksLeft_65 (cal : ix_C) (K : ix_K) (h : ix_H) : ix_O :=
  some (.inl (some (ix_I (nI 12))), h)
theorem jX4_looksLeft_65_eq (cal : ix_C) (K : ix_K) (h : ix_H) : ix_fwd cal K (stX4_looksLeft.drop 65) 0 [] [] h = jX4_looksLeft_65 cal K h := rfl
def bX4_looksLeft (cal : ix_C) (K : ix_K) (v0 : Nat) (v1 : Option Nat) (h : ix_H) : ix_O :=
  (ix_is h 7 v1).bind fun a1 =>
  (ix_isr h 5 (some v0)).bind fun a3 =>
  (ix_rI (cal 197 [ix_R (some a3), ix_I (ix_fI h a1 9)] h)).bind fun r2 =>
  if nI 0 ≤ r2.1 then
    (ix_is r2.2 5 (some v0)).bind fun a4 =>
    (ix_is r2.2 6 (ix_fR r2.2 a4 10)).bind fun a5 =>
    (ix_is r2.2 5 (some v0)).bind fun a6 =>
    (ix_isr r2.2 6 (ix_fR r2.2 a6 10)).bind fun a8 =>
    (ix_rI (cal 210 [ix_R (some a8), ix_I r2.1] r2.2)).bind fun r7 =>
    (ix_atr r7.2 101 (ix_fR r2.2 a5 1) (r7.1 - (nI 1))).bind fun a9 =>
    (ix_is r7.2 7 v1).bind fun a10 =>
    ix_bd (ix_wfI r7.2 a10 10 (ix_aI r7.2 a9 (r7.1 - (nI 1)).toNatClampNeg)) fun h11 =>
    (ix_is h11 7 v1).bind fun a12 =>
    (ix_isr h11 5 (some v0)).bind fun a14 =>
    (ix_rI (cal 184 [ix_R (some a14), ix_I (ix_fI h11 a12 10)] h11)).bind fun r13 =>
    if r13.1 = nI 0 then
      (ix_is r13.2 7 v1).bind fun a15 =>
      (ix_is r13.2 5 (some v0)).bind fun a16 =>
      (ix_isr r13.2 5 (some v0)).bind fun a18 =>
      (ix_rV (cal 175 [ix_R (some a18), ix_I (ix_fI r13.2 a15 10), ix_R (ix_fR r13.2 a16 9)] r13.2)).bind fun r17 =>
      (ix_is r17 5 (some v0)).bind fun a19 =>
      (ix_is r17 6 (ix_fR r17 a19 9)).bind fun a20 =>
      if r2.1 ≤ (ix_fI r17 a20 4) then
        (ix_is r17 5 (some v0)).bind fun a21 =>
        (ix_is r17 6 (ix_fR r17 a21 9)).bind fun a22 =>
        if r2.1 < (ix_fI r17 a22 4) then
          jX4_looksLeft_65 cal K r17
        else
          (ix_is r17 5 (some v0)).bind fun a23 =>
          (ix_is r17 6 (ix_fR r17 a23 9)).bind fun a24 =>
          (ix_is r17 7 v1).bind fun a25 =>
          if (ix_fI r17 a24 5) = (ix_fI r17 a25 9) then
            (ix_is r17 7 v1).bind fun a26 =>
            ix_bd (ix_wfI r17 a26 7 r2.1) fun h27 =>
            (ix_is h27 5 (some v0)).bind fun a28 =>
            (ix_is h27 7 v1).bind fun a29 =>
            (ix_atr h27 101 (ix_fR h27 a28 1) (ix_fI h27 a29 10)).bind fun a30 =>
            (ix_is h27 7 v1).bind fun a31 =>
            ix_bd (ix_wfI h27 a31 5 (ix_aI h27 a30 (ix_fI h27 a29 10).toNatClampNeg)) fun h32 =>
            some (.inl (some (ix_I (nI 11))), h32)
          else
            jX4_looksLeft_65 cal K r17
      else
        (ix_is r17 5 (some v0)).bind fun a33 =>
        (ix_is r17 6 (ix_fR r17 a33 9)).bind fun a34 =>
        (ix_is r17 5 (some v0)).bind fun a35 =>
        (ix_is r17 6 (ix_fR r17 a35 9)).bind fun a36 =>
        (ix_isr r17 5 (some v0)).bind fun a38 =>
        (ix_rI (cal 186 [ix_R (some a38), ix_R v1, ix_I (ix_fI r17 a34 4), ix_I (ix_fI r17 a36 5)] r17)).bind fun r37 =>
        some (.inl (some (ix_I r37.1)), r37.2)
    else
      (ix_is r13.2 7 v1).bind fun a39 =>
      (ix_is r13.2 7 v1).bind fun a40 =>
      ix_bd (ix_wfI r13.2 a40 9 (ix_fI r13.2 a39 10)) fun h41 =>
      some (.inl (some (ix_I (nI 10))), h41)
  else
    (ix_isr r2.2 7 v1).bind fun a43 =>
    (ix_rI (cal 223 [ix_R (some a43)] r2.2)).bind fun r42 =>
    some (.inl (some (ix_I r42.1)), r42.2)
theorem eX4_looksLeft (cal : ix_C) (K : ix_K) (v0 : Nat) (v1 : Option Nat) (h : ix_H) : ix_fwd cal K stX4_looksLeft 0 [(0, ix_R (some v0)), (1, ix_R v1)] [] h = bX4_looksLeft cal K v0 v1 h := rfl
theorem rX4_looksLeft (N d : Nat) (v0 : Nat) (v1 : Option Nat) (h : ix_H) : ix_run iy_P N (d + 1) 198 [ix_R (some v0), ix_R v1] h = bX4_looksLeft (ix_run iy_P N d) (ix_lp (ix_run iy_P N d) stX4_looksLeft N) v0 v1 h := (rfl : ix_run iy_P N (d + 1) 198 [ix_R (some v0), ix_R v1] h = ix_fwd (ix_run iy_P N d) (ix_lp (ix_run iy_P N d) stX4_looksLeft N) stX4_looksLeft 0 [(0, ix_R (some v0)), (1, ix_R v1)] [] h).trans (eX4_looksLeft _ _ v0 v1 h)
def bX4_joins (cal : ix_C) (K : ix_K) (v0 : Nat) (v1 : Option Nat) (h : ix_H) : ix_O :=
  (ix_is h 5 (some v0)).bind fun a1 =>
  (ix_is h 7 v1).bind fun a2 =>
  (ix_atr h 101 (ix_fR h a1 1) (ix_fI h a2 10)).bind fun a3 =>
  (ix_is h 7 v1).bind fun a4 =>
  if (ix_aI h a3 (ix_fI h a2 10).toNatClampNeg) = (ix_fI h a4 5) then
    (ix_is h 7 v1).bind fun a5 =>
    (ix_is h 7 v1).bind fun a6 =>
    (ix_is h 7 v1).bind fun a7 =>
    (ix_isr h 5 (some v0)).bind fun a9 =>
    (ix_rI (cal 173 [ix_R (some a9), ix_I (nI 5), ix_I (ix_fI h a5 7), ix_I (ix_fI h a6 9), ix_I (ix_fI h a7 5)] h)).bind fun r8 =>
    (ix_is r8.2 5 (some v0)).bind fun a10 =>
    (ix_atr r8.2 111 (ix_fR r8.2 a10 0) r8.1).bind fun a11 =>
    (ix_is r8.2 5 (some v0)).bind fun a12 =>
    (ix_is r8.2 5 (some v0)).bind fun a13 =>
    (ix_is r8.2 7 v1).bind fun a14 =>
    (ix_atr r8.2 101 (ix_fR r8.2 a13 1) (ix_fI r8.2 a14 9)).bind fun a15 =>
    (ix_atr r8.2 111 (ix_fR r8.2 a12 0) (ix_aI r8.2 a15 (ix_fI r8.2 a14 9).toNatClampNeg)).bind fun a16 =>
    (ix_is r8.2 6 (ix_aR r8.2 a16 (ix_aI r8.2 a15 (ix_fI r8.2 a14 9).toNatClampNeg).toNatClampNeg)).bind fun a17 =>
    (ix_is r8.2 6 (ix_aR r8.2 a11 r8.1.toNatClampNeg)).bind fun a18 =>
    ix_bd (ix_wfI r8.2 a18 9 (ix_fI r8.2 a17 8)) fun h19 =>
    (ix_is h19 5 (some v0)).bind fun a20 =>
    (ix_is h19 7 v1).bind fun a21 =>
    (ix_at h19 101 (ix_fR h19 a20 1) (ix_fI h19 a21 10)).bind fun a22 =>
    ix_bd (ix_waI h19 a22 (ix_fI h19 a21 10).toNatClampNeg r8.1) fun h23 =>
    some (.inl (some (ix_I (nI 12))), h23)
  else
    (ix_isr h 7 v1).bind fun a25 =>
    (ix_rI (cal 222 [ix_R (some a25), ix_I (nI 10)] h)).bind fun r24 =>
    some (.inl (some (ix_I r24.1)), r24.2)
theorem eX4_joins (cal : ix_C) (K : ix_K) (v0 : Nat) (v1 : Option Nat) (h : ix_H) : ix_fwd cal K stX4_joins 0 [(0, ix_R (some v0)), (1, ix_R v1)] [] h = bX4_joins cal K v0 v1 h := rfl
theorem rX4_joins (N d : Nat) (v0 : Nat) (v1 : Option Nat) (h : ix_H) : ix_run iy_P N (d + 1) 199 [ix_R (some v0), ix_R v1] h = bX4_joins (ix_run iy_P N d) (ix_lp (ix_run iy_P N d) stX4_joins N) v0 v1 h := (rfl : ix_run iy_P N (d + 1) 199 [ix_R (some v0), ix_R v1] h = ix_fwd (ix_run iy_P N d) (ix_lp (ix_run iy_P N d) stX4_joins N) stX4_joins 0 [(0, ix_R (some v0)), (1, ix_R v1)] [] h).trans (eX4_joins _ _ v0 v1 h)
def bX4_looks (cal : ix_C) (K : ix_K) (v0 : Nat) (v1 : Option Nat) (h : ix_H) : ix_O :=
  (ix_is h 7 v1).bind fun a1 =>
  (ix_isr h 5 (some v0)).bind fun a3 =>
  (ix_rI (cal 197 [ix_R (some a3), ix_I (ix_fI h a1 9)] h)).bind fun r2 =>
  if nI 0 ≤ r2.1 then
    (ix_is r2.2 5 (some v0)).bind fun a4 =>
    (ix_atr r2.2 101 (ix_fR r2.2 a4 1) (nI 0)).bind fun a5 =>
    (ix_is r2.2 7 v1).bind fun a6 =>
    ix_bd (ix_wfI r2.2 a6 5 (ix_aI r2.2 a5 (nI 0).toNatClampNeg)) fun h7 =>
    some (.inl (some (ix_I (nI 13))), h7)
  else
    (ix_isr r2.2 7 v1).bind fun a9 =>
    (ix_rI (cal 223 [ix_R (some a9)] r2.2)).bind fun r8 =>
    some (.inl (some (ix_I r8.1)), r8.2)
theorem eX4_looks (cal : ix_C) (K : ix_K) (v0 : Nat) (v1 : Option Nat) (h : ix_H) : ix_fwd cal K stX4_looks 0 [(0, ix_R (some v0)), (1, ix_R v1)] [] h = bX4_looks cal K v0 v1 h := rfl
theorem rX4_looks (N d : Nat) (v0 : Nat) (v1 : Option Nat) (h : ix_H) : ix_run iy_P N (d + 1) 200 [ix_R (some v0), ix_R v1] h = bX4_looks (ix_run iy_P N d) (ix_lp (ix_run iy_P N d) stX4_looks N) v0 v1 h := (rfl : ix_run iy_P N (d + 1) 200 [ix_R (some v0), ix_R v1] h = ix_fwd (ix_run iy_P N d) (ix_lp (ix_run iy_P N d) stX4_looks N) stX4_looks 0 [(0, ix_R (some v0)), (1, ix_R v1)] [] h).trans (eX4_looks _ _ v0 v1 h)
def jX4_strikes_41 (cal : ix_C) (K : ix_K) (v0 : Nat) (v1 : Option Nat) (h : ix_H) : ix_O :=
  (ix_isr h 5 (some v0)).bind fun a17 =>
  (ix_rI (cal 195 [ix_R (some a17), ix_R v1] h)).bind fun r16 =>
  some (.inl (some (ix_I r16.1)), r16.2)
theorem jX4_strikes_41_eq (cal : ix_C) (K : ix_K) (v0 : Nat) (v1 : Option Nat) (h : ix_H) : ix_fwd cal K (stX4_strikes.drop 41) 0 [(0, ix_R (some v0)), (1, ix_R v1)] [] h = jX4_strikes_41 cal K v0 v1 h := rfl
def bX4_strikes (cal : ix_C) (K : ix_K) (v0 : Nat) (v1 : Option Nat) (h : ix_H) : ix_O :=
  (ix_is h 5 (some v0)).bind fun a1 =>
  (ix_atr h 101 (ix_fR h a1 1) (nI 0)).bind fun a2 =>
  (ix_is h 7 v1).bind fun a3 =>
  if (ix_aI h a2 (nI 0).toNatClampNeg) = (ix_fI h a3 5) then
    (ix_is h 5 (some v0)).bind fun a4 =>
    (ix_is h 7 v1).bind fun a5 =>
    (ix_isr h 5 (some v0)).bind fun a7 =>
    (ix_rI (cal 197 [ix_R (some a7), ix_I (ix_fI h a5 9)] h)).bind fun r6 =>
    (ix_is r6.2 7 v1).bind fun a8 =>
    (ix_isr r6.2 5 (some v0)).bind fun a10 =>
    (ix_rI (cal 173 [ix_R (some a10), ix_I (nI 7), ix_I r6.1, ix_I (-2 : Int32), ix_I (ix_fI r6.2 a8 5)] r6.2)).bind fun r9 =>
    (ix_at r9.2 101 (ix_fR h a4 1) (nI 0)).bind fun a11 =>
    ix_bd (ix_waI r9.2 a11 (nI 0).toNatClampNeg r9.1) fun h12 =>
    (ix_is h12 7 v1).bind fun a13 =>
    (ix_isr h12 5 (some v0)).bind fun a15 =>
    (ix_rI (cal 184 [ix_R (some a15), ix_I (ix_fI h12 a13 9)] h12)).bind fun r14 =>
    if r14.1 = nI 0 then
      jX4_strikes_41 cal K v0 v1 r14.2
    else
      (ix_is r14.2 5 (some v0)).bind fun a18 =>
      (ix_is r14.2 5 (some v0)).bind fun a19 =>
      (ix_is r14.2 7 v1).bind fun a20 =>
      (ix_atr r14.2 101 (ix_fR r14.2 a19 1) (ix_fI r14.2 a20 9)).bind fun a21 =>
      (ix_atr r14.2 111 (ix_fR r14.2 a18 0) (ix_aI r14.2 a21 (ix_fI r14.2 a20 9).toNatClampNeg)).bind fun a22 =>
      (ix_is r14.2 5 (some v0)).bind fun a23 =>
      (ix_is r14.2 6 (ix_aR r14.2 a22 (ix_aI r14.2 a21 (ix_fI r14.2 a20 9).toNatClampNeg).toNatClampNeg)).bind fun a24 =>
      ix_bd (ix_wfI r14.2 a24 10 (ix_fI r14.2 a23 5)) fun h25 =>
      jX4_strikes_41 cal K v0 v1 h25
  else
    (ix_isr h 7 v1).bind fun a27 =>
    (ix_rI (cal 222 [ix_R (some a27), ix_I (nI 12)] h)).bind fun r26 =>
    some (.inl (some (ix_I r26.1)), r26.2)
theorem eX4_strikes (cal : ix_C) (K : ix_K) (v0 : Nat) (v1 : Option Nat) (h : ix_H) : ix_fwd cal K stX4_strikes 0 [(0, ix_R (some v0)), (1, ix_R v1)] [] h = bX4_strikes cal K v0 v1 h := rfl
theorem rX4_strikes (N d : Nat) (v0 : Nat) (v1 : Option Nat) (h : ix_H) : ix_run iy_P N (d + 1) 201 [ix_R (some v0), ix_R v1] h = bX4_strikes (ix_run iy_P N d) (ix_lp (ix_run iy_P N d) stX4_strikes N) v0 v1 h := (rfl : ix_run iy_P N (d + 1) 201 [ix_R (some v0), ix_R v1] h = ix_fwd (ix_run iy_P N d) (ix_lp (ix_run iy_P N d) stX4_strikes N) stX4_strikes 0 [(0, ix_R (some v0)), (1, ix_R v1)] [] h).trans (eX4_strikes _ _ v0 v1 h)
def jX4_sweeps_63 (cal : ix_C) (K : ix_K) (v0 : Nat) (v1 : Int32) (v2 : Int32) (v3 : Int32) (h : ix_H) : ix_O :=
  K 38 [(0, ix_R (some v0)), (1, ix_I v1), (2, ix_I v2), (3, ix_I (v3 + (nI 1)))] [] h
theorem jX4_sweeps_63_eq (cal : ix_C) (K : ix_K) (v0 : Nat) (v1 : Int32) (v2 : Int32) (v3 : Int32) (h : ix_H) : ix_fwd cal K (stX4_sweeps.drop 63) 0 [(0, ix_R (some v0)), (1, ix_I v1), (2, ix_I v2), (3, ix_I v3)] [] h = jX4_sweeps_63 cal K v0 v1 v2 v3 h := rfl
def jX4_sweeps_38 (cal : ix_C) (K : ix_K) (v0 : Nat) (v1 : Int32) (v2 : Int32) (v3 : Int32) (h : ix_H) : ix_O :=
  (ix_is h 5 (some v0)).bind fun a5 =>
  if (ix_fI h a5 3) ≤ v3 then
    some (.inl (some (ix_I v1)), h)
  else
    (ix_is h 5 (some v0)).bind fun a6 =>
    (ix_atr h 111 (ix_fR h a6 0) v3).bind fun a7 =>
    (ix_is h 6 (ix_aR h a7 v3.toNatClampNeg)).bind fun a8 =>
    if (ix_fI h a8 11) = nI 0 then
      (ix_is h 6 (ix_aR h a7 v3.toNatClampNeg)).bind fun a9 =>
      if (ix_fI h a9 10) < nI 0 then
        jX4_sweeps_63 cal K v0 v1 v2 v3 h
      else
        (ix_is h 6 (ix_aR h a7 v3.toNatClampNeg)).bind fun a10 =>
        if (ix_fI h a10 10) < v2 then
          (ix_is h 6 (ix_aR h a7 v3.toNatClampNeg)).bind fun a11 =>
          cond (ix_okn 1 (nI 1)) (
          ix_bd (ix_wfI h a11 11 (nI 1)) fun h12 =>
            jX4_sweeps_63 cal K v0 (v1 + (nI 1)) v2 v3 h12) none
        else
          jX4_sweeps_63 cal K v0 v1 v2 v3 h
    else
      jX4_sweeps_63 cal K v0 v1 v2 v3 h
theorem jX4_sweeps_38_eq (cal : ix_C) (K : ix_K) (v0 : Nat) (v1 : Int32) (v2 : Int32) (v3 : Int32) (h : ix_H) : ix_fwd cal K (stX4_sweeps.drop 38) 0 [(0, ix_R (some v0)), (1, ix_I v1), (2, ix_I v2), (3, ix_I v3)] [] h = jX4_sweeps_38 cal K v0 v1 v2 v3 h := rfl
def jX4_sweeps_33 (cal : ix_C) (K : ix_K) (v0 : Nat) (v1 : Int32) (v2 : Int32) (v3 : Int32) (h : ix_H) : ix_O :=
  K 15 [(0, ix_R (some v0)), (1, ix_I v1), (2, ix_I v2), (3, ix_I (v3 + (nI 1)))] [] h
theorem jX4_sweeps_33_eq (cal : ix_C) (K : ix_K) (v0 : Nat) (v1 : Int32) (v2 : Int32) (v3 : Int32) (h : ix_H) : ix_fwd cal K (stX4_sweeps.drop 33) 0 [(0, ix_R (some v0)), (1, ix_I v1), (2, ix_I v2), (3, ix_I v3)] [] h = jX4_sweeps_33 cal K v0 v1 v2 v3 h := rfl
def jX4_sweeps_15 (cal : ix_C) (K : ix_K) (v0 : Nat) (v1 : Int32) (v2 : Int32) (v3 : Int32) (h : ix_H) : ix_O :=
  if (nI 4) ≤ v3 then
    jX4_sweeps_38 cal K v0 v1 v2 (nI 0) h
  else
    (ix_is h 5 (some v0)).bind fun a13 =>
    (ix_atr h 112 (ix_fR h a13 2) v3).bind fun a14 =>
    (ix_is h 7 (ix_aR h a14 v3.toNatClampNeg)).bind fun a15 =>
    if (ix_fI h a15 3) = nI 0 then
      jX4_sweeps_33 cal K v0 v1 v2 v3 h
    else
      (ix_is h 5 (some v0)).bind fun a16 =>
      (ix_atr h 112 (ix_fR h a16 2) v3).bind fun a17 =>
      (ix_is h 7 (ix_aR h a17 v3.toNatClampNeg)).bind fun a18 =>
      (ix_rI (cal 25 [ix_I v2, ix_I (ix_fI h a18 13)] h)).bind fun r19 =>
      jX4_sweeps_33 cal K v0 v1 r19.1 v3 r19.2
theorem jX4_sweeps_15_eq (cal : ix_C) (K : ix_K) (v0 : Nat) (v1 : Int32) (v2 : Int32) (v3 : Int32) (h : ix_H) : ix_fwd cal K (stX4_sweeps.drop 15) 0 [(0, ix_R (some v0)), (1, ix_I v1), (2, ix_I v2), (3, ix_I v3)] [] h = jX4_sweeps_15 cal K v0 v1 v2 v3 h := rfl
def bX4_sweeps (cal : ix_C) (K : ix_K) (v0 : Nat) (h : ix_H) : ix_O :=
  (ix_is h 5 (some v0)).bind fun a1 =>
  (ix_is h 5 (some v0)).bind fun a2 =>
  (ix_is h 5 (some v0)).bind fun a3 =>
  ix_bd (ix_wfI h a3 5 ((ix_fI h a2 5) + (nI 1))) fun h4 =>
  jX4_sweeps_15 cal K v0 (nI 0) ((ix_fI h a1 5) + (nI 1)) (nI 0) h4
theorem eX4_sweeps (cal : ix_C) (K : ix_K) (v0 : Nat) (h : ix_H) : ix_fwd cal K stX4_sweeps 0 [(0, ix_R (some v0))] [] h = bX4_sweeps cal K v0 h := rfl
theorem rX4_sweeps (N d : Nat) (v0 : Nat) (h : ix_H) : ix_run iy_P N (d + 1) 202 [ix_R (some v0)] h = bX4_sweeps (ix_run iy_P N d) (ix_lp (ix_run iy_P N d) stX4_sweeps N) v0 h := (rfl : ix_run iy_P N (d + 1) 202 [ix_R (some v0)] h = ix_fwd (ix_run iy_P N d) (ix_lp (ix_run iy_P N d) stX4_sweeps N) stX4_sweeps 0 [(0, ix_R (some v0))] [] h).trans (eX4_sweeps _ _ v0 h)
theorem lX4_sweeps_15 (cal : ix_C) (n : Nat) (v0 : Nat) (v1 : Int32) (v2 : Int32) (v3 : Int32) (h : ix_H) : ix_lp cal stX4_sweeps (n + 1) 15 [(0, ix_R (some v0)), (1, ix_I v1), (2, ix_I v2), (3, ix_I v3)] [] h = jX4_sweeps_15 cal (ix_lp cal stX4_sweeps n) v0 v1 v2 v3 h := jX4_sweeps_15_eq cal (ix_lp cal stX4_sweeps n) v0 v1 v2 v3 h
theorem lX4_sweeps_38 (cal : ix_C) (n : Nat) (v0 : Nat) (v1 : Int32) (v2 : Int32) (v3 : Int32) (h : ix_H) : ix_lp cal stX4_sweeps (n + 1) 38 [(0, ix_R (some v0)), (1, ix_I v1), (2, ix_I v2), (3, ix_I v3)] [] h = jX4_sweeps_38 cal (ix_lp cal stX4_sweeps n) v0 v1 v2 v3 h := jX4_sweeps_38_eq cal (ix_lp cal stX4_sweeps n) v0 v1 v2 v3 h
def jX4_all_14 (cal : ix_C) (K : ix_K) (v0 : Nat) (v1 : Option Nat) (v2 : Option Nat) (v3 : Int32) (v5 : Int32) (h : ix_H) : ix_O :=
  (ix_is h 5 (some v0)).bind fun a4 =>
  (ix_is h 6 (ix_fR h a4 11)).bind fun a5 =>
  if (ix_fI h a5 3) ≤ v5 then
    (ix_is h 5 (some v0)).bind fun a6 =>
    (ix_is h 6 (ix_fR h a6 11)).bind fun a7 =>
    K 4 [(0, ix_R (some v0)), (1, ix_R v1), (2, ix_R v2), (3, ix_I v3), (4, ix_I (ix_fI h a7 5))] [] h
  else
    (ix_is h 5 (some v0)).bind fun a8 =>
    (ix_is h 6 (ix_fR h a8 11)).bind fun a9 =>
    (ix_atr h 101 (ix_fR h a9 0) v5).bind fun a10 =>
    (ix_at h 101 v1 v3).bind fun a11 =>
    ix_bd (ix_waI h a11 v3.toNatClampNeg (ix_aI h a10 v5.toNatClampNeg)) fun h12 =>
    (ix_is h12 5 (some v0)).bind fun a13 =>
    (ix_is h12 6 (ix_fR h12 a13 11)).bind fun a14 =>
    (ix_atr h12 101 (ix_fR h12 a14 1) v5).bind fun a15 =>
    (ix_at h12 101 v2 v3).bind fun a16 =>
    ix_bd (ix_waI h12 a16 v3.toNatClampNeg (ix_aI h12 a15 v5.toNatClampNeg)) fun h17 =>
    K 14 [(0, ix_R (some v0)), (1, ix_R v1), (2, ix_R v2), (3, ix_I (v3 + (nI 1))), (5, ix_I (v5 + (nI 1)))] [] h17
theorem jX4_all_14_eq (cal : ix_C) (K : ix_K) (v0 : Nat) (v1 : Option Nat) (v2 : Option Nat) (v3 : Int32) (v5 : Int32) (h : ix_H) : ix_fwd cal K (stX4_all.drop 14) 0 [(0, ix_R (some v0)), (1, ix_R v1), (2, ix_R v2), (3, ix_I v3), (5, ix_I v5)] [] h = jX4_all_14 cal K v0 v1 v2 v3 v5 h := rfl
def jX4_all_4 (cal : ix_C) (K : ix_K) (v0 : Nat) (v1 : Option Nat) (v2 : Option Nat) (v3 : Int32) (v4 : Int32) (h : ix_H) : ix_O :=
  if v4 < nI 0 then
    some (.inl (some (ix_I v3)), h)
  else
    (ix_is h 5 (some v0)).bind fun a1 =>
    (ix_isr h 5 (some v0)).bind fun a3 =>
    (ix_rV (cal 175 [ix_R (some a3), ix_I v4, ix_R (ix_fR h a1 11)] h)).bind fun r2 =>
    jX4_all_14 cal K v0 v1 v2 v3 (nI 0) r2
theorem jX4_all_4_eq (cal : ix_C) (K : ix_K) (v0 : Nat) (v1 : Option Nat) (v2 : Option Nat) (v3 : Int32) (v4 : Int32) (h : ix_H) : ix_fwd cal K (stX4_all.drop 4) 0 [(0, ix_R (some v0)), (1, ix_R v1), (2, ix_R v2), (3, ix_I v3), (4, ix_I v4)] [] h = jX4_all_4 cal K v0 v1 v2 v3 v4 h := rfl
def bX4_all (cal : ix_C) (K : ix_K) (v0 : Nat) (v1 : Option Nat) (v2 : Option Nat) (h : ix_H) : ix_O :=
  jX4_all_4 cal K v0 v1 v2 (nI 0) (nI 1) h
theorem eX4_all (cal : ix_C) (K : ix_K) (v0 : Nat) (v1 : Option Nat) (v2 : Option Nat) (h : ix_H) : ix_fwd cal K stX4_all 0 [(0, ix_R (some v0)), (1, ix_R v1), (2, ix_R v2)] [] h = bX4_all cal K v0 v1 v2 h := rfl
theorem rX4_all (N d : Nat) (v0 : Nat) (v1 : Option Nat) (v2 : Option Nat) (h : ix_H) : ix_run iy_P N (d + 1) 203 [ix_R (some v0), ix_R v1, ix_R v2] h = bX4_all (ix_run iy_P N d) (ix_lp (ix_run iy_P N d) stX4_all N) v0 v1 v2 h := (rfl : ix_run iy_P N (d + 1) 203 [ix_R (some v0), ix_R v1, ix_R v2] h = ix_fwd (ix_run iy_P N d) (ix_lp (ix_run iy_P N d) stX4_all N) stX4_all 0 [(0, ix_R (some v0)), (1, ix_R v1), (2, ix_R v2)] [] h).trans (eX4_all _ _ v0 v1 v2 h)
theorem lX4_all_4 (cal : ix_C) (n : Nat) (v0 : Nat) (v1 : Option Nat) (v2 : Option Nat) (v3 : Int32) (v4 : Int32) (h : ix_H) : ix_lp cal stX4_all (n + 1) 4 [(0, ix_R (some v0)), (1, ix_R v1), (2, ix_R v2), (3, ix_I v3), (4, ix_I v4)] [] h = jX4_all_4 cal (ix_lp cal stX4_all n) v0 v1 v2 v3 v4 h := jX4_all_4_eq cal (ix_lp cal stX4_all n) v0 v1 v2 v3 v4 h
theorem lX4_all_14 (cal : ix_C) (n : Nat) (v0 : Nat) (v1 : Option Nat) (v2 : Option Nat) (v3 : Int32) (v5 : Int32) (h : ix_H) : ix_lp cal stX4_all (n + 1) 14 [(0, ix_R (some v0)), (1, ix_R v1), (2, ix_R v2), (3, ix_I v3), (5, ix_I v5)] [] h = jX4_all_14 cal (ix_lp cal stX4_all n) v0 v1 v2 v3 v5 h := jX4_all_14_eq cal (ix_lp cal stX4_all n) v0 v1 v2 v3 v5 h
def jX4_splitsLeft_30 (cal : ix_C) (K : ix_K) (v0 : Nat) (v1 : Int32) (h : ix_H) : ix_O :=
  (ix_is h 5 (some v0)).bind fun a6 =>
  (ix_is h 6 (ix_fR h a6 11)).bind fun a7 =>
  K 4 [(0, ix_R (some v0)), (1, ix_I v1), (2, ix_I (ix_fI h a7 5))] [] h
theorem jX4_splitsLeft_30_eq (cal : ix_C) (K : ix_K) (v0 : Nat) (v1 : Int32) (h : ix_H) : ix_fwd cal K (stX4_splitsLeft.drop 30) 0 [(0, ix_R (some v0)), (1, ix_I v1)] [] h = jX4_splitsLeft_30 cal K v0 v1 h := rfl
def jX4_splitsLeft_4 (cal : ix_C) (K : ix_K) (v0 : Nat) (v1 : Int32) (v2 : Int32) (h : ix_H) : ix_O :=
  if v2 < nI 0 then
    some (.inl (some (ix_I v1)), h)
  else
    (ix_is h 5 (some v0)).bind fun a1 =>
    (ix_isr h 5 (some v0)).bind fun a3 =>
    (ix_rV (cal 175 [ix_R (some a3), ix_I v2, ix_R (ix_fR h a1 11)] h)).bind fun r2 =>
    (ix_is r2 5 (some v0)).bind fun a4 =>
    (ix_is r2 6 (ix_fR r2 a4 11)).bind fun a5 =>
    if (ix_fI r2 a5 5) < nI 0 then
      jX4_splitsLeft_30 cal K v0 v1 r2
    else
      (ix_isr r2 5 (some v0)).bind fun a9 =>
      (ix_rI (cal 184 [ix_R (some a9), ix_I v2] r2)).bind fun r8 =>
      if r8.1 = nI 0 then
        (ix_is r8.2 5 (some v0)).bind fun a10 =>
        (ix_is r8.2 6 (ix_fR r8.2 a10 11)).bind fun a11 =>
        (ix_is r8.2 5 (some v0)).bind fun a12 =>
        (ix_is r8.2 6 (ix_fR r8.2 a12 11)).bind fun a13 =>
        (ix_isr r8.2 5 (some v0)).bind fun a15 =>
        (ix_rI (cal 185 [ix_R (some a15), ix_I (ix_fI r8.2 a11 4), ix_I (ix_fI r8.2 a13 5)] r8.2)).bind fun r14 =>
        if r14.1 = nI 0 then
          jX4_splitsLeft_30 cal K v0 (v1 + (nI 1)) r14.2
        else
          jX4_splitsLeft_30 cal K v0 v1 r14.2
      else
        jX4_splitsLeft_30 cal K v0 v1 r8.2
theorem jX4_splitsLeft_4_eq (cal : ix_C) (K : ix_K) (v0 : Nat) (v1 : Int32) (v2 : Int32) (h : ix_H) : ix_fwd cal K (stX4_splitsLeft.drop 4) 0 [(0, ix_R (some v0)), (1, ix_I v1), (2, ix_I v2)] [] h = jX4_splitsLeft_4 cal K v0 v1 v2 h := rfl
def bX4_splitsLeft (cal : ix_C) (K : ix_K) (v0 : Nat) (h : ix_H) : ix_O :=
  jX4_splitsLeft_4 cal K v0 (nI 0) (nI 1) h
theorem eX4_splitsLeft (cal : ix_C) (K : ix_K) (v0 : Nat) (h : ix_H) : ix_fwd cal K stX4_splitsLeft 0 [(0, ix_R (some v0))] [] h = bX4_splitsLeft cal K v0 h := rfl
theorem rX4_splitsLeft (N d : Nat) (v0 : Nat) (h : ix_H) : ix_run iy_P N (d + 1) 204 [ix_R (some v0)] h = bX4_splitsLeft (ix_run iy_P N d) (ix_lp (ix_run iy_P N d) stX4_splitsLeft N) v0 h := (rfl : ix_run iy_P N (d + 1) 204 [ix_R (some v0)] h = ix_fwd (ix_run iy_P N d) (ix_lp (ix_run iy_P N d) stX4_splitsLeft N) stX4_splitsLeft 0 [(0, ix_R (some v0))] [] h).trans (eX4_splitsLeft _ _ v0 h)
theorem lX4_splitsLeft_4 (cal : ix_C) (n : Nat) (v0 : Nat) (v1 : Int32) (v2 : Int32) (h : ix_H) : ix_lp cal stX4_splitsLeft (n + 1) 4 [(0, ix_R (some v0)), (1, ix_I v1), (2, ix_I v2)] [] h = jX4_splitsLeft_4 cal (ix_lp cal stX4_splitsLeft n) v0 v1 v2 h := jX4_splitsLeft_4_eq cal (ix_lp cal stX4_splitsLeft n) v0 v1 v2 h
def jX4_goneLeft_23 (cal : ix_C) (K : ix_K) (v0 : Nat) (v2 : Option Nat) (v3 : Int32) (s0 : Int32) (s1 : Int32) (h : ix_H) : ix_O :=
  K 7 [(0, ix_R (some v0)), (1, ix_I (s0 + s1)), (2, ix_R v2), (3, ix_I (v3 + (nI 1)))] [] h
theorem jX4_goneLeft_23_eq (cal : ix_C) (K : ix_K) (v0 : Nat) (v2 : Option Nat) (v3 : Int32) (s0 : Int32) (s1 : Int32) (h : ix_H) : ix_fwd cal K (stX4_goneLeft.drop 23) 0 [(0, ix_R (some v0)), (2, ix_R v2), (3, ix_I v3)] [ix_I s1, ix_I s0] h = jX4_goneLeft_23 cal K v0 v2 v3 s0 s1 h := rfl
def jX4_goneLeft_7 (cal : ix_C) (K : ix_K) (v0 : Nat) (v1 : Int32) (v2 : Option Nat) (v3 : Int32) (h : ix_H) : ix_O :=
  (ix_is h 6 v2).bind fun a3 =>
  if (ix_fI h a3 3) ≤ v3 then
    some (.inl (some (ix_I v1)), h)
  else
    (ix_is h 6 v2).bind fun a4 =>
    (ix_atr h 101 (ix_fR h a4 1) v3).bind fun a5 =>
    (ix_isr h 5 (some v0)).bind fun a7 =>
    (ix_rI (cal 184 [ix_R (some a7), ix_I (ix_aI h a5 v3.toNatClampNeg)] h)).bind fun r6 =>
    if r6.1 = nI 0 then
      jX4_goneLeft_23 cal K v0 v2 v3 v1 (nI 0) r6.2
    else
      jX4_goneLeft_23 cal K v0 v2 v3 v1 (nI 1) r6.2
theorem jX4_goneLeft_7_eq (cal : ix_C) (K : ix_K) (v0 : Nat) (v1 : Int32) (v2 : Option Nat) (v3 : Int32) (h : ix_H) : ix_fwd cal K (stX4_goneLeft.drop 7) 0 [(0, ix_R (some v0)), (1, ix_I v1), (2, ix_R v2), (3, ix_I v3)] [] h = jX4_goneLeft_7 cal K v0 v1 v2 v3 h := rfl
def bX4_goneLeft (cal : ix_C) (K : ix_K) (v0 : Nat) (h : ix_H) : ix_O :=
  (ix_isr h 5 (some v0)).bind fun a2 =>
  (ix_rR (cal 182 [ix_R (some a2)] h)).bind fun r1 =>
  jX4_goneLeft_7 cal K v0 (nI 0) r1.1 (nI 0) r1.2
theorem eX4_goneLeft (cal : ix_C) (K : ix_K) (v0 : Nat) (h : ix_H) : ix_fwd cal K stX4_goneLeft 0 [(0, ix_R (some v0))] [] h = bX4_goneLeft cal K v0 h := rfl
theorem rX4_goneLeft (N d : Nat) (v0 : Nat) (h : ix_H) : ix_run iy_P N (d + 1) 205 [ix_R (some v0)] h = bX4_goneLeft (ix_run iy_P N d) (ix_lp (ix_run iy_P N d) stX4_goneLeft N) v0 h := (rfl : ix_run iy_P N (d + 1) 205 [ix_R (some v0)] h = ix_fwd (ix_run iy_P N d) (ix_lp (ix_run iy_P N d) stX4_goneLeft N) stX4_goneLeft 0 [(0, ix_R (some v0))] [] h).trans (eX4_goneLeft _ _ v0 h)
theorem lX4_goneLeft_7 (cal : ix_C) (n : Nat) (v0 : Nat) (v1 : Int32) (v2 : Option Nat) (v3 : Int32) (h : ix_H) : ix_lp cal stX4_goneLeft (n + 1) 7 [(0, ix_R (some v0)), (1, ix_I v1), (2, ix_R v2), (3, ix_I v3)] [] h = jX4_goneLeft_7 cal (ix_lp cal stX4_goneLeft n) v0 v1 v2 v3 h := jX4_goneLeft_7_eq cal (ix_lp cal stX4_goneLeft n) v0 v1 v2 v3 h
def jX4_becomes_66 (cal : ix_C) (K : ix_K) (v0 : Nat) (v1 : Option Nat) (v2 : Int32) (h : ix_H) : ix_O :=
  if (nI 4) ≤ v2 then
    some (.inl none, h)
  else
    (ix_is h 5 (some v0)).bind fun a26 =>
    (ix_atr h 112 (ix_fR h a26 2) v2).bind fun a27 =>
    (ix_is h 5 v1).bind fun a28 =>
    (ix_atr h 112 (ix_fR h a28 2) v2).bind fun a29 =>
    (ix_isr h 7 (ix_aR h a27 v2.toNatClampNeg)).bind fun a31 =>
    (ix_rV (cal 224 [ix_R (some a31), ix_R (ix_aR h a29 v2.toNatClampNeg)] h)).bind fun r30 =>
    K 66 [(0, ix_R (some v0)), (1, ix_R v1), (2, ix_I (v2 + (nI 1)))] [] r30
theorem jX4_becomes_66_eq (cal : ix_C) (K : ix_K) (v0 : Nat) (v1 : Option Nat) (v2 : Int32) (h : ix_H) : ix_fwd cal K (stX4_becomes.drop 66) 0 [(0, ix_R (some v0)), (1, ix_R v1), (2, ix_I v2)] [] h = jX4_becomes_66 cal K v0 v1 v2 h := rfl
def jX4_becomes_43 (cal : ix_C) (K : ix_K) (v0 : Nat) (v1 : Option Nat) (v2 : Int32) (h : ix_H) : ix_O :=
  (ix_is h 5 (some v0)).bind fun a34 =>
  (ix_atr h 111 (ix_fR h a34 0) v2).bind fun a35 =>
  (ix_is h 5 v1).bind fun a36 =>
  (ix_atr h 111 (ix_fR h a36 0) v2).bind fun a37 =>
  (ix_isr h 6 (ix_aR h a35 v2.toNatClampNeg)).bind fun a39 =>
  (ix_rV (cal 217 [ix_R (some a39), ix_R (ix_aR h a37 v2.toNatClampNeg)] h)).bind fun r38 =>
  K 26 [(0, ix_R (some v0)), (1, ix_R v1), (2, ix_I (v2 + (nI 1)))] [] r38
theorem jX4_becomes_43_eq (cal : ix_C) (K : ix_K) (v0 : Nat) (v1 : Option Nat) (v2 : Int32) (h : ix_H) : ix_fwd cal K (stX4_becomes.drop 43) 0 [(0, ix_R (some v0)), (1, ix_R v1), (2, ix_I v2)] [] h = jX4_becomes_43 cal K v0 v1 v2 h := rfl
def jX4_becomes_26 (cal : ix_C) (K : ix_K) (v0 : Nat) (v1 : Option Nat) (v2 : Int32) (h : ix_H) : ix_O :=
  (ix_is h 5 (some v0)).bind fun a19 =>
  if (ix_fI h a19 3) ≤ v2 then
    (ix_is h 5 v1).bind fun a20 =>
    (ix_is h 5 (some v0)).bind fun a21 =>
    (ix_is h 5 (some v0)).bind fun a22 =>
    (ix_is h 101 (ix_fR h a20 1)).bind fun a23 => (ix_is h 101 (ix_fR h a21 1)).bind fun a24 =>
    if ¬ (ix_fI h a22 4) < 0 ∧ ¬ (nI 0) < 0 ∧ ¬ (nI 0) < 0 ∧ (nI 0).toNatClampNeg + (ix_fI h a22 4).toNatClampNeg ≤ ix_ln h a23 ∧ (nI 0).toNatClampNeg + (ix_fI h a22 4).toNatClampNeg ≤ ix_ln h a24 ∧ 0 ≤ 8 then
      ix_bd (ix_cpI h a23 (nI 0).toNatClampNeg a24 (nI 0).toNatClampNeg (ix_fI h a22 4).toNatClampNeg) fun h25 =>
      jX4_becomes_66 cal K v0 v1 (nI 0) h25
    else none
  else
    (ix_is h 5 (some v0)).bind fun a32 =>
    (ix_atr h 111 (ix_fR h a32 0) v2).bind fun a33 =>
    if (ix_aR h a33 v2.toNatClampNeg) = none then
      (ix_is h 5 (some v0)).bind fun a40 =>
      ix_bd (ix_nwO h 6 12) fun h41 =>
      (ix_isr h41 6 (some (ix_sz h))).bind fun a43 =>
      (ix_rV (cal 207 [ix_R (some a43)] h41)).bind fun r42 =>
      (ix_at r42 111 (ix_fR h a40 0) v2).bind fun a44 =>
      cond (ix_of r42 [6] (some (ix_sz h))) (
      ix_bd (ix_waR r42 a44 v2.toNatClampNeg (some (ix_sz h))) fun h45 =>
        jX4_becomes_43 cal K v0 v1 v2 h45) none
    else
      jX4_becomes_43 cal K v0 v1 v2 h
theorem jX4_becomes_26_eq (cal : ix_C) (K : ix_K) (v0 : Nat) (v1 : Option Nat) (v2 : Int32) (h : ix_H) : ix_fwd cal K (stX4_becomes.drop 26) 0 [(0, ix_R (some v0)), (1, ix_R v1), (2, ix_I v2)] [] h = jX4_becomes_26 cal K v0 v1 v2 h := rfl
def bX4_becomes (cal : ix_C) (K : ix_K) (v0 : Nat) (v1 : Option Nat) (h : ix_H) : ix_O :=
  (ix_is h 5 v1).bind fun a1 =>
  (ix_is h 5 (some v0)).bind fun a2 =>
  ix_bd (ix_wfI h a2 6 (ix_fI h a1 6)) fun h3 =>
  (ix_is h3 5 v1).bind fun a4 =>
  (ix_is h3 5 (some v0)).bind fun a5 =>
  ix_bd (ix_wfI h3 a5 7 (ix_fI h3 a4 7)) fun h6 =>
  (ix_is h6 5 v1).bind fun a7 =>
  (ix_is h6 5 (some v0)).bind fun a8 =>
  ix_bd (ix_wfI h6 a8 8 (ix_fI h6 a7 8)) fun h9 =>
  (ix_is h9 5 v1).bind fun a10 =>
  (ix_is h9 5 (some v0)).bind fun a11 =>
  ix_bd (ix_wfI h9 a11 3 (ix_fI h9 a10 3)) fun h12 =>
  (ix_is h12 5 v1).bind fun a13 =>
  (ix_is h12 5 (some v0)).bind fun a14 =>
  ix_bd (ix_wfI h12 a14 4 (ix_fI h12 a13 4)) fun h15 =>
  (ix_is h15 5 v1).bind fun a16 =>
  (ix_is h15 5 (some v0)).bind fun a17 =>
  ix_bd (ix_wfI h15 a17 5 (ix_fI h15 a16 5)) fun h18 =>
  jX4_becomes_26 cal K v0 v1 (nI 0) h18
theorem eX4_becomes (cal : ix_C) (K : ix_K) (v0 : Nat) (v1 : Option Nat) (h : ix_H) : ix_fwd cal K stX4_becomes 0 [(0, ix_R (some v0)), (1, ix_R v1)] [] h = bX4_becomes cal K v0 v1 h := rfl
theorem rX4_becomes (N d : Nat) (v0 : Nat) (v1 : Option Nat) (h : ix_H) : ix_run iy_P N (d + 1) 206 [ix_R (some v0), ix_R v1] h = bX4_becomes (ix_run iy_P N d) (ix_lp (ix_run iy_P N d) stX4_becomes N) v0 v1 h := (rfl : ix_run iy_P N (d + 1) 206 [ix_R (some v0), ix_R v1] h = ix_fwd (ix_run iy_P N d) (ix_lp (ix_run iy_P N d) stX4_becomes N) stX4_becomes 0 [(0, ix_R (some v0)), (1, ix_R v1)] [] h).trans (eX4_becomes _ _ v0 v1 h)
theorem lX4_becomes_26 (cal : ix_C) (n : Nat) (v0 : Nat) (v1 : Option Nat) (v2 : Int32) (h : ix_H) : ix_lp cal stX4_becomes (n + 1) 26 [(0, ix_R (some v0)), (1, ix_R v1), (2, ix_I v2)] [] h = jX4_becomes_26 cal (ix_lp cal stX4_becomes n) v0 v1 v2 h := jX4_becomes_26_eq cal (ix_lp cal stX4_becomes n) v0 v1 v2 h
theorem lX4_becomes_66 (cal : ix_C) (n : Nat) (v0 : Nat) (v1 : Option Nat) (v2 : Int32) (h : ix_H) : ix_lp cal stX4_becomes (n + 1) 66 [(0, ix_R (some v0)), (1, ix_R v1), (2, ix_I v2)] [] h = jX4_becomes_66 cal (ix_lp cal stX4_becomes n) v0 v1 v2 h := jX4_becomes_66_eq cal (ix_lp cal stX4_becomes n) v0 v1 v2 h
def bX5_init (cal : ix_C) (K : ix_K) (v0 : Nat) (h : ix_H) : ix_O :=
  cond (ix_in (nI 44) 1000001) (
  ix_bd (ix_nwA h 101 (nI 44).toNatClampNeg) fun h2 =>
    (ix_is h2 6 (some v0)).bind fun a3 =>
    ix_bd (ix_wfR h2 a3 0 (some (ix_sz h))) fun h4 =>
    cond (ix_in (nI 44) 1000001) (
    ix_bd (ix_nwA h4 101 (nI 44).toNatClampNeg) fun h5 =>
      (ix_is h5 6 (some v0)).bind fun a6 =>
      ix_bd (ix_wfR h5 a6 1 (some (ix_sz h4))) fun h7 =>
      some (.inl none, h7)) none) none
theorem eX5_init (cal : ix_C) (K : ix_K) (v0 : Nat) (h : ix_H) : ix_fwd cal K stX5_init 0 [(0, ix_R (some v0))] [] h = bX5_init cal K v0 h := rfl
theorem rX5_init (N d : Nat) (v0 : Nat) (h : ix_H) : ix_run iy_P N (d + 1) 207 [ix_R (some v0)] h = bX5_init (ix_run iy_P N d) (ix_lp (ix_run iy_P N d) stX5_init N) v0 h := (rfl : ix_run iy_P N (d + 1) 207 [ix_R (some v0)] h = ix_fwd (ix_run iy_P N d) (ix_lp (ix_run iy_P N d) stX5_init N) stX5_init 0 [(0, ix_R (some v0))] [] h).trans (eX5_init _ _ v0 h)
def bX5_begins (cal : ix_C) (K : ix_K) (v0 : Nat) (v1 : Int32) (v2 : Int32) (v3 : Int32) (v4 : Int32) (h : ix_H) : ix_O :=
  (ix_is h 6 (some v0)).bind fun a1 =>
  ix_bd (ix_wfI h a1 2 v1) fun h2 =>
  (ix_is h2 6 (some v0)).bind fun a3 =>
  ix_bd (ix_wfI h2 a3 3 (nI 0)) fun h4 =>
  (ix_is h4 6 (some v0)).bind fun a5 =>
  ix_bd (ix_wfI h4 a5 4 (nI 0)) fun h6 =>
  (ix_is h6 6 (some v0)).bind fun a7 =>
  ix_bd (ix_wfI h6 a7 5 (-2 : Int32)) fun h8 =>
  (ix_is h8 6 (some v0)).bind fun a9 =>
  ix_bd (ix_wfI h8 a9 6 v2) fun h10 =>
  (ix_is h10 6 (some v0)).bind fun a11 =>
  ix_bd (ix_wfI h10 a11 7 v3) fun h12 =>
  (ix_is h12 6 (some v0)).bind fun a13 =>
  ix_bd (ix_wfI h12 a13 8 v4) fun h14 =>
  (ix_is h14 6 (some v0)).bind fun a15 =>
  ix_bd (ix_wfI h14 a15 9 (-1 : Int32)) fun h16 =>
  (ix_is h16 6 (some v0)).bind fun a17 =>
  ix_bd (ix_wfI h16 a17 10 (-2 : Int32)) fun h18 =>
  (ix_is h18 6 (some v0)).bind fun a19 =>
  cond (ix_okn 1 (nI 0)) (
  ix_bd (ix_wfI h18 a19 11 (nI 0)) fun h20 =>
    some (.inl none, h20)) none
theorem eX5_begins (cal : ix_C) (K : ix_K) (v0 : Nat) (v1 : Int32) (v2 : Int32) (v3 : Int32) (v4 : Int32) (h : ix_H) : ix_fwd cal K stX5_begins 0 [(0, ix_R (some v0)), (1, ix_I v1), (2, ix_I v2), (3, ix_I v3), (4, ix_I v4)] [] h = bX5_begins cal K v0 v1 v2 v3 v4 h := rfl
theorem rX5_begins (N d : Nat) (v0 : Nat) (v1 : Int32) (v2 : Int32) (v3 : Int32) (v4 : Int32) (h : ix_H) : ix_run iy_P N (d + 1) 208 [ix_R (some v0), ix_I v1, ix_I v2, ix_I v3, ix_I v4] h = bX5_begins (ix_run iy_P N d) (ix_lp (ix_run iy_P N d) stX5_begins N) v0 v1 v2 v3 v4 h := (rfl : ix_run iy_P N (d + 1) 208 [ix_R (some v0), ix_I v1, ix_I v2, ix_I v3, ix_I v4] h = ix_fwd (ix_run iy_P N d) (ix_lp (ix_run iy_P N d) stX5_begins N) stX5_begins 0 [(0, ix_R (some v0)), (1, ix_I v1), (2, ix_I v2), (3, ix_I v3), (4, ix_I v4)] [] h).trans (eX5_begins _ _ v0 v1 v2 v3 v4 h)
def jX5_sets_54 (cal : ix_C) (K : ix_K) (v0 : Nat) (v1 : Int32) (v2 : Int32) (v3 : Int32) (h : ix_H) : ix_O :=
  (ix_is h 6 (some v0)).bind fun a7 =>
  (ix_at h 101 (ix_fR h a7 0) v3).bind fun a8 =>
  ix_bd (ix_waI h a8 v3.toNatClampNeg v1) fun h9 =>
  (ix_is h9 6 (some v0)).bind fun a10 =>
  (ix_at h9 101 (ix_fR h9 a10 1) v3).bind fun a11 =>
  ix_bd (ix_waI h9 a11 v3.toNatClampNeg v2) fun h12 =>
  some (.inl none, h12)
theorem jX5_sets_54_eq (cal : ix_C) (K : ix_K) (v0 : Nat) (v1 : Int32) (v2 : Int32) (v3 : Int32) (h : ix_H) : ix_fwd cal K (stX5_sets.drop 54) 0 [(0, ix_R (some v0)), (1, ix_I v1), (2, ix_I v2), (3, ix_I v3)] [] h = jX5_sets_54 cal K v0 v1 v2 v3 h := rfl
def jX5_sets_21 (cal : ix_C) (K : ix_K) (v0 : Nat) (v1 : Int32) (v2 : Int32) (v3 : Int32) (h : ix_H) : ix_O :=
  if v3 ≤ nI 0 then
    jX5_sets_54 cal K v0 v1 v2 v3 h
  else
    (ix_is h 6 (some v0)).bind fun a13 =>
    (ix_atr h 101 (ix_fR h a13 0) (v3 - (nI 1))).bind fun a14 =>
    if (ix_aI h a14 (v3 - (nI 1)).toNatClampNeg) ≤ v1 then
      jX5_sets_54 cal K v0 v1 v2 v3 h
    else
      (ix_is h 6 (some v0)).bind fun a15 =>
      (ix_is h 6 (some v0)).bind fun a16 =>
      (ix_atr h 101 (ix_fR h a16 0) (v3 - (nI 1))).bind fun a17 =>
      (ix_at h 101 (ix_fR h a15 0) v3).bind fun a18 =>
      ix_bd (ix_waI h a18 v3.toNatClampNeg (ix_aI h a17 (v3 - (nI 1)).toNatClampNeg)) fun h19 =>
      (ix_is h19 6 (some v0)).bind fun a20 =>
      (ix_is h19 6 (some v0)).bind fun a21 =>
      (ix_atr h19 101 (ix_fR h19 a21 1) (v3 - (nI 1))).bind fun a22 =>
      (ix_at h19 101 (ix_fR h19 a20 1) v3).bind fun a23 =>
      ix_bd (ix_waI h19 a23 v3.toNatClampNeg (ix_aI h19 a22 (v3 - (nI 1)).toNatClampNeg)) fun h24 =>
      K 21 [(0, ix_R (some v0)), (1, ix_I v1), (2, ix_I v2), (3, ix_I (v3 + (-1)))] [] h24
theorem jX5_sets_21_eq (cal : ix_C) (K : ix_K) (v0 : Nat) (v1 : Int32) (v2 : Int32) (v3 : Int32) (h : ix_H) : ix_fwd cal K (stX5_sets.drop 21) 0 [(0, ix_R (some v0)), (1, ix_I v1), (2, ix_I v2), (3, ix_I v3)] [] h = jX5_sets_21 cal K v0 v1 v2 v3 h := rfl
def bX5_sets (cal : ix_C) (K : ix_K) (v0 : Nat) (v1 : Int32) (v2 : Int32) (h : ix_H) : ix_O :=
  (ix_isr h 6 (some v0)).bind fun a2 =>
  (ix_rI (cal 210 [ix_R (some a2), ix_I v1] h)).bind fun r1 =>
  if r1.1 < nI 0 then
    (ix_is r1.2 6 (some v0)).bind fun a3 =>
    (ix_is r1.2 6 (some v0)).bind fun a4 =>
    (ix_is r1.2 6 (some v0)).bind fun a5 =>
    ix_bd (ix_wfI r1.2 a5 3 ((ix_fI r1.2 a4 3) + (nI 1))) fun h6 =>
    jX5_sets_21 cal K v0 v1 v2 (ix_fI r1.2 a3 3) h6
  else
    (ix_is r1.2 6 (some v0)).bind fun a25 =>
    (ix_at r1.2 101 (ix_fR r1.2 a25 1) r1.1).bind fun a26 =>
    ix_bd (ix_waI r1.2 a26 r1.1.toNatClampNeg v2) fun h27 =>
    some (.inl none, h27)
theorem eX5_sets (cal : ix_C) (K : ix_K) (v0 : Nat) (v1 : Int32) (v2 : Int32) (h : ix_H) : ix_fwd cal K stX5_sets 0 [(0, ix_R (some v0)), (1, ix_I v1), (2, ix_I v2)] [] h = bX5_sets cal K v0 v1 v2 h := rfl
theorem rX5_sets (N d : Nat) (v0 : Nat) (v1 : Int32) (v2 : Int32) (h : ix_H) : ix_run iy_P N (d + 1) 209 [ix_R (some v0), ix_I v1, ix_I v2] h = bX5_sets (ix_run iy_P N d) (ix_lp (ix_run iy_P N d) stX5_sets N) v0 v1 v2 h := (rfl : ix_run iy_P N (d + 1) 209 [ix_R (some v0), ix_I v1, ix_I v2] h = ix_fwd (ix_run iy_P N d) (ix_lp (ix_run iy_P N d) stX5_sets N) stX5_sets 0 [(0, ix_R (some v0)), (1, ix_I v1), (2, ix_I v2)] [] h).trans (eX5_sets _ _ v0 v1 v2 h)
theorem lX5_sets_21 (cal : ix_C) (n : Nat) (v0 : Nat) (v1 : Int32) (v2 : Int32) (v3 : Int32) (h : ix_H) : ix_lp cal stX5_sets (n + 1) 21 [(0, ix_R (some v0)), (1, ix_I v1), (2, ix_I v2), (3, ix_I v3)] [] h = jX5_sets_21 cal (ix_lp cal stX5_sets n) v0 v1 v2 v3 h := jX5_sets_21_eq cal (ix_lp cal stX5_sets n) v0 v1 v2 v3 h
def jX5_at_2 (cal : ix_C) (K : ix_K) (v0 : Nat) (v1 : Int32) (v2 : Int32) (h : ix_H) : ix_O :=
  (ix_is h 6 (some v0)).bind fun a1 =>
  if (ix_fI h a1 3) ≤ v2 then
    some (.inl (some (ix_I (-1 : Int32))), h)
  else
    (ix_is h 6 (some v0)).bind fun a2 =>
    (ix_atr h 101 (ix_fR h a2 0) v2).bind fun a3 =>
    if (ix_aI h a3 v2.toNatClampNeg) = v1 then
      some (.inl (some (ix_I v2)), h)
    else
      K 2 [(0, ix_R (some v0)), (1, ix_I v1), (2, ix_I (v2 + (nI 1)))] [] h
theorem jX5_at_2_eq (cal : ix_C) (K : ix_K) (v0 : Nat) (v1 : Int32) (v2 : Int32) (h : ix_H) : ix_fwd cal K (stX5_at.drop 2) 0 [(0, ix_R (some v0)), (1, ix_I v1), (2, ix_I v2)] [] h = jX5_at_2 cal K v0 v1 v2 h := rfl
def bX5_at (cal : ix_C) (K : ix_K) (v0 : Nat) (v1 : Int32) (h : ix_H) : ix_O :=
  jX5_at_2 cal K v0 v1 (nI 0) h
theorem eX5_at (cal : ix_C) (K : ix_K) (v0 : Nat) (v1 : Int32) (h : ix_H) : ix_fwd cal K stX5_at 0 [(0, ix_R (some v0)), (1, ix_I v1)] [] h = bX5_at cal K v0 v1 h := rfl
theorem rX5_at (N d : Nat) (v0 : Nat) (v1 : Int32) (h : ix_H) : ix_run iy_P N (d + 1) 210 [ix_R (some v0), ix_I v1] h = bX5_at (ix_run iy_P N d) (ix_lp (ix_run iy_P N d) stX5_at N) v0 v1 h := (rfl : ix_run iy_P N (d + 1) 210 [ix_R (some v0), ix_I v1] h = ix_fwd (ix_run iy_P N d) (ix_lp (ix_run iy_P N d) stX5_at N) stX5_at 0 [(0, ix_R (some v0)), (1, ix_I v1)] [] h).trans (eX5_at _ _ v0 v1 h)
theorem lX5_at_2 (cal : ix_C) (n : Nat) (v0 : Nat) (v1 : Int32) (v2 : Int32) (h : ix_H) : ix_lp cal stX5_at (n + 1) 2 [(0, ix_R (some v0)), (1, ix_I v1), (2, ix_I v2)] [] h = jX5_at_2 cal (ix_lp cal stX5_at n) v0 v1 v2 h := jX5_at_2_eq cal (ix_lp cal stX5_at n) v0 v1 v2 h
def jX5_takes_14 (cal : ix_C) (K : ix_K) (v0 : Nat) (v1 : Option Nat) (v2 : Int32) (h : ix_H) : ix_O :=
  (ix_is h 6 (some v0)).bind fun a10 =>
  if (ix_fI h a10 3) ≤ v2 then
    some (.inl none, h)
  else
    (ix_is h 6 (some v0)).bind fun a11 =>
    (ix_is h 6 v1).bind fun a12 =>
    (ix_atr h 101 (ix_fR h a12 0) v2).bind fun a13 =>
    (ix_at h 101 (ix_fR h a11 0) v2).bind fun a14 =>
    ix_bd (ix_waI h a14 v2.toNatClampNeg (ix_aI h a13 v2.toNatClampNeg)) fun h15 =>
    (ix_is h15 6 (some v0)).bind fun a16 =>
    (ix_is h15 6 v1).bind fun a17 =>
    (ix_atr h15 101 (ix_fR h15 a17 1) v2).bind fun a18 =>
    (ix_at h15 101 (ix_fR h15 a16 1) v2).bind fun a19 =>
    ix_bd (ix_waI h15 a19 v2.toNatClampNeg (ix_aI h15 a18 v2.toNatClampNeg)) fun h20 =>
    K 14 [(0, ix_R (some v0)), (1, ix_R v1), (2, ix_I (v2 + (nI 1)))] [] h20
theorem jX5_takes_14_eq (cal : ix_C) (K : ix_K) (v0 : Nat) (v1 : Option Nat) (v2 : Int32) (h : ix_H) : ix_fwd cal K (stX5_takes.drop 14) 0 [(0, ix_R (some v0)), (1, ix_R v1), (2, ix_I v2)] [] h = jX5_takes_14 cal K v0 v1 v2 h := rfl
def bX5_takes (cal : ix_C) (K : ix_K) (v0 : Nat) (v1 : Option Nat) (h : ix_H) : ix_O :=
  (ix_is h 6 v1).bind fun a1 =>
  (ix_is h 6 (some v0)).bind fun a2 =>
  ix_bd (ix_wfI h a2 3 (ix_fI h a1 3)) fun h3 =>
  (ix_is h3 6 v1).bind fun a4 =>
  (ix_is h3 6 (some v0)).bind fun a5 =>
  ix_bd (ix_wfI h3 a5 4 (ix_fI h3 a4 4)) fun h6 =>
  (ix_is h6 6 v1).bind fun a7 =>
  (ix_is h6 6 (some v0)).bind fun a8 =>
  ix_bd (ix_wfI h6 a8 5 (ix_fI h6 a7 5)) fun h9 =>
  jX5_takes_14 cal K v0 v1 (nI 0) h9
theorem eX5_takes (cal : ix_C) (K : ix_K) (v0 : Nat) (v1 : Option Nat) (h : ix_H) : ix_fwd cal K stX5_takes 0 [(0, ix_R (some v0)), (1, ix_R v1)] [] h = bX5_takes cal K v0 v1 h := rfl
theorem rX5_takes (N d : Nat) (v0 : Nat) (v1 : Option Nat) (h : ix_H) : ix_run iy_P N (d + 1) 211 [ix_R (some v0), ix_R v1] h = bX5_takes (ix_run iy_P N d) (ix_lp (ix_run iy_P N d) stX5_takes N) v0 v1 h := (rfl : ix_run iy_P N (d + 1) 211 [ix_R (some v0), ix_R v1] h = ix_fwd (ix_run iy_P N d) (ix_lp (ix_run iy_P N d) stX5_takes N) stX5_takes 0 [(0, ix_R (some v0)), (1, ix_R v1)] [] h).trans (eX5_takes _ _ v0 v1 h)
theorem lX5_takes_14 (cal : ix_C) (n : Nat) (v0 : Nat) (v1 : Option Nat) (v2 : Int32) (h : ix_H) : ix_lp cal stX5_takes (n + 1) 14 [(0, ix_R (some v0)), (1, ix_R v1), (2, ix_I v2)] [] h = jX5_takes_14 cal (ix_lp cal stX5_takes n) v0 v1 v2 h := jX5_takes_14_eq cal (ix_lp cal stX5_takes n) v0 v1 v2 h
def jX5_changes_31 (cal : ix_C) (K : ix_K) (h : ix_H) : ix_O :=
  some (.inl none, h)
theorem jX5_changes_31_eq (cal : ix_C) (K : ix_K) (h : ix_H) : ix_fwd cal K (stX5_changes.drop 31) 0 [] [] h = jX5_changes_31 cal K h := rfl
def jX5_changes_3 (cal : ix_C) (K : ix_K) (v0 : Nat) (v1 : Option Nat) (h : ix_H) : ix_O :=
  (ix_is h 6 v1).bind fun a2 =>
  (ix_is h 6 v1).bind fun a3 =>
  (ix_isr h 6 (some v0)).bind fun a5 =>
  (ix_rV (cal 209 [ix_R (some a5), ix_I (ix_fI h a2 6), ix_I (ix_fI h a3 7)] h)).bind fun r4 =>
  jX5_changes_31 cal K r4
theorem jX5_changes_3_eq (cal : ix_C) (K : ix_K) (v0 : Nat) (v1 : Option Nat) (h : ix_H) : ix_fwd cal K (stX5_changes.drop 3) 0 [(0, ix_R (some v0)), (1, ix_R v1)] [] h = jX5_changes_3 cal K v0 v1 h := rfl
def jX5_changes_11 (cal : ix_C) (K : ix_K) (v0 : Nat) (v1 : Option Nat) (h : ix_H) : ix_O :=
  (ix_is h 6 v1).bind fun a6 =>
  (ix_isr h 6 (some v0)).bind fun a8 =>
  (ix_rV (cal 213 [ix_R (some a8), ix_I (ix_fI h a6 6)] h)).bind fun r7 =>
  jX5_changes_31 cal K r7
theorem jX5_changes_11_eq (cal : ix_C) (K : ix_K) (v0 : Nat) (v1 : Option Nat) (h : ix_H) : ix_fwd cal K (stX5_changes.drop 11) 0 [(0, ix_R (some v0)), (1, ix_R v1)] [] h = jX5_changes_11 cal K v0 v1 h := rfl
def bX5_changes (cal : ix_C) (K : ix_K) (v0 : Nat) (v1 : Option Nat) (v2 : Option Nat) (h : ix_H) : ix_O :=
  (ix_is h 6 v1).bind fun a1 =>
  if (ix_fI h a1 2) = nI 1 then
    jX5_changes_3 cal K v0 v1 h
  else
  if (ix_fI h a1 2) = nI 2 then
    jX5_changes_11 cal K v0 v1 h
  else
  if (ix_fI h a1 2) = nI 3 then
    (ix_is h 6 v1).bind fun a9 =>
    (ix_is h 6 v1).bind fun a10 =>
    (ix_isr h 6 (some v0)).bind fun a12 =>
    (ix_rV (cal 214 [ix_R (some a12), ix_I (ix_fI h a9 6), ix_I (ix_fI h a10 7)] h)).bind fun r11 =>
    jX5_changes_31 cal K r11
  else
  if (ix_fI h a1 2) = nI 4 then
    jX5_changes_31 cal K h
  else
  if (ix_fI h a1 2) = nI 5 then
    (ix_is h 6 v1).bind fun a13 =>
    (ix_atr h 111 v2 (ix_fI h a13 9)).bind fun a14 =>
    (ix_isr h 6 (some v0)).bind fun a16 =>
    (ix_rV (cal 215 [ix_R (some a16), ix_R (ix_aR h a14 (ix_fI h a13 9).toNatClampNeg)] h)).bind fun r15 =>
    jX5_changes_31 cal K r15
  else
  if (ix_fI h a1 2) = nI 6 then
    jX5_changes_3 cal K v0 v1 h
  else
  if (ix_fI h a1 2) = nI 7 then
    jX5_changes_11 cal K v0 v1 h
  else
    jX5_changes_31 cal K h
theorem eX5_changes (cal : ix_C) (K : ix_K) (v0 : Nat) (v1 : Option Nat) (v2 : Option Nat) (h : ix_H) : ix_fwd cal K stX5_changes 0 [(0, ix_R (some v0)), (1, ix_R v1), (2, ix_R v2)] [] h = bX5_changes cal K v0 v1 v2 h := rfl
theorem rX5_changes (N d : Nat) (v0 : Nat) (v1 : Option Nat) (v2 : Option Nat) (h : ix_H) : ix_run iy_P N (d + 1) 212 [ix_R (some v0), ix_R v1, ix_R v2] h = bX5_changes (ix_run iy_P N d) (ix_lp (ix_run iy_P N d) stX5_changes N) v0 v1 v2 h := (rfl : ix_run iy_P N (d + 1) 212 [ix_R (some v0), ix_R v1, ix_R v2] h = ix_fwd (ix_run iy_P N d) (ix_lp (ix_run iy_P N d) stX5_changes N) stX5_changes 0 [(0, ix_R (some v0)), (1, ix_R v1), (2, ix_R v2)] [] h).trans (eX5_changes _ _ v0 v1 v2 h)
def jX5_drops_15 (cal : ix_C) (K : ix_K) (v0 : Nat) (v3 : Int32) (h : ix_H) : ix_O :=
  (ix_is h 6 (some v0)).bind fun a6 =>
  if (ix_fI h a6 3) ≤ v3 then
    some (.inl none, h)
  else
    (ix_is h 6 (some v0)).bind fun a7 =>
    (ix_is h 6 (some v0)).bind fun a8 =>
    (ix_atr h 101 (ix_fR h a8 0) (v3 + (nI 1))).bind fun a9 =>
    (ix_at h 101 (ix_fR h a7 0) v3).bind fun a10 =>
    ix_bd (ix_waI h a10 v3.toNatClampNeg (ix_aI h a9 (v3 + (nI 1)).toNatClampNeg)) fun h11 =>
    (ix_is h11 6 (some v0)).bind fun a12 =>
    (ix_is h11 6 (some v0)).bind fun a13 =>
    (ix_atr h11 101 (ix_fR h11 a13 1) (v3 + (nI 1))).bind fun a14 =>
    (ix_at h11 101 (ix_fR h11 a12 1) v3).bind fun a15 =>
    ix_bd (ix_waI h11 a15 v3.toNatClampNeg (ix_aI h11 a14 (v3 + (nI 1)).toNatClampNeg)) fun h16 =>
    K 15 [(0, ix_R (some v0)), (3, ix_I (v3 + (nI 1)))] [] h16
theorem jX5_drops_15_eq (cal : ix_C) (K : ix_K) (v0 : Nat) (v3 : Int32) (h : ix_H) : ix_fwd cal K (stX5_drops.drop 15) 0 [(0, ix_R (some v0)), (3, ix_I v3)] [] h = jX5_drops_15 cal K v0 v3 h := rfl
def bX5_drops (cal : ix_C) (K : ix_K) (v0 : Nat) (v1 : Int32) (h : ix_H) : ix_O :=
  (ix_isr h 6 (some v0)).bind fun a2 =>
  (ix_rI (cal 210 [ix_R (some a2), ix_I v1] h)).bind fun r1 =>
  if nI 0 ≤ r1.1 then
    (ix_is r1.2 6 (some v0)).bind fun a3 =>
    (ix_is r1.2 6 (some v0)).bind fun a4 =>
    ix_bd (ix_wfI r1.2 a4 3 ((ix_fI r1.2 a3 3) - (nI 1))) fun h5 =>
    jX5_drops_15 cal K v0 r1.1 h5
  else
    some (.inl none, r1.2)
theorem eX5_drops (cal : ix_C) (K : ix_K) (v0 : Nat) (v1 : Int32) (h : ix_H) : ix_fwd cal K stX5_drops 0 [(0, ix_R (some v0)), (1, ix_I v1)] [] h = bX5_drops cal K v0 v1 h := rfl
theorem rX5_drops (N d : Nat) (v0 : Nat) (v1 : Int32) (h : ix_H) : ix_run iy_P N (d + 1) 213 [ix_R (some v0), ix_I v1] h = bX5_drops (ix_run iy_P N d) (ix_lp (ix_run iy_P N d) stX5_drops N) v0 v1 h := (rfl : ix_run iy_P N (d + 1) 213 [ix_R (some v0), ix_I v1] h = ix_fwd (ix_run iy_P N d) (ix_lp (ix_run iy_P N d) stX5_drops N) stX5_drops 0 [(0, ix_R (some v0)), (1, ix_I v1)] [] h).trans (eX5_drops _ _ v0 v1 h)
theorem lX5_drops_15 (cal : ix_C) (n : Nat) (v0 : Nat) (v3 : Int32) (h : ix_H) : ix_lp cal stX5_drops (n + 1) 15 [(0, ix_R (some v0)), (3, ix_I v3)] [] h = jX5_drops_15 cal (ix_lp cal stX5_drops n) v0 v3 h := jX5_drops_15_eq cal (ix_lp cal stX5_drops n) v0 v3 h
def jX5_ends_20 (cal : ix_C) (K : ix_K) (v0 : Nat) (v1 : Int32) (v2 : Int32) (h : ix_H) : ix_O :=
  (ix_is h 6 (some v0)).bind fun a2 =>
  ix_bd (ix_wfI h a2 4 v1) fun h3 =>
  (ix_is h3 6 (some v0)).bind fun a4 =>
  ix_bd (ix_wfI h3 a4 5 v2) fun h5 =>
  some (.inl none, h5)
theorem jX5_ends_20_eq (cal : ix_C) (K : ix_K) (v0 : Nat) (v1 : Int32) (v2 : Int32) (h : ix_H) : ix_fwd cal K (stX5_ends.drop 20) 0 [(0, ix_R (some v0)), (1, ix_I v1), (2, ix_I v2)] [] h = jX5_ends_20 cal K v0 v1 v2 h := rfl
def jX5_ends_0 (cal : ix_C) (K : ix_K) (v0 : Nat) (v1 : Int32) (v2 : Int32) (h : ix_H) : ix_O :=
  (ix_is h 6 (some v0)).bind fun a1 =>
  if (ix_fI h a1 3) ≤ nI 0 then
    jX5_ends_20 cal K v0 v1 v2 h
  else
    (ix_is h 6 (some v0)).bind fun a6 =>
    (ix_is h 6 (some v0)).bind fun a7 =>
    (ix_atr h 101 (ix_fR h a6 0) ((ix_fI h a7 3) - (nI 1))).bind fun a8 =>
    if (ix_aI h a8 ((ix_fI h a7 3) - (nI 1)).toNatClampNeg) < v1 then
      jX5_ends_20 cal K v0 v1 v2 h
    else
      (ix_is h 6 (some v0)).bind fun a9 =>
      (ix_is h 6 (some v0)).bind fun a10 =>
      ix_bd (ix_wfI h a10 3 ((ix_fI h a9 3) - (nI 1))) fun h11 =>
      K 0 [(0, ix_R (some v0)), (1, ix_I v1), (2, ix_I v2)] [] h11
theorem jX5_ends_0_eq (cal : ix_C) (K : ix_K) (v0 : Nat) (v1 : Int32) (v2 : Int32) (h : ix_H) : ix_fwd cal K (stX5_ends.drop 0) 0 [(0, ix_R (some v0)), (1, ix_I v1), (2, ix_I v2)] [] h = jX5_ends_0 cal K v0 v1 v2 h := rfl
def bX5_ends (cal : ix_C) (K : ix_K) (v0 : Nat) (v1 : Int32) (v2 : Int32) (h : ix_H) : ix_O :=
  jX5_ends_0 cal K v0 v1 v2 h
theorem eX5_ends (cal : ix_C) (K : ix_K) (v0 : Nat) (v1 : Int32) (v2 : Int32) (h : ix_H) : ix_fwd cal K stX5_ends 0 [(0, ix_R (some v0)), (1, ix_I v1), (2, ix_I v2)] [] h = bX5_ends cal K v0 v1 v2 h := rfl
theorem rX5_ends (N d : Nat) (v0 : Nat) (v1 : Int32) (v2 : Int32) (h : ix_H) : ix_run iy_P N (d + 1) 214 [ix_R (some v0), ix_I v1, ix_I v2] h = bX5_ends (ix_run iy_P N d) (ix_lp (ix_run iy_P N d) stX5_ends N) v0 v1 v2 h := (rfl : ix_run iy_P N (d + 1) 214 [ix_R (some v0), ix_I v1, ix_I v2] h = ix_fwd (ix_run iy_P N d) (ix_lp (ix_run iy_P N d) stX5_ends N) stX5_ends 0 [(0, ix_R (some v0)), (1, ix_I v1), (2, ix_I v2)] [] h).trans (eX5_ends _ _ v0 v1 v2 h)
theorem lX5_ends_0 (cal : ix_C) (n : Nat) (v0 : Nat) (v1 : Int32) (v2 : Int32) (h : ix_H) : ix_lp cal stX5_ends (n + 1) 0 [(0, ix_R (some v0)), (1, ix_I v1), (2, ix_I v2)] [] h = jX5_ends_0 cal (ix_lp cal stX5_ends n) v0 v1 v2 h := jX5_ends_0_eq cal (ix_lp cal stX5_ends n) v0 v1 v2 h
def jX5_joins_2 (cal : ix_C) (K : ix_K) (v0 : Nat) (v1 : Option Nat) (v2 : Int32) (h : ix_H) : ix_O :=
  (ix_is h 6 v1).bind fun a1 =>
  if (ix_fI h a1 3) ≤ v2 then
    (ix_is h 6 v1).bind fun a2 =>
    (ix_is h 6 (some v0)).bind fun a3 =>
    ix_bd (ix_wfI h a3 4 (ix_fI h a2 4)) fun h4 =>
    (ix_is h4 6 v1).bind fun a5 =>
    (ix_is h4 6 (some v0)).bind fun a6 =>
    ix_bd (ix_wfI h4 a6 5 (ix_fI h4 a5 5)) fun h7 =>
    some (.inl none, h7)
  else
    (ix_is h 6 v1).bind fun a8 =>
    (ix_atr h 101 (ix_fR h a8 0) v2).bind fun a9 =>
    (ix_is h 6 v1).bind fun a10 =>
    (ix_atr h 101 (ix_fR h a10 1) v2).bind fun a11 =>
    (ix_isr h 6 (some v0)).bind fun a13 =>
    (ix_rV (cal 209 [ix_R (some a13), ix_I (ix_aI h a9 v2.toNatClampNeg), ix_I (ix_aI h a11 v2.toNatClampNeg)] h)).bind fun r12 =>
    K 2 [(0, ix_R (some v0)), (1, ix_R v1), (2, ix_I (v2 + (nI 1)))] [] r12
theorem jX5_joins_2_eq (cal : ix_C) (K : ix_K) (v0 : Nat) (v1 : Option Nat) (v2 : Int32) (h : ix_H) : ix_fwd cal K (stX5_joins.drop 2) 0 [(0, ix_R (some v0)), (1, ix_R v1), (2, ix_I v2)] [] h = jX5_joins_2 cal K v0 v1 v2 h := rfl
def bX5_joins (cal : ix_C) (K : ix_K) (v0 : Nat) (v1 : Option Nat) (h : ix_H) : ix_O :=
  jX5_joins_2 cal K v0 v1 (nI 0) h
theorem eX5_joins (cal : ix_C) (K : ix_K) (v0 : Nat) (v1 : Option Nat) (h : ix_H) : ix_fwd cal K stX5_joins 0 [(0, ix_R (some v0)), (1, ix_R v1)] [] h = bX5_joins cal K v0 v1 h := rfl
theorem rX5_joins (N d : Nat) (v0 : Nat) (v1 : Option Nat) (h : ix_H) : ix_run iy_P N (d + 1) 215 [ix_R (some v0), ix_R v1] h = bX5_joins (ix_run iy_P N d) (ix_lp (ix_run iy_P N d) stX5_joins N) v0 v1 h := (rfl : ix_run iy_P N (d + 1) 215 [ix_R (some v0), ix_R v1] h = ix_fwd (ix_run iy_P N d) (ix_lp (ix_run iy_P N d) stX5_joins N) stX5_joins 0 [(0, ix_R (some v0)), (1, ix_R v1)] [] h).trans (eX5_joins _ _ v0 v1 h)
theorem lX5_joins_2 (cal : ix_C) (n : Nat) (v0 : Nat) (v1 : Option Nat) (v2 : Int32) (h : ix_H) : ix_lp cal stX5_joins (n + 1) 2 [(0, ix_R (some v0)), (1, ix_R v1), (2, ix_I v2)] [] h = jX5_joins_2 cal (ix_lp cal stX5_joins n) v0 v1 v2 h := jX5_joins_2_eq cal (ix_lp cal stX5_joins n) v0 v1 v2 h
def jX5_upTo_16 (cal : ix_C) (K : ix_K) (v2 : Int32) (h : ix_H) : ix_O :=
  some (.inl (some (ix_I v2)), h)
theorem jX5_upTo_16_eq (cal : ix_C) (K : ix_K) (v2 : Int32) (h : ix_H) : ix_fwd cal K (stX5_upTo.drop 16) 0 [(2, ix_I v2)] [] h = jX5_upTo_16 cal K v2 h := rfl
def jX5_upTo_5 (cal : ix_C) (K : ix_K) (v0 : Nat) (v1 : Int32) (v2 : Int32) (h : ix_H) : ix_O :=
  if v2 < nI 0 then
    jX5_upTo_16 cal K v2 h
  else
    (ix_is h 6 (some v0)).bind fun a2 =>
    (ix_atr h 101 (ix_fR h a2 0) v2).bind fun a3 =>
    if (ix_aI h a3 v2.toNatClampNeg) ≤ v1 then
      jX5_upTo_16 cal K v2 h
    else
      K 5 [(0, ix_R (some v0)), (1, ix_I v1), (2, ix_I (v2 + (-1)))] [] h
theorem jX5_upTo_5_eq (cal : ix_C) (K : ix_K) (v0 : Nat) (v1 : Int32) (v2 : Int32) (h : ix_H) : ix_fwd cal K (stX5_upTo.drop 5) 0 [(0, ix_R (some v0)), (1, ix_I v1), (2, ix_I v2)] [] h = jX5_upTo_5 cal K v0 v1 v2 h := rfl
def bX5_upTo (cal : ix_C) (K : ix_K) (v0 : Nat) (v1 : Int32) (h : ix_H) : ix_O :=
  (ix_is h 6 (some v0)).bind fun a1 =>
  jX5_upTo_5 cal K v0 v1 ((ix_fI h a1 3) - (nI 1)) h
theorem eX5_upTo (cal : ix_C) (K : ix_K) (v0 : Nat) (v1 : Int32) (h : ix_H) : ix_fwd cal K stX5_upTo 0 [(0, ix_R (some v0)), (1, ix_I v1)] [] h = bX5_upTo cal K v0 v1 h := rfl
theorem rX5_upTo (N d : Nat) (v0 : Nat) (v1 : Int32) (h : ix_H) : ix_run iy_P N (d + 1) 216 [ix_R (some v0), ix_I v1] h = bX5_upTo (ix_run iy_P N d) (ix_lp (ix_run iy_P N d) stX5_upTo N) v0 v1 h := (rfl : ix_run iy_P N (d + 1) 216 [ix_R (some v0), ix_I v1] h = ix_fwd (ix_run iy_P N d) (ix_lp (ix_run iy_P N d) stX5_upTo N) stX5_upTo 0 [(0, ix_R (some v0)), (1, ix_I v1)] [] h).trans (eX5_upTo _ _ v0 v1 h)
theorem lX5_upTo_5 (cal : ix_C) (n : Nat) (v0 : Nat) (v1 : Int32) (v2 : Int32) (h : ix_H) : ix_lp cal stX5_upTo (n + 1) 5 [(0, ix_R (some v0)), (1, ix_I v1), (2, ix_I v2)] [] h = jX5_upTo_5 cal (ix_lp cal stX5_upTo n) v0 v1 v2 h := jX5_upTo_5_eq cal (ix_lp cal stX5_upTo n) v0 v1 v2 h
def bX5_becomes (cal : ix_C) (K : ix_K) (v0 : Nat) (v1 : Option Nat) (h : ix_H) : ix_O :=
  (ix_is h 6 v1).bind fun a1 =>
  (ix_is h 6 v1).bind fun a2 =>
  (ix_is h 6 v1).bind fun a3 =>
  (ix_is h 6 v1).bind fun a4 =>
  (ix_isr h 6 (some v0)).bind fun a6 =>
  (ix_rV (cal 208 [ix_R (some a6), ix_I (ix_fI h a1 2), ix_I (ix_fI h a2 6), ix_I (ix_fI h a3 7), ix_I (ix_fI h a4 8)] h)).bind fun r5 =>
  (ix_isr r5 6 (some v0)).bind fun a8 =>
  (ix_rV (cal 211 [ix_R (some a8), ix_R v1] r5)).bind fun r7 =>
  (ix_is r7 6 v1).bind fun a9 =>
  (ix_is r7 6 (some v0)).bind fun a10 =>
  ix_bd (ix_wfI r7 a10 9 (ix_fI r7 a9 9)) fun h11 =>
  (ix_is h11 6 v1).bind fun a12 =>
  (ix_is h11 6 (some v0)).bind fun a13 =>
  ix_bd (ix_wfI h11 a13 10 (ix_fI h11 a12 10)) fun h14 =>
  (ix_is h14 6 v1).bind fun a15 =>
  (ix_is h14 6 (some v0)).bind fun a16 =>
  cond (ix_okn 1 (ix_fI h14 a15 11)) (
  ix_bd (ix_wfI h14 a16 11 (ix_fI h14 a15 11)) fun h17 =>
    some (.inl none, h17)) none
theorem eX5_becomes (cal : ix_C) (K : ix_K) (v0 : Nat) (v1 : Option Nat) (h : ix_H) : ix_fwd cal K stX5_becomes 0 [(0, ix_R (some v0)), (1, ix_R v1)] [] h = bX5_becomes cal K v0 v1 h := rfl
theorem rX5_becomes (N d : Nat) (v0 : Nat) (v1 : Option Nat) (h : ix_H) : ix_run iy_P N (d + 1) 217 [ix_R (some v0), ix_R v1] h = bX5_becomes (ix_run iy_P N d) (ix_lp (ix_run iy_P N d) stX5_becomes N) v0 v1 h := (rfl : ix_run iy_P N (d + 1) 217 [ix_R (some v0), ix_R v1] h = ix_fwd (ix_run iy_P N d) (ix_lp (ix_run iy_P N d) stX5_becomes N) stX5_becomes 0 [(0, ix_R (some v0)), (1, ix_R v1)] [] h).trans (eX5_becomes _ _ v0 v1 h)
def bX6_init (cal : ix_C) (K : ix_K) (v0 : Nat) (h : ix_H) : ix_O :=
  some (.inl none, h)
theorem eX6_init (cal : ix_C) (K : ix_K) (v0 : Nat) (h : ix_H) : ix_fwd cal K stX6_init 0 [(0, ix_R (some v0))] [] h = bX6_init cal K v0 h := rfl
theorem rX6_init (N d : Nat) (v0 : Nat) (h : ix_H) : ix_run iy_P N (d + 1) 218 [ix_R (some v0)] h = bX6_init (ix_run iy_P N d) (ix_lp (ix_run iy_P N d) stX6_init N) v0 h := (rfl : ix_run iy_P N (d + 1) 218 [ix_R (some v0)] h = ix_fwd (ix_run iy_P N d) (ix_lp (ix_run iy_P N d) stX6_init N) stX6_init 0 [(0, ix_R (some v0))] [] h).trans (eX6_init _ _ v0 h)
def bX6_begins (cal : ix_C) (K : ix_K) (v0 : Nat) (h : ix_H) : ix_O :=
  (ix_is h 7 (some v0)).bind fun a1 =>
  ix_bd (ix_wfI h a1 0 (nI 0)) fun h2 =>
  (ix_is h2 7 (some v0)).bind fun a3 =>
  ix_bd (ix_wfI h2 a3 3 (nI 0)) fun h4 =>
  (ix_is h4 7 (some v0)).bind fun a5 =>
  ix_bd (ix_wfI h4 a5 4 (-2 : Int32)) fun h6 =>
  (ix_is h6 7 (some v0)).bind fun a7 =>
  ix_bd (ix_wfI h6 a7 1 (-2 : Int32)) fun h8 =>
  (ix_is h8 7 (some v0)).bind fun a9 =>
  ix_bd (ix_wfI h8 a9 11 (nI 0)) fun h10 =>
  (ix_is h10 7 (some v0)).bind fun a11 =>
  ix_bd (ix_wfI h10 a11 12 (nI 0)) fun h12 =>
  (ix_is h12 7 (some v0)).bind fun a13 =>
  ix_bd (ix_wfI h12 a13 13 (-2 : Int32)) fun h14 =>
  (ix_is h14 7 (some v0)).bind fun a15 =>
  ix_bd (ix_wfI h14 a15 14 (nI 0)) fun h16 =>
  (ix_is h16 7 (some v0)).bind fun a17 =>
  cond (ix_okn 1 (nI 0)) (
  ix_bd (ix_wfI h16 a17 15 (nI 0)) fun h18 =>
    some (.inl none, h18)) none
theorem eX6_begins (cal : ix_C) (K : ix_K) (v0 : Nat) (h : ix_H) : ix_fwd cal K stX6_begins 0 [(0, ix_R (some v0))] [] h = bX6_begins cal K v0 h := rfl
theorem rX6_begins (N d : Nat) (v0 : Nat) (h : ix_H) : ix_run iy_P N (d + 1) 219 [ix_R (some v0)] h = bX6_begins (ix_run iy_P N d) (ix_lp (ix_run iy_P N d) stX6_begins N) v0 h := (rfl : ix_run iy_P N (d + 1) 219 [ix_R (some v0)] h = ix_fwd (ix_run iy_P N d) (ix_lp (ix_run iy_P N d) stX6_begins N) stX6_begins 0 [(0, ix_R (some v0))] [] h).trans (eX6_begins _ _ v0 h)
def bX6_tells (cal : ix_C) (K : ix_K) (v0 : Nat) (v1 : Int32) (h : ix_H) : ix_O :=
  (ix_is h 7 (some v0)).bind fun a1 =>
  ix_bd (ix_wfI h a1 14 v1) fun h2 =>
  (ix_is h2 7 (some v0)).bind fun a3 =>
  cond (ix_okn 1 (nI 1)) (
  ix_bd (ix_wfI h2 a3 15 (nI 1)) fun h4 =>
    (ix_isr h4 7 (some v0)).bind fun a6 =>
    (ix_rI (cal 221 [ix_R (some a6)] h4)).bind fun r5 =>
    some (.inl (some (ix_I r5.1)), r5.2)) none
theorem eX6_tells (cal : ix_C) (K : ix_K) (v0 : Nat) (v1 : Int32) (h : ix_H) : ix_fwd cal K stX6_tells 0 [(0, ix_R (some v0)), (1, ix_I v1)] [] h = bX6_tells cal K v0 v1 h := rfl
theorem rX6_tells (N d : Nat) (v0 : Nat) (v1 : Int32) (h : ix_H) : ix_run iy_P N (d + 1) 220 [ix_R (some v0), ix_I v1] h = bX6_tells (ix_run iy_P N d) (ix_lp (ix_run iy_P N d) stX6_tells N) v0 v1 h := (rfl : ix_run iy_P N (d + 1) 220 [ix_R (some v0), ix_I v1] h = ix_fwd (ix_run iy_P N d) (ix_lp (ix_run iy_P N d) stX6_tells N) stX6_tells 0 [(0, ix_R (some v0)), (1, ix_I v1)] [] h).trans (eX6_tells _ _ v0 v1 h)
def bX6_rests (cal : ix_C) (K : ix_K) (v0 : Nat) (h : ix_H) : ix_O :=
  (ix_is h 7 (some v0)).bind fun a1 =>
  ix_bd (ix_wfI h a1 13 (-2 : Int32)) fun h2 =>
  some (.inl (some (ix_I (nI 0))), h2)
theorem eX6_rests (cal : ix_C) (K : ix_K) (v0 : Nat) (h : ix_H) : ix_fwd cal K stX6_rests 0 [(0, ix_R (some v0))] [] h = bX6_rests cal K v0 h := rfl
theorem rX6_rests (N d : Nat) (v0 : Nat) (h : ix_H) : ix_run iy_P N (d + 1) 221 [ix_R (some v0)] h = bX6_rests (ix_run iy_P N d) (ix_lp (ix_run iy_P N d) stX6_rests N) v0 h := (rfl : ix_run iy_P N (d + 1) 221 [ix_R (some v0)] h = ix_fwd (ix_run iy_P N d) (ix_lp (ix_run iy_P N d) stX6_rests N) stX6_rests 0 [(0, ix_R (some v0))] [] h).trans (eX6_rests _ _ v0 h)
def bX6_lost (cal : ix_C) (K : ix_K) (v0 : Nat) (v1 : Int32) (h : ix_H) : ix_O :=
  (ix_is h 7 (some v0)).bind fun a1 =>
  (ix_is h 7 (some v0)).bind fun a2 =>
  ix_bd (ix_wfI h a2 11 ((ix_fI h a1 11) + (nI 1))) fun h3 =>
  some (.inl (some (ix_I v1)), h3)
theorem eX6_lost (cal : ix_C) (K : ix_K) (v0 : Nat) (v1 : Int32) (h : ix_H) : ix_fwd cal K stX6_lost 0 [(0, ix_R (some v0)), (1, ix_I v1)] [] h = bX6_lost cal K v0 v1 h := rfl
theorem rX6_lost (N d : Nat) (v0 : Nat) (v1 : Int32) (h : ix_H) : ix_run iy_P N (d + 1) 222 [ix_R (some v0), ix_I v1] h = bX6_lost (ix_run iy_P N d) (ix_lp (ix_run iy_P N d) stX6_lost N) v0 v1 h := (rfl : ix_run iy_P N (d + 1) 222 [ix_R (some v0), ix_I v1] h = ix_fwd (ix_run iy_P N d) (ix_lp (ix_run iy_P N d) stX6_lost N) stX6_lost 0 [(0, ix_R (some v0)), (1, ix_I v1)] [] h).trans (eX6_lost _ _ v0 v1 h)
def jX6_goesOn_7 (cal : ix_C) (K : ix_K) (s0 : Int32) (h : ix_H) : ix_O :=
  some (.inl (some (ix_I s0)), h)
theorem jX6_goesOn_7_eq (cal : ix_C) (K : ix_K) (s0 : Int32) (h : ix_H) : ix_fwd cal K (stX6_goesOn.drop 7) 0 [] [ix_I s0] h = jX6_goesOn_7 cal K s0 h := rfl
def bX6_goesOn (cal : ix_C) (K : ix_K) (v0 : Nat) (h : ix_H) : ix_O :=
  (ix_is h 7 (some v0)).bind fun a1 =>
  if (ix_fI h a1 15) = nI 0 then
    jX6_goesOn_7 cal K (nI 1) h
  else
    (ix_isr h 7 (some v0)).bind fun a3 =>
    (ix_rI (cal 221 [ix_R (some a3)] h)).bind fun r2 =>
    jX6_goesOn_7 cal K r2.1 r2.2
theorem eX6_goesOn (cal : ix_C) (K : ix_K) (v0 : Nat) (h : ix_H) : ix_fwd cal K stX6_goesOn 0 [(0, ix_R (some v0))] [] h = bX6_goesOn cal K v0 h := rfl
theorem rX6_goesOn (N d : Nat) (v0 : Nat) (h : ix_H) : ix_run iy_P N (d + 1) 223 [ix_R (some v0)] h = bX6_goesOn (ix_run iy_P N d) (ix_lp (ix_run iy_P N d) stX6_goesOn N) v0 h := (rfl : ix_run iy_P N (d + 1) 223 [ix_R (some v0)] h = ix_fwd (ix_run iy_P N d) (ix_lp (ix_run iy_P N d) stX6_goesOn N) stX6_goesOn 0 [(0, ix_R (some v0))] [] h).trans (eX6_goesOn _ _ v0 h)
def bX6_becomes (cal : ix_C) (K : ix_K) (v0 : Nat) (v1 : Option Nat) (h : ix_H) : ix_O :=
  (ix_is h 7 v1).bind fun a1 =>
  (ix_is h 7 (some v0)).bind fun a2 =>
  ix_bd (ix_wfI h a2 0 (ix_fI h a1 0)) fun h3 =>
  (ix_is h3 7 v1).bind fun a4 =>
  (ix_is h3 7 (some v0)).bind fun a5 =>
  ix_bd (ix_wfI h3 a5 1 (ix_fI h3 a4 1)) fun h6 =>
  (ix_is h6 7 v1).bind fun a7 =>
  (ix_is h6 7 (some v0)).bind fun a8 =>
  ix_bd (ix_wfI h6 a8 2 (ix_fI h6 a7 2)) fun h9 =>
  (ix_is h9 7 v1).bind fun a10 =>
  (ix_is h9 7 (some v0)).bind fun a11 =>
  ix_bd (ix_wfI h9 a11 3 (ix_fI h9 a10 3)) fun h12 =>
  (ix_is h12 7 v1).bind fun a13 =>
  (ix_is h12 7 (some v0)).bind fun a14 =>
  ix_bd (ix_wfI h12 a14 4 (ix_fI h12 a13 4)) fun h15 =>
  (ix_is h15 7 v1).bind fun a16 =>
  (ix_is h15 7 (some v0)).bind fun a17 =>
  ix_bd (ix_wfI h15 a17 5 (ix_fI h15 a16 5)) fun h18 =>
  (ix_is h18 7 v1).bind fun a19 =>
  (ix_is h18 7 (some v0)).bind fun a20 =>
  ix_bd (ix_wfI h18 a20 6 (ix_fI h18 a19 6)) fun h21 =>
  (ix_is h21 7 v1).bind fun a22 =>
  (ix_is h21 7 (some v0)).bind fun a23 =>
  ix_bd (ix_wfI h21 a23 7 (ix_fI h21 a22 7)) fun h24 =>
  (ix_is h24 7 v1).bind fun a25 =>
  (ix_is h24 7 (some v0)).bind fun a26 =>
  ix_bd (ix_wfI h24 a26 8 (ix_fI h24 a25 8)) fun h27 =>
  (ix_is h27 7 v1).bind fun a28 =>
  (ix_is h27 7 (some v0)).bind fun a29 =>
  ix_bd (ix_wfI h27 a29 9 (ix_fI h27 a28 9)) fun h30 =>
  (ix_is h30 7 v1).bind fun a31 =>
  (ix_is h30 7 (some v0)).bind fun a32 =>
  ix_bd (ix_wfI h30 a32 10 (ix_fI h30 a31 10)) fun h33 =>
  (ix_is h33 7 v1).bind fun a34 =>
  (ix_is h33 7 (some v0)).bind fun a35 =>
  ix_bd (ix_wfI h33 a35 11 (ix_fI h33 a34 11)) fun h36 =>
  (ix_is h36 7 v1).bind fun a37 =>
  (ix_is h36 7 (some v0)).bind fun a38 =>
  ix_bd (ix_wfI h36 a38 12 (ix_fI h36 a37 12)) fun h39 =>
  (ix_is h39 7 v1).bind fun a40 =>
  (ix_is h39 7 (some v0)).bind fun a41 =>
  ix_bd (ix_wfI h39 a41 13 (ix_fI h39 a40 13)) fun h42 =>
  (ix_is h42 7 v1).bind fun a43 =>
  (ix_is h42 7 (some v0)).bind fun a44 =>
  ix_bd (ix_wfI h42 a44 14 (ix_fI h42 a43 14)) fun h45 =>
  (ix_is h45 7 v1).bind fun a46 =>
  (ix_is h45 7 (some v0)).bind fun a47 =>
  cond (ix_okn 1 (ix_fI h45 a46 15)) (
  ix_bd (ix_wfI h45 a47 15 (ix_fI h45 a46 15)) fun h48 =>
    some (.inl none, h48)) none
theorem eX6_becomes (cal : ix_C) (K : ix_K) (v0 : Nat) (v1 : Option Nat) (h : ix_H) : ix_fwd cal K stX6_becomes 0 [(0, ix_R (some v0)), (1, ix_R v1)] [] h = bX6_becomes cal K v0 v1 h := rfl
theorem rX6_becomes (N d : Nat) (v0 : Nat) (v1 : Option Nat) (h : ix_H) : ix_run iy_P N (d + 1) 224 [ix_R (some v0), ix_R v1] h = bX6_becomes (ix_run iy_P N d) (ix_lp (ix_run iy_P N d) stX6_becomes N) v0 v1 h := (rfl : ix_run iy_P N (d + 1) 224 [ix_R (some v0), ix_R v1] h = ix_fwd (ix_run iy_P N d) (ix_lp (ix_run iy_P N d) stX6_becomes N) stX6_becomes 0 [(0, ix_R (some v0)), (1, ix_R v1)] [] h).trans (eX6_becomes _ _ v0 v1 h)
