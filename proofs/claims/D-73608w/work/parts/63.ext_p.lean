/-! BODIES. Written by gen_ext.py -/
set_option maxRecDepth 100000
def bX1_init (cal : ix_C) (K : ix_K) (v0 : Nat) (h : ix_H) : ix_O :=
  (ix_isr h 2 (some v0)).bind fun a2 =>
  (ix_rV (cal 36 [ix_R (some a2), ix_R (some (ix_cs h 0)), ix_R none, ix_I (nI 0), ix_I (nI 0)] h)).bind fun r1 =>
  some (.inl none, r1)
theorem eX1_init (cal : ix_C) (K : ix_K) (v0 : Nat) (h : ix_H) : ix_fwd cal K stX1_init 0 [(0, ix_R (some v0))] [] h = bX1_init cal K v0 h := rfl
theorem rX1_init (N d : Nat) (v0 : Nat) (h : ix_H) : ix_run iy_P N (d + 1) 117 [ix_R (some v0)] h = bX1_init (ix_run iy_P N d) (ix_lp (ix_run iy_P N d) stX1_init N) v0 h := (rfl : ix_run iy_P N (d + 1) 117 [ix_R (some v0)] h = ix_fwd (ix_run iy_P N d) (ix_lp (ix_run iy_P N d) stX1_init N) stX1_init 0 [(0, ix_R (some v0))] [] h).trans (eX1_init _ _ v0 h)
def bX1_of (cal : ix_C) (K : ix_K) (v0 : Nat) (v1 : Int32) (v2 : Int32) (h : ix_H) : ix_O :=
  (ix_is h 2 (some v0)).bind fun a1 =>
  ix_bd (ix_wfI h a1 6 v1) fun h2 =>
  (ix_is h2 2 (some v0)).bind fun a3 =>
  ix_bd (ix_wfI h2 a3 7 v2) fun h4 =>
  some (.inl (some (ix_R (some v0))), h4)
theorem eX1_of (cal : ix_C) (K : ix_K) (v0 : Nat) (v1 : Int32) (v2 : Int32) (h : ix_H) : ix_fwd cal K stX1_of 0 [(0, ix_R (some v0)), (1, ix_I v1), (2, ix_I v2)] [] h = bX1_of cal K v0 v1 v2 h := rfl
theorem rX1_of (N d : Nat) (v0 : Nat) (v1 : Int32) (v2 : Int32) (h : ix_H) : ix_run iy_P N (d + 1) 118 [ix_R (some v0), ix_I v1, ix_I v2] h = bX1_of (ix_run iy_P N d) (ix_lp (ix_run iy_P N d) stX1_of N) v0 v1 v2 h := (rfl : ix_run iy_P N (d + 1) 118 [ix_R (some v0), ix_I v1, ix_I v2] h = ix_fwd (ix_run iy_P N d) (ix_lp (ix_run iy_P N d) stX1_of N) stX1_of 0 [(0, ix_R (some v0)), (1, ix_I v1), (2, ix_I v2)] [] h).trans (eX1_of _ _ v0 v1 v2 h)
def jX10_act_37 (cal : ix_C) (K : ix_K) (s0 : Int32) (h : ix_H) : ix_O :=
  some (.inl (some (ix_I s0)), h)
theorem jX10_act_37_eq (cal : ix_C) (K : ix_K) (s0 : Int32) (h : ix_H) : ix_fwd cal K (stX10_act.drop 37) 0 [] [ix_I s0] h = jX10_act_37 cal K s0 h := rfl
def jX10_act_27 (cal : ix_C) (K : ix_K) (v2 : Int32) (h : ix_H) : ix_O :=
  if v2 = nI 0 then
    jX10_act_37 cal K (nI 1) h
  else
  if v2 = nI 1 then
    jX10_act_37 cal K (nI 2) h
  else
  if v2 = nI 2 then
    jX10_act_37 cal K (nI 3) h
  else
    jX10_act_37 cal K (nI 0) h
theorem jX10_act_27_eq (cal : ix_C) (K : ix_K) (v2 : Int32) (h : ix_H) : ix_fwd cal K (stX10_act.drop 27) 0 [(2, ix_I v2)] [] h = jX10_act_27 cal K v2 h := rfl
def bX10_act (cal : ix_C) (K : ix_K) (v0 : Option Nat) (h : ix_H) : ix_O :=
  (ix_isr h 19 v0).bind fun a2 =>
  (ix_rI (cal 56 [ix_R (some a2)] h)).bind fun r1 =>
  if r1.1 = nI 98882 then
    (ix_isr r1.2 19 v0).bind fun a4 =>
    (ix_rI (cal 55 [ix_R (some a4), ix_R (some (ix_cs r1.2 2))] r1.2)).bind fun r3 =>
    if r3.1 = nI 0 then
      jX10_act_27 cal K (-1 : Int32) r3.2
    else
      jX10_act_27 cal K (nI 1) r3.2
  else
  if r1.1 = nI 102230 then
    (ix_isr r1.2 19 v0).bind fun a6 =>
    (ix_rI (cal 55 [ix_R (some a6), ix_R (some (ix_cs r1.2 3))] r1.2)).bind fun r5 =>
    if r5.1 = nI 0 then
      jX10_act_27 cal K (-1 : Int32) r5.2
    else
      jX10_act_27 cal K (nI 2) r5.2
  else
  if r1.1 = nI 111375 then
    (ix_isr r1.2 19 v0).bind fun a8 =>
    (ix_rI (cal 55 [ix_R (some a8), ix_R (some (ix_cs r1.2 1))] r1.2)).bind fun r7 =>
    if r7.1 = nI 0 then
      jX10_act_27 cal K (-1 : Int32) r7.2
    else
      jX10_act_27 cal K (nI 0) r7.2
  else
    jX10_act_27 cal K (-1 : Int32) r1.2
theorem eX10_act (cal : ix_C) (K : ix_K) (v0 : Option Nat) (h : ix_H) : ix_fwd cal K stX10_act 0 [(0, ix_R v0)] [] h = bX10_act cal K v0 h := rfl
theorem rX10_act (N d : Nat) (v0 : Option Nat) (h : ix_H) : ix_run iy_P N (d + 1) 119 [ix_R v0] h = bX10_act (ix_run iy_P N d) (ix_lp (ix_run iy_P N d) stX10_act N) v0 h := (rfl : ix_run iy_P N (d + 1) 119 [ix_R v0] h = ix_fwd (ix_run iy_P N d) (ix_lp (ix_run iy_P N d) stX10_act N) stX10_act 0 [(0, ix_R v0)] [] h).trans (eX10_act _ _ v0 h)
def bX10_counts (cal : ix_C) (K : ix_K) (v0 : Nat) (h : ix_H) : ix_O :=
  some (.inl (some (ix_I (nI 1))), h)
theorem eX10_counts (cal : ix_C) (K : ix_K) (v0 : Nat) (h : ix_H) : ix_fwd cal K stX10_counts 0 [(0, ix_R (some v0))] [] h = bX10_counts cal K v0 h := rfl
theorem rX10_counts (N d : Nat) (v0 : Nat) (h : ix_H) : ix_run iy_P N (d + 1) 120 [ix_R (some v0)] h = bX10_counts (ix_run iy_P N d) (ix_lp (ix_run iy_P N d) stX10_counts N) v0 h := (rfl : ix_run iy_P N (d + 1) 120 [ix_R (some v0)] h = ix_fwd (ix_run iy_P N d) (ix_lp (ix_run iy_P N d) stX10_counts N) stX10_counts 0 [(0, ix_R (some v0))] [] h).trans (eX10_counts _ _ v0 h)
def bX10_keyOf (cal : ix_C) (K : ix_K) (v0 : Option Nat) (v1 : Option Nat) (h : ix_H) : ix_O :=
  ix_dsp h [ix_R v0, ix_R v1] [(11, 124), (12, 126), (13, 128)] fun y as =>
  (ix_rI (cal y as h)).bind fun r1 =>
  (ix_rI (cal 26 [ix_I r1.1, ix_I (nI 1000)] r1.2)).bind fun r2 =>
  some (.inl (some (ix_I r2.1)), r2.2)
theorem eX10_keyOf (cal : ix_C) (K : ix_K) (v0 : Option Nat) (v1 : Option Nat) (h : ix_H) : ix_fwd cal K stX10_keyOf 0 [(0, ix_R v0), (1, ix_R v1)] [] h = bX10_keyOf cal K v0 v1 h := rfl
theorem rX10_keyOf (N d : Nat) (v0 : Option Nat) (v1 : Option Nat) (h : ix_H) : ix_run iy_P N (d + 1) 121 [ix_R v0, ix_R v1] h = bX10_keyOf (ix_run iy_P N d) (ix_lp (ix_run iy_P N d) stX10_keyOf N) v0 v1 h := (rfl : ix_run iy_P N (d + 1) 121 [ix_R v0, ix_R v1] h = ix_fwd (ix_run iy_P N d) (ix_lp (ix_run iy_P N d) stX10_keyOf N) stX10_keyOf 0 [(0, ix_R v0), (1, ix_R v1)] [] h).trans (eX10_keyOf _ _ v0 v1 h)
def bX11_init (cal : ix_C) (K : ix_K) (v0 : Nat) (h : ix_H) : ix_O :=
  some (.inl none, h)
theorem eX11_init (cal : ix_C) (K : ix_K) (v0 : Nat) (h : ix_H) : ix_fwd cal K stX11_init 0 [(0, ix_R (some v0))] [] h = bX11_init cal K v0 h := rfl
theorem rX11_init (N d : Nat) (v0 : Nat) (h : ix_H) : ix_run iy_P N (d + 1) 122 [ix_R (some v0)] h = bX11_init (ix_run iy_P N d) (ix_lp (ix_run iy_P N d) stX11_init N) v0 h := (rfl : ix_run iy_P N (d + 1) 122 [ix_R (some v0)] h = ix_fwd (ix_run iy_P N d) (ix_lp (ix_run iy_P N d) stX11_init N) stX11_init 0 [(0, ix_R (some v0))] [] h).trans (eX11_init _ _ v0 h)
def bX12_init (cal : ix_C) (K : ix_K) (v0 : Nat) (v1 : Int32) (h : ix_H) : ix_O :=
  (ix_isr h 11 (some v0)).bind fun a2 =>
  (ix_rV (cal 122 [ix_R (some a2)] h)).bind fun r1 =>
  (ix_is r1 11 (some v0)).bind fun a3 =>
  ix_bd (ix_wfI r1 a3 0 v1) fun h4 =>
  some (.inl none, h4)
theorem eX12_init (cal : ix_C) (K : ix_K) (v0 : Nat) (v1 : Int32) (h : ix_H) : ix_fwd cal K stX12_init 0 [(0, ix_R (some v0)), (1, ix_I v1)] [] h = bX12_init cal K v0 v1 h := rfl
theorem rX12_init (N d : Nat) (v0 : Nat) (v1 : Int32) (h : ix_H) : ix_run iy_P N (d + 1) 123 [ix_R (some v0), ix_I v1] h = bX12_init (ix_run iy_P N d) (ix_lp (ix_run iy_P N d) stX12_init N) v0 v1 h := (rfl : ix_run iy_P N (d + 1) 123 [ix_R (some v0), ix_I v1] h = ix_fwd (ix_run iy_P N d) (ix_lp (ix_run iy_P N d) stX12_init N) stX12_init 0 [(0, ix_R (some v0)), (1, ix_I v1)] [] h).trans (eX12_init _ _ v0 v1 h)
def bX12_of (cal : ix_C) (K : ix_K) (v0 : Nat) (v1 : Option Nat) (h : ix_H) : ix_O :=
  (ix_is h 11 (some v0)).bind fun a1 =>
  some (.inl (some (ix_I (ix_fI h a1 0))), h)
theorem eX12_of (cal : ix_C) (K : ix_K) (v0 : Nat) (v1 : Option Nat) (h : ix_H) : ix_fwd cal K stX12_of 0 [(0, ix_R (some v0)), (1, ix_R v1)] [] h = bX12_of cal K v0 v1 h := rfl
theorem rX12_of (N d : Nat) (v0 : Nat) (v1 : Option Nat) (h : ix_H) : ix_run iy_P N (d + 1) 124 [ix_R (some v0), ix_R v1] h = bX12_of (ix_run iy_P N d) (ix_lp (ix_run iy_P N d) stX12_of N) v0 v1 h := (rfl : ix_run iy_P N (d + 1) 124 [ix_R (some v0), ix_R v1] h = ix_fwd (ix_run iy_P N d) (ix_lp (ix_run iy_P N d) stX12_of N) stX12_of 0 [(0, ix_R (some v0)), (1, ix_R v1)] [] h).trans (eX12_of _ _ v0 v1 h)
def bX13_init (cal : ix_C) (K : ix_K) (v0 : Nat) (v1 : Int32) (h : ix_H) : ix_O :=
  (ix_isr h 12 (some v0)).bind fun a2 =>
  (ix_rV (cal 122 [ix_R (some a2)] h)).bind fun r1 =>
  (ix_is r1 12 (some v0)).bind fun a3 =>
  ix_bd (ix_wfI r1 a3 0 v1) fun h4 =>
  some (.inl none, h4)
theorem eX13_init (cal : ix_C) (K : ix_K) (v0 : Nat) (v1 : Int32) (h : ix_H) : ix_fwd cal K stX13_init 0 [(0, ix_R (some v0)), (1, ix_I v1)] [] h = bX13_init cal K v0 v1 h := rfl
theorem rX13_init (N d : Nat) (v0 : Nat) (v1 : Int32) (h : ix_H) : ix_run iy_P N (d + 1) 125 [ix_R (some v0), ix_I v1] h = bX13_init (ix_run iy_P N d) (ix_lp (ix_run iy_P N d) stX13_init N) v0 v1 h := (rfl : ix_run iy_P N (d + 1) 125 [ix_R (some v0), ix_I v1] h = ix_fwd (ix_run iy_P N d) (ix_lp (ix_run iy_P N d) stX13_init N) stX13_init 0 [(0, ix_R (some v0)), (1, ix_I v1)] [] h).trans (eX13_init _ _ v0 v1 h)
def jX13_of_25 (cal : ix_C) (K : ix_K) (s0 : Int32) (h : ix_H) : ix_O :=
  some (.inl (some (ix_I s0)), h)
theorem jX13_of_25_eq (cal : ix_C) (K : ix_K) (s0 : Int32) (h : ix_H) : ix_fwd cal K (stX13_of.drop 25) 0 [] [ix_I s0] h = jX13_of_25 cal K s0 h := rfl
def bX13_of (cal : ix_C) (K : ix_K) (v0 : Nat) (v1 : Option Nat) (h : ix_H) : ix_O :=
  (ix_is h 12 (some v0)).bind fun a1 =>
  if (ix_fI h a1 0) = nI 0 then
    (ix_isr h 17 v1).bind fun a3 =>
    (ix_rI (cal 137 [ix_R (some a3), ix_I (nI 0)] h)).bind fun r2 =>
    jX13_of_25 cal K r2.1 r2.2
  else
  if (ix_fI h a1 0) = nI 1 then
    (ix_isr h 17 v1).bind fun a5 =>
    (ix_rI (cal 137 [ix_R (some a5), ix_I (nI 1)] h)).bind fun r4 =>
    jX13_of_25 cal K r4.1 r4.2
  else
  if (ix_fI h a1 0) = nI 2 then
    (ix_is h 17 v1).bind fun a6 =>
    (ix_isr h 5 (ix_fR h a6 0)).bind fun a8 =>
    (ix_rI (cal 174 [ix_R (some a8)] h)).bind fun r7 =>
    jX13_of_25 cal K r7.1 r7.2
  else
  if (ix_fI h a1 0) = nI 3 then
    (ix_is h 17 v1).bind fun a9 =>
    jX13_of_25 cal K (ix_fI h a9 3) h
  else
  if (ix_fI h a1 0) = nI 4 then
    (ix_is h 17 v1).bind fun a10 =>
    (ix_is h 5 (ix_fR h a10 0)).bind fun a11 =>
    jX13_of_25 cal K (ix_fI h a11 3) h
  else
    (ix_is h 17 v1).bind fun a12 =>
    (ix_isr h 5 (ix_fR h a12 0)).bind fun a14 =>
    (ix_rI (cal 177 [ix_R (some a14)] h)).bind fun r13 =>
    jX13_of_25 cal K r13.1 r13.2
theorem eX13_of (cal : ix_C) (K : ix_K) (v0 : Nat) (v1 : Option Nat) (h : ix_H) : ix_fwd cal K stX13_of 0 [(0, ix_R (some v0)), (1, ix_R v1)] [] h = bX13_of cal K v0 v1 h := rfl
theorem rX13_of (N d : Nat) (v0 : Nat) (v1 : Option Nat) (h : ix_H) : ix_run iy_P N (d + 1) 126 [ix_R (some v0), ix_R v1] h = bX13_of (ix_run iy_P N d) (ix_lp (ix_run iy_P N d) stX13_of N) v0 v1 h := (rfl : ix_run iy_P N (d + 1) 126 [ix_R (some v0), ix_R v1] h = ix_fwd (ix_run iy_P N d) (ix_lp (ix_run iy_P N d) stX13_of N) stX13_of 0 [(0, ix_R (some v0)), (1, ix_R v1)] [] h).trans (eX13_of _ _ v0 v1 h)
def bX14_init (cal : ix_C) (K : ix_K) (v0 : Nat) (v1 : Int32) (v2 : Option Nat) (v3 : Option Nat) (h : ix_H) : ix_O :=
  (ix_isr h 13 (some v0)).bind fun a2 =>
  (ix_rV (cal 122 [ix_R (some a2)] h)).bind fun r1 =>
  (ix_is r1 13 (some v0)).bind fun a3 =>
  ix_bd (ix_wfI r1 a3 0 v1) fun h4 =>
  (ix_is h4 13 (some v0)).bind fun a5 =>
  ix_bd (ix_wfR h4 a5 1 v2) fun h6 =>
  (ix_is h6 13 (some v0)).bind fun a7 =>
  ix_bd (ix_wfR h6 a7 2 v3) fun h8 =>
  some (.inl none, h8)
theorem eX14_init (cal : ix_C) (K : ix_K) (v0 : Nat) (v1 : Int32) (v2 : Option Nat) (v3 : Option Nat) (h : ix_H) : ix_fwd cal K stX14_init 0 [(0, ix_R (some v0)), (1, ix_I v1), (2, ix_R v2), (3, ix_R v3)] [] h = bX14_init cal K v0 v1 v2 v3 h := rfl
theorem rX14_init (N d : Nat) (v0 : Nat) (v1 : Int32) (v2 : Option Nat) (v3 : Option Nat) (h : ix_H) : ix_run iy_P N (d + 1) 127 [ix_R (some v0), ix_I v1, ix_R v2, ix_R v3] h = bX14_init (ix_run iy_P N d) (ix_lp (ix_run iy_P N d) stX14_init N) v0 v1 v2 v3 h := (rfl : ix_run iy_P N (d + 1) 127 [ix_R (some v0), ix_I v1, ix_R v2, ix_R v3] h = ix_fwd (ix_run iy_P N d) (ix_lp (ix_run iy_P N d) stX14_init N) stX14_init 0 [(0, ix_R (some v0)), (1, ix_I v1), (2, ix_R v2), (3, ix_R v3)] [] h).trans (eX14_init _ _ v0 v1 v2 v3 h)
def jX14_of_41 (cal : ix_C) (K : ix_K) (s0 : Int32) (h : ix_H) : ix_O :=
  some (.inl (some (ix_I s0)), h)
theorem jX14_of_41_eq (cal : ix_C) (K : ix_K) (s0 : Int32) (h : ix_H) : ix_fwd cal K (stX14_of.drop 41) 0 [] [ix_I s0] h = jX14_of_41 cal K s0 h := rfl
def jX14_of_33 (cal : ix_C) (K : ix_K) (v2 : Int32) (v3 : Int32) (h : ix_H) : ix_O :=
  if v3 = nI 0 then
    jX14_of_41 cal K (nI 0) h
  else
    if v3 = nI 0 then none else
    jX14_of_41 cal K (v2 - v2 / v3 * v3) h
theorem jX14_of_33_eq (cal : ix_C) (K : ix_K) (v2 : Int32) (v3 : Int32) (h : ix_H) : ix_fwd cal K (stX14_of.drop 33) 0 [(2, ix_I v2), (3, ix_I v3)] [] h = jX14_of_33 cal K v2 v3 h := rfl
def bX14_of (cal : ix_C) (K : ix_K) (v0 : Nat) (v1 : Option Nat) (h : ix_H) : ix_O :=
  (ix_is h 13 (some v0)).bind fun a1 =>
  ix_dsp h [ix_R (ix_fR h a1 1), ix_R v1] [(11, 124), (12, 126), (13, 128)] fun y as =>
  (ix_rI (cal y as h)).bind fun r2 =>
  (ix_is r2.2 13 (some v0)).bind fun a3 =>
  ix_dsp r2.2 [ix_R (ix_fR r2.2 a3 2), ix_R v1] [(11, 124), (12, 126), (13, 128)] fun y as =>
  (ix_rI (cal y as r2.2)).bind fun r4 =>
  (ix_is r4.2 13 (some v0)).bind fun a5 =>
  if (ix_fI r4.2 a5 0) = nI 42 then
    jX14_of_41 cal K (r2.1 * r4.1) r4.2
  else
  if (ix_fI r4.2 a5 0) = nI 43 then
    jX14_of_41 cal K (r2.1 + r4.1) r4.2
  else
  if (ix_fI r4.2 a5 0) = nI 44 then
    jX14_of_33 cal K r2.1 r4.1 r4.2
  else
  if (ix_fI r4.2 a5 0) = nI 45 then
    jX14_of_41 cal K (r2.1 - r4.1) r4.2
  else
  if (ix_fI r4.2 a5 0) = nI 46 then
    jX14_of_33 cal K r2.1 r4.1 r4.2
  else
  if (ix_fI r4.2 a5 0) = nI 47 then
    if r4.1 = nI 0 then
      jX14_of_41 cal K (nI 0) r4.2
    else
      if r4.1 = nI 0 then none else
      jX14_of_41 cal K (r2.1 / r4.1) r4.2
  else
    jX14_of_33 cal K r2.1 r4.1 r4.2
theorem eX14_of (cal : ix_C) (K : ix_K) (v0 : Nat) (v1 : Option Nat) (h : ix_H) : ix_fwd cal K stX14_of 0 [(0, ix_R (some v0)), (1, ix_R v1)] [] h = bX14_of cal K v0 v1 h := rfl
theorem rX14_of (N d : Nat) (v0 : Nat) (v1 : Option Nat) (h : ix_H) : ix_run iy_P N (d + 1) 128 [ix_R (some v0), ix_R v1] h = bX14_of (ix_run iy_P N d) (ix_lp (ix_run iy_P N d) stX14_of N) v0 v1 h := (rfl : ix_run iy_P N (d + 1) 128 [ix_R (some v0), ix_R v1] h = ix_fwd (ix_run iy_P N d) (ix_lp (ix_run iy_P N d) stX14_of N) stX14_of 0 [(0, ix_R (some v0)), (1, ix_R v1)] [] h).trans (eX14_of _ _ v0 v1 h)
def bX15_init (cal : ix_C) (K : ix_K) (v0 : Nat) (v1 : Int32) (v2 : Int32) (v3 : Int32) (v4 : Option Nat) (v5 : Option Nat) (h : ix_H) : ix_O :=
  (ix_is h 14 (some v0)).bind fun a2 =>
  ix_bd (ix_wfI h a2 0 v1) fun h3 =>
  (ix_is h3 14 (some v0)).bind fun a4 =>
  ix_bd (ix_wfI h3 a4 1 v2) fun h5 =>
  (ix_is h5 14 (some v0)).bind fun a6 =>
  cond (ix_okn 1 v3) (
  ix_bd (ix_wfI h5 a6 2 v3) fun h7 =>
    (ix_is h7 14 (some v0)).bind fun a8 =>
    ix_bd (ix_wfR h7 a8 3 v4) fun h9 =>
    (ix_is h9 14 (some v0)).bind fun a10 =>
    ix_bd (ix_wfR h9 a10 4 v5) fun h11 =>
    some (.inl none, h11)) none
theorem eX15_init (cal : ix_C) (K : ix_K) (v0 : Nat) (v1 : Int32) (v2 : Int32) (v3 : Int32) (v4 : Option Nat) (v5 : Option Nat) (h : ix_H) : ix_fwd cal K stX15_init 0 [(0, ix_R (some v0)), (1, ix_I v1), (2, ix_I v2), (3, ix_I v3), (4, ix_R v4), (5, ix_R v5)] [] h = bX15_init cal K v0 v1 v2 v3 v4 v5 h := rfl
theorem rX15_init (N d : Nat) (v0 : Nat) (v1 : Int32) (v2 : Int32) (v3 : Int32) (v4 : Option Nat) (v5 : Option Nat) (h : ix_H) : ix_run iy_P N (d + 1) 129 [ix_R (some v0), ix_I v1, ix_I v2, ix_I v3, ix_R v4, ix_R v5] h = bX15_init (ix_run iy_P N d) (ix_lp (ix_run iy_P N d) stX15_init N) v0 v1 v2 v3 v4 v5 h := (rfl : ix_run iy_P N (d + 1) 129 [ix_R (some v0), ix_I v1, ix_I v2, ix_I v3, ix_R v4, ix_R v5] h = ix_fwd (ix_run iy_P N d) (ix_lp (ix_run iy_P N d) stX15_init N) stX15_init 0 [(0, ix_R (some v0)), (1, ix_I v1), (2, ix_I v2), (3, ix_I v3), (4, ix_R v4), (5, ix_R v5)] [] h).trans (eX15_init _ _ v0 v1 v2 v3 v4 v5 h)
def jX15_does_47 (cal : ix_C) (K : ix_K) (h : ix_H) : ix_O :=
  some (.inl none, h)
theorem jX15_does_47_eq (cal : ix_C) (K : ix_K) (h : ix_H) : ix_fwd cal K (stX15_does.drop 47) 0 [] [] h = jX15_does_47 cal K h := rfl
def jX15_does_35 (cal : ix_C) (K : ix_K) (v0 : Nat) (v1 : Option Nat) (v4 : Int32) (h : ix_H) : ix_O :=
  if v4 = nI 0 then
    jX15_does_47 cal K h
  else
    (ix_is h 14 (some v0)).bind fun a11 =>
    if (ix_fI h a11 2) = nI 0 then
      jX15_does_47 cal K h
    else
      (ix_is h 17 v1).bind fun a12 =>
      (ix_is h 14 (some v0)).bind fun a13 =>
      (ix_isr h 5 (ix_fR h a12 0)).bind fun a15 =>
      (ix_rI (cal 179 [ix_R (some a15), ix_I (ix_fI h a13 0)] h)).bind fun r14 =>
      jX15_does_47 cal K r14.2
theorem jX15_does_35_eq (cal : ix_C) (K : ix_K) (v0 : Nat) (v1 : Option Nat) (v4 : Int32) (h : ix_H) : ix_fwd cal K (stX15_does.drop 35) 0 [(0, ix_R (some v0)), (1, ix_R v1), (4, ix_I v4)] [] h = jX15_does_35 cal K v0 v1 v4 h := rfl
def jX15_does_14 (cal : ix_C) (K : ix_K) (v0 : Nat) (v1 : Option Nat) (v2 : Int32) (s0 : Int32) (h : ix_H) : ix_O :=
  (ix_is h 17 v1).bind fun a6 =>
  (ix_is h 14 (some v0)).bind fun a7 =>
  (ix_is h 14 (some v0)).bind fun a8 =>
  (ix_isr h 5 (ix_fR h a6 0)).bind fun a10 =>
  (ix_rI (cal 178 [ix_R (some a10), ix_I (ix_fI h a7 0), ix_I (ix_fI h a8 1), ix_I v2, ix_I s0] h)).bind fun r9 =>
  if r9.1 = nI 0 then
    jX15_does_35 cal K v0 v1 r9.1 r9.2
  else
    (ix_is r9.2 14 (some v0)).bind fun a16 =>
    if (ix_fI r9.2 a16 1) = (nI 1) then
      (ix_is r9.2 17 v1).bind fun a17 =>
      ix_bd (ix_wfI r9.2 a17 3 v2) fun h18 =>
      jX15_does_35 cal K v0 v1 r9.1 h18
    else
      jX15_does_35 cal K v0 v1 r9.1 r9.2
theorem jX15_does_14_eq (cal : ix_C) (K : ix_K) (v0 : Nat) (v1 : Option Nat) (v2 : Int32) (s0 : Int32) (h : ix_H) : ix_fwd cal K (stX15_does.drop 14) 0 [(0, ix_R (some v0)), (1, ix_R v1), (2, ix_I v2)] [ix_I s0] h = jX15_does_14 cal K v0 v1 v2 s0 h := rfl
def bX15_does (cal : ix_C) (K : ix_K) (v0 : Nat) (v1 : Option Nat) (h : ix_H) : ix_O :=
  (ix_is h 14 (some v0)).bind fun a1 =>
  (ix_rI (cal 121 [ix_R (ix_fR h a1 3), ix_R v1] h)).bind fun r2 =>
  (ix_is r2.2 14 (some v0)).bind fun a3 =>
  if (ix_fR r2.2 a3 4) = none then
    jX15_does_14 cal K v0 v1 r2.1 (nI 0) r2.2
  else
    (ix_is r2.2 14 (some v0)).bind fun a4 =>
    ix_dsp r2.2 [ix_R (ix_fR r2.2 a4 4), ix_R v1] [(11, 124), (12, 126), (13, 128)] fun y as =>
    (ix_rI (cal y as r2.2)).bind fun r5 =>
    jX15_does_14 cal K v0 v1 r2.1 r5.1 r5.2
theorem eX15_does (cal : ix_C) (K : ix_K) (v0 : Nat) (v1 : Option Nat) (h : ix_H) : ix_fwd cal K stX15_does 0 [(0, ix_R (some v0)), (1, ix_R v1)] [] h = bX15_does cal K v0 v1 h := rfl
theorem rX15_does (N d : Nat) (v0 : Nat) (v1 : Option Nat) (h : ix_H) : ix_run iy_P N (d + 1) 130 [ix_R (some v0), ix_R v1] h = bX15_does (ix_run iy_P N d) (ix_lp (ix_run iy_P N d) stX15_does N) v0 v1 h := (rfl : ix_run iy_P N (d + 1) 130 [ix_R (some v0), ix_R v1] h = ix_fwd (ix_run iy_P N d) (ix_lp (ix_run iy_P N d) stX15_does N) stX15_does 0 [(0, ix_R (some v0)), (1, ix_R v1)] [] h).trans (eX15_does _ _ v0 v1 h)
def bX16_init (cal : ix_C) (K : ix_K) (v0 : Nat) (v1 : Int32) (v2 : Int32) (h : ix_H) : ix_O :=
  (ix_is h 15 (some v0)).bind fun a2 =>
  ix_bd (ix_wfI h a2 0 v1) fun h3 =>
  (ix_is h3 15 (some v0)).bind fun a4 =>
  cond (ix_okn 1 v2) (
  ix_bd (ix_wfI h3 a4 1 v2) fun h5 =>
    some (.inl none, h5)) none
theorem eX16_init (cal : ix_C) (K : ix_K) (v0 : Nat) (v1 : Int32) (v2 : Int32) (h : ix_H) : ix_fwd cal K stX16_init 0 [(0, ix_R (some v0)), (1, ix_I v1), (2, ix_I v2)] [] h = bX16_init cal K v0 v1 v2 h := rfl
theorem rX16_init (N d : Nat) (v0 : Nat) (v1 : Int32) (v2 : Int32) (h : ix_H) : ix_run iy_P N (d + 1) 131 [ix_R (some v0), ix_I v1, ix_I v2] h = bX16_init (ix_run iy_P N d) (ix_lp (ix_run iy_P N d) stX16_init N) v0 v1 v2 h := (rfl : ix_run iy_P N (d + 1) 131 [ix_R (some v0), ix_I v1, ix_I v2] h = ix_fwd (ix_run iy_P N d) (ix_lp (ix_run iy_P N d) stX16_init N) stX16_init 0 [(0, ix_R (some v0)), (1, ix_I v1), (2, ix_I v2)] [] h).trans (eX16_init _ _ v0 v1 v2 h)
def jX16_does_16 (cal : ix_C) (K : ix_K) (h : ix_H) : ix_O :=
  some (.inl none, h)
theorem jX16_does_16_eq (cal : ix_C) (K : ix_K) (h : ix_H) : ix_fwd cal K (stX16_does.drop 16) 0 [] [] h = jX16_does_16 cal K h := rfl
def bX16_does (cal : ix_C) (K : ix_K) (v0 : Nat) (v1 : Option Nat) (h : ix_H) : ix_O :=
  (ix_is h 15 (some v0)).bind fun a1 =>
  if (ix_fI h a1 1) = nI 0 then
    (ix_is h 17 v1).bind fun a2 =>
    (ix_is h 15 (some v0)).bind fun a3 =>
    (ix_isr h 5 (ix_fR h a2 0)).bind fun a5 =>
    (ix_rI (cal 180 [ix_R (some a5), ix_I (ix_fI h a3 0)] h)).bind fun r4 =>
    jX16_does_16 cal K r4.2
  else
    (ix_is h 17 v1).bind fun a6 =>
    (ix_is h 15 (some v0)).bind fun a7 =>
    (ix_isr h 5 (ix_fR h a6 0)).bind fun a9 =>
    (ix_rI (cal 179 [ix_R (some a9), ix_I (ix_fI h a7 0)] h)).bind fun r8 =>
    jX16_does_16 cal K r8.2
theorem eX16_does (cal : ix_C) (K : ix_K) (v0 : Nat) (v1 : Option Nat) (h : ix_H) : ix_fwd cal K stX16_does 0 [(0, ix_R (some v0)), (1, ix_R v1)] [] h = bX16_does cal K v0 v1 h := rfl
theorem rX16_does (N d : Nat) (v0 : Nat) (v1 : Option Nat) (h : ix_H) : ix_run iy_P N (d + 1) 132 [ix_R (some v0), ix_R v1] h = bX16_does (ix_run iy_P N d) (ix_lp (ix_run iy_P N d) stX16_does N) v0 v1 h := (rfl : ix_run iy_P N (d + 1) 132 [ix_R (some v0), ix_R v1] h = ix_fwd (ix_run iy_P N d) (ix_lp (ix_run iy_P N d) stX16_does N) stX16_does 0 [(0, ix_R (some v0)), (1, ix_R v1)] [] h).trans (eX16_does _ _ v0 v1 h)
def bX17_init (cal : ix_C) (K : ix_K) (v0 : Nat) (h : ix_H) : ix_O :=
  some (.inl none, h)
theorem eX17_init (cal : ix_C) (K : ix_K) (v0 : Nat) (h : ix_H) : ix_fwd cal K stX17_init 0 [(0, ix_R (some v0))] [] h = bX17_init cal K v0 h := rfl
theorem rX17_init (N d : Nat) (v0 : Nat) (h : ix_H) : ix_run iy_P N (d + 1) 133 [ix_R (some v0)] h = bX17_init (ix_run iy_P N d) (ix_lp (ix_run iy_P N d) stX17_init N) v0 h := (rfl : ix_run iy_P N (d + 1) 133 [ix_R (some v0)] h = ix_fwd (ix_run iy_P N d) (ix_lp (ix_run iy_P N d) stX17_init N) stX17_init 0 [(0, ix_R (some v0))] [] h).trans (eX17_init _ _ v0 h)
def bX17_does (cal : ix_C) (K : ix_K) (v0 : Nat) (v1 : Option Nat) (h : ix_H) : ix_O :=
  (ix_is h 17 v1).bind fun a1 =>
  (ix_isr h 5 (ix_fR h a1 0)).bind fun a3 =>
  (ix_rI (cal 202 [ix_R (some a3)] h)).bind fun r2 =>
  some (.inl none, r2.2)
theorem eX17_does (cal : ix_C) (K : ix_K) (v0 : Nat) (v1 : Option Nat) (h : ix_H) : ix_fwd cal K stX17_does 0 [(0, ix_R (some v0)), (1, ix_R v1)] [] h = bX17_does cal K v0 v1 h := rfl
theorem rX17_does (N d : Nat) (v0 : Nat) (v1 : Option Nat) (h : ix_H) : ix_run iy_P N (d + 1) 134 [ix_R (some v0), ix_R v1] h = bX17_does (ix_run iy_P N d) (ix_lp (ix_run iy_P N d) stX17_does N) v0 v1 h := (rfl : ix_run iy_P N (d + 1) 134 [ix_R (some v0), ix_R v1] h = ix_fwd (ix_run iy_P N d) (ix_lp (ix_run iy_P N d) stX17_does N) stX17_does 0 [(0, ix_R (some v0)), (1, ix_R v1)] [] h).trans (eX17_does _ _ v0 v1 h)
def bX18_init (cal : ix_C) (K : ix_K) (v0 : Nat) (v1 : Option Nat) (h : ix_H) : ix_O :=
  cond (ix_in (nI 4) 1000001) (
  ix_bd (ix_nwA h 101 (nI 4).toNatClampNeg) fun h2 =>
    (ix_is h2 17 (some v0)).bind fun a3 =>
    ix_bd (ix_wfR h2 a3 1 (some (ix_sz h))) fun h4 =>
    (ix_is h4 17 (some v0)).bind fun a5 =>
    ix_bd (ix_wfR h4 a5 0 v1) fun h6 =>
    some (.inl none, h6)) none
theorem eX18_init (cal : ix_C) (K : ix_K) (v0 : Nat) (v1 : Option Nat) (h : ix_H) : ix_fwd cal K stX18_init 0 [(0, ix_R (some v0)), (1, ix_R v1)] [] h = bX18_init cal K v0 v1 h := rfl
theorem rX18_init (N d : Nat) (v0 : Nat) (v1 : Option Nat) (h : ix_H) : ix_run iy_P N (d + 1) 135 [ix_R (some v0), ix_R v1] h = bX18_init (ix_run iy_P N d) (ix_lp (ix_run iy_P N d) stX18_init N) v0 v1 h := (rfl : ix_run iy_P N (d + 1) 135 [ix_R (some v0), ix_R v1] h = ix_fwd (ix_run iy_P N d) (ix_lp (ix_run iy_P N d) stX18_init N) stX18_init 0 [(0, ix_R (some v0)), (1, ix_R v1)] [] h).trans (eX18_init _ _ v0 v1 h)
def jX18_isOver_7 (cal : ix_C) (K : ix_K) (s0 : Int32) (h : ix_H) : ix_O :=
  cond (ix_okn 1 s0) (some (.inl (some (ix_I s0)), h)) none
theorem jX18_isOver_7_eq (cal : ix_C) (K : ix_K) (s0 : Int32) (h : ix_H) : ix_fwd cal K (stX18_isOver.drop 7) 0 [] [ix_I s0] h = jX18_isOver_7 cal K s0 h := rfl
def bX18_isOver (cal : ix_C) (K : ix_K) (v0 : Nat) (h : ix_H) : ix_O :=
  (ix_is h 17 (some v0)).bind fun a1 =>
  if (ix_fI h a1 4) = (nI 400) then
    jX18_isOver_7 cal K (nI 1) h
  else
    jX18_isOver_7 cal K (nI 0) h
theorem eX18_isOver (cal : ix_C) (K : ix_K) (v0 : Nat) (h : ix_H) : ix_fwd cal K stX18_isOver 0 [(0, ix_R (some v0))] [] h = bX18_isOver cal K v0 h := rfl
theorem rX18_isOver (N d : Nat) (v0 : Nat) (h : ix_H) : ix_run iy_P N (d + 1) 136 [ix_R (some v0)] h = bX18_isOver (ix_run iy_P N d) (ix_lp (ix_run iy_P N d) stX18_isOver N) v0 h := (rfl : ix_run iy_P N (d + 1) 136 [ix_R (some v0)] h = ix_fwd (ix_run iy_P N d) (ix_lp (ix_run iy_P N d) stX18_isOver N) stX18_isOver 0 [(0, ix_R (some v0))] [] h).trans (eX18_isOver _ _ v0 h)
def jX18_round_14 (cal : ix_C) (K : ix_K) (s0 : Int32) (h : ix_H) : ix_O :=
  some (.inl (some (ix_I s0)), h)
theorem jX18_round_14_eq (cal : ix_C) (K : ix_K) (s0 : Int32) (h : ix_H) : ix_fwd cal K (stX18_round.drop 14) 0 [] [ix_I s0] h = jX18_round_14 cal K s0 h := rfl
def bX18_round (cal : ix_C) (K : ix_K) (v0 : Nat) (v1 : Int32) (h : ix_H) : ix_O :=
  (ix_is h 17 (some v0)).bind fun a1 =>
  if nI 0 < ((ix_fI h a1 2) - v1) then
    (ix_is h 17 (some v0)).bind fun a2 =>
    (ix_is h 17 (some v0)).bind fun a3 =>
    (ix_atr h 101 (ix_fR h a2 1) ((ix_fI h a3 2) - v1)).bind fun a4 =>
    jX18_round_14 cal K (ix_aI h a4 ((ix_fI h a3 2) - v1).toNatClampNeg) h
  else
    jX18_round_14 cal K (nI 0) h
theorem eX18_round (cal : ix_C) (K : ix_K) (v0 : Nat) (v1 : Int32) (h : ix_H) : ix_fwd cal K stX18_round 0 [(0, ix_R (some v0)), (1, ix_I v1)] [] h = bX18_round cal K v0 v1 h := rfl
theorem rX18_round (N d : Nat) (v0 : Nat) (v1 : Int32) (h : ix_H) : ix_run iy_P N (d + 1) 137 [ix_R (some v0), ix_I v1] h = bX18_round (ix_run iy_P N d) (ix_lp (ix_run iy_P N d) stX18_round N) v0 v1 h := (rfl : ix_run iy_P N (d + 1) 137 [ix_R (some v0), ix_I v1] h = ix_fwd (ix_run iy_P N d) (ix_lp (ix_run iy_P N d) stX18_round N) stX18_round 0 [(0, ix_R (some v0)), (1, ix_I v1)] [] h).trans (eX18_round _ _ v0 v1 h)
def bX2_init (cal : ix_C) (K : ix_K) (v0 : Nat) (h : ix_H) : ix_O :=
  cond (ix_in (nI 18) 1000001) (
  ix_bd (ix_nwA h 114 (nI 18).toNatClampNeg) fun h2 =>
    (ix_at h2 114 (some (ix_sz h)) (nI 0)).bind fun a3 =>
    cond (ix_of h2 [531] (some (ix_cs h2 4))) (
    ix_bd (ix_waR h2 a3 (nI 0).toNatClampNeg (some (ix_cs h2 4))) fun h4 =>
      (ix_at h4 114 (some (ix_sz h)) (nI 1)).bind fun a5 =>
      cond (ix_of h4 [531] (some (ix_cs h4 5))) (
      ix_bd (ix_waR h4 a5 (nI 1).toNatClampNeg (some (ix_cs h4 5))) fun h6 =>
        (ix_at h6 114 (some (ix_sz h)) (nI 2)).bind fun a7 =>
        cond (ix_of h6 [531] (some (ix_cs h6 6))) (
        ix_bd (ix_waR h6 a7 (nI 2).toNatClampNeg (some (ix_cs h6 6))) fun h8 =>
          (ix_at h8 114 (some (ix_sz h)) (nI 3)).bind fun a9 =>
          cond (ix_of h8 [531] (some (ix_cs h8 1))) (
          ix_bd (ix_waR h8 a9 (nI 3).toNatClampNeg (some (ix_cs h8 1))) fun h10 =>
            (ix_at h10 114 (some (ix_sz h)) (nI 4)).bind fun a11 =>
            cond (ix_of h10 [531] (some (ix_cs h10 2))) (
            ix_bd (ix_waR h10 a11 (nI 4).toNatClampNeg (some (ix_cs h10 2))) fun h12 =>
              (ix_at h12 114 (some (ix_sz h)) (nI 5)).bind fun a13 =>
              cond (ix_of h12 [531] (some (ix_cs h12 3))) (
              ix_bd (ix_waR h12 a13 (nI 5).toNatClampNeg (some (ix_cs h12 3))) fun h14 =>
                (ix_at h14 114 (some (ix_sz h)) (nI 6)).bind fun a15 =>
                cond (ix_of h14 [531] (some (ix_cs h14 7))) (
                ix_bd (ix_waR h14 a15 (nI 6).toNatClampNeg (some (ix_cs h14 7))) fun h16 =>
                  (ix_at h16 114 (some (ix_sz h)) (nI 7)).bind fun a17 =>
                  cond (ix_of h16 [531] (some (ix_cs h16 8))) (
                  ix_bd (ix_waR h16 a17 (nI 7).toNatClampNeg (some (ix_cs h16 8))) fun h18 =>
                    (ix_at h18 114 (some (ix_sz h)) (nI 8)).bind fun a19 =>
                    cond (ix_of h18 [531] (some (ix_cs h18 9))) (
                    ix_bd (ix_waR h18 a19 (nI 8).toNatClampNeg (some (ix_cs h18 9))) fun h20 =>
                      (ix_at h20 114 (some (ix_sz h)) (nI 9)).bind fun a21 =>
                      cond (ix_of h20 [531] (some (ix_cs h20 10))) (
                      ix_bd (ix_waR h20 a21 (nI 9).toNatClampNeg (some (ix_cs h20 10))) fun h22 =>
                        (ix_at h22 114 (some (ix_sz h)) (nI 10)).bind fun a23 =>
                        cond (ix_of h22 [531] (some (ix_cs h22 11))) (
                        ix_bd (ix_waR h22 a23 (nI 10).toNatClampNeg (some (ix_cs h22 11))) fun h24 =>
                          (ix_at h24 114 (some (ix_sz h)) (nI 11)).bind fun a25 =>
                          cond (ix_of h24 [531] (some (ix_cs h24 12))) (
                          ix_bd (ix_waR h24 a25 (nI 11).toNatClampNeg (some (ix_cs h24 12))) fun h26 =>
                            (ix_at h26 114 (some (ix_sz h)) (nI 12)).bind fun a27 =>
                            cond (ix_of h26 [531] (some (ix_cs h26 13))) (
                            ix_bd (ix_waR h26 a27 (nI 12).toNatClampNeg (some (ix_cs h26 13))) fun h28 =>
                              (ix_at h28 114 (some (ix_sz h)) (nI 13)).bind fun a29 =>
                              cond (ix_of h28 [531] (some (ix_cs h28 14))) (
                              ix_bd (ix_waR h28 a29 (nI 13).toNatClampNeg (some (ix_cs h28 14))) fun h30 =>
                                (ix_at h30 114 (some (ix_sz h)) (nI 14)).bind fun a31 =>
                                cond (ix_of h30 [531] (some (ix_cs h30 15))) (
                                ix_bd (ix_waR h30 a31 (nI 14).toNatClampNeg (some (ix_cs h30 15))) fun h32 =>
                                  (ix_at h32 114 (some (ix_sz h)) (nI 15)).bind fun a33 =>
                                  cond (ix_of h32 [531] (some (ix_cs h32 16))) (
                                  ix_bd (ix_waR h32 a33 (nI 15).toNatClampNeg (some (ix_cs h32 16))) fun h34 =>
                                    (ix_at h34 114 (some (ix_sz h)) (nI 16)).bind fun a35 =>
                                    cond (ix_of h34 [531] (some (ix_cs h34 17))) (
                                    ix_bd (ix_waR h34 a35 (nI 16).toNatClampNeg (some (ix_cs h34 17))) fun h36 =>
                                      (ix_at h36 114 (some (ix_sz h)) (nI 17)).bind fun a37 =>
                                      cond (ix_of h36 [531] (some (ix_cs h36 18))) (
                                      ix_bd (ix_waR h36 a37 (nI 17).toNatClampNeg (some (ix_cs h36 18))) fun h38 =>
                                        (ix_is h38 3 (some v0)).bind fun a39 =>
                                        ix_bd (ix_wfR h38 a39 0 (some (ix_sz h))) fun h40 =>
                                        cond (ix_in (nI 2000) 1000001) (
                                        ix_bd (ix_nwA h40 102 (nI 2000).toNatClampNeg) fun h41 =>
                                          (ix_is h41 3 (some v0)).bind fun a42 =>
                                          ix_bd (ix_wfR h41 a42 1 (some (ix_sz h40))) fun h43 =>
                                          cond (ix_in (nI 2001) 1000001) (
                                          ix_bd (ix_nwA h43 102 (nI 2001).toNatClampNeg) fun h44 =>
                                            (ix_is h44 3 (some v0)).bind fun a45 =>
                                            ix_bd (ix_wfR h44 a45 3 (some (ix_sz h43))) fun h46 =>
                                            cond (ix_in (nI 2001) 1000001) (
                                            ix_bd (ix_nwA h46 103 (nI 2001).toNatClampNeg) fun h47 =>
                                              (ix_is h47 3 (some v0)).bind fun a48 =>
                                              ix_bd (ix_wfR h47 a48 4 (some (ix_sz h46))) fun h49 =>
                                              cond (ix_in (nI 2001) 1000001) (
                                              ix_bd (ix_nwA h49 103 (nI 2001).toNatClampNeg) fun h50 =>
                                                (ix_is h50 3 (some v0)).bind fun a51 =>
                                                ix_bd (ix_wfR h50 a51 5 (some (ix_sz h49))) fun h52 =>
                                                cond (ix_in (nI 2001) 1000001) (
                                                ix_bd (ix_nwA h52 103 (nI 2001).toNatClampNeg) fun h53 =>
                                                  (ix_is h53 3 (some v0)).bind fun a54 =>
                                                  ix_bd (ix_wfR h53 a54 6 (some (ix_sz h52))) fun h55 =>
                                                  some (.inl none, h55)) none) none) none) none) none) none) none) none) none) none) none) none) none) none) none) none) none) none) none) none) none) none) none) none
theorem eX2_init (cal : ix_C) (K : ix_K) (v0 : Nat) (h : ix_H) : ix_fwd cal K stX2_init 0 [(0, ix_R (some v0))] [] h = bX2_init cal K v0 h := rfl
theorem rX2_init (N d : Nat) (v0 : Nat) (h : ix_H) : ix_run iy_P N (d + 1) 138 [ix_R (some v0)] h = bX2_init (ix_run iy_P N d) (ix_lp (ix_run iy_P N d) stX2_init N) v0 h := (rfl : ix_run iy_P N (d + 1) 138 [ix_R (some v0)] h = ix_fwd (ix_run iy_P N d) (ix_lp (ix_run iy_P N d) stX2_init N) stX2_init 0 [(0, ix_R (some v0))] [] h).trans (eX2_init _ _ v0 h)
def jX2_read_131 (cal : ix_C) (K : ix_K) (h : ix_H) : ix_O :=
  some (.inl none, h)
theorem jX2_read_131_eq (cal : ix_C) (K : ix_K) (h : ix_H) : ix_fwd cal K (stX2_read.drop 131) 0 [] [] h = jX2_read_131 cal K h := rfl
def jX2_read_122 (cal : ix_C) (K : ix_K) (v0 : Nat) (v1 : Int32) (v2 : Int32) (h : ix_H) : ix_O :=
  if v2 = nI 0 then
    jX2_read_131 cal K h
  else
    (ix_isr h 3 (some v0)).bind fun a5 =>
    (ix_rV (cal 145 [ix_R (some a5), ix_I (nI 4), ix_I v1, ix_I v1, ix_I (nI 0)] h)).bind fun r4 =>
    jX2_read_131 cal K r4
theorem jX2_read_122_eq (cal : ix_C) (K : ix_K) (v0 : Nat) (v1 : Int32) (v2 : Int32) (h : ix_H) : ix_fwd cal K (stX2_read.drop 122) 0 [(0, ix_R (some v0)), (1, ix_I v1), (2, ix_I v2)] [] h = jX2_read_122 cal K v0 v1 v2 h := rfl
def jX2_read_35 (cal : ix_C) (K : ix_K) (v0 : Nat) (v1 : Int32) (v2 : Int32) (h : ix_H) : ix_O :=
  K 7 [(0, ix_R (some v0)), (1, ix_I (v1 + (nI 1))), (2, ix_I v2)] [] h
theorem jX2_read_35_eq (cal : ix_C) (K : ix_K) (v0 : Nat) (v1 : Int32) (v2 : Int32) (h : ix_H) : ix_fwd cal K (stX2_read.drop 35) 0 [(0, ix_R (some v0)), (1, ix_I v1), (2, ix_I v2)] [] h = jX2_read_35 cal K v0 v1 v2 h := rfl
def jX2_read_117 (cal : ix_C) (K : ix_K) (v0 : Nat) (v4 : Int32) (s0 : Int32) (h : ix_H) : ix_O :=
  K 7 [(0, ix_R (some v0)), (1, ix_I v4), (2, ix_I s0)] [] h
theorem jX2_read_117_eq (cal : ix_C) (K : ix_K) (v0 : Nat) (v4 : Int32) (s0 : Int32) (h : ix_H) : ix_fwd cal K (stX2_read.drop 117) 0 [(0, ix_R (some v0)), (4, ix_I v4)] [ix_I s0] h = jX2_read_117 cal K v0 v4 s0 h := rfl
def jX2_read_104 (cal : ix_C) (K : ix_K) (v0 : Nat) (v1 : Int32) (v4 : Int32) (v5 : Int32) (v6 : Int32) (h : ix_H) : ix_O :=
  (ix_isr h 3 (some v0)).bind fun a15 =>
  (ix_rV (cal 145 [ix_R (some a15), ix_I v5, ix_I v1, ix_I v4, ix_I v6] h)).bind fun r14 =>
  if v5 = (nI 5) then
    jX2_read_117 cal K v0 v4 (nI 0) r14
  else
    jX2_read_117 cal K v0 v4 (nI 1) r14
theorem jX2_read_104_eq (cal : ix_C) (K : ix_K) (v0 : Nat) (v1 : Int32) (v4 : Int32) (v5 : Int32) (v6 : Int32) (h : ix_H) : ix_fwd cal K (stX2_read.drop 104) 0 [(0, ix_R (some v0)), (1, ix_I v1), (4, ix_I v4), (5, ix_I v5), (6, ix_I v6)] [] h = jX2_read_104 cal K v0 v1 v4 v5 v6 h := rfl
def jX2_read_102 (cal : ix_C) (K : ix_K) (v0 : Nat) (v1 : Int32) (v4 : Int32) (v6 : Int32) (s0 : Int32) (h : ix_H) : ix_O :=
  jX2_read_104 cal K v0 v1 v4 s0 v6 h
theorem jX2_read_102_eq (cal : ix_C) (K : ix_K) (v0 : Nat) (v1 : Int32) (v4 : Int32) (v6 : Int32) (s0 : Int32) (h : ix_H) : ix_fwd cal K (stX2_read.drop 102) 0 [(0, ix_R (some v0)), (1, ix_I v1), (4, ix_I v4), (6, ix_I v6)] [ix_I s0] h = jX2_read_102 cal K v0 v1 v4 v6 s0 h := rfl
def jX2_read_90 (cal : ix_C) (K : ix_K) (v0 : Nat) (v1 : Int32) (v4 : Int32) (v6 : Int32) (s0 : Int32) (h : ix_H) : ix_O :=
  jX2_read_104 cal K v0 v1 v4 s0 v6 h
theorem jX2_read_90_eq (cal : ix_C) (K : ix_K) (v0 : Nat) (v1 : Int32) (v4 : Int32) (v6 : Int32) (s0 : Int32) (h : ix_H) : ix_fwd cal K (stX2_read.drop 90) 0 [(0, ix_R (some v0)), (1, ix_I v1), (4, ix_I v4), (6, ix_I v6)] [ix_I s0] h = jX2_read_90 cal K v0 v1 v4 v6 s0 h := rfl
def jX2_read_75 (cal : ix_C) (K : ix_K) (v0 : Nat) (v1 : Int32) (v4 : Int32) (v6 : Int32) (h : ix_H) : ix_O :=
  (ix_isr h 3 (some v0)).bind fun a17 =>
  (ix_rI (cal 143 [ix_R (some a17), ix_I v4] h)).bind fun r16 =>
  if r16.1 = nI 0 then
    if (v4 - v1) ≤ (nI 4) then
      jX2_read_90 cal K v0 v1 v4 v6 (nI 1) r16.2
    else
      jX2_read_90 cal K v0 v1 v4 v6 (nI 5) r16.2
  else
    K 75 [(0, ix_R (some v0)), (1, ix_I v1), (4, ix_I (v4 + (nI 1))), (6, ix_I v6)] [] r16.2
theorem jX2_read_75_eq (cal : ix_C) (K : ix_K) (v0 : Nat) (v1 : Int32) (v4 : Int32) (v6 : Int32) (h : ix_H) : ix_fwd cal K (stX2_read.drop 75) 0 [(0, ix_R (some v0)), (1, ix_I v1), (4, ix_I v4), (6, ix_I v6)] [] h = jX2_read_75 cal K v0 v1 v4 v6 h := rfl
def jX2_read_68 (cal : ix_C) (K : ix_K) (v0 : Nat) (v1 : Int32) (v4 : Int32) (v6 : Int32) (s0 : Int32) (h : ix_H) : ix_O :=
  jX2_read_104 cal K v0 v1 v4 s0 v6 h
theorem jX2_read_68_eq (cal : ix_C) (K : ix_K) (v0 : Nat) (v1 : Int32) (v4 : Int32) (v6 : Int32) (s0 : Int32) (h : ix_H) : ix_fwd cal K (stX2_read.drop 68) 0 [(0, ix_R (some v0)), (1, ix_I v1), (4, ix_I v4), (6, ix_I v6)] [ix_I s0] h = jX2_read_68 cal K v0 v1 v4 v6 s0 h := rfl
def jX2_read_44 (cal : ix_C) (K : ix_K) (v0 : Nat) (v1 : Int32) (v4 : Int32) (h : ix_H) : ix_O :=
  (ix_isr h 3 (some v0)).bind fun a19 =>
  (ix_rI (cal 140 [ix_R (some a19), ix_I v4] h)).bind fun r18 =>
  if r18.1 = nI 0 then
    (ix_isr r18.2 3 (some v0)).bind fun a21 =>
    (ix_rI (cal 142 [ix_R (some a21), ix_I v1, ix_I v4] r18.2)).bind fun r20 =>
    if r20.1 < nI 0 then
      if (v4 - v1) ≤ (nI 8) then
        jX2_read_68 cal K v0 v1 v4 r20.1 (nI 0) r20.2
      else
        jX2_read_68 cal K v0 v1 v4 r20.1 (nI 5) r20.2
    else
      jX2_read_68 cal K v0 v1 v4 r20.1 (nI 3) r20.2
  else
    K 44 [(0, ix_R (some v0)), (1, ix_I v1), (4, ix_I (v4 + (nI 1)))] [] r18.2
theorem jX2_read_44_eq (cal : ix_C) (K : ix_K) (v0 : Nat) (v1 : Int32) (v4 : Int32) (h : ix_H) : ix_fwd cal K (stX2_read.drop 44) 0 [(0, ix_R (some v0)), (1, ix_I v1), (4, ix_I v4)] [] h = jX2_read_44 cal K v0 v1 v4 h := rfl
def jX2_read_7 (cal : ix_C) (K : ix_K) (v0 : Nat) (v1 : Int32) (v2 : Int32) (h : ix_H) : ix_O :=
  (ix_is h 3 (some v0)).bind fun a3 =>
  if (ix_fI h a3 2) ≤ v1 then
    jX2_read_122 cal K v0 v1 v2 h
  else
    if v2 = nI 0 then
      jX2_read_122 cal K v0 v1 v2 h
    else
      (ix_is h 3 (some v0)).bind fun a6 =>
      (ix_atr h 102 (ix_fR h a6 1) v1).bind fun a7 =>
      if (ix_aI h a7 v1.toNatClampNeg) = (nI 32) then
        jX2_read_35 cal K v0 v1 v2 h
      else
        if (ix_aI h a7 v1.toNatClampNeg) = (nI 9) then
          jX2_read_35 cal K v0 v1 v2 h
        else
          if (ix_aI h a7 v1.toNatClampNeg) = (nI 10) then
            jX2_read_35 cal K v0 v1 v2 h
          else
            if (ix_aI h a7 v1.toNatClampNeg) = (nI 13) then
              jX2_read_35 cal K v0 v1 v2 h
            else
              (ix_isr h 3 (some v0)).bind fun a9 =>
              (ix_rI (cal 140 [ix_R (some a9), ix_I v1] h)).bind fun r8 =>
              if r8.1 = nI 0 then
                (ix_isr r8.2 3 (some v0)).bind fun a11 =>
                (ix_rI (cal 143 [ix_R (some a11), ix_I v1] r8.2)).bind fun r10 =>
                if r10.1 = nI 0 then
                  (ix_isr r10.2 3 (some v0)).bind fun a13 =>
                  (ix_rI (cal 144 [ix_R (some a13), ix_I v1] r10.2)).bind fun r12 =>
                  if r12.1 = nI 0 then
                    jX2_read_102 cal K v0 v1 (v1 + (nI 1)) r12.1 (nI 5) r12.2
                  else
                    jX2_read_102 cal K v0 v1 (v1 + (nI 1)) r12.1 (nI 2) r12.2
                else
                  jX2_read_75 cal K v0 v1 (v1 + (nI 1)) (nI 0) r10.2
              else
                jX2_read_44 cal K v0 v1 (v1 + (nI 1)) r8.2
theorem jX2_read_7_eq (cal : ix_C) (K : ix_K) (v0 : Nat) (v1 : Int32) (v2 : Int32) (h : ix_H) : ix_fwd cal K (stX2_read.drop 7) 0 [(0, ix_R (some v0)), (1, ix_I v1), (2, ix_I v2)] [] h = jX2_read_7 cal K v0 v1 v2 h := rfl
def bX2_read (cal : ix_C) (K : ix_K) (v0 : Nat) (h : ix_H) : ix_O :=
  (ix_is h 3 (some v0)).bind fun a1 =>
  ix_bd (ix_wfI h a1 7 (nI 0)) fun h2 =>
  jX2_read_7 cal K v0 (nI 0) (nI 1) h2
theorem eX2_read (cal : ix_C) (K : ix_K) (v0 : Nat) (h : ix_H) : ix_fwd cal K stX2_read 0 [(0, ix_R (some v0))] [] h = bX2_read cal K v0 h := rfl
theorem rX2_read (N d : Nat) (v0 : Nat) (h : ix_H) : ix_run iy_P N (d + 1) 139 [ix_R (some v0)] h = bX2_read (ix_run iy_P N d) (ix_lp (ix_run iy_P N d) stX2_read N) v0 h := (rfl : ix_run iy_P N (d + 1) 139 [ix_R (some v0)] h = ix_fwd (ix_run iy_P N d) (ix_lp (ix_run iy_P N d) stX2_read N) stX2_read 0 [(0, ix_R (some v0))] [] h).trans (eX2_read _ _ v0 h)
theorem lX2_read_7 (cal : ix_C) (n : Nat) (v0 : Nat) (v1 : Int32) (v2 : Int32) (h : ix_H) : ix_lp cal stX2_read (n + 1) 7 [(0, ix_R (some v0)), (1, ix_I v1), (2, ix_I v2)] [] h = jX2_read_7 cal (ix_lp cal stX2_read n) v0 v1 v2 h := jX2_read_7_eq cal (ix_lp cal stX2_read n) v0 v1 v2 h
theorem lX2_read_44 (cal : ix_C) (n : Nat) (v0 : Nat) (v1 : Int32) (v4 : Int32) (h : ix_H) : ix_lp cal stX2_read (n + 1) 44 [(0, ix_R (some v0)), (1, ix_I v1), (4, ix_I v4)] [] h = jX2_read_44 cal (ix_lp cal stX2_read n) v0 v1 v4 h := jX2_read_44_eq cal (ix_lp cal stX2_read n) v0 v1 v4 h
theorem lX2_read_75 (cal : ix_C) (n : Nat) (v0 : Nat) (v1 : Int32) (v4 : Int32) (v6 : Int32) (h : ix_H) : ix_lp cal stX2_read (n + 1) 75 [(0, ix_R (some v0)), (1, ix_I v1), (4, ix_I v4), (6, ix_I v6)] [] h = jX2_read_75 cal (ix_lp cal stX2_read n) v0 v1 v4 v6 h := jX2_read_75_eq cal (ix_lp cal stX2_read n) v0 v1 v4 v6 h
def jX2_isLetter_14 (cal : ix_C) (K : ix_K) (s0 : Int32) (h : ix_H) : ix_O :=
  cond (ix_okn 1 s0) (some (.inl (some (ix_I s0)), h)) none
theorem jX2_isLetter_14_eq (cal : ix_C) (K : ix_K) (s0 : Int32) (h : ix_H) : ix_fwd cal K (stX2_isLetter.drop 14) 0 [] [ix_I s0] h = jX2_isLetter_14 cal K s0 h := rfl
def jX2_isLetter_12 (cal : ix_C) (K : ix_K) (h : ix_H) : ix_O :=
  jX2_isLetter_14 cal K (nI 0) h
theorem jX2_isLetter_12_eq (cal : ix_C) (K : ix_K) (h : ix_H) : ix_fwd cal K (stX2_isLetter.drop 12) 0 [] [] h = jX2_isLetter_12 cal K h := rfl
def bX2_isLetter (cal : ix_C) (K : ix_K) (v0 : Nat) (v1 : Int32) (h : ix_H) : ix_O :=
  (ix_isr h 3 (some v0)).bind fun a2 =>
  (ix_rI (cal 141 [ix_R (some a2), ix_I v1] h)).bind fun r1 =>
  if r1.1 < (nI 97) then
    jX2_isLetter_12 cal K r1.2
  else
    (ix_isr r1.2 3 (some v0)).bind fun a4 =>
    (ix_rI (cal 141 [ix_R (some a4), ix_I v1] r1.2)).bind fun r3 =>
    if (nI 122) < r3.1 then
      jX2_isLetter_12 cal K r3.2
    else
      jX2_isLetter_14 cal K (nI 1) r3.2
theorem eX2_isLetter (cal : ix_C) (K : ix_K) (v0 : Nat) (v1 : Int32) (h : ix_H) : ix_fwd cal K stX2_isLetter 0 [(0, ix_R (some v0)), (1, ix_I v1)] [] h = bX2_isLetter cal K v0 v1 h := rfl
theorem rX2_isLetter (N d : Nat) (v0 : Nat) (v1 : Int32) (h : ix_H) : ix_run iy_P N (d + 1) 140 [ix_R (some v0), ix_I v1] h = bX2_isLetter (ix_run iy_P N d) (ix_lp (ix_run iy_P N d) stX2_isLetter N) v0 v1 h := (rfl : ix_run iy_P N (d + 1) 140 [ix_R (some v0), ix_I v1] h = ix_fwd (ix_run iy_P N d) (ix_lp (ix_run iy_P N d) stX2_isLetter N) stX2_isLetter 0 [(0, ix_R (some v0)), (1, ix_I v1)] [] h).trans (eX2_isLetter _ _ v0 v1 h)
def jX2_at_10 (cal : ix_C) (K : ix_K) (s0 : Int32) (h : ix_H) : ix_O :=
  some (.inl (some (ix_I s0)), h)
theorem jX2_at_10_eq (cal : ix_C) (K : ix_K) (s0 : Int32) (h : ix_H) : ix_fwd cal K (stX2_at.drop 10) 0 [] [ix_I s0] h = jX2_at_10 cal K s0 h := rfl
def bX2_at (cal : ix_C) (K : ix_K) (v0 : Nat) (v1 : Int32) (h : ix_H) : ix_O :=
  (ix_is h 3 (some v0)).bind fun a1 =>
  if (ix_fI h a1 2) ≤ v1 then
    jX2_at_10 cal K (nI 0) h
  else
    (ix_is h 3 (some v0)).bind fun a2 =>
    (ix_atr h 102 (ix_fR h a2 1) v1).bind fun a3 =>
    jX2_at_10 cal K (ix_aI h a3 v1.toNatClampNeg) h
theorem eX2_at (cal : ix_C) (K : ix_K) (v0 : Nat) (v1 : Int32) (h : ix_H) : ix_fwd cal K stX2_at 0 [(0, ix_R (some v0)), (1, ix_I v1)] [] h = bX2_at cal K v0 v1 h := rfl
theorem rX2_at (N d : Nat) (v0 : Nat) (v1 : Int32) (h : ix_H) : ix_run iy_P N (d + 1) 141 [ix_R (some v0), ix_I v1] h = bX2_at (ix_run iy_P N d) (ix_lp (ix_run iy_P N d) stX2_at N) v0 v1 h := (rfl : ix_run iy_P N (d + 1) 141 [ix_R (some v0), ix_I v1] h = ix_fwd (ix_run iy_P N d) (ix_lp (ix_run iy_P N d) stX2_at N) stX2_at 0 [(0, ix_R (some v0)), (1, ix_I v1)] [] h).trans (eX2_at _ _ v0 v1 h)
def jX2_word_50 (cal : ix_C) (K : ix_K) (v0 : Nat) (v1 : Int32) (v2 : Int32) (v3 : Int32) (v4 : Int32) (h : ix_H) : ix_O :=
  if v4 = nI 0 then
    K 2 [(0, ix_R (some v0)), (1, ix_I v1), (2, ix_I v2), (3, ix_I (v3 + (nI 1)))] [] h
  else
    some (.inl (some (ix_I v3)), h)
theorem jX2_word_50_eq (cal : ix_C) (K : ix_K) (v0 : Nat) (v1 : Int32) (v2 : Int32) (v3 : Int32) (v4 : Int32) (h : ix_H) : ix_fwd cal K (stX2_word.drop 50) 0 [(0, ix_R (some v0)), (1, ix_I v1), (2, ix_I v2), (3, ix_I v3), (4, ix_I v4)] [] h = jX2_word_50 cal K v0 v1 v2 v3 v4 h := rfl
def jX2_word_46 (cal : ix_C) (K : ix_K) (v0 : Nat) (v1 : Int32) (v2 : Int32) (v3 : Int32) (v5 : Int32) (s0 : Int32) (h : ix_H) : ix_O :=
  K 24 [(0, ix_R (some v0)), (1, ix_I v1), (2, ix_I v2), (3, ix_I v3), (4, ix_I s0), (5, ix_I (v5 + (nI 1)))] [] h
theorem jX2_word_46_eq (cal : ix_C) (K : ix_K) (v0 : Nat) (v1 : Int32) (v2 : Int32) (v3 : Int32) (v5 : Int32) (s0 : Int32) (h : ix_H) : ix_fwd cal K (stX2_word.drop 46) 0 [(0, ix_R (some v0)), (1, ix_I v1), (2, ix_I v2), (3, ix_I v3), (5, ix_I v5)] [ix_I s0] h = jX2_word_46 cal K v0 v1 v2 v3 v5 s0 h := rfl
def jX2_word_24 (cal : ix_C) (K : ix_K) (v0 : Nat) (v1 : Int32) (v2 : Int32) (v3 : Int32) (v4 : Int32) (v5 : Int32) (h : ix_H) : ix_O :=
  if v2 ≤ v5 then
    jX2_word_50 cal K v0 v1 v2 v3 v4 h
  else
    if v4 = nI 0 then
      jX2_word_50 cal K v0 v1 v2 v3 v4 h
    else
      (ix_is h 3 (some v0)).bind fun a7 =>
      (ix_atr h 114 (ix_fR h a7 0) v3).bind fun a8 =>
      (ix_isr h 19 (ix_aR h a8 v3.toNatClampNeg)).bind fun a10 =>
      (ix_rI (cal 49 [ix_R (some a10), ix_I (v5 - v1)] h)).bind fun r9 =>
      (ix_is r9.2 3 (some v0)).bind fun a11 =>
      (ix_atr r9.2 102 (ix_fR r9.2 a11 1) v5).bind fun a12 =>
      if r9.1 = (ix_aI r9.2 a12 v5.toNatClampNeg) then
        jX2_word_46 cal K v0 v1 v2 v3 v5 (nI 1) r9.2
      else
        jX2_word_46 cal K v0 v1 v2 v3 v5 (nI 0) r9.2
theorem jX2_word_24_eq (cal : ix_C) (K : ix_K) (v0 : Nat) (v1 : Int32) (v2 : Int32) (v3 : Int32) (v4 : Int32) (v5 : Int32) (h : ix_H) : ix_fwd cal K (stX2_word.drop 24) 0 [(0, ix_R (some v0)), (1, ix_I v1), (2, ix_I v2), (3, ix_I v3), (4, ix_I v4), (5, ix_I v5)] [] h = jX2_word_24 cal K v0 v1 v2 v3 v4 v5 h := rfl
def jX2_word_20 (cal : ix_C) (K : ix_K) (v0 : Nat) (v1 : Int32) (v2 : Int32) (v3 : Int32) (s0 : Int32) (h : ix_H) : ix_O :=
  jX2_word_24 cal K v0 v1 v2 v3 s0 v1 h
theorem jX2_word_20_eq (cal : ix_C) (K : ix_K) (v0 : Nat) (v1 : Int32) (v2 : Int32) (v3 : Int32) (s0 : Int32) (h : ix_H) : ix_fwd cal K (stX2_word.drop 20) 0 [(0, ix_R (some v0)), (1, ix_I v1), (2, ix_I v2), (3, ix_I v3)] [ix_I s0] h = jX2_word_20 cal K v0 v1 v2 v3 s0 h := rfl
def jX2_word_2 (cal : ix_C) (K : ix_K) (v0 : Nat) (v1 : Int32) (v2 : Int32) (v3 : Int32) (h : ix_H) : ix_O :=
  (ix_is h 3 (some v0)).bind fun a1 =>
  (ix_isr h 114 (ix_fR h a1 0)).bind fun a2 =>
  if (Int32.ofNat (ix_ln h a2)) ≤ v3 then
    some (.inl (some (ix_I (-1 : Int32))), h)
  else
    (ix_is h 3 (some v0)).bind fun a3 =>
    (ix_atr h 114 (ix_fR h a3 0) v3).bind fun a4 =>
    (ix_isr h 19 (ix_aR h a4 v3.toNatClampNeg)).bind fun a6 =>
    (ix_rI (cal 47 [ix_R (some a6)] h)).bind fun r5 =>
    if r5.1 = (v2 - v1) then
      jX2_word_20 cal K v0 v1 v2 v3 (nI 1) r5.2
    else
      jX2_word_20 cal K v0 v1 v2 v3 (nI 0) r5.2
theorem jX2_word_2_eq (cal : ix_C) (K : ix_K) (v0 : Nat) (v1 : Int32) (v2 : Int32) (v3 : Int32) (h : ix_H) : ix_fwd cal K (stX2_word.drop 2) 0 [(0, ix_R (some v0)), (1, ix_I v1), (2, ix_I v2), (3, ix_I v3)] [] h = jX2_word_2 cal K v0 v1 v2 v3 h := rfl
def bX2_word (cal : ix_C) (K : ix_K) (v0 : Nat) (v1 : Int32) (v2 : Int32) (h : ix_H) : ix_O :=
  jX2_word_2 cal K v0 v1 v2 (nI 0) h
theorem eX2_word (cal : ix_C) (K : ix_K) (v0 : Nat) (v1 : Int32) (v2 : Int32) (h : ix_H) : ix_fwd cal K stX2_word 0 [(0, ix_R (some v0)), (1, ix_I v1), (2, ix_I v2)] [] h = bX2_word cal K v0 v1 v2 h := rfl
theorem rX2_word (N d : Nat) (v0 : Nat) (v1 : Int32) (v2 : Int32) (h : ix_H) : ix_run iy_P N (d + 1) 142 [ix_R (some v0), ix_I v1, ix_I v2] h = bX2_word (ix_run iy_P N d) (ix_lp (ix_run iy_P N d) stX2_word N) v0 v1 v2 h := (rfl : ix_run iy_P N (d + 1) 142 [ix_R (some v0), ix_I v1, ix_I v2] h = ix_fwd (ix_run iy_P N d) (ix_lp (ix_run iy_P N d) stX2_word N) stX2_word 0 [(0, ix_R (some v0)), (1, ix_I v1), (2, ix_I v2)] [] h).trans (eX2_word _ _ v0 v1 v2 h)
theorem lX2_word_2 (cal : ix_C) (n : Nat) (v0 : Nat) (v1 : Int32) (v2 : Int32) (v3 : Int32) (h : ix_H) : ix_lp cal stX2_word (n + 1) 2 [(0, ix_R (some v0)), (1, ix_I v1), (2, ix_I v2), (3, ix_I v3)] [] h = jX2_word_2 cal (ix_lp cal stX2_word n) v0 v1 v2 v3 h := jX2_word_2_eq cal (ix_lp cal stX2_word n) v0 v1 v2 v3 h
theorem lX2_word_24 (cal : ix_C) (n : Nat) (v0 : Nat) (v1 : Int32) (v2 : Int32) (v3 : Int32) (v4 : Int32) (v5 : Int32) (h : ix_H) : ix_lp cal stX2_word (n + 1) 24 [(0, ix_R (some v0)), (1, ix_I v1), (2, ix_I v2), (3, ix_I v3), (4, ix_I v4), (5, ix_I v5)] [] h = jX2_word_24 cal (ix_lp cal stX2_word n) v0 v1 v2 v3 v4 v5 h := jX2_word_24_eq cal (ix_lp cal stX2_word n) v0 v1 v2 v3 v4 v5 h
def jX2_isDigit_14 (cal : ix_C) (K : ix_K) (s0 : Int32) (h : ix_H) : ix_O :=
  cond (ix_okn 1 s0) (some (.inl (some (ix_I s0)), h)) none
theorem jX2_isDigit_14_eq (cal : ix_C) (K : ix_K) (s0 : Int32) (h : ix_H) : ix_fwd cal K (stX2_isDigit.drop 14) 0 [] [ix_I s0] h = jX2_isDigit_14 cal K s0 h := rfl
def jX2_isDigit_12 (cal : ix_C) (K : ix_K) (h : ix_H) : ix_O :=
  jX2_isDigit_14 cal K (nI 0) h
theorem jX2_isDigit_12_eq (cal : ix_C) (K : ix_K) (h : ix_H) : ix_fwd cal K (stX2_isDigit.drop 12) 0 [] [] h = jX2_isDigit_12 cal K h := rfl
def bX2_isDigit (cal : ix_C) (K : ix_K) (v0 : Nat) (v1 : Int32) (h : ix_H) : ix_O :=
  (ix_isr h 3 (some v0)).bind fun a2 =>
  (ix_rI (cal 141 [ix_R (some a2), ix_I v1] h)).bind fun r1 =>
  if r1.1 < (nI 48) then
    jX2_isDigit_12 cal K r1.2
  else
    (ix_isr r1.2 3 (some v0)).bind fun a4 =>
    (ix_rI (cal 141 [ix_R (some a4), ix_I v1] r1.2)).bind fun r3 =>
    if (nI 57) < r3.1 then
      jX2_isDigit_12 cal K r3.2
    else
      jX2_isDigit_14 cal K (nI 1) r3.2
theorem eX2_isDigit (cal : ix_C) (K : ix_K) (v0 : Nat) (v1 : Int32) (h : ix_H) : ix_fwd cal K stX2_isDigit 0 [(0, ix_R (some v0)), (1, ix_I v1)] [] h = bX2_isDigit cal K v0 v1 h := rfl
theorem rX2_isDigit (N d : Nat) (v0 : Nat) (v1 : Int32) (h : ix_H) : ix_run iy_P N (d + 1) 143 [ix_R (some v0), ix_I v1] h = bX2_isDigit (ix_run iy_P N d) (ix_lp (ix_run iy_P N d) stX2_isDigit N) v0 v1 h := (rfl : ix_run iy_P N (d + 1) 143 [ix_R (some v0), ix_I v1] h = ix_fwd (ix_run iy_P N d) (ix_lp (ix_run iy_P N d) stX2_isDigit N) stX2_isDigit 0 [(0, ix_R (some v0)), (1, ix_I v1)] [] h).trans (eX2_isDigit _ _ v0 v1 h)
def jX2_sign_6 (cal : ix_C) (K : ix_K) (v2 : Int32) (h : ix_H) : ix_O :=
  some (.inl (some (ix_I v2)), h)
theorem jX2_sign_6_eq (cal : ix_C) (K : ix_K) (v2 : Int32) (h : ix_H) : ix_fwd cal K (stX2_sign.drop 6) 0 [(2, ix_I v2)] [] h = jX2_sign_6 cal K v2 h := rfl
def jX2_sign_9 (cal : ix_C) (K : ix_K) (h : ix_H) : ix_O :=
  some (.inl (some (ix_I (nI 0))), h)
theorem jX2_sign_9_eq (cal : ix_C) (K : ix_K) (h : ix_H) : ix_fwd cal K (stX2_sign.drop 9) 0 [] [] h = jX2_sign_9 cal K h := rfl
def bX2_sign (cal : ix_C) (K : ix_K) (v0 : Nat) (v1 : Int32) (h : ix_H) : ix_O :=
  (ix_isr h 3 (some v0)).bind fun a2 =>
  (ix_rI (cal 141 [ix_R (some a2), ix_I v1] h)).bind fun r1 =>
  if r1.1 = nI 37 then
    jX2_sign_6 cal K r1.1 r1.2
  else
  if r1.1 = nI 38 then
    jX2_sign_9 cal K r1.2
  else
  if r1.1 = nI 39 then
    jX2_sign_9 cal K r1.2
  else
  if r1.1 = nI 40 then
    jX2_sign_6 cal K r1.1 r1.2
  else
  if r1.1 = nI 41 then
    jX2_sign_6 cal K r1.1 r1.2
  else
  if r1.1 = nI 42 then
    jX2_sign_6 cal K r1.1 r1.2
  else
  if r1.1 = nI 43 then
    jX2_sign_6 cal K r1.1 r1.2
  else
  if r1.1 = nI 44 then
    jX2_sign_9 cal K r1.2
  else
  if r1.1 = nI 45 then
    jX2_sign_6 cal K r1.1 r1.2
  else
  if r1.1 = nI 46 then
    jX2_sign_9 cal K r1.2
  else
  if r1.1 = nI 47 then
    jX2_sign_6 cal K r1.1 r1.2
  else
  if r1.1 = nI 48 then
    jX2_sign_9 cal K r1.2
  else
  if r1.1 = nI 49 then
    jX2_sign_9 cal K r1.2
  else
  if r1.1 = nI 50 then
    jX2_sign_9 cal K r1.2
  else
  if r1.1 = nI 51 then
    jX2_sign_9 cal K r1.2
  else
  if r1.1 = nI 52 then
    jX2_sign_9 cal K r1.2
  else
  if r1.1 = nI 53 then
    jX2_sign_9 cal K r1.2
  else
  if r1.1 = nI 54 then
    jX2_sign_9 cal K r1.2
  else
  if r1.1 = nI 55 then
    jX2_sign_9 cal K r1.2
  else
  if r1.1 = nI 56 then
    jX2_sign_9 cal K r1.2
  else
  if r1.1 = nI 57 then
    jX2_sign_9 cal K r1.2
  else
  if r1.1 = nI 58 then
    jX2_sign_9 cal K r1.2
  else
  if r1.1 = nI 59 then
    jX2_sign_6 cal K r1.1 r1.2
  else
    jX2_sign_9 cal K r1.2
theorem eX2_sign (cal : ix_C) (K : ix_K) (v0 : Nat) (v1 : Int32) (h : ix_H) : ix_fwd cal K stX2_sign 0 [(0, ix_R (some v0)), (1, ix_I v1)] [] h = bX2_sign cal K v0 v1 h := rfl
theorem rX2_sign (N d : Nat) (v0 : Nat) (v1 : Int32) (h : ix_H) : ix_run iy_P N (d + 1) 144 [ix_R (some v0), ix_I v1] h = bX2_sign (ix_run iy_P N d) (ix_lp (ix_run iy_P N d) stX2_sign N) v0 v1 h := (rfl : ix_run iy_P N (d + 1) 144 [ix_R (some v0), ix_I v1] h = ix_fwd (ix_run iy_P N d) (ix_lp (ix_run iy_P N d) stX2_sign N) stX2_sign 0 [(0, ix_R (some v0)), (1, ix_I v1)] [] h).trans (eX2_sign _ _ v0 v1 h)
def bX2_add (cal : ix_C) (K : ix_K) (v0 : Nat) (v1 : Int32) (v2 : Int32) (v3 : Int32) (v4 : Int32) (h : ix_H) : ix_O :=
  (ix_is h 3 (some v0)).bind fun a1 =>
  (ix_is h 3 (some v0)).bind fun a2 =>
  (ix_at h 102 (ix_fR h a1 3) (ix_fI h a2 7)).bind fun a3 =>
  ix_bd (ix_waI h a3 (ix_fI h a2 7).toNatClampNeg (ix_nar 2 (v1.toInt8.toInt32))) fun h4 =>
  (ix_is h4 3 (some v0)).bind fun a5 =>
  (ix_is h4 3 (some v0)).bind fun a6 =>
  (ix_at h4 103 (ix_fR h4 a5 4) (ix_fI h4 a6 7)).bind fun a7 =>
  ix_bd (ix_waI h4 a7 (ix_fI h4 a6 7).toNatClampNeg (ix_nar 3 (v2.toInt16.toInt32))) fun h8 =>
  (ix_is h8 3 (some v0)).bind fun a9 =>
  (ix_is h8 3 (some v0)).bind fun a10 =>
  (ix_at h8 103 (ix_fR h8 a9 5) (ix_fI h8 a10 7)).bind fun a11 =>
  ix_bd (ix_waI h8 a11 (ix_fI h8 a10 7).toNatClampNeg (ix_nar 3 (v3.toInt16.toInt32))) fun h12 =>
  (ix_is h12 3 (some v0)).bind fun a13 =>
  (ix_is h12 3 (some v0)).bind fun a14 =>
  (ix_at h12 103 (ix_fR h12 a13 6) (ix_fI h12 a14 7)).bind fun a15 =>
  ix_bd (ix_waI h12 a15 (ix_fI h12 a14 7).toNatClampNeg (ix_nar 3 (v4.toInt16.toInt32))) fun h16 =>
  (ix_is h16 3 (some v0)).bind fun a17 =>
  (ix_is h16 3 (some v0)).bind fun a18 =>
  ix_bd (ix_wfI h16 a18 7 ((ix_fI h16 a17 7) + (nI 1))) fun h19 =>
  some (.inl none, h19)
theorem eX2_add (cal : ix_C) (K : ix_K) (v0 : Nat) (v1 : Int32) (v2 : Int32) (v3 : Int32) (v4 : Int32) (h : ix_H) : ix_fwd cal K stX2_add 0 [(0, ix_R (some v0)), (1, ix_I v1), (2, ix_I v2), (3, ix_I v3), (4, ix_I v4)] [] h = bX2_add cal K v0 v1 v2 v3 v4 h := rfl
theorem rX2_add (N d : Nat) (v0 : Nat) (v1 : Int32) (v2 : Int32) (v3 : Int32) (v4 : Int32) (h : ix_H) : ix_run iy_P N (d + 1) 145 [ix_R (some v0), ix_I v1, ix_I v2, ix_I v3, ix_I v4] h = bX2_add (ix_run iy_P N d) (ix_lp (ix_run iy_P N d) stX2_add N) v0 v1 v2 v3 v4 h := (rfl : ix_run iy_P N (d + 1) 145 [ix_R (some v0), ix_I v1, ix_I v2, ix_I v3, ix_I v4] h = ix_fwd (ix_run iy_P N d) (ix_lp (ix_run iy_P N d) stX2_add N) stX2_add 0 [(0, ix_R (some v0)), (1, ix_I v1), (2, ix_I v2), (3, ix_I v3), (4, ix_I v4)] [] h).trans (eX2_add _ _ v0 v1 v2 v3 v4 h)
def jX2_text_9 (cal : ix_C) (K : ix_K) (v0 : Nat) (v1 : Int32) (v2 : Option Nat) (v3 : Int32) (h : ix_H) : ix_O :=
  (ix_is h 3 (some v0)).bind fun a6 =>
  (ix_atr h 103 (ix_fR h a6 5) v1).bind fun a7 =>
  if (ix_aI h a7 v1.toNatClampNeg) ≤ v3 then
    (ix_isr h 20 v2).bind fun a9 =>
    (ix_rR (cal 13 [ix_R (some a9)] h)).bind fun r8 =>
    some (.inl (some (ix_R r8.1)), r8.2)
  else
    (ix_is h 3 (some v0)).bind fun a10 =>
    (ix_atr h 102 (ix_fR h a10 1) v3).bind fun a11 =>
    (ix_isr h 20 v2).bind fun a13 =>
    (ix_rR (cal 12 [ix_R (some a13), ix_I (((ix_aI h a11 v3.toNatClampNeg).toUInt32 % 65536).toInt32)] h)).bind fun r12 =>
    K 9 [(0, ix_R (some v0)), (1, ix_I v1), (2, ix_R v2), (3, ix_I (v3 + (nI 1)))] [] r12.2
theorem jX2_text_9_eq (cal : ix_C) (K : ix_K) (v0 : Nat) (v1 : Int32) (v2 : Option Nat) (v3 : Int32) (h : ix_H) : ix_fwd cal K (stX2_text.drop 9) 0 [(0, ix_R (some v0)), (1, ix_I v1), (2, ix_R v2), (3, ix_I v3)] [] h = jX2_text_9 cal K v0 v1 v2 v3 h := rfl
def bX2_text (cal : ix_C) (K : ix_K) (v0 : Nat) (v1 : Int32) (h : ix_H) : ix_O :=
  ix_bd (ix_nwO h 20 4) fun h1 =>
  (ix_isr h1 20 (some (ix_sz h))).bind fun a3 =>
  (ix_rV (cal 11 [ix_R (some a3)] h1)).bind fun r2 =>
  (ix_is r2 3 (some v0)).bind fun a4 =>
  (ix_atr r2 103 (ix_fR r2 a4 4) v1).bind fun a5 =>
  jX2_text_9 cal K v0 v1 (some (ix_sz h)) (ix_aI r2 a5 v1.toNatClampNeg) r2
theorem eX2_text (cal : ix_C) (K : ix_K) (v0 : Nat) (v1 : Int32) (h : ix_H) : ix_fwd cal K stX2_text 0 [(0, ix_R (some v0)), (1, ix_I v1)] [] h = bX2_text cal K v0 v1 h := rfl
theorem rX2_text (N d : Nat) (v0 : Nat) (v1 : Int32) (h : ix_H) : ix_run iy_P N (d + 1) 146 [ix_R (some v0), ix_I v1] h = bX2_text (ix_run iy_P N d) (ix_lp (ix_run iy_P N d) stX2_text N) v0 v1 h := (rfl : ix_run iy_P N (d + 1) 146 [ix_R (some v0), ix_I v1] h = ix_fwd (ix_run iy_P N d) (ix_lp (ix_run iy_P N d) stX2_text N) stX2_text 0 [(0, ix_R (some v0)), (1, ix_I v1)] [] h).trans (eX2_text _ _ v0 v1 h)
theorem lX2_text_9 (cal : ix_C) (n : Nat) (v0 : Nat) (v1 : Int32) (v2 : Option Nat) (v3 : Int32) (h : ix_H) : ix_lp cal stX2_text (n + 1) 9 [(0, ix_R (some v0)), (1, ix_I v1), (2, ix_R v2), (3, ix_I v3)] [] h = jX2_text_9 cal (ix_lp cal stX2_text n) v0 v1 v2 v3 h := jX2_text_9_eq cal (ix_lp cal stX2_text n) v0 v1 v2 v3 h
def jX2_number_7 (cal : ix_C) (K : ix_K) (v0 : Nat) (v1 : Int32) (v2 : Int32) (v3 : Int32) (h : ix_H) : ix_O :=
  (ix_is h 3 (some v0)).bind fun a3 =>
  (ix_atr h 103 (ix_fR h a3 5) v1).bind fun a4 =>
  if (ix_aI h a4 v1.toNatClampNeg) ≤ v3 then
    some (.inl (some (ix_I v2)), h)
  else
    (ix_is h 3 (some v0)).bind fun a5 =>
    (ix_atr h 102 (ix_fR h a5 1) v3).bind fun a6 =>
    K 7 [(0, ix_R (some v0)), (1, ix_I v1), (2, ix_I ((((nI 10) * v2) + (ix_aI h a6 v3.toNatClampNeg)) - (nI 48))), (3, ix_I (v3 + (nI 1)))] [] h
theorem jX2_number_7_eq (cal : ix_C) (K : ix_K) (v0 : Nat) (v1 : Int32) (v2 : Int32) (v3 : Int32) (h : ix_H) : ix_fwd cal K (stX2_number.drop 7) 0 [(0, ix_R (some v0)), (1, ix_I v1), (2, ix_I v2), (3, ix_I v3)] [] h = jX2_number_7 cal K v0 v1 v2 v3 h := rfl
def bX2_number (cal : ix_C) (K : ix_K) (v0 : Nat) (v1 : Int32) (h : ix_H) : ix_O :=
  (ix_is h 3 (some v0)).bind fun a1 =>
  (ix_atr h 103 (ix_fR h a1 4) v1).bind fun a2 =>
  jX2_number_7 cal K v0 v1 (nI 0) (ix_aI h a2 v1.toNatClampNeg) h
theorem eX2_number (cal : ix_C) (K : ix_K) (v0 : Nat) (v1 : Int32) (h : ix_H) : ix_fwd cal K stX2_number 0 [(0, ix_R (some v0)), (1, ix_I v1)] [] h = bX2_number cal K v0 v1 h := rfl
theorem rX2_number (N d : Nat) (v0 : Nat) (v1 : Int32) (h : ix_H) : ix_run iy_P N (d + 1) 147 [ix_R (some v0), ix_I v1] h = bX2_number (ix_run iy_P N d) (ix_lp (ix_run iy_P N d) stX2_number N) v0 v1 h := (rfl : ix_run iy_P N (d + 1) 147 [ix_R (some v0), ix_I v1] h = ix_fwd (ix_run iy_P N d) (ix_lp (ix_run iy_P N d) stX2_number N) stX2_number 0 [(0, ix_R (some v0)), (1, ix_I v1)] [] h).trans (eX2_number _ _ v0 v1 h)
theorem lX2_number_7 (cal : ix_C) (n : Nat) (v0 : Nat) (v1 : Int32) (v2 : Int32) (v3 : Int32) (h : ix_H) : ix_lp cal stX2_number (n + 1) 7 [(0, ix_R (some v0)), (1, ix_I v1), (2, ix_I v2), (3, ix_I v3)] [] h = jX2_number_7 cal (ix_lp cal stX2_number n) v0 v1 v2 v3 h := jX2_number_7_eq cal (ix_lp cal stX2_number n) v0 v1 v2 v3 h
def bX3_init (cal : ix_C) (K : ix_K) (v0 : Nat) (v1 : Option Nat) (v2 : Option Nat) (h : ix_H) : ix_O :=
  (ix_is h 4 (some v0)).bind fun a2 =>
  ix_bd (ix_wfR h a2 0 v1) fun h3 =>
  (ix_is h3 4 (some v0)).bind fun a4 =>
  ix_bd (ix_wfR h3 a4 1 v2) fun h5 =>
  some (.inl none, h5)
theorem eX3_init (cal : ix_C) (K : ix_K) (v0 : Nat) (v1 : Option Nat) (v2 : Option Nat) (h : ix_H) : ix_fwd cal K stX3_init 0 [(0, ix_R (some v0)), (1, ix_R v1), (2, ix_R v2)] [] h = bX3_init cal K v0 v1 v2 h := rfl
theorem rX3_init (N d : Nat) (v0 : Nat) (v1 : Option Nat) (v2 : Option Nat) (h : ix_H) : ix_run iy_P N (d + 1) 148 [ix_R (some v0), ix_R v1, ix_R v2] h = bX3_init (ix_run iy_P N d) (ix_lp (ix_run iy_P N d) stX3_init N) v0 v1 v2 h := (rfl : ix_run iy_P N (d + 1) 148 [ix_R (some v0), ix_R v1, ix_R v2] h = ix_fwd (ix_run iy_P N d) (ix_lp (ix_run iy_P N d) stX3_init N) stX3_init 0 [(0, ix_R (some v0)), (1, ix_R v1), (2, ix_R v2)] [] h).trans (eX3_init _ _ v0 v1 v2 h)
def jX3_read_53 (cal : ix_C) (K : ix_K) (v0 : Nat) (h : ix_H) : ix_O :=
  (ix_isr h 4 (some v0)).bind fun a42 =>
  ix_xI (cal 152 [ix_R (some a42)] h) ix_out fun r41 h43 =>
  if r41 = (nI 4) then
    (ix_is h43 4 (some v0)).bind fun a44 =>
    if (ix_fI h43 a44 6) = nI 0 then
      (ix_is h43 4 (some v0)).bind fun a45 =>
      some (.inl (some (ix_R (ix_fR h43 a45 2))), h43)
    else
      (ix_is h43 4 (some v0)).bind fun a46 =>
      (ix_is h43 4 (some v0)).bind fun a47 =>
      (ix_isr h43 4 (some v0)).bind fun a49 =>
      (ix_rR (cal 154 [ix_R (some a49), ix_I (ix_fI h43 a46 6), ix_I (ix_fI h43 a47 7)] h43)).bind fun r48 =>
      (ix_is r48.2 2 r48.1).bind fun a50 => ix_out a50 r48.2
  else
    (ix_is h43 4 (some v0)).bind fun a51 =>
    (ix_is h43 8 (ix_fR h43 a51 2)).bind fun a52 =>
    (ix_is h43 9 (ix_fR h43 a52 0)).bind fun a53 =>
    (ix_isr h43 4 (some v0)).bind fun a55 =>
    ix_xR (cal 161 [ix_R (some a55)] h43) ix_out fun r54 h56 =>
    (ix_isr h56 18 (ix_fR h43 a53 0)).bind fun a58 =>
    (ix_rI (cal 40 [ix_R (some a58), ix_R r54] h56)).bind fun r57 =>
    K 53 [(0, ix_R (some v0))] [] r57.2
theorem jX3_read_53_eq (cal : ix_C) (K : ix_K) (v0 : Nat) (h : ix_H) : ix_fwd cal K (stX3_read.drop 53) 0 [(0, ix_R (some v0))] [] h = jX3_read_53 cal K v0 h := rfl
def bX3_read (cal : ix_C) (K : ix_K) (v0 : Nat) (h : ix_H) : ix_O :=
  (ix_is h 4 (some v0)).bind fun a1 =>
  (ix_isr h 3 (ix_fR h a1 0)).bind fun a3 =>
  (ix_rV (cal 139 [ix_R (some a3)] h)).bind fun r2 =>
  ix_bd (ix_nwO r2 8 4) fun h4 =>
  (ix_isr h4 8 (some (ix_sz r2))).bind fun a6 =>
  (ix_rV (cal 225 [ix_R (some a6)] h4)).bind fun r5 =>
  (ix_is r5 4 (some v0)).bind fun a7 =>
  ix_bd (ix_wfR r5 a7 2 (some (ix_sz r2))) fun h8 =>
  (ix_is h8 4 (some v0)).bind fun a9 =>
  ix_bd (ix_wfI h8 a9 3 (nI 0)) fun h10 =>
  (ix_is h10 4 (some v0)).bind fun a11 =>
  ix_bd (ix_wfI h10 a11 4 (nI 0)) fun h12 =>
  (ix_is h12 4 (some v0)).bind fun a13 =>
  ix_bd (ix_wfI h12 a13 5 (nI 0)) fun h14 =>
  (ix_is h14 4 (some v0)).bind fun a15 =>
  ix_bd (ix_wfI h14 a15 6 (nI 0)) fun h16 =>
  (ix_is h16 4 (some v0)).bind fun a17 =>
  (ix_is h16 4 (some v0)).bind fun a18 =>
  (ix_is h16 8 (ix_fR h16 a18 2)).bind fun a19 =>
  (ix_isr h16 4 (some v0)).bind fun a21 =>
  ix_xI (cal 150 [ix_R (some a21), ix_R (some (ix_cs h16 4)), ix_I (nI 1), ix_I (nI 8), ix_I (ix_fI h16 a19 1)] h16) ix_out fun r20 h22 =>
  (ix_is h22 8 (ix_fR h16 a17 2)).bind fun a23 =>
  ix_bd (ix_wfI h22 a23 1 r20) fun h24 =>
  (ix_is h24 4 (some v0)).bind fun a25 =>
  (ix_is h24 4 (some v0)).bind fun a26 =>
  (ix_is h24 8 (ix_fR h24 a26 2)).bind fun a27 =>
  (ix_isr h24 4 (some v0)).bind fun a29 =>
  ix_xI (cal 150 [ix_R (some a29), ix_R (some (ix_cs h24 5)), ix_I (nI 4), ix_I (nI 12), ix_I (ix_fI h24 a27 2)] h24) ix_out fun r28 h30 =>
  (ix_is h30 8 (ix_fR h24 a25 2)).bind fun a31 =>
  ix_bd (ix_wfI h30 a31 2 r28) fun h32 =>
  (ix_is h32 4 (some v0)).bind fun a33 =>
  (ix_is h32 4 (some v0)).bind fun a34 =>
  (ix_is h32 8 (ix_fR h32 a34 2)).bind fun a35 =>
  (ix_isr h32 4 (some v0)).bind fun a37 =>
  ix_xI (cal 150 [ix_R (some a37), ix_R (some (ix_cs h32 6)), ix_I (nI 0), ix_I (nI 3), ix_I (ix_fI h32 a35 3)] h32) ix_out fun r36 h38 =>
  (ix_is h38 8 (ix_fR h32 a33 2)).bind fun a39 =>
  ix_bd (ix_wfI h38 a39 3 r36) fun h40 =>
  jX3_read_53 cal K v0 h40
theorem eX3_read (cal : ix_C) (K : ix_K) (v0 : Nat) (h : ix_H) : ix_fwd cal K stX3_read 0 [(0, ix_R (some v0))] [] h = bX3_read cal K v0 h := rfl
theorem rX3_read (N d : Nat) (v0 : Nat) (h : ix_H) : ix_run iy_P N (d + 1) 149 [ix_R (some v0)] h = bX3_read (ix_run iy_P N d) (ix_lp (ix_run iy_P N d) stX3_read N) v0 h := (rfl : ix_run iy_P N (d + 1) 149 [ix_R (some v0)] h = ix_fwd (ix_run iy_P N d) (ix_lp (ix_run iy_P N d) stX3_read N) stX3_read 0 [(0, ix_R (some v0))] [] h).trans (eX3_read _ _ v0 h)
theorem lX3_read_53 (cal : ix_C) (n : Nat) (v0 : Nat) (h : ix_H) : ix_lp cal stX3_read (n + 1) 53 [(0, ix_R (some v0))] [] h = jX3_read_53 cal (ix_lp cal stX3_read n) v0 h := jX3_read_53_eq cal (ix_lp cal stX3_read n) v0 h
def bX3_setting (cal : ix_C) (K : ix_K) (v0 : Nat) (v1 : Option Nat) (v2 : Int32) (v3 : Int32) (v4 : Int32) (h : ix_H) : ix_O :=
  (ix_isr h 4 (some v0)).bind fun a2 =>
  ix_xI (cal 151 [ix_R (some a2), ix_R v1] h) ix_out fun r1 h3 =>
  if r1 = nI 0 then
    some (.inl (some (ix_I v4)), h3)
  else
    (ix_isr h3 4 (some v0)).bind fun a5 =>
    ix_xV (cal 155 [ix_R (some a5)] h3) ix_out fun h6 =>
    (ix_isr h6 4 (some v0)).bind fun a8 =>
    ix_xI (cal 156 [ix_R (some a8), ix_I v2, ix_I v3] h6) ix_out fun r7 h9 =>
    (ix_isr h9 4 (some v0)).bind fun a11 =>
    ix_xV (cal 159 [ix_R (some a11), ix_I (nI 59)] h9) ix_out fun h12 =>
    some (.inl (some (ix_I r7)), h12)
theorem eX3_setting (cal : ix_C) (K : ix_K) (v0 : Nat) (v1 : Option Nat) (v2 : Int32) (v3 : Int32) (v4 : Int32) (h : ix_H) : ix_fwd cal K stX3_setting 0 [(0, ix_R (some v0)), (1, ix_R v1), (2, ix_I v2), (3, ix_I v3), (4, ix_I v4)] [] h = bX3_setting cal K v0 v1 v2 v3 v4 h := rfl
theorem rX3_setting (N d : Nat) (v0 : Nat) (v1 : Option Nat) (v2 : Int32) (v3 : Int32) (v4 : Int32) (h : ix_H) : ix_run iy_P N (d + 1) 150 [ix_R (some v0), ix_R v1, ix_I v2, ix_I v3, ix_I v4] h = bX3_setting (ix_run iy_P N d) (ix_lp (ix_run iy_P N d) stX3_setting N) v0 v1 v2 v3 v4 h := (rfl : ix_run iy_P N (d + 1) 150 [ix_R (some v0), ix_R v1, ix_I v2, ix_I v3, ix_I v4] h = ix_fwd (ix_run iy_P N d) (ix_lp (ix_run iy_P N d) stX3_setting N) stX3_setting 0 [(0, ix_R (some v0)), (1, ix_R v1), (2, ix_I v2), (3, ix_I v3), (4, ix_I v4)] [] h).trans (eX3_setting _ _ v0 v1 v2 v3 v4 h)
def jX3_isTold_16 (cal : ix_C) (K : ix_K) (s0 : Int32) (h : ix_H) : ix_O :=
  cond (ix_okn 1 s0) (some (.inl (some (ix_I s0)), h)) none
theorem jX3_isTold_16_eq (cal : ix_C) (K : ix_K) (s0 : Int32) (h : ix_H) : ix_fwd cal K (stX3_isTold.drop 16) 0 [] [ix_I s0] h = jX3_isTold_16 cal K s0 h := rfl
def jX3_isTold_14 (cal : ix_C) (K : ix_K) (h : ix_H) : ix_O :=
  jX3_isTold_16 cal K (nI 0) h
theorem jX3_isTold_14_eq (cal : ix_C) (K : ix_K) (h : ix_H) : ix_fwd cal K (stX3_isTold.drop 14) 0 [] [] h = jX3_isTold_14 cal K h := rfl
def bX3_isTold (cal : ix_C) (K : ix_K) (v0 : Nat) (v1 : Option Nat) (h : ix_H) : ix_O :=
  (ix_isr h 4 (some v0)).bind fun a2 =>
  ix_xI (cal 152 [ix_R (some a2)] h) ix_out fun r1 h3 =>
  if r1 = (nI 3) then
    (ix_is h3 4 (some v0)).bind fun a4 =>
    (ix_is h3 4 (some v0)).bind fun a5 =>
    (ix_isr h3 3 (ix_fR h3 a4 0)).bind fun a7 =>
    (ix_rR (cal 146 [ix_R (some a7), ix_I (ix_fI h3 a5 3)] h3)).bind fun r6 =>
    (ix_isr r6.2 19 r6.1).bind fun a9 =>
    (ix_rI (cal 55 [ix_R (some a9), ix_R v1] r6.2)).bind fun r8 =>
    if r8.1 = nI 0 then
      jX3_isTold_14 cal K r8.2
    else
      jX3_isTold_16 cal K (nI 1) r8.2
  else
    jX3_isTold_14 cal K h3
theorem eX3_isTold (cal : ix_C) (K : ix_K) (v0 : Nat) (v1 : Option Nat) (h : ix_H) : ix_fwd cal K stX3_isTold 0 [(0, ix_R (some v0)), (1, ix_R v1)] [] h = bX3_isTold cal K v0 v1 h := rfl
theorem rX3_isTold (N d : Nat) (v0 : Nat) (v1 : Option Nat) (h : ix_H) : ix_run iy_P N (d + 1) 151 [ix_R (some v0), ix_R v1] h = bX3_isTold (ix_run iy_P N d) (ix_lp (ix_run iy_P N d) stX3_isTold N) v0 v1 h := (rfl : ix_run iy_P N (d + 1) 151 [ix_R (some v0), ix_R v1] h = ix_fwd (ix_run iy_P N d) (ix_lp (ix_run iy_P N d) stX3_isTold N) stX3_isTold 0 [(0, ix_R (some v0)), (1, ix_R v1)] [] h).trans (eX3_isTold _ _ v0 v1 h)
def bX3_sort (cal : ix_C) (K : ix_K) (v0 : Nat) (h : ix_H) : ix_O :=
  (ix_is h 4 (some v0)).bind fun a1 =>
  (ix_is h 3 (ix_fR h a1 0)).bind fun a2 =>
  (ix_is h 4 (some v0)).bind fun a3 =>
  (ix_atr h 102 (ix_fR h a2 3) (ix_fI h a3 3)).bind fun a4 =>
  if (ix_aI h a4 (ix_fI h a3 3).toNatClampNeg) = (nI 5) then
    (ix_isr h 4 (some v0)).bind fun a10 =>
    (ix_rR (cal 153 [ix_R (some a10), ix_I (nI 1)] h)).bind fun r9 =>
    (ix_is r9.2 2 r9.1).bind fun a11 => ix_out a11 r9.2
  else
    (ix_is h 4 (some v0)).bind fun a5 =>
    (ix_is h 3 (ix_fR h a5 0)).bind fun a6 =>
    (ix_is h 4 (some v0)).bind fun a7 =>
    (ix_atr h 102 (ix_fR h a6 3) (ix_fI h a7 3)).bind fun a8 =>
    some (.inl (some (ix_I (ix_aI h a8 (ix_fI h a7 3).toNatClampNeg))), h)
theorem eX3_sort (cal : ix_C) (K : ix_K) (v0 : Nat) (h : ix_H) : ix_fwd cal K stX3_sort 0 [(0, ix_R (some v0))] [] h = bX3_sort cal K v0 h := rfl
theorem rX3_sort (N d : Nat) (v0 : Nat) (h : ix_H) : ix_run iy_P N (d + 1) 152 [ix_R (some v0)] h = bX3_sort (ix_run iy_P N d) (ix_lp (ix_run iy_P N d) stX3_sort N) v0 h := (rfl : ix_run iy_P N (d + 1) 152 [ix_R (some v0)] h = ix_fwd (ix_run iy_P N d) (ix_lp (ix_run iy_P N d) stX3_sort N) stX3_sort 0 [(0, ix_R (some v0))] [] h).trans (eX3_sort _ _ v0 h)
def bX3_wrong (cal : ix_C) (K : ix_K) (v0 : Nat) (v1 : Int32) (h : ix_H) : ix_O :=
  (ix_is h 4 (some v0)).bind fun a1 =>
  (ix_isr h 4 (some v0)).bind fun a3 =>
  (ix_rR (cal 154 [ix_R (some a3), ix_I v1, ix_I (ix_fI h a1 3)] h)).bind fun r2 =>
  some (.inl (some (ix_R r2.1)), r2.2)
theorem eX3_wrong (cal : ix_C) (K : ix_K) (v0 : Nat) (v1 : Int32) (h : ix_H) : ix_fwd cal K stX3_wrong 0 [(0, ix_R (some v0)), (1, ix_I v1)] [] h = bX3_wrong cal K v0 v1 h := rfl
theorem rX3_wrong (N d : Nat) (v0 : Nat) (v1 : Int32) (h : ix_H) : ix_run iy_P N (d + 1) 153 [ix_R (some v0), ix_I v1] h = bX3_wrong (ix_run iy_P N d) (ix_lp (ix_run iy_P N d) stX3_wrong N) v0 v1 h := (rfl : ix_run iy_P N (d + 1) 153 [ix_R (some v0), ix_I v1] h = ix_fwd (ix_run iy_P N d) (ix_lp (ix_run iy_P N d) stX3_wrong N) stX3_wrong 0 [(0, ix_R (some v0)), (1, ix_I v1)] [] h).trans (eX3_wrong _ _ v0 v1 h)
def bX3_wrongAt (cal : ix_C) (K : ix_K) (v0 : Nat) (v1 : Int32) (v2 : Int32) (h : ix_H) : ix_O :=
  (ix_is h 4 (some v0)).bind fun a1 =>
  (ix_is h 4 (some v0)).bind fun a2 =>
  (ix_is h 3 (ix_fR h a2 0)).bind fun a3 =>
  (ix_atr h 103 (ix_fR h a3 4) v2).bind fun a4 =>
  (ix_isr h 2 (ix_fR h a1 1)).bind fun a6 =>
  (ix_rR (cal 118 [ix_R (some a6), ix_I v1, ix_I (ix_aI h a4 v2.toNatClampNeg)] h)).bind fun r5 =>
  some (.inl (some (ix_R r5.1)), r5.2)
theorem eX3_wrongAt (cal : ix_C) (K : ix_K) (v0 : Nat) (v1 : Int32) (v2 : Int32) (h : ix_H) : ix_fwd cal K stX3_wrongAt 0 [(0, ix_R (some v0)), (1, ix_I v1), (2, ix_I v2)] [] h = bX3_wrongAt cal K v0 v1 v2 h := rfl
theorem rX3_wrongAt (N d : Nat) (v0 : Nat) (v1 : Int32) (v2 : Int32) (h : ix_H) : ix_run iy_P N (d + 1) 154 [ix_R (some v0), ix_I v1, ix_I v2] h = bX3_wrongAt (ix_run iy_P N d) (ix_lp (ix_run iy_P N d) stX3_wrongAt N) v0 v1 v2 h := (rfl : ix_run iy_P N (d + 1) 154 [ix_R (some v0), ix_I v1, ix_I v2] h = ix_fwd (ix_run iy_P N d) (ix_lp (ix_run iy_P N d) stX3_wrongAt N) stX3_wrongAt 0 [(0, ix_R (some v0)), (1, ix_I v1), (2, ix_I v2)] [] h).trans (eX3_wrongAt _ _ v0 v1 v2 h)
def bX3_pass (cal : ix_C) (K : ix_K) (v0 : Nat) (h : ix_H) : ix_O :=
  (ix_is h 4 (some v0)).bind fun a1 =>
  if (ix_fI h a1 3) < (nI 400) then
    (ix_is h 4 (some v0)).bind fun a2 =>
    (ix_is h 4 (some v0)).bind fun a3 =>
    ix_bd (ix_wfI h a3 3 ((ix_fI h a2 3) + (nI 1))) fun h4 =>
    some (.inl none, h4)
  else
    (ix_isr h 4 (some v0)).bind fun a6 =>
    (ix_rR (cal 153 [ix_R (some a6), ix_I (nI 2)] h)).bind fun r5 =>
    (ix_is r5.2 2 r5.1).bind fun a7 => ix_out a7 r5.2
theorem eX3_pass (cal : ix_C) (K : ix_K) (v0 : Nat) (h : ix_H) : ix_fwd cal K stX3_pass 0 [(0, ix_R (some v0))] [] h = bX3_pass cal K v0 h := rfl
theorem rX3_pass (N d : Nat) (v0 : Nat) (h : ix_H) : ix_run iy_P N (d + 1) 155 [ix_R (some v0)] h = bX3_pass (ix_run iy_P N d) (ix_lp (ix_run iy_P N d) stX3_pass N) v0 h := (rfl : ix_run iy_P N (d + 1) 155 [ix_R (some v0)] h = ix_fwd (ix_run iy_P N d) (ix_lp (ix_run iy_P N d) stX3_pass N) stX3_pass 0 [(0, ix_R (some v0))] [] h).trans (eX3_pass _ _ v0 h)
def jX3_number_20 (cal : ix_C) (K : ix_K) (v4 : Int32) (h : ix_H) : ix_O :=
  some (.inl (some (ix_I v4)), h)
theorem jX3_number_20_eq (cal : ix_C) (K : ix_K) (v4 : Int32) (h : ix_H) : ix_fwd cal K (stX3_number.drop 20) 0 [(4, ix_I v4)] [] h = jX3_number_20 cal K v4 h := rfl
def jX3_number_15 (cal : ix_C) (K : ix_K) (v0 : Nat) (v3 : Int32) (v4 : Int32) (h : ix_H) : ix_O :=
  (ix_isr h 4 (some v0)).bind fun a8 =>
  (ix_rV (cal 158 [ix_R (some a8), ix_I (nI 5), ix_I v3] h)).bind fun r7 =>
  jX3_number_20 cal K v4 r7
theorem jX3_number_15_eq (cal : ix_C) (K : ix_K) (v0 : Nat) (v3 : Int32) (v4 : Int32) (h : ix_H) : ix_fwd cal K (stX3_number.drop 15) 0 [(0, ix_R (some v0)), (3, ix_I v3), (4, ix_I v4)] [] h = jX3_number_15 cal K v0 v3 v4 h := rfl
def bX3_number (cal : ix_C) (K : ix_K) (v0 : Nat) (v1 : Int32) (v2 : Int32) (h : ix_H) : ix_O :=
  (ix_isr h 4 (some v0)).bind fun a2 =>
  ix_xI (cal 157 [ix_R (some a2), ix_I (nI 1)] h) ix_out fun r1 h3 =>
  (ix_is h3 4 (some v0)).bind fun a4 =>
  (ix_isr h3 3 (ix_fR h3 a4 0)).bind fun a6 =>
  (ix_rI (cal 147 [ix_R (some a6), ix_I r1] h3)).bind fun r5 =>
  if r5.1 < v1 then
    jX3_number_15 cal K v0 r1 r5.1 r5.2
  else
    if r5.1 ≤ v2 then
      jX3_number_20 cal K r5.1 r5.2
    else
      jX3_number_15 cal K v0 r1 r5.1 r5.2
theorem eX3_number (cal : ix_C) (K : ix_K) (v0 : Nat) (v1 : Int32) (v2 : Int32) (h : ix_H) : ix_fwd cal K stX3_number 0 [(0, ix_R (some v0)), (1, ix_I v1), (2, ix_I v2)] [] h = bX3_number cal K v0 v1 v2 h := rfl
theorem rX3_number (N d : Nat) (v0 : Nat) (v1 : Int32) (v2 : Int32) (h : ix_H) : ix_run iy_P N (d + 1) 156 [ix_R (some v0), ix_I v1, ix_I v2] h = bX3_number (ix_run iy_P N d) (ix_lp (ix_run iy_P N d) stX3_number N) v0 v1 v2 h := (rfl : ix_run iy_P N (d + 1) 156 [ix_R (some v0), ix_I v1, ix_I v2] h = ix_fwd (ix_run iy_P N d) (ix_lp (ix_run iy_P N d) stX3_number N) stX3_number 0 [(0, ix_R (some v0)), (1, ix_I v1), (2, ix_I v2)] [] h).trans (eX3_number _ _ v0 v1 v2 h)
def bX3_take (cal : ix_C) (K : ix_K) (v0 : Nat) (v1 : Int32) (h : ix_H) : ix_O :=
  (ix_isr h 4 (some v0)).bind fun a2 =>
  ix_xI (cal 152 [ix_R (some a2)] h) ix_out fun r1 h3 =>
  if r1 = v1 then
    (ix_isr h3 4 (some v0)).bind fun a5 =>
    ix_xV (cal 155 [ix_R (some a5)] h3) ix_out fun h6 =>
    (ix_is h6 4 (some v0)).bind fun a7 =>
    some (.inl (some (ix_I ((ix_fI h6 a7 3) - (nI 1)))), h6)
  else
    (ix_isr h3 4 (some v0)).bind fun a9 =>
    (ix_rR (cal 153 [ix_R (some a9), ix_I (nI 1)] h3)).bind fun r8 =>
    (ix_is r8.2 2 r8.1).bind fun a10 => ix_out a10 r8.2
theorem eX3_take (cal : ix_C) (K : ix_K) (v0 : Nat) (v1 : Int32) (h : ix_H) : ix_fwd cal K stX3_take 0 [(0, ix_R (some v0)), (1, ix_I v1)] [] h = bX3_take cal K v0 v1 h := rfl
theorem rX3_take (N d : Nat) (v0 : Nat) (v1 : Int32) (h : ix_H) : ix_run iy_P N (d + 1) 157 [ix_R (some v0), ix_I v1] h = bX3_take (ix_run iy_P N d) (ix_lp (ix_run iy_P N d) stX3_take N) v0 v1 h := (rfl : ix_run iy_P N (d + 1) 157 [ix_R (some v0), ix_I v1] h = ix_fwd (ix_run iy_P N d) (ix_lp (ix_run iy_P N d) stX3_take N) stX3_take 0 [(0, ix_R (some v0)), (1, ix_I v1)] [] h).trans (eX3_take _ _ v0 v1 h)
def jX3_tell_17 (cal : ix_C) (K : ix_K) (v0 : Nat) (v1 : Int32) (v2 : Int32) (h : ix_H) : ix_O :=
  (ix_is h 4 (some v0)).bind fun a2 =>
  ix_bd (ix_wfI h a2 6 v1) fun h3 =>
  (ix_is h3 4 (some v0)).bind fun a4 =>
  ix_bd (ix_wfI h3 a4 7 v2) fun h5 =>
  some (.inl none, h5)
theorem jX3_tell_17_eq (cal : ix_C) (K : ix_K) (v0 : Nat) (v1 : Int32) (v2 : Int32) (h : ix_H) : ix_fwd cal K (stX3_tell.drop 17) 0 [(0, ix_R (some v0)), (1, ix_I v1), (2, ix_I v2)] [] h = jX3_tell_17 cal K v0 v1 v2 h := rfl
def jX3_tell_15 (cal : ix_C) (K : ix_K) (h : ix_H) : ix_O :=
  some (.inl none, h)
theorem jX3_tell_15_eq (cal : ix_C) (K : ix_K) (h : ix_H) : ix_fwd cal K (stX3_tell.drop 15) 0 [] [] h = jX3_tell_15 cal K h := rfl
def bX3_tell (cal : ix_C) (K : ix_K) (v0 : Nat) (v1 : Int32) (v2 : Int32) (h : ix_H) : ix_O :=
  (ix_is h 4 (some v0)).bind fun a1 =>
  if (ix_fI h a1 6) = nI 0 then
    jX3_tell_17 cal K v0 v1 v2 h
  else
    (ix_is h 4 (some v0)).bind fun a6 =>
    if (ix_fI h a6 7) < v2 then
      jX3_tell_15 cal K h
    else
      (ix_is h 4 (some v0)).bind fun a7 =>
      if v2 = (ix_fI h a7 7) then
        (ix_is h 4 (some v0)).bind fun a8 =>
        if v1 < (ix_fI h a8 6) then
          jX3_tell_17 cal K v0 v1 v2 h
        else
          jX3_tell_15 cal K h
      else
        jX3_tell_17 cal K v0 v1 v2 h
theorem eX3_tell (cal : ix_C) (K : ix_K) (v0 : Nat) (v1 : Int32) (v2 : Int32) (h : ix_H) : ix_fwd cal K stX3_tell 0 [(0, ix_R (some v0)), (1, ix_I v1), (2, ix_I v2)] [] h = bX3_tell cal K v0 v1 v2 h := rfl
theorem rX3_tell (N d : Nat) (v0 : Nat) (v1 : Int32) (v2 : Int32) (h : ix_H) : ix_run iy_P N (d + 1) 158 [ix_R (some v0), ix_I v1, ix_I v2] h = bX3_tell (ix_run iy_P N d) (ix_lp (ix_run iy_P N d) stX3_tell N) v0 v1 v2 h := (rfl : ix_run iy_P N (d + 1) 158 [ix_R (some v0), ix_I v1, ix_I v2] h = ix_fwd (ix_run iy_P N d) (ix_lp (ix_run iy_P N d) stX3_tell N) stX3_tell 0 [(0, ix_R (some v0)), (1, ix_I v1), (2, ix_I v2)] [] h).trans (eX3_tell _ _ v0 v1 v2 h)
def bX3_sign (cal : ix_C) (K : ix_K) (v0 : Nat) (v1 : Int32) (h : ix_H) : ix_O :=
  (ix_isr h 4 (some v0)).bind fun a2 =>
  (ix_rI (cal 160 [ix_R (some a2), ix_I v1] h)).bind fun r1 =>
  if r1.1 = nI 0 then
    (ix_isr r1.2 4 (some v0)).bind fun a7 =>
    (ix_rR (cal 153 [ix_R (some a7), ix_I (nI 1)] r1.2)).bind fun r6 =>
    (ix_is r6.2 2 r6.1).bind fun a8 => ix_out a8 r6.2
  else
    (ix_isr r1.2 4 (some v0)).bind fun a4 =>
    ix_xV (cal 155 [ix_R (some a4)] r1.2) ix_out fun h5 =>
    some (.inl none, h5)
theorem eX3_sign (cal : ix_C) (K : ix_K) (v0 : Nat) (v1 : Int32) (h : ix_H) : ix_fwd cal K stX3_sign 0 [(0, ix_R (some v0)), (1, ix_I v1)] [] h = bX3_sign cal K v0 v1 h := rfl
theorem rX3_sign (N d : Nat) (v0 : Nat) (v1 : Int32) (h : ix_H) : ix_run iy_P N (d + 1) 159 [ix_R (some v0), ix_I v1] h = bX3_sign (ix_run iy_P N d) (ix_lp (ix_run iy_P N d) stX3_sign N) v0 v1 h := (rfl : ix_run iy_P N (d + 1) 159 [ix_R (some v0), ix_I v1] h = ix_fwd (ix_run iy_P N d) (ix_lp (ix_run iy_P N d) stX3_sign N) stX3_sign 0 [(0, ix_R (some v0)), (1, ix_I v1)] [] h).trans (eX3_sign _ _ v0 v1 h)
def jX3_isSign_20 (cal : ix_C) (K : ix_K) (s0 : Int32) (h : ix_H) : ix_O :=
  cond (ix_okn 1 s0) (some (.inl (some (ix_I s0)), h)) none
theorem jX3_isSign_20_eq (cal : ix_C) (K : ix_K) (s0 : Int32) (h : ix_H) : ix_fwd cal K (stX3_isSign.drop 20) 0 [] [ix_I s0] h = jX3_isSign_20 cal K s0 h := rfl
def jX3_isSign_18 (cal : ix_C) (K : ix_K) (h : ix_H) : ix_O :=
  jX3_isSign_20 cal K (nI 0) h
theorem jX3_isSign_18_eq (cal : ix_C) (K : ix_K) (h : ix_H) : ix_fwd cal K (stX3_isSign.drop 18) 0 [] [] h = jX3_isSign_18 cal K h := rfl
def bX3_isSign (cal : ix_C) (K : ix_K) (v0 : Nat) (v1 : Int32) (h : ix_H) : ix_O :=
  (ix_is h 4 (some v0)).bind fun a1 =>
  (ix_is h 3 (ix_fR h a1 0)).bind fun a2 =>
  (ix_is h 4 (some v0)).bind fun a3 =>
  (ix_atr h 102 (ix_fR h a2 3) (ix_fI h a3 3)).bind fun a4 =>
  if (ix_aI h a4 (ix_fI h a3 3).toNatClampNeg) = (nI 2) then
    (ix_is h 4 (some v0)).bind fun a5 =>
    (ix_is h 3 (ix_fR h a5 0)).bind fun a6 =>
    (ix_is h 4 (some v0)).bind fun a7 =>
    (ix_atr h 103 (ix_fR h a6 6) (ix_fI h a7 3)).bind fun a8 =>
    if (ix_aI h a8 (ix_fI h a7 3).toNatClampNeg) = v1 then
      jX3_isSign_20 cal K (nI 1) h
    else
      jX3_isSign_18 cal K h
  else
    jX3_isSign_18 cal K h
theorem eX3_isSign (cal : ix_C) (K : ix_K) (v0 : Nat) (v1 : Int32) (h : ix_H) : ix_fwd cal K stX3_isSign 0 [(0, ix_R (some v0)), (1, ix_I v1)] [] h = bX3_isSign cal K v0 v1 h := rfl
theorem rX3_isSign (N d : Nat) (v0 : Nat) (v1 : Int32) (h : ix_H) : ix_run iy_P N (d + 1) 160 [ix_R (some v0), ix_I v1] h = bX3_isSign (ix_run iy_P N d) (ix_lp (ix_run iy_P N d) stX3_isSign N) v0 v1 h := (rfl : ix_run iy_P N (d + 1) 160 [ix_R (some v0), ix_I v1] h = ix_fwd (ix_run iy_P N d) (ix_lp (ix_run iy_P N d) stX3_isSign N) stX3_isSign 0 [(0, ix_R (some v0)), (1, ix_I v1)] [] h).trans (eX3_isSign _ _ v0 v1 h)
def jX3_told_107 (cal : ix_C) (K : ix_K) (v0 : Nat) (s0 : Option Nat) (h : ix_H) : ix_O :=
  (ix_isr h 4 (some v0)).bind fun a16 =>
  ix_xV (cal 159 [ix_R (some a16), ix_I (nI 59)] h) ix_out fun h17 =>
  some (.inl (some (ix_R s0)), h17)
theorem jX3_told_107_eq (cal : ix_C) (K : ix_K) (v0 : Nat) (s0 : Option Nat) (h : ix_H) : ix_fwd cal K (stX3_told.drop 107) 0 [(0, ix_R (some v0))] [ix_R s0] h = jX3_told_107 cal K v0 s0 h := rfl
def jX3_told_77 (cal : ix_C) (K : ix_K) (v0 : Nat) (h : ix_H) : ix_O :=
  (ix_isr h 4 (some v0)).bind fun a13 =>
  ix_xR (cal 162 [ix_R (some a13), ix_I (nI 0), ix_I (nI 1)] h) ix_out fun r12 h14 =>
  jX3_told_107 cal K v0 r12 h14
theorem jX3_told_77_eq (cal : ix_C) (K : ix_K) (v0 : Nat) (h : ix_H) : ix_fwd cal K (stX3_told.drop 77) 0 [(0, ix_R (some v0))] [] h = jX3_told_77 cal K v0 h := rfl
def jX3_told_74 (cal : ix_C) (K : ix_K) (v0 : Nat) (v3 : Int32) (h : ix_H) : ix_O :=
  if v3 = nI 0 then
    jX3_told_77 cal K v0 h
  else
  if v3 = nI 1 then
    jX3_told_77 cal K v0 h
  else
  if v3 = nI 2 then
    (ix_isr h 4 (some v0)).bind fun a19 =>
    ix_xR (cal 166 [ix_R (some a19)] h) ix_out fun r18 h20 =>
    jX3_told_107 cal K v0 r18 h20
  else
  if v3 = nI 3 then
    (ix_isr h 4 (some v0)).bind fun a22 =>
    ix_xR (cal 167 [ix_R (some a22)] h) ix_out fun r21 h23 =>
    jX3_told_107 cal K v0 r21 h23
  else
  if v3 = nI 4 then
    (ix_isr h 4 (some v0)).bind fun a25 =>
    ix_xR (cal 168 [ix_R (some a25), ix_I (nI 0)] h) ix_out fun r24 h26 =>
    jX3_told_107 cal K v0 r24 h26
  else
  if v3 = nI 5 then
    (ix_isr h 4 (some v0)).bind fun a28 =>
    ix_xR (cal 168 [ix_R (some a28), ix_I (nI 1)] h) ix_out fun r27 h29 =>
    jX3_told_107 cal K v0 r27 h29
  else
  if v3 = nI 6 then
    (ix_isr h 4 (some v0)).bind fun a31 =>
    ix_xR (cal 169 [ix_R (some a31)] h) ix_out fun r30 h32 =>
    jX3_told_107 cal K v0 r30 h32
  else
  if v3 = nI 7 then
    (ix_isr h 4 (some v0)).bind fun a34 =>
    ix_xR (cal 170 [ix_R (some a34)] h) ix_out fun r33 h35 =>
    jX3_told_107 cal K v0 r33 h35
  else
    (ix_isr h 4 (some v0)).bind fun a37 =>
    (ix_rR (cal 153 [ix_R (some a37), ix_I (nI 1)] h)).bind fun r36 =>
    (ix_is r36.2 2 r36.1).bind fun a38 => ix_out a38 r36.2
theorem jX3_told_74_eq (cal : ix_C) (K : ix_K) (v0 : Nat) (v3 : Int32) (h : ix_H) : ix_fwd cal K (stX3_told.drop 74) 0 [(0, ix_R (some v0)), (3, ix_I v3)] [] h = jX3_told_74 cal K v0 v3 h := rfl
def bX3_told (cal : ix_C) (K : ix_K) (v0 : Nat) (h : ix_H) : ix_O :=
  (ix_isr h 4 (some v0)).bind fun a2 =>
  ix_xI (cal 152 [ix_R (some a2)] h) ix_out fun r1 h3 =>
  if r1 = (nI 3) then
    (ix_is h3 4 (some v0)).bind fun a4 =>
    (ix_is h3 4 (some v0)).bind fun a5 =>
    (ix_isr h3 3 (ix_fR h3 a4 0)).bind fun a7 =>
    (ix_rR (cal 146 [ix_R (some a7), ix_I (ix_fI h3 a5 3)] h3)).bind fun r6 =>
    (ix_isr r6.2 19 r6.1).bind fun a9 =>
    (ix_rI (cal 56 [ix_R (some a9)] r6.2)).bind fun r8 =>
    if r8.1 = nI 3211 then
      (ix_isr r8.2 19 r6.1).bind fun a11 =>
      (ix_rI (cal 55 [ix_R (some a11), ix_R (some (ix_cs r8.2 11))] r8.2)).bind fun r10 =>
      if r10.1 = nI 0 then
        jX3_told_74 cal K v0 (-1 : Int32) r10.2
      else
        jX3_told_74 cal K v0 (nI 7) r10.2
    else
    if r8.1 = nI 98882 then
      (ix_isr r8.2 19 r6.1).bind fun a40 =>
      (ix_rI (cal 55 [ix_R (some a40), ix_R (some (ix_cs r8.2 2))] r8.2)).bind fun r39 =>
      if r39.1 = nI 0 then
        jX3_told_74 cal K v0 (-1 : Int32) r39.2
      else
        jX3_told_74 cal K v0 (nI 1) r39.2
    else
    if r8.1 = nI 102230 then
      (ix_isr r8.2 19 r6.1).bind fun a42 =>
      (ix_rI (cal 55 [ix_R (some a42), ix_R (some (ix_cs r8.2 3))] r8.2)).bind fun r41 =>
      if r41.1 = nI 0 then
        jX3_told_74 cal K v0 (-1 : Int32) r41.2
      else
        jX3_told_74 cal K v0 (nI 3) r41.2
    else
    if r8.1 = nI 111375 then
      (ix_isr r8.2 19 r6.1).bind fun a44 =>
      (ix_rI (cal 55 [ix_R (some a44), ix_R (some (ix_cs r8.2 1))] r8.2)).bind fun r43 =>
      if r43.1 = nI 0 then
        jX3_told_74 cal K v0 (-1 : Int32) r43.2
      else
        jX3_told_74 cal K v0 (nI 0) r43.2
    else
    if r8.1 = nI 3540684 then
      (ix_isr r8.2 19 r6.1).bind fun a46 =>
      (ix_rI (cal 55 [ix_R (some a46), ix_R (some (ix_cs r8.2 8))] r8.2)).bind fun r45 =>
      if r45.1 = nI 0 then
        jX3_told_74 cal K v0 (-1 : Int32) r45.2
      else
        jX3_told_74 cal K v0 (nI 4) r45.2
    else
    if r8.1 = nI 93616297 then
      (ix_isr r8.2 19 r6.1).bind fun a48 =>
      (ix_rI (cal 55 [ix_R (some a48), ix_R (some (ix_cs r8.2 7))] r8.2)).bind fun r47 =>
      if r47.1 = nI 0 then
        jX3_told_74 cal K v0 (-1 : Int32) r47.2
      else
        jX3_told_74 cal K v0 (nI 2) r47.2
    else
    if r8.1 = nI 94756344 then
      (ix_isr r8.2 19 r6.1).bind fun a50 =>
      (ix_rI (cal 55 [ix_R (some a50), ix_R (some (ix_cs r8.2 9))] r8.2)).bind fun r49 =>
      if r49.1 = nI 0 then
        jX3_told_74 cal K v0 (-1 : Int32) r49.2
      else
        jX3_told_74 cal K v0 (nI 5) r49.2
    else
    if r8.1 = nI 109850348 then
      (ix_isr r8.2 19 r6.1).bind fun a52 =>
      (ix_rI (cal 55 [ix_R (some a52), ix_R (some (ix_cs r8.2 10))] r8.2)).bind fun r51 =>
      if r51.1 = nI 0 then
        jX3_told_74 cal K v0 (-1 : Int32) r51.2
      else
        jX3_told_74 cal K v0 (nI 6) r51.2
    else
      jX3_told_74 cal K v0 (-1 : Int32) r8.2
  else
    (ix_isr h3 4 (some v0)).bind fun a54 =>
    (ix_rR (cal 153 [ix_R (some a54), ix_I (nI 1)] h3)).bind fun r53 =>
    (ix_is r53.2 2 r53.1).bind fun a55 => ix_out a55 r53.2
theorem eX3_told (cal : ix_C) (K : ix_K) (v0 : Nat) (h : ix_H) : ix_fwd cal K stX3_told 0 [(0, ix_R (some v0))] [] h = bX3_told cal K v0 h := rfl
theorem rX3_told (N d : Nat) (v0 : Nat) (h : ix_H) : ix_run iy_P N (d + 1) 161 [ix_R (some v0)] h = bX3_told (ix_run iy_P N d) (ix_lp (ix_run iy_P N d) stX3_told N) v0 h := (rfl : ix_run iy_P N (d + 1) 161 [ix_R (some v0)] h = ix_fwd (ix_run iy_P N d) (ix_lp (ix_run iy_P N d) stX3_told N) stX3_told 0 [(0, ix_R (some v0))] [] h).trans (eX3_told _ _ v0 h)
def jX3_act_43 (cal : ix_C) (K : ix_K) (s0 : Option Nat) (s1 : Option Nat) (s2 : Int32) (s3 : Int32) (s4 : Int32) (s5 : Option Nat) (s6 : Option Nat) (h : ix_H) : ix_O :=
  (ix_isr h 14 s1).bind fun a12 =>
  (ix_rV (cal 129 [ix_R (some a12), ix_I s2, ix_I s3, ix_I s4, ix_R s5, ix_R s6] h)).bind fun r11 =>
  some (.inl (some (ix_R s0)), r11)
theorem jX3_act_43_eq (cal : ix_C) (K : ix_K) (s0 : Option Nat) (s1 : Option Nat) (s2 : Int32) (s3 : Int32) (s4 : Int32) (s5 : Option Nat) (s6 : Option Nat) (h : ix_H) : ix_fwd cal K (stX3_act.drop 43) 0 [] [ix_R s6, ix_R s5, ix_I s4, ix_I s3, ix_I s2, ix_R s1, ix_R s0] h = jX3_act_43 cal K s0 s1 s2 s3 s4 s5 s6 h := rfl
def jX3_act_24 (cal : ix_C) (K : ix_K) (v0 : Nat) (v1 : Int32) (v2 : Int32) (v3 : Int32) (h : ix_H) : ix_O :=
  (ix_isr h 4 (some v0)).bind fun a5 =>
  ix_xV (cal 155 [ix_R (some a5)] h) ix_out fun h6 =>
  (ix_isr h6 4 (some v0)).bind fun a8 =>
  ix_xR (cal 163 [ix_R (some a8)] h6) ix_out fun r7 h9 =>
  ix_bd (ix_nwO h9 14 5) fun h10 =>
  if v3 = (nI 1) then
    (ix_isr h10 4 (some v0)).bind fun a14 =>
    ix_xR (cal 163 [ix_R (some a14)] h10) ix_out fun r13 h15 =>
    jX3_act_43 cal K (some (ix_sz h9)) (some (ix_sz h9)) v1 v3 v2 r7 r13 h15
  else
    jX3_act_43 cal K (some (ix_sz h9)) (some (ix_sz h9)) v1 v3 v2 r7 none h10
theorem jX3_act_24_eq (cal : ix_C) (K : ix_K) (v0 : Nat) (v1 : Int32) (v2 : Int32) (v3 : Int32) (h : ix_H) : ix_fwd cal K (stX3_act.drop 24) 0 [(0, ix_R (some v0)), (1, ix_I v1), (2, ix_I v2), (3, ix_I v3)] [] h = jX3_act_24 cal K v0 v1 v2 v3 h := rfl
def jX3_act_12 (cal : ix_C) (K : ix_K) (v0 : Nat) (v1 : Int32) (v2 : Int32) (s0 : Int32) (h : ix_H) : ix_O :=
  if s0 = (nI 1) then
    jX3_act_24 cal K v0 v1 v2 s0 h
  else
    if s0 = (nI 2) then
      jX3_act_24 cal K v0 v1 v2 s0 h
    else
      (ix_isr h 4 (some v0)).bind fun a17 =>
      (ix_rR (cal 153 [ix_R (some a17), ix_I (nI 1)] h)).bind fun r16 =>
      (ix_is r16.2 2 r16.1).bind fun a18 => ix_out a18 r16.2
theorem jX3_act_12_eq (cal : ix_C) (K : ix_K) (v0 : Nat) (v1 : Int32) (v2 : Int32) (s0 : Int32) (h : ix_H) : ix_fwd cal K (stX3_act.drop 12) 0 [(0, ix_R (some v0)), (1, ix_I v1), (2, ix_I v2)] [ix_I s0] h = jX3_act_12 cal K v0 v1 v2 s0 h := rfl
def bX3_act (cal : ix_C) (K : ix_K) (v0 : Nat) (v1 : Int32) (v2 : Int32) (h : ix_H) : ix_O :=
  (ix_isr h 4 (some v0)).bind fun a2 =>
  ix_xI (cal 152 [ix_R (some a2)] h) ix_out fun r1 h3 =>
  if r1 = (nI 3) then
    (ix_is h3 4 (some v0)).bind fun a19 =>
    (ix_is h3 4 (some v0)).bind fun a20 =>
    (ix_isr h3 3 (ix_fR h3 a19 0)).bind fun a22 =>
    (ix_rR (cal 146 [ix_R (some a22), ix_I (ix_fI h3 a20 3)] h3)).bind fun r21 =>
    (ix_rI (cal 119 [ix_R r21.1] r21.2)).bind fun r23 =>
    jX3_act_12 cal K v0 v1 v2 r23.1 r23.2
  else
    jX3_act_12 cal K v0 v1 v2 (nI 0) h3
theorem eX3_act (cal : ix_C) (K : ix_K) (v0 : Nat) (v1 : Int32) (v2 : Int32) (h : ix_H) : ix_fwd cal K stX3_act 0 [(0, ix_R (some v0)), (1, ix_I v1), (2, ix_I v2)] [] h = bX3_act cal K v0 v1 v2 h := rfl
theorem rX3_act (N d : Nat) (v0 : Nat) (v1 : Int32) (v2 : Int32) (h : ix_H) : ix_run iy_P N (d + 1) 162 [ix_R (some v0), ix_I v1, ix_I v2] h = bX3_act (ix_run iy_P N d) (ix_lp (ix_run iy_P N d) stX3_act N) v0 v1 v2 h := (rfl : ix_run iy_P N (d + 1) 162 [ix_R (some v0), ix_I v1, ix_I v2] h = ix_fwd (ix_run iy_P N d) (ix_lp (ix_run iy_P N d) stX3_act N) stX3_act 0 [(0, ix_R (some v0)), (1, ix_I v1), (2, ix_I v2)] [] h).trans (eX3_act _ _ v0 v1 v2 h)
def jX3_sum_12 (cal : ix_C) (K : ix_K) (v0 : Nat) (v1 : Option Nat) (h : ix_H) : ix_O :=
  (ix_is h 4 (some v0)).bind fun a6 =>
  (ix_is h 3 (ix_fR h a6 0)).bind fun a7 =>
  (ix_is h 4 (some v0)).bind fun a8 =>
  (ix_atr h 103 (ix_fR h a7 6) (ix_fI h a8 3)).bind fun a9 =>
  (ix_isr h 4 (some v0)).bind fun a11 =>
  ix_xV (cal 155 [ix_R (some a11)] h) ix_out fun h12 =>
  ix_bd (ix_nwO h12 13 3) fun h13 =>
  (ix_isr h13 4 (some v0)).bind fun a15 =>
  ix_xR (cal 164 [ix_R (some a15)] h13) ix_out fun r14 h16 =>
  (ix_isr h16 13 (some (ix_sz h12))).bind fun a18 =>
  (ix_rV (cal 127 [ix_R (some a18), ix_I (ix_aI h a9 (ix_fI h a8 3).toNatClampNeg), ix_R v1, ix_R r14] h16)).bind fun r17 =>
  K 3 [(0, ix_R (some v0)), (1, ix_R (some (ix_sz h12)))] [] r17
theorem jX3_sum_12_eq (cal : ix_C) (K : ix_K) (v0 : Nat) (v1 : Option Nat) (h : ix_H) : ix_fwd cal K (stX3_sum.drop 12) 0 [(0, ix_R (some v0)), (1, ix_R v1)] [] h = jX3_sum_12 cal K v0 v1 h := rfl
def jX3_sum_3 (cal : ix_C) (K : ix_K) (v0 : Nat) (v1 : Option Nat) (h : ix_H) : ix_O :=
  (ix_isr h 4 (some v0)).bind fun a5 =>
  (ix_rI (cal 160 [ix_R (some a5), ix_I (nI 43)] h)).bind fun r4 =>
  if r4.1 = nI 0 then
    (ix_isr r4.2 4 (some v0)).bind fun a20 =>
    (ix_rI (cal 160 [ix_R (some a20), ix_I (nI 45)] r4.2)).bind fun r19 =>
    if r19.1 = nI 0 then
      some (.inl (some (ix_R v1)), r19.2)
    else
      jX3_sum_12 cal K v0 v1 r19.2
  else
    jX3_sum_12 cal K v0 v1 r4.2
theorem jX3_sum_3_eq (cal : ix_C) (K : ix_K) (v0 : Nat) (v1 : Option Nat) (h : ix_H) : ix_fwd cal K (stX3_sum.drop 3) 0 [(0, ix_R (some v0)), (1, ix_R v1)] [] h = jX3_sum_3 cal K v0 v1 h := rfl
def bX3_sum (cal : ix_C) (K : ix_K) (v0 : Nat) (h : ix_H) : ix_O :=
  (ix_isr h 4 (some v0)).bind fun a2 =>
  ix_xR (cal 164 [ix_R (some a2)] h) ix_out fun r1 h3 =>
  jX3_sum_3 cal K v0 r1 h3
theorem eX3_sum (cal : ix_C) (K : ix_K) (v0 : Nat) (h : ix_H) : ix_fwd cal K stX3_sum 0 [(0, ix_R (some v0))] [] h = bX3_sum cal K v0 h := rfl
theorem rX3_sum (N d : Nat) (v0 : Nat) (h : ix_H) : ix_run iy_P N (d + 1) 163 [ix_R (some v0)] h = bX3_sum (ix_run iy_P N d) (ix_lp (ix_run iy_P N d) stX3_sum N) v0 h := (rfl : ix_run iy_P N (d + 1) 163 [ix_R (some v0)] h = ix_fwd (ix_run iy_P N d) (ix_lp (ix_run iy_P N d) stX3_sum N) stX3_sum 0 [(0, ix_R (some v0))] [] h).trans (eX3_sum _ _ v0 h)
theorem lX3_sum_3 (cal : ix_C) (n : Nat) (v0 : Nat) (v1 : Option Nat) (h : ix_H) : ix_lp cal stX3_sum (n + 1) 3 [(0, ix_R (some v0)), (1, ix_R v1)] [] h = jX3_sum_3 cal (ix_lp cal stX3_sum n) v0 v1 h := jX3_sum_3_eq cal (ix_lp cal stX3_sum n) v0 v1 h
def jX3_part_16 (cal : ix_C) (K : ix_K) (v0 : Nat) (v1 : Option Nat) (h : ix_H) : ix_O :=
  (ix_is h 4 (some v0)).bind fun a6 =>
  (ix_is h 3 (ix_fR h a6 0)).bind fun a7 =>
  (ix_is h 4 (some v0)).bind fun a8 =>
  (ix_atr h 103 (ix_fR h a7 6) (ix_fI h a8 3)).bind fun a9 =>
  (ix_isr h 4 (some v0)).bind fun a11 =>
  ix_xV (cal 155 [ix_R (some a11)] h) ix_out fun h12 =>
  ix_bd (ix_nwO h12 13 3) fun h13 =>
  (ix_isr h13 4 (some v0)).bind fun a15 =>
  ix_xR (cal 165 [ix_R (some a15)] h13) ix_out fun r14 h16 =>
  (ix_isr h16 13 (some (ix_sz h12))).bind fun a18 =>
  (ix_rV (cal 127 [ix_R (some a18), ix_I (ix_aI h a9 (ix_fI h a8 3).toNatClampNeg), ix_R v1, ix_R r14] h16)).bind fun r17 =>
  K 3 [(0, ix_R (some v0)), (1, ix_R (some (ix_sz h12)))] [] r17
theorem jX3_part_16_eq (cal : ix_C) (K : ix_K) (v0 : Nat) (v1 : Option Nat) (h : ix_H) : ix_fwd cal K (stX3_part.drop 16) 0 [(0, ix_R (some v0)), (1, ix_R v1)] [] h = jX3_part_16 cal K v0 v1 h := rfl
def jX3_part_3 (cal : ix_C) (K : ix_K) (v0 : Nat) (v1 : Option Nat) (h : ix_H) : ix_O :=
  (ix_isr h 4 (some v0)).bind fun a5 =>
  (ix_rI (cal 160 [ix_R (some a5), ix_I (nI 42)] h)).bind fun r4 =>
  if r4.1 = nI 0 then
    (ix_isr r4.2 4 (some v0)).bind fun a20 =>
    (ix_rI (cal 160 [ix_R (some a20), ix_I (nI 47)] r4.2)).bind fun r19 =>
    if r19.1 = nI 0 then
      (ix_isr r19.2 4 (some v0)).bind fun a22 =>
      (ix_rI (cal 160 [ix_R (some a22), ix_I (nI 37)] r19.2)).bind fun r21 =>
      if r21.1 = nI 0 then
        some (.inl (some (ix_R v1)), r21.2)
      else
        jX3_part_16 cal K v0 v1 r21.2
    else
      jX3_part_16 cal K v0 v1 r19.2
  else
    jX3_part_16 cal K v0 v1 r4.2
theorem jX3_part_3_eq (cal : ix_C) (K : ix_K) (v0 : Nat) (v1 : Option Nat) (h : ix_H) : ix_fwd cal K (stX3_part.drop 3) 0 [(0, ix_R (some v0)), (1, ix_R v1)] [] h = jX3_part_3 cal K v0 v1 h := rfl
def bX3_part (cal : ix_C) (K : ix_K) (v0 : Nat) (h : ix_H) : ix_O :=
  (ix_isr h 4 (some v0)).bind fun a2 =>
  ix_xR (cal 165 [ix_R (some a2)] h) ix_out fun r1 h3 =>
  jX3_part_3 cal K v0 r1 h3
theorem eX3_part (cal : ix_C) (K : ix_K) (v0 : Nat) (h : ix_H) : ix_fwd cal K stX3_part 0 [(0, ix_R (some v0))] [] h = bX3_part cal K v0 h := rfl
theorem rX3_part (N d : Nat) (v0 : Nat) (h : ix_H) : ix_run iy_P N (d + 1) 164 [ix_R (some v0)] h = bX3_part (ix_run iy_P N d) (ix_lp (ix_run iy_P N d) stX3_part N) v0 h := (rfl : ix_run iy_P N (d + 1) 164 [ix_R (some v0)] h = ix_fwd (ix_run iy_P N d) (ix_lp (ix_run iy_P N d) stX3_part N) stX3_part 0 [(0, ix_R (some v0))] [] h).trans (eX3_part _ _ v0 h)
theorem lX3_part_3 (cal : ix_C) (n : Nat) (v0 : Nat) (v1 : Option Nat) (h : ix_H) : ix_lp cal stX3_part (n + 1) 3 [(0, ix_R (some v0)), (1, ix_R v1)] [] h = jX3_part_3 cal (ix_lp cal stX3_part n) v0 v1 h := jX3_part_3_eq cal (ix_lp cal stX3_part n) v0 v1 h
def jX3_unit_45 (cal : ix_C) (K : ix_K) (v0 : Nat) (h : ix_H) : ix_O :=
  (ix_isr h 4 (some v0)).bind fun a8 =>
  (ix_rI (cal 160 [ix_R (some a8), ix_I (nI 40)] h)).bind fun r7 =>
  if r7.1 = nI 0 then
    (ix_isr r7.2 4 (some v0)).bind fun a29 =>
    (ix_rR (cal 153 [ix_R (some a29), ix_I (nI 1)] r7.2)).bind fun r28 =>
    (ix_is r28.2 2 r28.1).bind fun a30 => ix_out a30 r28.2
  else
    (ix_is r7.2 4 (some v0)).bind fun a9 =>
    if (ix_fI r7.2 a9 4) = (nI 6) then
      (ix_isr r7.2 4 (some v0)).bind fun a26 =>
      (ix_rR (cal 153 [ix_R (some a26), ix_I (nI 2)] r7.2)).bind fun r25 =>
      (ix_is r25.2 2 r25.1).bind fun a27 => ix_out a27 r25.2
    else
      (ix_is r7.2 4 (some v0)).bind fun a10 =>
      (ix_is r7.2 4 (some v0)).bind fun a11 =>
      ix_bd (ix_wfI r7.2 a11 4 ((ix_fI r7.2 a10 4) + (nI 1))) fun h12 =>
      (ix_isr h12 4 (some v0)).bind fun a14 =>
      ix_xV (cal 155 [ix_R (some a14)] h12) ix_out fun h15 =>
      (ix_isr h15 4 (some v0)).bind fun a17 =>
      ix_xR (cal 163 [ix_R (some a17)] h15) ix_out fun r16 h18 =>
      (ix_isr h18 4 (some v0)).bind fun a20 =>
      ix_xV (cal 159 [ix_R (some a20), ix_I (nI 41)] h18) ix_out fun h21 =>
      (ix_is h21 4 (some v0)).bind fun a22 =>
      (ix_is h21 4 (some v0)).bind fun a23 =>
      ix_bd (ix_wfI h21 a23 4 ((ix_fI h21 a22 4) - (nI 1))) fun h24 =>
      some (.inl (some (ix_R r16)), h24)
theorem jX3_unit_45_eq (cal : ix_C) (K : ix_K) (v0 : Nat) (h : ix_H) : ix_fwd cal K (stX3_unit.drop 45) 0 [(0, ix_R (some v0))] [] h = jX3_unit_45 cal K v0 h := rfl
def bX3_unit (cal : ix_C) (K : ix_K) (v0 : Nat) (h : ix_H) : ix_O :=
  (ix_isr h 4 (some v0)).bind fun a2 =>
  ix_xI (cal 152 [ix_R (some a2)] h) ix_out fun r1 h3 =>
  if r1 = (nI 1) then
    (ix_isr h3 4 (some v0)).bind fun a46 =>
    ix_xV (cal 155 [ix_R (some a46)] h3) ix_out fun h47 =>
    ix_bd (ix_nwO h47 11 1) fun h48 =>
    (ix_is h48 4 (some v0)).bind fun a49 =>
    (ix_is h48 4 (some v0)).bind fun a50 =>
    (ix_isr h48 3 (ix_fR h48 a49 0)).bind fun a52 =>
    (ix_rI (cal 147 [ix_R (some a52), ix_I ((ix_fI h48 a50 3) - (nI 1))] h48)).bind fun r51 =>
    (ix_isr r51.2 11 (some (ix_sz h47))).bind fun a54 =>
    (ix_rV (cal 123 [ix_R (some a54), ix_I r51.1] r51.2)).bind fun r53 =>
    some (.inl (some (ix_R (some (ix_sz h47)))), r53)
  else
    (ix_isr h3 4 (some v0)).bind fun a5 =>
    ix_xI (cal 152 [ix_R (some a5)] h3) ix_out fun r4 h6 =>
    if r4 = (nI 3) then
      (ix_is h6 4 (some v0)).bind fun a31 =>
      (ix_is h6 3 (ix_fR h6 a31 0)).bind fun a32 =>
      (ix_is h6 4 (some v0)).bind fun a33 =>
      (ix_atr h6 103 (ix_fR h6 a32 6) (ix_fI h6 a33 3)).bind fun a34 =>
      if (ix_aI h6 a34 (ix_fI h6 a33 3).toNatClampNeg) < (nI 12) then
        jX3_unit_45 cal K v0 h6
      else
        (ix_isr h6 4 (some v0)).bind fun a36 =>
        ix_xV (cal 155 [ix_R (some a36)] h6) ix_out fun h37 =>
        ix_bd (ix_nwO h37 12 1) fun h38 =>
        (ix_is h38 4 (some v0)).bind fun a39 =>
        (ix_is h38 3 (ix_fR h38 a39 0)).bind fun a40 =>
        (ix_is h38 4 (some v0)).bind fun a41 =>
        (ix_atr h38 103 (ix_fR h38 a40 6) ((ix_fI h38 a41 3) - (nI 1))).bind fun a42 =>
        (ix_isr h38 12 (some (ix_sz h37))).bind fun a44 =>
        (ix_rV (cal 125 [ix_R (some a44), ix_I ((ix_aI h38 a42 ((ix_fI h38 a41 3) - (nI 1)).toNatClampNeg) - (nI 12))] h38)).bind fun r43 =>
        some (.inl (some (ix_R (some (ix_sz h37)))), r43)
    else
      jX3_unit_45 cal K v0 h6
theorem eX3_unit (cal : ix_C) (K : ix_K) (v0 : Nat) (h : ix_H) : ix_fwd cal K stX3_unit 0 [(0, ix_R (some v0))] [] h = bX3_unit cal K v0 h := rfl
theorem rX3_unit (N d : Nat) (v0 : Nat) (h : ix_H) : ix_run iy_P N (d + 1) 165 [ix_R (some v0)] h = bX3_unit (ix_run iy_P N d) (ix_lp (ix_run iy_P N d) stX3_unit N) v0 h := (rfl : ix_run iy_P N (d + 1) 165 [ix_R (some v0)] h = ix_fwd (ix_run iy_P N d) (ix_lp (ix_run iy_P N d) stX3_unit N) stX3_unit 0 [(0, ix_R (some v0))] [] h).trans (eX3_unit _ _ v0 h)
def bX3_begin (cal : ix_C) (K : ix_K) (v0 : Nat) (h : ix_H) : ix_O :=
  (ix_isr h 4 (some v0)).bind fun a2 =>
  ix_xV (cal 155 [ix_R (some a2)] h) ix_out fun h3 =>
  (ix_isr h3 4 (some v0)).bind fun a5 =>
  ix_xI (cal 156 [ix_R (some a5), ix_I (nI 0), ix_I (nI 3)] h3) ix_out fun r4 h6 =>
  (ix_isr h6 4 (some v0)).bind fun a8 =>
  ix_xR (cal 162 [ix_R (some a8), ix_I r4, ix_I (nI 0)] h6) ix_out fun r7 h9 =>
  some (.inl (some (ix_R r7)), h9)
theorem eX3_begin (cal : ix_C) (K : ix_K) (v0 : Nat) (h : ix_H) : ix_fwd cal K stX3_begin 0 [(0, ix_R (some v0))] [] h = bX3_begin cal K v0 h := rfl
theorem rX3_begin (N d : Nat) (v0 : Nat) (h : ix_H) : ix_run iy_P N (d + 1) 166 [ix_R (some v0)] h = bX3_begin (ix_run iy_P N d) (ix_lp (ix_run iy_P N d) stX3_begin N) v0 h := (rfl : ix_run iy_P N (d + 1) 166 [ix_R (some v0)] h = ix_fwd (ix_run iy_P N d) (ix_lp (ix_run iy_P N d) stX3_begin N) stX3_begin 0 [(0, ix_R (some v0))] [] h).trans (eX3_begin _ _ v0 h)
def bX3_get (cal : ix_C) (K : ix_K) (v0 : Nat) (h : ix_H) : ix_O :=
  (ix_isr h 4 (some v0)).bind fun a2 =>
  ix_xV (cal 155 [ix_R (some a2)] h) ix_out fun h3 =>
  (ix_isr h3 4 (some v0)).bind fun a5 =>
  ix_xI (cal 156 [ix_R (some a5), ix_I (nI 0), ix_I (nI 3)] h3) ix_out fun r4 h6 =>
  ix_bd (ix_nwO h6 14 5) fun h7 =>
  (ix_isr h7 4 (some v0)).bind fun a9 =>
  ix_xR (cal 163 [ix_R (some a9)] h7) ix_out fun r8 h10 =>
  (ix_isr h10 14 (some (ix_sz h6))).bind fun a12 =>
  (ix_rV (cal 129 [ix_R (some a12), ix_I r4, ix_I (nI 3), ix_I (nI 0), ix_R r8, ix_R none] h10)).bind fun r11 =>
  some (.inl (some (ix_R (some (ix_sz h6)))), r11)
theorem eX3_get (cal : ix_C) (K : ix_K) (v0 : Nat) (h : ix_H) : ix_fwd cal K stX3_get 0 [(0, ix_R (some v0))] [] h = bX3_get cal K v0 h := rfl
theorem rX3_get (N d : Nat) (v0 : Nat) (h : ix_H) : ix_run iy_P N (d + 1) 167 [ix_R (some v0)] h = bX3_get (ix_run iy_P N d) (ix_lp (ix_run iy_P N d) stX3_get N) v0 h := (rfl : ix_run iy_P N (d + 1) 167 [ix_R (some v0)] h = ix_fwd (ix_run iy_P N d) (ix_lp (ix_run iy_P N d) stX3_get N) stX3_get 0 [(0, ix_R (some v0))] [] h).trans (eX3_get _ _ v0 h)
def bX3_go (cal : ix_C) (K : ix_K) (v0 : Nat) (v1 : Int32) (h : ix_H) : ix_O :=
  (ix_isr h 4 (some v0)).bind fun a2 =>
  ix_xV (cal 155 [ix_R (some a2)] h) ix_out fun h3 =>
  ix_bd (ix_nwO h3 15 2) fun h4 =>
  (ix_isr h4 4 (some v0)).bind fun a6 =>
  ix_xI (cal 156 [ix_R (some a6), ix_I (nI 0), ix_I (nI 3)] h4) ix_out fun r5 h7 =>
  (ix_isr h7 15 (some (ix_sz h3))).bind fun a9 =>
  (ix_rV (cal 131 [ix_R (some a9), ix_I r5, ix_I v1] h7)).bind fun r8 =>
  some (.inl (some (ix_R (some (ix_sz h3)))), r8)
theorem eX3_go (cal : ix_C) (K : ix_K) (v0 : Nat) (v1 : Int32) (h : ix_H) : ix_fwd cal K stX3_go 0 [(0, ix_R (some v0)), (1, ix_I v1)] [] h = bX3_go cal K v0 v1 h := rfl
theorem rX3_go (N d : Nat) (v0 : Nat) (v1 : Int32) (h : ix_H) : ix_run iy_P N (d + 1) 168 [ix_R (some v0), ix_I v1] h = bX3_go (ix_run iy_P N d) (ix_lp (ix_run iy_P N d) stX3_go N) v0 v1 h := (rfl : ix_run iy_P N (d + 1) 168 [ix_R (some v0), ix_I v1] h = ix_fwd (ix_run iy_P N d) (ix_lp (ix_run iy_P N d) stX3_go N) stX3_go 0 [(0, ix_R (some v0)), (1, ix_I v1)] [] h).trans (eX3_go _ _ v0 v1 h)
def bX3_sweep (cal : ix_C) (K : ix_K) (v0 : Nat) (h : ix_H) : ix_O :=
  (ix_isr h 4 (some v0)).bind fun a2 =>
  ix_xV (cal 155 [ix_R (some a2)] h) ix_out fun h3 =>
  ix_bd (ix_nwO h3 16 0) fun h4 =>
  (ix_isr h4 16 (some (ix_sz h3))).bind fun a6 =>
  (ix_rV (cal 133 [ix_R (some a6)] h4)).bind fun r5 =>
  some (.inl (some (ix_R (some (ix_sz h3)))), r5)
theorem eX3_sweep (cal : ix_C) (K : ix_K) (v0 : Nat) (h : ix_H) : ix_fwd cal K stX3_sweep 0 [(0, ix_R (some v0))] [] h = bX3_sweep cal K v0 h := rfl
theorem rX3_sweep (N d : Nat) (v0 : Nat) (h : ix_H) : ix_run iy_P N (d + 1) 169 [ix_R (some v0)] h = bX3_sweep (ix_run iy_P N d) (ix_lp (ix_run iy_P N d) stX3_sweep N) v0 h := (rfl : ix_run iy_P N (d + 1) 169 [ix_R (some v0)] h = ix_fwd (ix_run iy_P N d) (ix_lp (ix_run iy_P N d) stX3_sweep N) stX3_sweep 0 [(0, ix_R (some v0))] [] h).trans (eX3_sweep _ _ v0 h)
def jX3_rounds_27 (cal : ix_C) (K : ix_K) (v0 : Nat) (v1 : Option Nat) (h : ix_H) : ix_O :=
  (ix_isr h 4 (some v0)).bind fun a18 =>
  ix_xI (cal 151 [ix_R (some a18), ix_R (some (ix_cs h 12))] h) ix_out fun r17 h19 =>
  if r17 = nI 0 then
    (ix_is h19 9 v1).bind fun a26 =>
    (ix_isr h19 4 (some v0)).bind fun a28 =>
    ix_xR (cal 161 [ix_R (some a28)] h19) ix_out fun r27 h29 =>
    (ix_isr h29 18 (ix_fR h19 a26 0)).bind fun a31 =>
    (ix_rI (cal 40 [ix_R (some a31), ix_R r27] h29)).bind fun r30 =>
    K 27 [(0, ix_R (some v0)), (1, ix_R v1)] [] r30.2
  else
    (ix_isr h19 4 (some v0)).bind fun a21 =>
    ix_xV (cal 155 [ix_R (some a21)] h19) ix_out fun h22 =>
    (ix_is h22 4 (some v0)).bind fun a23 =>
    (ix_is h22 4 (some v0)).bind fun a24 =>
    ix_bd (ix_wfI h22 a24 5 ((ix_fI h22 a23 5) - (nI 1))) fun h25 =>
    some (.inl (some (ix_R v1)), h25)
theorem jX3_rounds_27_eq (cal : ix_C) (K : ix_K) (v0 : Nat) (v1 : Option Nat) (h : ix_H) : ix_fwd cal K (stX3_rounds.drop 27) 0 [(0, ix_R (some v0)), (1, ix_R v1)] [] h = jX3_rounds_27 cal K v0 v1 h := rfl
def bX3_rounds (cal : ix_C) (K : ix_K) (v0 : Nat) (h : ix_H) : ix_O :=
  (ix_is h 4 (some v0)).bind fun a1 =>
  if (ix_fI h a1 5) = (nI 3) then
    (ix_isr h 4 (some v0)).bind fun a33 =>
    (ix_rR (cal 153 [ix_R (some a33), ix_I (nI 2)] h)).bind fun r32 =>
    (ix_is r32.2 2 r32.1).bind fun a34 => ix_out a34 r32.2
  else
    (ix_is h 4 (some v0)).bind fun a2 =>
    (ix_is h 4 (some v0)).bind fun a3 =>
    ix_bd (ix_wfI h a3 5 ((ix_fI h a2 5) + (nI 1))) fun h4 =>
    (ix_isr h4 4 (some v0)).bind fun a6 =>
    ix_xV (cal 155 [ix_R (some a6)] h4) ix_out fun h7 =>
    ix_bd (ix_nwO h7 9 2) fun h8 =>
    (ix_isr h8 4 (some v0)).bind fun a10 =>
    ix_xI (cal 156 [ix_R (some a10), ix_I (nI 0), ix_I (nI 99)] h8) ix_out fun r9 h11 =>
    (ix_isr h11 9 (some (ix_sz h7))).bind fun a13 =>
    (ix_rV (cal 226 [ix_R (some a13), ix_I r9] h11)).bind fun r12 =>
    (ix_isr r12 4 (some v0)).bind fun a15 =>
    ix_xV (cal 159 [ix_R (some a15), ix_I (nI 59)] r12) ix_out fun h16 =>
    jX3_rounds_27 cal K v0 (some (ix_sz h7)) h16
theorem eX3_rounds (cal : ix_C) (K : ix_K) (v0 : Nat) (h : ix_H) : ix_fwd cal K stX3_rounds 0 [(0, ix_R (some v0))] [] h = bX3_rounds cal K v0 h := rfl
theorem rX3_rounds (N d : Nat) (v0 : Nat) (h : ix_H) : ix_run iy_P N (d + 1) 170 [ix_R (some v0)] h = bX3_rounds (ix_run iy_P N d) (ix_lp (ix_run iy_P N d) stX3_rounds N) v0 h := (rfl : ix_run iy_P N (d + 1) 170 [ix_R (some v0)] h = ix_fwd (ix_run iy_P N d) (ix_lp (ix_run iy_P N d) stX3_rounds N) stX3_rounds 0 [(0, ix_R (some v0))] [] h).trans (eX3_rounds _ _ v0 h)
theorem lX3_rounds_27 (cal : ix_C) (n : Nat) (v0 : Nat) (v1 : Option Nat) (h : ix_H) : ix_lp cal stX3_rounds (n + 1) 27 [(0, ix_R (some v0)), (1, ix_R v1)] [] h = jX3_rounds_27 cal (ix_lp cal stX3_rounds n) v0 v1 h := jX3_rounds_27_eq cal (ix_lp cal stX3_rounds n) v0 v1 h
def bX7_init (cal : ix_C) (K : ix_K) (v0 : Nat) (h : ix_H) : ix_O :=
  ix_bd (ix_nwO h 9 2) fun h2 =>
  (ix_isr h2 9 (some (ix_sz h))).bind fun a4 =>
  (ix_rV (cal 226 [ix_R (some a4), ix_I (nI 1)] h2)).bind fun r3 =>
  (ix_is r3 8 (some v0)).bind fun a5 =>
  ix_bd (ix_wfR r3 a5 0 (some (ix_sz h))) fun h6 =>
  (ix_is h6 8 (some v0)).bind fun a7 =>
  ix_bd (ix_wfI h6 a7 1 (nI 3)) fun h8 =>
  (ix_is h8 8 (some v0)).bind fun a9 =>
  ix_bd (ix_wfI h8 a9 2 (nI 6)) fun h10 =>
  (ix_is h10 8 (some v0)).bind fun a11 =>
  ix_bd (ix_wfI h10 a11 3 (nI 2)) fun h12 =>
  some (.inl none, h12)
theorem eX7_init (cal : ix_C) (K : ix_K) (v0 : Nat) (h : ix_H) : ix_fwd cal K stX7_init 0 [(0, ix_R (some v0))] [] h = bX7_init cal K v0 h := rfl
theorem rX7_init (N d : Nat) (v0 : Nat) (h : ix_H) : ix_run iy_P N (d + 1) 225 [ix_R (some v0)] h = bX7_init (ix_run iy_P N d) (ix_lp (ix_run iy_P N d) stX7_init N) v0 h := (rfl : ix_run iy_P N (d + 1) 225 [ix_R (some v0)] h = ix_fwd (ix_run iy_P N d) (ix_lp (ix_run iy_P N d) stX7_init N) stX7_init 0 [(0, ix_R (some v0))] [] h).trans (eX7_init _ _ v0 h)
def bX8_init (cal : ix_C) (K : ix_K) (v0 : Nat) (v1 : Int32) (h : ix_H) : ix_O :=
  ix_bd (ix_nwO h 18 3) fun h2 =>
  (ix_isr h2 18 (some (ix_sz h))).bind fun a4 =>
  (ix_rV (cal 39 [ix_R (some a4)] h2)).bind fun r3 =>
  (ix_is r3 9 (some v0)).bind fun a5 =>
  ix_bd (ix_wfR r3 a5 0 (some (ix_sz h))) fun h6 =>
  (ix_is h6 9 (some v0)).bind fun a7 =>
  ix_bd (ix_wfI h6 a7 1 v1) fun h8 =>
  some (.inl none, h8)
theorem eX8_init (cal : ix_C) (K : ix_K) (v0 : Nat) (v1 : Int32) (h : ix_H) : ix_fwd cal K stX8_init 0 [(0, ix_R (some v0)), (1, ix_I v1)] [] h = bX8_init cal K v0 v1 h := rfl
theorem rX8_init (N d : Nat) (v0 : Nat) (v1 : Int32) (h : ix_H) : ix_run iy_P N (d + 1) 226 [ix_R (some v0), ix_I v1] h = bX8_init (ix_run iy_P N d) (ix_lp (ix_run iy_P N d) stX8_init N) v0 v1 h := (rfl : ix_run iy_P N (d + 1) 226 [ix_R (some v0), ix_I v1] h = ix_fwd (ix_run iy_P N d) (ix_lp (ix_run iy_P N d) stX8_init N) stX8_init 0 [(0, ix_R (some v0)), (1, ix_I v1)] [] h).trans (eX8_init _ _ v0 v1 h)
def jX8_all_29 (cal : ix_C) (K : ix_K) (h : ix_H) : ix_O :=
  some (.inl none, h)
theorem jX8_all_29_eq (cal : ix_C) (K : ix_K) (h : ix_H) : ix_fwd cal K (stX8_all.drop 29) 0 [] [] h = jX8_all_29 cal K h := rfl
def jX8_all_2 (cal : ix_C) (K : ix_K) (v0 : Nat) (v1 : Option Nat) (v2 : Int32) (h : ix_H) : ix_O :=
  (ix_is h 9 (some v0)).bind fun a1 =>
  (ix_isr h 18 (ix_fR h a1 0)).bind fun a3 =>
  (ix_rI (cal 44 [ix_R (some a3)] h)).bind fun r2 =>
  if r2.1 ≤ v2 then
    jX8_all_29 cal K r2.2
  else
    (ix_isr r2.2 17 v1).bind fun a5 =>
    (ix_rI (cal 136 [ix_R (some a5)] r2.2)).bind fun r4 =>
    if r4.1 = nI 0 then
      (ix_is r4.2 9 (some v0)).bind fun a6 =>
      (ix_isr r4.2 18 (ix_fR r4.2 a6 0)).bind fun a8 =>
      (ix_rR (cal 45 [ix_R (some a8), ix_I v2] r4.2)).bind fun r7 =>
      cond (ix_of r7.2 [14, 15, 16, 9] r7.1) (
        (ix_is r7.2 17 v1).bind fun a9 =>
        ix_dsp r7.2 [ix_R r7.1] [(14, 120), (15, 120), (16, 120), (9, 228)] fun y as =>
        (ix_rI (cal y as r7.2)).bind fun r10 =>
        (ix_is r10.2 17 v1).bind fun a11 =>
        ix_bd (ix_wfI r10.2 a11 4 ((ix_fI r7.2 a9 4) + r10.1)) fun h12 =>
        ix_dsp h12 [ix_R r7.1, ix_R v1] [(14, 130), (15, 132), (16, 134), (9, 229)] fun y as =>
        (ix_rV (cal y as h12)).bind fun r13 =>
        K 2 [(0, ix_R (some v0)), (1, ix_R v1), (2, ix_I (v2 + (nI 1)))] [] r13) none
    else
      jX8_all_29 cal K r4.2
theorem jX8_all_2_eq (cal : ix_C) (K : ix_K) (v0 : Nat) (v1 : Option Nat) (v2 : Int32) (h : ix_H) : ix_fwd cal K (stX8_all.drop 2) 0 [(0, ix_R (some v0)), (1, ix_R v1), (2, ix_I v2)] [] h = jX8_all_2 cal K v0 v1 v2 h := rfl
def bX8_all (cal : ix_C) (K : ix_K) (v0 : Nat) (v1 : Option Nat) (h : ix_H) : ix_O :=
  jX8_all_2 cal K v0 v1 (nI 0) h
theorem eX8_all (cal : ix_C) (K : ix_K) (v0 : Nat) (v1 : Option Nat) (h : ix_H) : ix_fwd cal K stX8_all 0 [(0, ix_R (some v0)), (1, ix_R v1)] [] h = bX8_all cal K v0 v1 h := rfl
theorem rX8_all (N d : Nat) (v0 : Nat) (v1 : Option Nat) (h : ix_H) : ix_run iy_P N (d + 1) 227 [ix_R (some v0), ix_R v1] h = bX8_all (ix_run iy_P N d) (ix_lp (ix_run iy_P N d) stX8_all N) v0 v1 h := (rfl : ix_run iy_P N (d + 1) 227 [ix_R (some v0), ix_R v1] h = ix_fwd (ix_run iy_P N d) (ix_lp (ix_run iy_P N d) stX8_all N) stX8_all 0 [(0, ix_R (some v0)), (1, ix_R v1)] [] h).trans (eX8_all _ _ v0 v1 h)
theorem lX8_all_2 (cal : ix_C) (n : Nat) (v0 : Nat) (v1 : Option Nat) (v2 : Int32) (h : ix_H) : ix_lp cal stX8_all (n + 1) 2 [(0, ix_R (some v0)), (1, ix_R v1), (2, ix_I v2)] [] h = jX8_all_2 cal (ix_lp cal stX8_all n) v0 v1 v2 h := jX8_all_2_eq cal (ix_lp cal stX8_all n) v0 v1 v2 h
def bX8_counts (cal : ix_C) (K : ix_K) (v0 : Nat) (h : ix_H) : ix_O :=
  some (.inl (some (ix_I (nI 0))), h)
theorem eX8_counts (cal : ix_C) (K : ix_K) (v0 : Nat) (h : ix_H) : ix_fwd cal K stX8_counts 0 [(0, ix_R (some v0))] [] h = bX8_counts cal K v0 h := rfl
theorem rX8_counts (N d : Nat) (v0 : Nat) (h : ix_H) : ix_run iy_P N (d + 1) 228 [ix_R (some v0)] h = bX8_counts (ix_run iy_P N d) (ix_lp (ix_run iy_P N d) stX8_counts N) v0 h := (rfl : ix_run iy_P N (d + 1) 228 [ix_R (some v0)] h = ix_fwd (ix_run iy_P N d) (ix_lp (ix_run iy_P N d) stX8_counts N) stX8_counts 0 [(0, ix_R (some v0))] [] h).trans (eX8_counts _ _ v0 h)
def jX8_does_27 (cal : ix_C) (K : ix_K) (v1 : Option Nat) (h : ix_H) : ix_O :=
  (ix_is h 17 v1).bind fun a5 =>
  (ix_is h 17 v1).bind fun a6 =>
  ix_bd (ix_wfI h a6 2 ((ix_fI h a5 2) - (nI 1))) fun h7 =>
  some (.inl none, h7)
theorem jX8_does_27_eq (cal : ix_C) (K : ix_K) (v1 : Option Nat) (h : ix_H) : ix_fwd cal K (stX8_does.drop 27) 0 [(1, ix_R v1)] [] h = jX8_does_27 cal K v1 h := rfl
def jX8_does_8 (cal : ix_C) (K : ix_K) (v0 : Nat) (v1 : Option Nat) (v2 : Int32) (h : ix_H) : ix_O :=
  (ix_is h 9 (some v0)).bind fun a4 =>
  if (ix_fI h a4 1) ≤ v2 then
    jX8_does_27 cal K v1 h
  else
    (ix_isr h 17 v1).bind fun a9 =>
    (ix_rI (cal 136 [ix_R (some a9)] h)).bind fun r8 =>
    if r8.1 = nI 0 then
      (ix_is r8.2 17 v1).bind fun a10 =>
      (ix_is r8.2 17 v1).bind fun a11 =>
      (ix_at r8.2 101 (ix_fR r8.2 a10 1) (ix_fI r8.2 a11 2)).bind fun a12 =>
      ix_bd (ix_waI r8.2 a12 (ix_fI r8.2 a11 2).toNatClampNeg v2) fun h13 =>
      (ix_isr h13 9 (some v0)).bind fun a15 =>
      (ix_rV (cal 227 [ix_R (some a15), ix_R v1] h13)).bind fun r14 =>
      K 8 [(0, ix_R (some v0)), (1, ix_R v1), (2, ix_I (v2 + (nI 1)))] [] r14
    else
      jX8_does_27 cal K v1 r8.2
theorem jX8_does_8_eq (cal : ix_C) (K : ix_K) (v0 : Nat) (v1 : Option Nat) (v2 : Int32) (h : ix_H) : ix_fwd cal K (stX8_does.drop 8) 0 [(0, ix_R (some v0)), (1, ix_R v1), (2, ix_I v2)] [] h = jX8_does_8 cal K v0 v1 v2 h := rfl
def bX8_does (cal : ix_C) (K : ix_K) (v0 : Nat) (v1 : Option Nat) (h : ix_H) : ix_O :=
  (ix_is h 17 v1).bind fun a1 =>
  (ix_is h 17 v1).bind fun a2 =>
  ix_bd (ix_wfI h a2 2 ((ix_fI h a1 2) + (nI 1))) fun h3 =>
  jX8_does_8 cal K v0 v1 (nI 0) h3
theorem eX8_does (cal : ix_C) (K : ix_K) (v0 : Nat) (v1 : Option Nat) (h : ix_H) : ix_fwd cal K stX8_does 0 [(0, ix_R (some v0)), (1, ix_R v1)] [] h = bX8_does cal K v0 v1 h := rfl
theorem rX8_does (N d : Nat) (v0 : Nat) (v1 : Option Nat) (h : ix_H) : ix_run iy_P N (d + 1) 229 [ix_R (some v0), ix_R v1] h = bX8_does (ix_run iy_P N d) (ix_lp (ix_run iy_P N d) stX8_does N) v0 v1 h := (rfl : ix_run iy_P N (d + 1) 229 [ix_R (some v0), ix_R v1] h = ix_fwd (ix_run iy_P N d) (ix_lp (ix_run iy_P N d) stX8_does N) stX8_does 0 [(0, ix_R (some v0)), (1, ix_R v1)] [] h).trans (eX8_does _ _ v0 v1 h)
theorem lX8_does_8 (cal : ix_C) (n : Nat) (v0 : Nat) (v1 : Option Nat) (v2 : Int32) (h : ix_H) : ix_lp cal stX8_does (n + 1) 8 [(0, ix_R (some v0)), (1, ix_R v1), (2, ix_I v2)] [] h = jX8_does_8 cal (ix_lp cal stX8_does n) v0 v1 v2 h := jX8_does_8_eq cal (ix_lp cal stX8_does n) v0 v1 v2 h
