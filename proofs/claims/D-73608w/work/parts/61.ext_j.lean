/-! BODIES. Written by gen_ext.py -/
set_option maxRecDepth 100000
def bJ0_init (cal : ix_C) (K : ix_K) (v0 : Nat) (h : ix_H) : ix_O :=
  (ix_is h 2 (some v0)).bind fun a2 =>
  ix_bd (ix_wfR h a2 0 (some v0)) fun h3 =>
  (ix_is h3 2 (some v0)).bind fun a4 =>
  ix_bd (ix_wfR h3 a4 1 (some (ix_cs h3 41))) fun h5 =>
  (ix_is h5 2 (some v0)).bind fun a6 =>
  ix_bd (ix_wfR h5 a6 2 (some (ix_cs h5 42))) fun h7 =>
  none
theorem eJ0_init (cal : ix_C) (K : ix_K) (v0 : Nat) (h : ix_H) : ix_fwd cal K stJ0_init 0 [(0, ix_R (some v0))] [] h = bJ0_init cal K v0 h := rfl
theorem rJ0_init (N d : Nat) (v0 : Nat) (h : ix_H) : ix_run iy_P N (d + 1) 0 [ix_R (some v0)] h = bJ0_init (ix_run iy_P N d) (ix_lp (ix_run iy_P N d) stJ0_init N) v0 h := (rfl : ix_run iy_P N (d + 1) 0 [ix_R (some v0)] h = ix_fwd (ix_run iy_P N d) (ix_lp (ix_run iy_P N d) stJ0_init N) stJ0_init 0 [(0, ix_R (some v0))] [] h).trans (eJ0_init _ _ v0 h)
def jJ0_init_2_32 (cal : ix_C) (K : ix_K) (h : ix_H) : ix_O :=
  some (.inl none, h)
theorem jJ0_init_2_32_eq (cal : ix_C) (K : ix_K) (h : ix_H) : ix_fwd cal K (stJ0_init_2.drop 32) 0 [] [] h = jJ0_init_2_32 cal K h := rfl
def jJ0_init_2_20 (cal : ix_C) (K : ix_K) (v0 : Nat) (v1 : Option Nat) (v2 : Option Nat) (v3 : Int32) (h : ix_H) : ix_O :=
  (ix_is h 2 (some v0)).bind fun a10 =>
  ix_bd (ix_wfR h a10 3 v1) fun h11 =>
  (ix_is h11 2 (some v0)).bind fun a12 =>
  ix_bd (ix_wfR h11 a12 0 v2) fun h13 =>
  if v3 = nI 0 then
    (ix_is h13 2 (some v0)).bind fun a14 =>
    ix_bd (ix_wfR h13 a14 2 none) fun h15 =>
    jJ0_init_2_32 cal K h15
  else
    jJ0_init_2_32 cal K h13
theorem jJ0_init_2_20_eq (cal : ix_C) (K : ix_K) (v0 : Nat) (v1 : Option Nat) (v2 : Option Nat) (v3 : Int32) (h : ix_H) : ix_fwd cal K (stJ0_init_2.drop 20) 0 [(0, ix_R (some v0)), (1, ix_R v1), (2, ix_R v2), (3, ix_I v3)] [] h = jJ0_init_2_20 cal K v0 v1 v2 v3 h := rfl
def bJ0_init_2 (cal : ix_C) (K : ix_K) (v0 : Nat) (v1 : Option Nat) (v2 : Option Nat) (v3 : Int32) (v4 : Int32) (h : ix_H) : ix_O :=
  (ix_is h 2 (some v0)).bind fun a2 =>
  ix_bd (ix_wfR h a2 0 (some v0)) fun h3 =>
  (ix_is h3 2 (some v0)).bind fun a4 =>
  ix_bd (ix_wfR h3 a4 1 (some (ix_cs h3 41))) fun h5 =>
  (ix_is h5 2 (some v0)).bind fun a6 =>
  ix_bd (ix_wfR h5 a6 2 (some (ix_cs h5 42))) fun h7 =>
  if v4 = nI 0 then
    (ix_is h7 2 (some v0)).bind fun a8 =>
    ix_bd (ix_wfR h7 a8 1 none) fun h9 =>
    jJ0_init_2_20 cal K v0 v1 v2 v3 h9
  else
    none
theorem eJ0_init_2 (cal : ix_C) (K : ix_K) (v0 : Nat) (v1 : Option Nat) (v2 : Option Nat) (v3 : Int32) (v4 : Int32) (h : ix_H) : ix_fwd cal K stJ0_init_2 0 [(0, ix_R (some v0)), (1, ix_R v1), (2, ix_R v2), (3, ix_I v3), (4, ix_I v4)] [] h = bJ0_init_2 cal K v0 v1 v2 v3 v4 h := rfl
theorem rJ0_init_2 (N d : Nat) (v0 : Nat) (v1 : Option Nat) (v2 : Option Nat) (v3 : Int32) (v4 : Int32) (h : ix_H) : ix_run iy_P N (d + 1) 1 [ix_R (some v0), ix_R v1, ix_R v2, ix_I v3, ix_I v4] h = bJ0_init_2 (ix_run iy_P N d) (ix_lp (ix_run iy_P N d) stJ0_init_2 N) v0 v1 v2 v3 v4 h := (rfl : ix_run iy_P N (d + 1) 1 [ix_R (some v0), ix_R v1, ix_R v2, ix_I v3, ix_I v4] h = ix_fwd (ix_run iy_P N d) (ix_lp (ix_run iy_P N d) stJ0_init_2 N) stJ0_init_2 0 [(0, ix_R (some v0)), (1, ix_R v1), (2, ix_R v2), (3, ix_I v3), (4, ix_I v4)] [] h).trans (eJ0_init_2 _ _ v0 v1 v2 v3 v4 h)
def bJ1_init (cal : ix_C) (K : ix_K) (v0 : Nat) (v1 : Option Nat) (v2 : Option Nat) (v3 : Int32) (v4 : Int32) (h : ix_H) : ix_O :=
  (ix_isr h 2 (some v0)).bind fun a2 =>
  (ix_rV (cal 1 [ix_R (some a2), ix_R v1, ix_R v2, ix_I v3, ix_I v4] h)).bind fun r1 =>
  some (.inl none, r1)
theorem eJ1_init (cal : ix_C) (K : ix_K) (v0 : Nat) (v1 : Option Nat) (v2 : Option Nat) (v3 : Int32) (v4 : Int32) (h : ix_H) : ix_fwd cal K stJ1_init 0 [(0, ix_R (some v0)), (1, ix_R v1), (2, ix_R v2), (3, ix_I v3), (4, ix_I v4)] [] h = bJ1_init cal K v0 v1 v2 v3 v4 h := rfl
theorem rJ1_init (N d : Nat) (v0 : Nat) (v1 : Option Nat) (v2 : Option Nat) (v3 : Int32) (v4 : Int32) (h : ix_H) : ix_run iy_P N (d + 1) 2 [ix_R (some v0), ix_R v1, ix_R v2, ix_I v3, ix_I v4] h = bJ1_init (ix_run iy_P N d) (ix_lp (ix_run iy_P N d) stJ1_init N) v0 v1 v2 v3 v4 h := (rfl : ix_run iy_P N (d + 1) 2 [ix_R (some v0), ix_R v1, ix_R v2, ix_I v3, ix_I v4] h = ix_fwd (ix_run iy_P N d) (ix_lp (ix_run iy_P N d) stJ1_init N) stJ1_init 0 [(0, ix_R (some v0)), (1, ix_R v1), (2, ix_R v2), (3, ix_I v3), (4, ix_I v4)] [] h).trans (eJ1_init _ _ v0 v1 v2 v3 v4 h)
def jJ10_init_19 (cal : ix_C) (K : ix_K) (h : ix_H) : ix_O :=
  some (.inl none, h)
theorem jJ10_init_19_eq (cal : ix_C) (K : ix_K) (h : ix_H) : ix_fwd cal K (stJ10_init.drop 19) 0 [] [] h = jJ10_init_19 cal K h := rfl
def bJ10_init (cal : ix_C) (K : ix_K) (v0 : Nat) (v1 : Int32) (h : ix_H) : ix_O :=
  if (nI 1) = nI 0 then
    (ix_rR (cal 68 [ix_I v1] h)).bind fun r2 =>
    (ix_is r2.2 20 (some v0)).bind fun a3 =>
    ix_bd (ix_wfR r2.2 a3 0 r2.1) fun h4 =>
    (ix_is h4 20 (some v0)).bind fun a5 =>
    cond (ix_okn 2 (nI 1)) (
    ix_bd (ix_wfI h4 a5 1 (nI 1)) fun h6 =>
      jJ10_init_19 cal K h6) none
  else
    cond (ix_in v1 1000001) (
    ix_bd (ix_nwA h 102 v1.toNatClampNeg) fun h7 =>
      (ix_is h7 20 (some v0)).bind fun a8 =>
      ix_bd (ix_wfR h7 a8 0 (some (ix_sz h))) fun h9 =>
      (ix_is h9 20 (some v0)).bind fun a10 =>
      cond (ix_okn 2 (nI 0)) (
      ix_bd (ix_wfI h9 a10 1 (nI 0)) fun h11 =>
        jJ10_init_19 cal K h11) none) none
theorem eJ10_init (cal : ix_C) (K : ix_K) (v0 : Nat) (v1 : Int32) (h : ix_H) : ix_fwd cal K stJ10_init 0 [(0, ix_R (some v0)), (1, ix_I v1)] [] h = bJ10_init cal K v0 v1 h := rfl
theorem rJ10_init (N d : Nat) (v0 : Nat) (v1 : Int32) (h : ix_H) : ix_run iy_P N (d + 1) 3 [ix_R (some v0), ix_I v1] h = bJ10_init (ix_run iy_P N d) (ix_lp (ix_run iy_P N d) stJ10_init N) v0 v1 h := (rfl : ix_run iy_P N (d + 1) 3 [ix_R (some v0), ix_I v1] h = ix_fwd (ix_run iy_P N d) (ix_lp (ix_run iy_P N d) stJ10_init N) stJ10_init 0 [(0, ix_R (some v0)), (1, ix_I v1)] [] h).trans (eJ10_init _ _ v0 v1 h)
def jJ10_append_43 (cal : ix_C) (K : ix_K) (v0 : Nat) (h : ix_H) : ix_O :=
  some (.inl (some (ix_R (some v0))), h)
theorem jJ10_append_43_eq (cal : ix_C) (K : ix_K) (v0 : Nat) (h : ix_H) : ix_fwd cal K (stJ10_append.drop 43) 0 [(0, ix_R (some v0))] [] h = jJ10_append_43 cal K v0 h := rfl
def jJ10_append_31 (cal : ix_C) (K : ix_K) (v0 : Nat) (v1 : Int32) (h : ix_H) : ix_O :=
  (ix_is h 20 (some v0)).bind fun a8 =>
  (ix_is h 20 (some v0)).bind fun a9 =>
  (ix_is h 20 (some v0)).bind fun a10 =>
  ix_bd (ix_wfI h a10 3 ((ix_fI h a9 3) + (nI 1))) fun h11 =>
  (ix_rV (cal 73 [ix_R (ix_fR h a8 0), ix_I (ix_fI h a9 3), ix_I v1] h11)).bind fun r12 =>
  jJ10_append_43 cal K v0 r12
theorem jJ10_append_31_eq (cal : ix_C) (K : ix_K) (v0 : Nat) (v1 : Int32) (h : ix_H) : ix_fwd cal K (stJ10_append.drop 31) 0 [(0, ix_R (some v0)), (1, ix_I v1)] [] h = jJ10_append_31 cal K v0 v1 h := rfl
def jJ10_append_25 (cal : ix_C) (K : ix_K) (v0 : Nat) (v1 : Int32) (h : ix_H) : ix_O :=
  (ix_isr h 20 (some v0)).bind fun a7 =>
  (ix_rI (cal 7 [ix_R (some a7)] h)).bind fun r6 =>
  if r6.1 = nI 0 then
    jJ10_append_31 cal K v0 v1 r6.2
  else
    (ix_isr r6.2 20 (some v0)).bind fun a14 =>
    (ix_rV (cal 8 [ix_R (some a14)] r6.2)).bind fun r13 =>
    jJ10_append_31 cal K v0 v1 r13
theorem jJ10_append_25_eq (cal : ix_C) (K : ix_K) (v0 : Nat) (v1 : Int32) (h : ix_H) : ix_fwd cal K (stJ10_append.drop 25) 0 [(0, ix_R (some v0)), (1, ix_I v1)] [] h = jJ10_append_25 cal K v0 v1 h := rfl
def bJ10_append (cal : ix_C) (K : ix_K) (v0 : Nat) (v1 : Int32) (h : ix_H) : ix_O :=
  (ix_is h 20 (some v0)).bind fun a1 =>
  (ix_isr h 20 (some v0)).bind fun a3 =>
  (ix_rV (cal 5 [ix_R (some a3), ix_I ((ix_fI h a1 3) + (nI 1))] h)).bind fun r2 =>
  (ix_isr r2 20 (some v0)).bind fun a5 =>
  (ix_rI (cal 7 [ix_R (some a5)] r2)).bind fun r4 =>
  if r4.1 = nI 0 then
    jJ10_append_25 cal K v0 v1 r4.2
  else
    (ix_rI (cal 58 [ix_I v1] r4.2)).bind fun r15 =>
    if r15.1 = nI 0 then
      jJ10_append_25 cal K v0 v1 r15.2
    else
      (ix_is r15.2 20 (some v0)).bind fun a16 =>
      (ix_is r15.2 20 (some v0)).bind fun a17 =>
      (ix_is r15.2 20 (some v0)).bind fun a18 =>
      ix_bd (ix_wfI r15.2 a18 3 ((ix_fI r15.2 a17 3) + (nI 1))) fun h19 =>
      (ix_at h19 102 (ix_fR r15.2 a16 0) (ix_fI r15.2 a17 3)).bind fun a20 =>
      ix_bd (ix_waI h19 a20 (ix_fI r15.2 a17 3).toNatClampNeg (ix_nar 2 (v1.toInt8.toInt32))) fun h21 =>
      jJ10_append_43 cal K v0 h21
theorem eJ10_append (cal : ix_C) (K : ix_K) (v0 : Nat) (v1 : Int32) (h : ix_H) : ix_fwd cal K stJ10_append 0 [(0, ix_R (some v0)), (1, ix_I v1)] [] h = bJ10_append cal K v0 v1 h := rfl
theorem rJ10_append (N d : Nat) (v0 : Nat) (v1 : Int32) (h : ix_H) : ix_run iy_P N (d + 1) 4 [ix_R (some v0), ix_I v1] h = bJ10_append (ix_run iy_P N d) (ix_lp (ix_run iy_P N d) stJ10_append N) v0 v1 h := (rfl : ix_run iy_P N (d + 1) 4 [ix_R (some v0), ix_I v1] h = ix_fwd (ix_run iy_P N d) (ix_lp (ix_run iy_P N d) stJ10_append N) stJ10_append 0 [(0, ix_R (some v0)), (1, ix_I v1)] [] h).trans (eJ10_append _ _ v0 v1 h)
def jJ10_ensureCapacityInternal_22 (cal : ix_C) (K : ix_K) (h : ix_H) : ix_O :=
  some (.inl none, h)
theorem jJ10_ensureCapacityInternal_22_eq (cal : ix_C) (K : ix_K) (h : ix_H) : ix_fwd cal K (stJ10_ensureCapacityInternal.drop 22) 0 [] [] h = jJ10_ensureCapacityInternal_22 cal K h := rfl
def bJ10_ensureCapacityInternal (cal : ix_C) (K : ix_K) (v0 : Nat) (v1 : Int32) (h : ix_H) : ix_O :=
  (ix_is h 20 (some v0)).bind fun a1 =>
  (ix_isr h 102 (ix_fR h a1 0)).bind fun a2 =>
  (ix_is h 20 (some v0)).bind fun a3 =>
  if (v1 - ((Int32.ofNat (ix_ln h a2)) >>> ((ix_fI h a3 1) &&& 31))) ≤ nI 0 then
    jJ10_ensureCapacityInternal_22 cal K h
  else
    (ix_is h 20 (some v0)).bind fun a4 =>
    (ix_isr h 20 (some v0)).bind fun a6 =>
    (ix_rI (cal 6 [ix_R (some a6), ix_I v1] h)).bind fun r5 =>
    (ix_is r5.2 20 (some v0)).bind fun a7 =>
    (ix_rR (cal 27 [ix_R (ix_fR h a4 0), ix_I (r5.1 <<< ((ix_fI r5.2 a7 1) &&& 31))] r5.2)).bind fun r8 =>
    (ix_is r8.2 20 (some v0)).bind fun a9 =>
    ix_bd (ix_wfR r8.2 a9 0 r8.1) fun h10 =>
    jJ10_ensureCapacityInternal_22 cal K h10
theorem eJ10_ensureCapacityInternal (cal : ix_C) (K : ix_K) (v0 : Nat) (v1 : Int32) (h : ix_H) : ix_fwd cal K stJ10_ensureCapacityInternal 0 [(0, ix_R (some v0)), (1, ix_I v1)] [] h = bJ10_ensureCapacityInternal cal K v0 v1 h := rfl
theorem rJ10_ensureCapacityInternal (N d : Nat) (v0 : Nat) (v1 : Int32) (h : ix_H) : ix_run iy_P N (d + 1) 5 [ix_R (some v0), ix_I v1] h = bJ10_ensureCapacityInternal (ix_run iy_P N d) (ix_lp (ix_run iy_P N d) stJ10_ensureCapacityInternal N) v0 v1 h := (rfl : ix_run iy_P N (d + 1) 5 [ix_R (some v0), ix_I v1] h = ix_fwd (ix_run iy_P N d) (ix_lp (ix_run iy_P N d) stJ10_ensureCapacityInternal N) stJ10_ensureCapacityInternal 0 [(0, ix_R (some v0)), (1, ix_I v1)] [] h).trans (eJ10_ensureCapacityInternal _ _ v0 v1 h)
def bJ10_newCapacity (cal : ix_C) (K : ix_K) (v0 : Nat) (v1 : Int32) (h : ix_H) : ix_O :=
  (ix_is h 20 (some v0)).bind fun a1 =>
  (ix_isr h 102 (ix_fR h a1 0)).bind fun a2 =>
  (ix_is h 20 (some v0)).bind fun a3 =>
  (ix_is h 20 (some v0)).bind fun a4 =>
  (ix_rI (cal 15 [ix_I (Int32.ofNat (ix_ln h a2)), ix_I ((v1 <<< ((ix_fI h a3 1) &&& 31)) - (Int32.ofNat (ix_ln h a2))), ix_I ((Int32.ofNat (ix_ln h a2)) + ((nI 2) <<< ((ix_fI h a4 1) &&& 31)))] h)).bind fun r5 =>
  if r5.1 = (nI 2147483647) then
    none
  else
    (ix_is r5.2 20 (some v0)).bind fun a6 =>
    some (.inl (some (ix_I (r5.1 >>> ((ix_fI r5.2 a6 1) &&& 31)))), r5.2)
theorem eJ10_newCapacity (cal : ix_C) (K : ix_K) (v0 : Nat) (v1 : Int32) (h : ix_H) : ix_fwd cal K stJ10_newCapacity 0 [(0, ix_R (some v0)), (1, ix_I v1)] [] h = bJ10_newCapacity cal K v0 v1 h := rfl
theorem rJ10_newCapacity (N d : Nat) (v0 : Nat) (v1 : Int32) (h : ix_H) : ix_run iy_P N (d + 1) 6 [ix_R (some v0), ix_I v1] h = bJ10_newCapacity (ix_run iy_P N d) (ix_lp (ix_run iy_P N d) stJ10_newCapacity N) v0 v1 h := (rfl : ix_run iy_P N (d + 1) 6 [ix_R (some v0), ix_I v1] h = ix_fwd (ix_run iy_P N d) (ix_lp (ix_run iy_P N d) stJ10_newCapacity N) stJ10_newCapacity 0 [(0, ix_R (some v0)), (1, ix_I v1)] [] h).trans (eJ10_newCapacity _ _ v0 v1 h)
def jJ10_isLatin1_9 (cal : ix_C) (K : ix_K) (s0 : Int32) (h : ix_H) : ix_O :=
  cond (ix_okn 1 s0) (some (.inl (some (ix_I s0)), h)) none
theorem jJ10_isLatin1_9_eq (cal : ix_C) (K : ix_K) (s0 : Int32) (h : ix_H) : ix_fwd cal K (stJ10_isLatin1.drop 9) 0 [] [ix_I s0] h = jJ10_isLatin1_9 cal K s0 h := rfl
def jJ10_isLatin1_7 (cal : ix_C) (K : ix_K) (h : ix_H) : ix_O :=
  jJ10_isLatin1_9 cal K (nI 0) h
theorem jJ10_isLatin1_7_eq (cal : ix_C) (K : ix_K) (h : ix_H) : ix_fwd cal K (stJ10_isLatin1.drop 7) 0 [] [] h = jJ10_isLatin1_7 cal K h := rfl
def bJ10_isLatin1 (cal : ix_C) (K : ix_K) (v0 : Nat) (h : ix_H) : ix_O :=
  if (nI 1) = nI 0 then
    jJ10_isLatin1_7 cal K h
  else
    (ix_is h 20 (some v0)).bind fun a1 =>
    if (ix_fI h a1 1) = nI 0 then
      jJ10_isLatin1_9 cal K (nI 1) h
    else
      jJ10_isLatin1_7 cal K h
theorem eJ10_isLatin1 (cal : ix_C) (K : ix_K) (v0 : Nat) (h : ix_H) : ix_fwd cal K stJ10_isLatin1 0 [(0, ix_R (some v0))] [] h = bJ10_isLatin1 cal K v0 h := rfl
theorem rJ10_isLatin1 (N d : Nat) (v0 : Nat) (h : ix_H) : ix_run iy_P N (d + 1) 7 [ix_R (some v0)] h = bJ10_isLatin1 (ix_run iy_P N d) (ix_lp (ix_run iy_P N d) stJ10_isLatin1 N) v0 h := (rfl : ix_run iy_P N (d + 1) 7 [ix_R (some v0)] h = ix_fwd (ix_run iy_P N d) (ix_lp (ix_run iy_P N d) stJ10_isLatin1 N) stJ10_isLatin1 0 [(0, ix_R (some v0))] [] h).trans (eJ10_isLatin1 _ _ v0 h)
def bJ10_inflate (cal : ix_C) (K : ix_K) (v0 : Nat) (h : ix_H) : ix_O :=
  (ix_isr h 20 (some v0)).bind fun a2 =>
  (ix_rI (cal 7 [ix_R (some a2)] h)).bind fun r1 =>
  if r1.1 = nI 0 then
    some (.inl none, r1.2)
  else
    (ix_is r1.2 20 (some v0)).bind fun a3 =>
    (ix_isr r1.2 102 (ix_fR r1.2 a3 0)).bind fun a4 =>
    (ix_rR (cal 68 [ix_I (Int32.ofNat (ix_ln r1.2 a4))] r1.2)).bind fun r5 =>
    (ix_is r5.2 20 (some v0)).bind fun a6 =>
    (ix_is r5.2 20 (some v0)).bind fun a7 =>
    (ix_rV (cal 59 [ix_R (ix_fR r5.2 a6 0), ix_I (nI 0), ix_R r5.1, ix_I (nI 0), ix_I (ix_fI r5.2 a7 3)] r5.2)).bind fun r8 =>
    (ix_is r8 20 (some v0)).bind fun a9 =>
    ix_bd (ix_wfR r8 a9 0 r5.1) fun h10 =>
    (ix_is h10 20 (some v0)).bind fun a11 =>
    cond (ix_okn 2 (nI 1)) (
    ix_bd (ix_wfI h10 a11 1 (nI 1)) fun h12 =>
      some (.inl none, h12)) none
theorem eJ10_inflate (cal : ix_C) (K : ix_K) (v0 : Nat) (h : ix_H) : ix_fwd cal K stJ10_inflate 0 [(0, ix_R (some v0))] [] h = bJ10_inflate cal K v0 h := rfl
theorem rJ10_inflate (N d : Nat) (v0 : Nat) (h : ix_H) : ix_run iy_P N (d + 1) 8 [ix_R (some v0)] h = bJ10_inflate (ix_run iy_P N d) (ix_lp (ix_run iy_P N d) stJ10_inflate N) v0 h := (rfl : ix_run iy_P N (d + 1) 8 [ix_R (some v0)] h = ix_fwd (ix_run iy_P N d) (ix_lp (ix_run iy_P N d) stJ10_inflate N) stJ10_inflate 0 [(0, ix_R (some v0))] [] h).trans (eJ10_inflate _ _ v0 h)
def bJ10_getValue (cal : ix_C) (K : ix_K) (v0 : Nat) (h : ix_H) : ix_O :=
  (ix_is h 20 (some v0)).bind fun a1 =>
  some (.inl (some (ix_R (ix_fR h a1 0))), h)
theorem eJ10_getValue (cal : ix_C) (K : ix_K) (v0 : Nat) (h : ix_H) : ix_fwd cal K stJ10_getValue 0 [(0, ix_R (some v0))] [] h = bJ10_getValue cal K v0 h := rfl
theorem rJ10_getValue (N d : Nat) (v0 : Nat) (h : ix_H) : ix_run iy_P N (d + 1) 9 [ix_R (some v0)] h = bJ10_getValue (ix_run iy_P N d) (ix_lp (ix_run iy_P N d) stJ10_getValue N) v0 h := (rfl : ix_run iy_P N (d + 1) 9 [ix_R (some v0)] h = ix_fwd (ix_run iy_P N d) (ix_lp (ix_run iy_P N d) stJ10_getValue N) stJ10_getValue 0 [(0, ix_R (some v0))] [] h).trans (eJ10_getValue _ _ v0 h)
def bJ10_length (cal : ix_C) (K : ix_K) (v0 : Nat) (h : ix_H) : ix_O :=
  (ix_is h 20 (some v0)).bind fun a1 =>
  some (.inl (some (ix_I (ix_fI h a1 3))), h)
theorem eJ10_length (cal : ix_C) (K : ix_K) (v0 : Nat) (h : ix_H) : ix_fwd cal K stJ10_length 0 [(0, ix_R (some v0))] [] h = bJ10_length cal K v0 h := rfl
theorem rJ10_length (N d : Nat) (v0 : Nat) (h : ix_H) : ix_run iy_P N (d + 1) 10 [ix_R (some v0)] h = bJ10_length (ix_run iy_P N d) (ix_lp (ix_run iy_P N d) stJ10_length N) v0 h := (rfl : ix_run iy_P N (d + 1) 10 [ix_R (some v0)] h = ix_fwd (ix_run iy_P N d) (ix_lp (ix_run iy_P N d) stJ10_length N) stJ10_length 0 [(0, ix_R (some v0))] [] h).trans (eJ10_length _ _ v0 h)
def bJ11_init (cal : ix_C) (K : ix_K) (v0 : Nat) (h : ix_H) : ix_O :=
  (ix_isr h 20 (some v0)).bind fun a2 =>
  (ix_rV (cal 3 [ix_R (some a2), ix_I (nI 16)] h)).bind fun r1 =>
  some (.inl none, r1)
theorem eJ11_init (cal : ix_C) (K : ix_K) (v0 : Nat) (h : ix_H) : ix_fwd cal K stJ11_init 0 [(0, ix_R (some v0))] [] h = bJ11_init cal K v0 h := rfl
theorem rJ11_init (N d : Nat) (v0 : Nat) (h : ix_H) : ix_run iy_P N (d + 1) 11 [ix_R (some v0)] h = bJ11_init (ix_run iy_P N d) (ix_lp (ix_run iy_P N d) stJ11_init N) v0 h := (rfl : ix_run iy_P N (d + 1) 11 [ix_R (some v0)] h = ix_fwd (ix_run iy_P N d) (ix_lp (ix_run iy_P N d) stJ11_init N) stJ11_init 0 [(0, ix_R (some v0))] [] h).trans (eJ11_init _ _ v0 h)
def bJ11_append (cal : ix_C) (K : ix_K) (v0 : Nat) (v1 : Int32) (h : ix_H) : ix_O :=
  (ix_isr h 20 (some v0)).bind fun a2 =>
  (ix_rR (cal 4 [ix_R (some a2), ix_I v1] h)).bind fun r1 =>
  some (.inl (some (ix_R (some v0))), r1.2)
theorem eJ11_append (cal : ix_C) (K : ix_K) (v0 : Nat) (v1 : Int32) (h : ix_H) : ix_fwd cal K stJ11_append 0 [(0, ix_R (some v0)), (1, ix_I v1)] [] h = bJ11_append cal K v0 v1 h := rfl
theorem rJ11_append (N d : Nat) (v0 : Nat) (v1 : Int32) (h : ix_H) : ix_run iy_P N (d + 1) 12 [ix_R (some v0), ix_I v1] h = bJ11_append (ix_run iy_P N d) (ix_lp (ix_run iy_P N d) stJ11_append N) v0 v1 h := (rfl : ix_run iy_P N (d + 1) 12 [ix_R (some v0), ix_I v1] h = ix_fwd (ix_run iy_P N d) (ix_lp (ix_run iy_P N d) stJ11_append N) stJ11_append 0 [(0, ix_R (some v0)), (1, ix_I v1)] [] h).trans (eJ11_append _ _ v0 v1 h)
def bJ11_toString (cal : ix_C) (K : ix_K) (v0 : Nat) (h : ix_H) : ix_O :=
  ix_bd (ix_nwO h 19 4) fun h1 =>
  (ix_isr h1 19 (some (ix_sz h))).bind fun a3 =>
  (ix_rV (cal 53 [ix_R (some a3), ix_R (some v0)] h1)).bind fun r2 =>
  some (.inl (some (ix_R (some (ix_sz h)))), r2)
theorem eJ11_toString (cal : ix_C) (K : ix_K) (v0 : Nat) (h : ix_H) : ix_fwd cal K stJ11_toString 0 [(0, ix_R (some v0))] [] h = bJ11_toString cal K v0 h := rfl
theorem rJ11_toString (N d : Nat) (v0 : Nat) (h : ix_H) : ix_run iy_P N (d + 1) 13 [ix_R (some v0)] h = bJ11_toString (ix_run iy_P N d) (ix_lp (ix_run iy_P N d) stJ11_toString N) v0 h := (rfl : ix_run iy_P N (d + 1) 13 [ix_R (some v0)] h = ix_fwd (ix_run iy_P N d) (ix_lp (ix_run iy_P N d) stJ11_toString N) stJ11_toString 0 [(0, ix_R (some v0))] [] h).trans (eJ11_toString _ _ v0 h)
def bJ11_length (cal : ix_C) (K : ix_K) (v0 : Nat) (h : ix_H) : ix_O :=
  (ix_isr h 20 (some v0)).bind fun a2 =>
  (ix_rI (cal 10 [ix_R (some a2)] h)).bind fun r1 =>
  some (.inl (some (ix_I r1.1)), r1.2)
theorem eJ11_length (cal : ix_C) (K : ix_K) (v0 : Nat) (h : ix_H) : ix_fwd cal K stJ11_length 0 [(0, ix_R (some v0))] [] h = bJ11_length cal K v0 h := rfl
theorem rJ11_length (N d : Nat) (v0 : Nat) (h : ix_H) : ix_run iy_P N (d + 1) 14 [ix_R (some v0)] h = bJ11_length (ix_run iy_P N d) (ix_lp (ix_run iy_P N d) stJ11_length N) v0 h := (rfl : ix_run iy_P N (d + 1) 14 [ix_R (some v0)] h = ix_fwd (ix_run iy_P N d) (ix_lp (ix_run iy_P N d) stJ11_length N) stJ11_length 0 [(0, ix_R (some v0))] [] h).trans (eJ11_length _ _ v0 h)
def jJ12_newLength_14 (cal : ix_C) (K : ix_K) (v0 : Int32) (v1 : Int32) (h : ix_H) : ix_O :=
  (ix_rI (cal 16 [ix_I v0, ix_I v1] h)).bind fun r2 =>
  some (.inl (some (ix_I r2.1)), r2.2)
theorem jJ12_newLength_14_eq (cal : ix_C) (K : ix_K) (v0 : Int32) (v1 : Int32) (h : ix_H) : ix_fwd cal K (stJ12_newLength.drop 14) 0 [(0, ix_I v0), (1, ix_I v1)] [] h = jJ12_newLength_14 cal K v0 v1 h := rfl
def bJ12_newLength (cal : ix_C) (K : ix_K) (v0 : Int32) (v1 : Int32) (v2 : Int32) (h : ix_H) : ix_O :=
  (ix_rI (cal 24 [ix_I v1, ix_I v2] h)).bind fun r1 =>
  if (v0 + r1.1) ≤ (nI 0) then
    jJ12_newLength_14 cal K v0 v1 r1.2
  else
    if (nI 2147483639) < (v0 + r1.1) then
      jJ12_newLength_14 cal K v0 v1 r1.2
    else
      some (.inl (some (ix_I (v0 + r1.1))), r1.2)
theorem eJ12_newLength (cal : ix_C) (K : ix_K) (v0 : Int32) (v1 : Int32) (v2 : Int32) (h : ix_H) : ix_fwd cal K stJ12_newLength 0 [(0, ix_I v0), (1, ix_I v1), (2, ix_I v2)] [] h = bJ12_newLength cal K v0 v1 v2 h := rfl
theorem rJ12_newLength (N d : Nat) (v0 : Int32) (v1 : Int32) (v2 : Int32) (h : ix_H) : ix_run iy_P N (d + 1) 15 [ix_I v0, ix_I v1, ix_I v2] h = bJ12_newLength (ix_run iy_P N d) (ix_lp (ix_run iy_P N d) stJ12_newLength N) v0 v1 v2 h := (rfl : ix_run iy_P N (d + 1) 15 [ix_I v0, ix_I v1, ix_I v2] h = ix_fwd (ix_run iy_P N d) (ix_lp (ix_run iy_P N d) stJ12_newLength N) stJ12_newLength 0 [(0, ix_I v0), (1, ix_I v1), (2, ix_I v2)] [] h).trans (eJ12_newLength _ _ v0 v1 v2 h)
def bJ12_hugeLength (cal : ix_C) (K : ix_K) (v0 : Int32) (v1 : Int32) (h : ix_H) : ix_O :=
  if nI 0 ≤ (v0 + v1) then
    if (nI 2147483639) < (v0 + v1) then
      some (.inl (some (ix_I (v0 + v1))), h)
    else
      some (.inl (some (ix_I (nI 2147483639))), h)
  else
    none
theorem eJ12_hugeLength (cal : ix_C) (K : ix_K) (v0 : Int32) (v1 : Int32) (h : ix_H) : ix_fwd cal K stJ12_hugeLength 0 [(0, ix_I v0), (1, ix_I v1)] [] h = bJ12_hugeLength cal K v0 v1 h := rfl
theorem rJ12_hugeLength (N d : Nat) (v0 : Int32) (v1 : Int32) (h : ix_H) : ix_run iy_P N (d + 1) 16 [ix_I v0, ix_I v1] h = bJ12_hugeLength (ix_run iy_P N d) (ix_lp (ix_run iy_P N d) stJ12_hugeLength N) v0 v1 h := (rfl : ix_run iy_P N (d + 1) 16 [ix_I v0, ix_I v1] h = ix_fwd (ix_run iy_P N d) (ix_lp (ix_run iy_P N d) stJ12_hugeLength N) stJ12_hugeLength 0 [(0, ix_I v0), (1, ix_I v1)] [] h).trans (eJ12_hugeLength _ _ v0 v1 h)
def jJ12_vectorizedHashCode_60 (cal : ix_C) (K : ix_K) (s0 : Int32) (h : ix_H) : ix_O :=
  some (.inl (some (ix_I s0)), h)
theorem jJ12_vectorizedHashCode_60_eq (cal : ix_C) (K : ix_K) (s0 : Int32) (h : ix_H) : ix_fwd cal K (stJ12_vectorizedHashCode.drop 60) 0 [] [ix_I s0] h = jJ12_vectorizedHashCode_60 cal K s0 h := rfl
def jJ12_vectorizedHashCode_47 (cal : ix_C) (K : ix_K) (v4 : Int32) (h : ix_H) : ix_O :=
  none
theorem jJ12_vectorizedHashCode_47_eq (cal : ix_C) (K : ix_K) (v4 : Int32) (h : ix_H) : ix_fwd cal K (stJ12_vectorizedHashCode.drop 47) 0 [(4, ix_I v4)] [] h = jJ12_vectorizedHashCode_47 cal K v4 h := rfl
def bJ12_vectorizedHashCode (cal : ix_C) (K : ix_K) (v0 : Option Nat) (v1 : Int32) (v2 : Int32) (v3 : Int32) (v4 : Int32) (h : ix_H) : ix_O :=
  if v4 = nI 4 then
    cond (ix_of h [102] v0) (
      (ix_rI (cal 18 [ix_I v3, ix_R v0, ix_I v1, ix_I v2] h)).bind fun r1 =>
      jJ12_vectorizedHashCode_60 cal K r1.1 r1.2) none
  else
  if v4 = nI 5 then
    none
  else
  if v4 = nI 6 then
    jJ12_vectorizedHashCode_47 cal K v4 h
  else
  if v4 = nI 7 then
    jJ12_vectorizedHashCode_47 cal K v4 h
  else
  if v4 = nI 8 then
    cond (ix_of h [102] v0) (
      (ix_rI (cal 21 [ix_I v3, ix_R v0, ix_I v1, ix_I v2] h)).bind fun r2 =>
      jJ12_vectorizedHashCode_60 cal K r2.1 r2.2) none
  else
  if v4 = nI 9 then
    none
  else
  if v4 = nI 10 then
    none
  else
    jJ12_vectorizedHashCode_47 cal K v4 h
theorem eJ12_vectorizedHashCode (cal : ix_C) (K : ix_K) (v0 : Option Nat) (v1 : Int32) (v2 : Int32) (v3 : Int32) (v4 : Int32) (h : ix_H) : ix_fwd cal K stJ12_vectorizedHashCode 0 [(0, ix_R v0), (1, ix_I v1), (2, ix_I v2), (3, ix_I v3), (4, ix_I v4)] [] h = bJ12_vectorizedHashCode cal K v0 v1 v2 v3 v4 h := rfl
theorem rJ12_vectorizedHashCode (N d : Nat) (v0 : Option Nat) (v1 : Int32) (v2 : Int32) (v3 : Int32) (v4 : Int32) (h : ix_H) : ix_run iy_P N (d + 1) 17 [ix_R v0, ix_I v1, ix_I v2, ix_I v3, ix_I v4] h = bJ12_vectorizedHashCode (ix_run iy_P N d) (ix_lp (ix_run iy_P N d) stJ12_vectorizedHashCode N) v0 v1 v2 v3 v4 h := (rfl : ix_run iy_P N (d + 1) 17 [ix_R v0, ix_I v1, ix_I v2, ix_I v3, ix_I v4] h = ix_fwd (ix_run iy_P N d) (ix_lp (ix_run iy_P N d) stJ12_vectorizedHashCode N) stJ12_vectorizedHashCode 0 [(0, ix_R v0), (1, ix_I v1), (2, ix_I v2), (3, ix_I v3), (4, ix_I v4)] [] h).trans (eJ12_vectorizedHashCode _ _ v0 v1 v2 v3 v4 h)
def jJ12_signedHashCode_6 (cal : ix_C) (K : ix_K) (v0 : Int32) (v1 : Option Nat) (v4 : Int32) (v5 : Int32) (h : ix_H) : ix_O :=
  if v4 ≤ v5 then
    some (.inl (some (ix_I v0)), h)
  else
    (ix_atr h 102 v1 v5).bind fun a1 =>
    K 6 [(0, ix_I (((nI 31) * v0) + ((ix_aI h a1 v5.toNatClampNeg) &&& (nI 255)))), (1, ix_R v1), (4, ix_I v4), (5, ix_I (v5 + (nI 1)))] [] h
theorem jJ12_signedHashCode_6_eq (cal : ix_C) (K : ix_K) (v0 : Int32) (v1 : Option Nat) (v4 : Int32) (v5 : Int32) (h : ix_H) : ix_fwd cal K (stJ12_signedHashCode.drop 6) 0 [(0, ix_I v0), (1, ix_R v1), (4, ix_I v4), (5, ix_I v5)] [] h = jJ12_signedHashCode_6 cal K v0 v1 v4 v5 h := rfl
def bJ12_signedHashCode (cal : ix_C) (K : ix_K) (v0 : Int32) (v1 : Option Nat) (v2 : Int32) (v3 : Int32) (h : ix_H) : ix_O :=
  jJ12_signedHashCode_6 cal K v0 v1 (v2 + v3) v2 h
theorem eJ12_signedHashCode (cal : ix_C) (K : ix_K) (v0 : Int32) (v1 : Option Nat) (v2 : Int32) (v3 : Int32) (h : ix_H) : ix_fwd cal K stJ12_signedHashCode 0 [(0, ix_I v0), (1, ix_R v1), (2, ix_I v2), (3, ix_I v3)] [] h = bJ12_signedHashCode cal K v0 v1 v2 v3 h := rfl
theorem rJ12_signedHashCode (N d : Nat) (v0 : Int32) (v1 : Option Nat) (v2 : Int32) (v3 : Int32) (h : ix_H) : ix_run iy_P N (d + 1) 18 [ix_I v0, ix_R v1, ix_I v2, ix_I v3] h = bJ12_signedHashCode (ix_run iy_P N d) (ix_lp (ix_run iy_P N d) stJ12_signedHashCode N) v0 v1 v2 v3 h := (rfl : ix_run iy_P N (d + 1) 18 [ix_I v0, ix_R v1, ix_I v2, ix_I v3] h = ix_fwd (ix_run iy_P N d) (ix_lp (ix_run iy_P N d) stJ12_signedHashCode N) stJ12_signedHashCode 0 [(0, ix_I v0), (1, ix_R v1), (2, ix_I v2), (3, ix_I v3)] [] h).trans (eJ12_signedHashCode _ _ v0 v1 v2 v3 h)
theorem lJ12_signedHashCode_6 (cal : ix_C) (n : Nat) (v0 : Int32) (v1 : Option Nat) (v4 : Int32) (v5 : Int32) (h : ix_H) : ix_lp cal stJ12_signedHashCode (n + 1) 6 [(0, ix_I v0), (1, ix_R v1), (4, ix_I v4), (5, ix_I v5)] [] h = jJ12_signedHashCode_6 cal (ix_lp cal stJ12_signedHashCode n) v0 v1 v4 v5 h := jJ12_signedHashCode_6_eq cal (ix_lp cal stJ12_signedHashCode n) v0 v1 v4 v5 h
def jJ12_utf16hashCode_6 (cal : ix_C) (K : ix_K) (v0 : Int32) (v1 : Option Nat) (v4 : Int32) (v5 : Int32) (h : ix_H) : ix_O :=
  if v4 ≤ v5 then
    some (.inl (some (ix_I v0)), h)
  else
    none
theorem jJ12_utf16hashCode_6_eq (cal : ix_C) (K : ix_K) (v0 : Int32) (v1 : Option Nat) (v4 : Int32) (v5 : Int32) (h : ix_H) : ix_fwd cal K (stJ12_utf16hashCode.drop 6) 0 [(0, ix_I v0), (1, ix_R v1), (4, ix_I v4), (5, ix_I v5)] [] h = jJ12_utf16hashCode_6 cal K v0 v1 v4 v5 h := rfl
def bJ12_utf16hashCode (cal : ix_C) (K : ix_K) (v0 : Int32) (v1 : Option Nat) (v2 : Int32) (v3 : Int32) (h : ix_H) : ix_O :=
  jJ12_utf16hashCode_6 cal K v0 v1 (v2 + v3) v2 h
theorem eJ12_utf16hashCode (cal : ix_C) (K : ix_K) (v0 : Int32) (v1 : Option Nat) (v2 : Int32) (v3 : Int32) (h : ix_H) : ix_fwd cal K stJ12_utf16hashCode 0 [(0, ix_I v0), (1, ix_R v1), (2, ix_I v2), (3, ix_I v3)] [] h = bJ12_utf16hashCode cal K v0 v1 v2 v3 h := rfl
theorem rJ12_utf16hashCode (N d : Nat) (v0 : Int32) (v1 : Option Nat) (v2 : Int32) (v3 : Int32) (h : ix_H) : ix_run iy_P N (d + 1) 19 [ix_I v0, ix_R v1, ix_I v2, ix_I v3] h = bJ12_utf16hashCode (ix_run iy_P N d) (ix_lp (ix_run iy_P N d) stJ12_utf16hashCode N) v0 v1 v2 v3 h := (rfl : ix_run iy_P N (d + 1) 19 [ix_I v0, ix_R v1, ix_I v2, ix_I v3] h = ix_fwd (ix_run iy_P N d) (ix_lp (ix_run iy_P N d) stJ12_utf16hashCode N) stJ12_utf16hashCode 0 [(0, ix_I v0), (1, ix_R v1), (2, ix_I v2), (3, ix_I v3)] [] h).trans (eJ12_utf16hashCode _ _ v0 v1 v2 v3 h)
theorem lJ12_utf16hashCode_6 (cal : ix_C) (n : Nat) (v0 : Int32) (v1 : Option Nat) (v4 : Int32) (v5 : Int32) (h : ix_H) : ix_lp cal stJ12_utf16hashCode (n + 1) 6 [(0, ix_I v0), (1, ix_R v1), (4, ix_I v4), (5, ix_I v5)] [] h = jJ12_utf16hashCode_6 cal (ix_lp cal stJ12_utf16hashCode n) v0 v1 v4 v5 h := jJ12_utf16hashCode_6_eq cal (ix_lp cal stJ12_utf16hashCode n) v0 v1 v4 v5 h
def jJ12_hashCode_6 (cal : ix_C) (K : ix_K) (v0 : Int32) (v1 : Option Nat) (v4 : Int32) (v5 : Int32) (h : ix_H) : ix_O :=
  if v4 ≤ v5 then
    some (.inl (some (ix_I v0)), h)
  else
    (ix_atr h 104 v1 v5).bind fun a1 =>
    K 6 [(0, ix_I (((nI 31) * v0) + (ix_aI h a1 v5.toNatClampNeg))), (1, ix_R v1), (4, ix_I v4), (5, ix_I (v5 + (nI 1)))] [] h
theorem jJ12_hashCode_6_eq (cal : ix_C) (K : ix_K) (v0 : Int32) (v1 : Option Nat) (v4 : Int32) (v5 : Int32) (h : ix_H) : ix_fwd cal K (stJ12_hashCode.drop 6) 0 [(0, ix_I v0), (1, ix_R v1), (4, ix_I v4), (5, ix_I v5)] [] h = jJ12_hashCode_6 cal K v0 v1 v4 v5 h := rfl
def bJ12_hashCode (cal : ix_C) (K : ix_K) (v0 : Int32) (v1 : Option Nat) (v2 : Int32) (v3 : Int32) (h : ix_H) : ix_O :=
  jJ12_hashCode_6 cal K v0 v1 (v2 + v3) v2 h
theorem eJ12_hashCode (cal : ix_C) (K : ix_K) (v0 : Int32) (v1 : Option Nat) (v2 : Int32) (v3 : Int32) (h : ix_H) : ix_fwd cal K stJ12_hashCode 0 [(0, ix_I v0), (1, ix_R v1), (2, ix_I v2), (3, ix_I v3)] [] h = bJ12_hashCode cal K v0 v1 v2 v3 h := rfl
theorem rJ12_hashCode (N d : Nat) (v0 : Int32) (v1 : Option Nat) (v2 : Int32) (v3 : Int32) (h : ix_H) : ix_run iy_P N (d + 1) 20 [ix_I v0, ix_R v1, ix_I v2, ix_I v3] h = bJ12_hashCode (ix_run iy_P N d) (ix_lp (ix_run iy_P N d) stJ12_hashCode N) v0 v1 v2 v3 h := (rfl : ix_run iy_P N (d + 1) 20 [ix_I v0, ix_R v1, ix_I v2, ix_I v3] h = ix_fwd (ix_run iy_P N d) (ix_lp (ix_run iy_P N d) stJ12_hashCode N) stJ12_hashCode 0 [(0, ix_I v0), (1, ix_R v1), (2, ix_I v2), (3, ix_I v3)] [] h).trans (eJ12_hashCode _ _ v0 v1 v2 v3 h)
theorem lJ12_hashCode_6 (cal : ix_C) (n : Nat) (v0 : Int32) (v1 : Option Nat) (v4 : Int32) (v5 : Int32) (h : ix_H) : ix_lp cal stJ12_hashCode (n + 1) 6 [(0, ix_I v0), (1, ix_R v1), (4, ix_I v4), (5, ix_I v5)] [] h = jJ12_hashCode_6 cal (ix_lp cal stJ12_hashCode n) v0 v1 v4 v5 h := jJ12_hashCode_6_eq cal (ix_lp cal stJ12_hashCode n) v0 v1 v4 v5 h
def jJ12_hashCode_2_6 (cal : ix_C) (K : ix_K) (v0 : Int32) (v1 : Option Nat) (v4 : Int32) (v5 : Int32) (h : ix_H) : ix_O :=
  if v4 ≤ v5 then
    some (.inl (some (ix_I v0)), h)
  else
    (ix_atr h 102 v1 v5).bind fun a1 =>
    K 6 [(0, ix_I (((nI 31) * v0) + (ix_aI h a1 v5.toNatClampNeg))), (1, ix_R v1), (4, ix_I v4), (5, ix_I (v5 + (nI 1)))] [] h
theorem jJ12_hashCode_2_6_eq (cal : ix_C) (K : ix_K) (v0 : Int32) (v1 : Option Nat) (v4 : Int32) (v5 : Int32) (h : ix_H) : ix_fwd cal K (stJ12_hashCode_2.drop 6) 0 [(0, ix_I v0), (1, ix_R v1), (4, ix_I v4), (5, ix_I v5)] [] h = jJ12_hashCode_2_6 cal K v0 v1 v4 v5 h := rfl
def bJ12_hashCode_2 (cal : ix_C) (K : ix_K) (v0 : Int32) (v1 : Option Nat) (v2 : Int32) (v3 : Int32) (h : ix_H) : ix_O :=
  jJ12_hashCode_2_6 cal K v0 v1 (v2 + v3) v2 h
theorem eJ12_hashCode_2 (cal : ix_C) (K : ix_K) (v0 : Int32) (v1 : Option Nat) (v2 : Int32) (v3 : Int32) (h : ix_H) : ix_fwd cal K stJ12_hashCode_2 0 [(0, ix_I v0), (1, ix_R v1), (2, ix_I v2), (3, ix_I v3)] [] h = bJ12_hashCode_2 cal K v0 v1 v2 v3 h := rfl
theorem rJ12_hashCode_2 (N d : Nat) (v0 : Int32) (v1 : Option Nat) (v2 : Int32) (v3 : Int32) (h : ix_H) : ix_run iy_P N (d + 1) 21 [ix_I v0, ix_R v1, ix_I v2, ix_I v3] h = bJ12_hashCode_2 (ix_run iy_P N d) (ix_lp (ix_run iy_P N d) stJ12_hashCode_2 N) v0 v1 v2 v3 h := (rfl : ix_run iy_P N (d + 1) 21 [ix_I v0, ix_R v1, ix_I v2, ix_I v3] h = ix_fwd (ix_run iy_P N d) (ix_lp (ix_run iy_P N d) stJ12_hashCode_2 N) stJ12_hashCode_2 0 [(0, ix_I v0), (1, ix_R v1), (2, ix_I v2), (3, ix_I v3)] [] h).trans (eJ12_hashCode_2 _ _ v0 v1 v2 v3 h)
theorem lJ12_hashCode_2_6 (cal : ix_C) (n : Nat) (v0 : Int32) (v1 : Option Nat) (v4 : Int32) (v5 : Int32) (h : ix_H) : ix_lp cal stJ12_hashCode_2 (n + 1) 6 [(0, ix_I v0), (1, ix_R v1), (4, ix_I v4), (5, ix_I v5)] [] h = jJ12_hashCode_2_6 cal (ix_lp cal stJ12_hashCode_2 n) v0 v1 v4 v5 h := jJ12_hashCode_2_6_eq cal (ix_lp cal stJ12_hashCode_2 n) v0 v1 v4 v5 h
def jJ12_hashCode_3_6 (cal : ix_C) (K : ix_K) (v0 : Int32) (v1 : Option Nat) (v4 : Int32) (v5 : Int32) (h : ix_H) : ix_O :=
  if v4 ≤ v5 then
    some (.inl (some (ix_I v0)), h)
  else
    (ix_atr h 103 v1 v5).bind fun a1 =>
    K 6 [(0, ix_I (((nI 31) * v0) + (ix_aI h a1 v5.toNatClampNeg))), (1, ix_R v1), (4, ix_I v4), (5, ix_I (v5 + (nI 1)))] [] h
theorem jJ12_hashCode_3_6_eq (cal : ix_C) (K : ix_K) (v0 : Int32) (v1 : Option Nat) (v4 : Int32) (v5 : Int32) (h : ix_H) : ix_fwd cal K (stJ12_hashCode_3.drop 6) 0 [(0, ix_I v0), (1, ix_R v1), (4, ix_I v4), (5, ix_I v5)] [] h = jJ12_hashCode_3_6 cal K v0 v1 v4 v5 h := rfl
def bJ12_hashCode_3 (cal : ix_C) (K : ix_K) (v0 : Int32) (v1 : Option Nat) (v2 : Int32) (v3 : Int32) (h : ix_H) : ix_O :=
  jJ12_hashCode_3_6 cal K v0 v1 (v2 + v3) v2 h
theorem eJ12_hashCode_3 (cal : ix_C) (K : ix_K) (v0 : Int32) (v1 : Option Nat) (v2 : Int32) (v3 : Int32) (h : ix_H) : ix_fwd cal K stJ12_hashCode_3 0 [(0, ix_I v0), (1, ix_R v1), (2, ix_I v2), (3, ix_I v3)] [] h = bJ12_hashCode_3 cal K v0 v1 v2 v3 h := rfl
theorem rJ12_hashCode_3 (N d : Nat) (v0 : Int32) (v1 : Option Nat) (v2 : Int32) (v3 : Int32) (h : ix_H) : ix_run iy_P N (d + 1) 22 [ix_I v0, ix_R v1, ix_I v2, ix_I v3] h = bJ12_hashCode_3 (ix_run iy_P N d) (ix_lp (ix_run iy_P N d) stJ12_hashCode_3 N) v0 v1 v2 v3 h := (rfl : ix_run iy_P N (d + 1) 22 [ix_I v0, ix_R v1, ix_I v2, ix_I v3] h = ix_fwd (ix_run iy_P N d) (ix_lp (ix_run iy_P N d) stJ12_hashCode_3 N) stJ12_hashCode_3 0 [(0, ix_I v0), (1, ix_R v1), (2, ix_I v2), (3, ix_I v3)] [] h).trans (eJ12_hashCode_3 _ _ v0 v1 v2 v3 h)
theorem lJ12_hashCode_3_6 (cal : ix_C) (n : Nat) (v0 : Int32) (v1 : Option Nat) (v4 : Int32) (v5 : Int32) (h : ix_H) : ix_lp cal stJ12_hashCode_3 (n + 1) 6 [(0, ix_I v0), (1, ix_R v1), (4, ix_I v4), (5, ix_I v5)] [] h = jJ12_hashCode_3_6 cal (ix_lp cal stJ12_hashCode_3 n) v0 v1 v4 v5 h := jJ12_hashCode_3_6_eq cal (ix_lp cal stJ12_hashCode_3 n) v0 v1 v4 v5 h
def jJ12_hashCode_4_6 (cal : ix_C) (K : ix_K) (v0 : Int32) (v1 : Option Nat) (v4 : Int32) (v5 : Int32) (h : ix_H) : ix_O :=
  if v4 ≤ v5 then
    some (.inl (some (ix_I v0)), h)
  else
    (ix_atr h 101 v1 v5).bind fun a1 =>
    K 6 [(0, ix_I (((nI 31) * v0) + (ix_aI h a1 v5.toNatClampNeg))), (1, ix_R v1), (4, ix_I v4), (5, ix_I (v5 + (nI 1)))] [] h
theorem jJ12_hashCode_4_6_eq (cal : ix_C) (K : ix_K) (v0 : Int32) (v1 : Option Nat) (v4 : Int32) (v5 : Int32) (h : ix_H) : ix_fwd cal K (stJ12_hashCode_4.drop 6) 0 [(0, ix_I v0), (1, ix_R v1), (4, ix_I v4), (5, ix_I v5)] [] h = jJ12_hashCode_4_6 cal K v0 v1 v4 v5 h := rfl
def bJ12_hashCode_4 (cal : ix_C) (K : ix_K) (v0 : Int32) (v1 : Option Nat) (v2 : Int32) (v3 : Int32) (h : ix_H) : ix_O :=
  jJ12_hashCode_4_6 cal K v0 v1 (v2 + v3) v2 h
theorem eJ12_hashCode_4 (cal : ix_C) (K : ix_K) (v0 : Int32) (v1 : Option Nat) (v2 : Int32) (v3 : Int32) (h : ix_H) : ix_fwd cal K stJ12_hashCode_4 0 [(0, ix_I v0), (1, ix_R v1), (2, ix_I v2), (3, ix_I v3)] [] h = bJ12_hashCode_4 cal K v0 v1 v2 v3 h := rfl
theorem rJ12_hashCode_4 (N d : Nat) (v0 : Int32) (v1 : Option Nat) (v2 : Int32) (v3 : Int32) (h : ix_H) : ix_run iy_P N (d + 1) 23 [ix_I v0, ix_R v1, ix_I v2, ix_I v3] h = bJ12_hashCode_4 (ix_run iy_P N d) (ix_lp (ix_run iy_P N d) stJ12_hashCode_4 N) v0 v1 v2 v3 h := (rfl : ix_run iy_P N (d + 1) 23 [ix_I v0, ix_R v1, ix_I v2, ix_I v3] h = ix_fwd (ix_run iy_P N d) (ix_lp (ix_run iy_P N d) stJ12_hashCode_4 N) stJ12_hashCode_4 0 [(0, ix_I v0), (1, ix_R v1), (2, ix_I v2), (3, ix_I v3)] [] h).trans (eJ12_hashCode_4 _ _ v0 v1 v2 v3 h)
theorem lJ12_hashCode_4_6 (cal : ix_C) (n : Nat) (v0 : Int32) (v1 : Option Nat) (v4 : Int32) (v5 : Int32) (h : ix_H) : ix_lp cal stJ12_hashCode_4 (n + 1) 6 [(0, ix_I v0), (1, ix_R v1), (4, ix_I v4), (5, ix_I v5)] [] h = jJ12_hashCode_4_6 cal (ix_lp cal stJ12_hashCode_4 n) v0 v1 v4 v5 h := jJ12_hashCode_4_6_eq cal (ix_lp cal stJ12_hashCode_4 n) v0 v1 v4 v5 h
def jJ13_max_6 (cal : ix_C) (K : ix_K) (s0 : Int32) (h : ix_H) : ix_O :=
  some (.inl (some (ix_I s0)), h)
theorem jJ13_max_6_eq (cal : ix_C) (K : ix_K) (s0 : Int32) (h : ix_H) : ix_fwd cal K (stJ13_max.drop 6) 0 [] [ix_I s0] h = jJ13_max_6 cal K s0 h := rfl
def bJ13_max (cal : ix_C) (K : ix_K) (v0 : Int32) (v1 : Int32) (h : ix_H) : ix_O :=
  if v0 < v1 then
    jJ13_max_6 cal K v1 h
  else
    jJ13_max_6 cal K v0 h
theorem eJ13_max (cal : ix_C) (K : ix_K) (v0 : Int32) (v1 : Int32) (h : ix_H) : ix_fwd cal K stJ13_max 0 [(0, ix_I v0), (1, ix_I v1)] [] h = bJ13_max cal K v0 v1 h := rfl
theorem rJ13_max (N d : Nat) (v0 : Int32) (v1 : Int32) (h : ix_H) : ix_run iy_P N (d + 1) 24 [ix_I v0, ix_I v1] h = bJ13_max (ix_run iy_P N d) (ix_lp (ix_run iy_P N d) stJ13_max N) v0 v1 h := (rfl : ix_run iy_P N (d + 1) 24 [ix_I v0, ix_I v1] h = ix_fwd (ix_run iy_P N d) (ix_lp (ix_run iy_P N d) stJ13_max N) stJ13_max 0 [(0, ix_I v0), (1, ix_I v1)] [] h).trans (eJ13_max _ _ v0 v1 h)
def jJ13_min_6 (cal : ix_C) (K : ix_K) (s0 : Int32) (h : ix_H) : ix_O :=
  some (.inl (some (ix_I s0)), h)
theorem jJ13_min_6_eq (cal : ix_C) (K : ix_K) (s0 : Int32) (h : ix_H) : ix_fwd cal K (stJ13_min.drop 6) 0 [] [ix_I s0] h = jJ13_min_6 cal K s0 h := rfl
def bJ13_min (cal : ix_C) (K : ix_K) (v0 : Int32) (v1 : Int32) (h : ix_H) : ix_O :=
  if v1 < v0 then
    jJ13_min_6 cal K v1 h
  else
    jJ13_min_6 cal K v0 h
theorem eJ13_min (cal : ix_C) (K : ix_K) (v0 : Int32) (v1 : Int32) (h : ix_H) : ix_fwd cal K stJ13_min 0 [(0, ix_I v0), (1, ix_I v1)] [] h = bJ13_min cal K v0 v1 h := rfl
theorem rJ13_min (N d : Nat) (v0 : Int32) (v1 : Int32) (h : ix_H) : ix_run iy_P N (d + 1) 25 [ix_I v0, ix_I v1] h = bJ13_min (ix_run iy_P N d) (ix_lp (ix_run iy_P N d) stJ13_min N) v0 v1 h := (rfl : ix_run iy_P N (d + 1) 25 [ix_I v0, ix_I v1] h = ix_fwd (ix_run iy_P N d) (ix_lp (ix_run iy_P N d) stJ13_min N) stJ13_min 0 [(0, ix_I v0), (1, ix_I v1)] [] h).trans (eJ13_min _ _ v0 v1 h)
def jJ13_floorMod_14 (cal : ix_C) (K : ix_K) (v2 : Int32) (h : ix_H) : ix_O :=
  some (.inl (some (ix_I v2)), h)
theorem jJ13_floorMod_14_eq (cal : ix_C) (K : ix_K) (v2 : Int32) (h : ix_H) : ix_fwd cal K (stJ13_floorMod.drop 14) 0 [(2, ix_I v2)] [] h = jJ13_floorMod_14 cal K v2 h := rfl
def bJ13_floorMod (cal : ix_C) (K : ix_K) (v0 : Int32) (v1 : Int32) (h : ix_H) : ix_O :=
  if v1 = nI 0 then none else
  if nI 0 ≤ (v0 ^^^ v1) then
    jJ13_floorMod_14 cal K (v0 - v0 / v1 * v1) h
  else
    if (v0 - v0 / v1 * v1) = nI 0 then
      jJ13_floorMod_14 cal K (v0 - v0 / v1 * v1) h
    else
      some (.inl (some (ix_I ((v0 - v0 / v1 * v1) + v1))), h)
theorem eJ13_floorMod (cal : ix_C) (K : ix_K) (v0 : Int32) (v1 : Int32) (h : ix_H) : ix_fwd cal K stJ13_floorMod 0 [(0, ix_I v0), (1, ix_I v1)] [] h = bJ13_floorMod cal K v0 v1 h := rfl
theorem rJ13_floorMod (N d : Nat) (v0 : Int32) (v1 : Int32) (h : ix_H) : ix_run iy_P N (d + 1) 26 [ix_I v0, ix_I v1] h = bJ13_floorMod (ix_run iy_P N d) (ix_lp (ix_run iy_P N d) stJ13_floorMod N) v0 v1 h := (rfl : ix_run iy_P N (d + 1) 26 [ix_I v0, ix_I v1] h = ix_fwd (ix_run iy_P N d) (ix_lp (ix_run iy_P N d) stJ13_floorMod N) stJ13_floorMod 0 [(0, ix_I v0), (1, ix_I v1)] [] h).trans (eJ13_floorMod _ _ v0 v1 h)
def bJ14_copyOf (cal : ix_C) (K : ix_K) (v0 : Option Nat) (v1 : Int32) (h : ix_H) : ix_O :=
  (ix_isr h 102 v0).bind fun a1 =>
  if v1 = (Int32.ofNat (ix_ln h a1)) then
    none
  else
    cond (ix_in v1 1000001) (
    ix_bd (ix_nwA h 102 v1.toNatClampNeg) fun h2 =>
      (ix_isr h2 102 v0).bind fun a3 =>
      (ix_rI (cal 25 [ix_I (Int32.ofNat (ix_ln h2 a3)), ix_I v1] h2)).bind fun r4 =>
      (ix_is r4.2 102 v0).bind fun a5 => (ix_is r4.2 102 (some (ix_sz h))).bind fun a6 =>
      if ¬ r4.1 < 0 ∧ ¬ (nI 0) < 0 ∧ ¬ (nI 0) < 0 ∧ (nI 0).toNatClampNeg + r4.1.toNatClampNeg ≤ ix_ln r4.2 a5 ∧ (nI 0).toNatClampNeg + r4.1.toNatClampNeg ≤ ix_ln r4.2 a6 ∧ 0 ≤ 8 then
        ix_bd (ix_cpI r4.2 a5 (nI 0).toNatClampNeg a6 (nI 0).toNatClampNeg r4.1.toNatClampNeg) fun h7 =>
        some (.inl (some (ix_R (some (ix_sz h)))), h7)
      else none) none
theorem eJ14_copyOf (cal : ix_C) (K : ix_K) (v0 : Option Nat) (v1 : Int32) (h : ix_H) : ix_fwd cal K stJ14_copyOf 0 [(0, ix_R v0), (1, ix_I v1)] [] h = bJ14_copyOf cal K v0 v1 h := rfl
theorem rJ14_copyOf (N d : Nat) (v0 : Option Nat) (v1 : Int32) (h : ix_H) : ix_run iy_P N (d + 1) 27 [ix_R v0, ix_I v1] h = bJ14_copyOf (ix_run iy_P N d) (ix_lp (ix_run iy_P N d) stJ14_copyOf N) v0 v1 h := (rfl : ix_run iy_P N (d + 1) 27 [ix_R v0, ix_I v1] h = ix_fwd (ix_run iy_P N d) (ix_lp (ix_run iy_P N d) stJ14_copyOf N) stJ14_copyOf 0 [(0, ix_R v0), (1, ix_I v1)] [] h).trans (eJ14_copyOf _ _ v0 v1 h)
def jJ14_copyOfRange_6 (cal : ix_C) (K : ix_K) (v0 : Option Nat) (v1 : Int32) (v2 : Int32) (h : ix_H) : ix_O :=
  (ix_rR (cal 29 [ix_R v0, ix_I v1, ix_I v2] h)).bind fun r1 =>
  some (.inl (some (ix_R r1.1)), r1.2)
theorem jJ14_copyOfRange_6_eq (cal : ix_C) (K : ix_K) (v0 : Option Nat) (v1 : Int32) (v2 : Int32) (h : ix_H) : ix_fwd cal K (stJ14_copyOfRange.drop 6) 0 [(0, ix_R v0), (1, ix_I v1), (2, ix_I v2)] [] h = jJ14_copyOfRange_6 cal K v0 v1 v2 h := rfl
def bJ14_copyOfRange (cal : ix_C) (K : ix_K) (v0 : Option Nat) (v1 : Int32) (v2 : Int32) (h : ix_H) : ix_O :=
  if v1 = nI 0 then
    (ix_isr h 102 v0).bind fun a2 =>
    if v2 = (Int32.ofNat (ix_ln h a2)) then
      none
    else
      jJ14_copyOfRange_6 cal K v0 v1 v2 h
  else
    jJ14_copyOfRange_6 cal K v0 v1 v2 h
theorem eJ14_copyOfRange (cal : ix_C) (K : ix_K) (v0 : Option Nat) (v1 : Int32) (v2 : Int32) (h : ix_H) : ix_fwd cal K stJ14_copyOfRange 0 [(0, ix_R v0), (1, ix_I v1), (2, ix_I v2)] [] h = bJ14_copyOfRange cal K v0 v1 v2 h := rfl
theorem rJ14_copyOfRange (N d : Nat) (v0 : Option Nat) (v1 : Int32) (v2 : Int32) (h : ix_H) : ix_run iy_P N (d + 1) 28 [ix_R v0, ix_I v1, ix_I v2] h = bJ14_copyOfRange (ix_run iy_P N d) (ix_lp (ix_run iy_P N d) stJ14_copyOfRange N) v0 v1 v2 h := (rfl : ix_run iy_P N (d + 1) 28 [ix_R v0, ix_I v1, ix_I v2] h = ix_fwd (ix_run iy_P N d) (ix_lp (ix_run iy_P N d) stJ14_copyOfRange N) stJ14_copyOfRange 0 [(0, ix_R v0), (1, ix_I v1), (2, ix_I v2)] [] h).trans (eJ14_copyOfRange _ _ v0 v1 v2 h)
def bJ14_copyOfRangeByte (cal : ix_C) (K : ix_K) (v0 : Option Nat) (v1 : Int32) (v2 : Int32) (h : ix_H) : ix_O :=
  (ix_rV (cal 30 [ix_I v1, ix_I v2] h)).bind fun r1 =>
  cond (ix_in (v2 - v1) 1000001) (
  ix_bd (ix_nwA r1 102 (v2 - v1).toNatClampNeg) fun h2 =>
    (ix_isr h2 102 v0).bind fun a3 =>
    (ix_rI (cal 25 [ix_I ((Int32.ofNat (ix_ln h2 a3)) - v1), ix_I (v2 - v1)] h2)).bind fun r4 =>
    (ix_is r4.2 102 v0).bind fun a5 => (ix_is r4.2 102 (some (ix_sz r1))).bind fun a6 =>
    if ¬ r4.1 < 0 ∧ ¬ (nI 0) < 0 ∧ ¬ v1 < 0 ∧ v1.toNatClampNeg + r4.1.toNatClampNeg ≤ ix_ln r4.2 a5 ∧ (nI 0).toNatClampNeg + r4.1.toNatClampNeg ≤ ix_ln r4.2 a6 ∧ 0 ≤ 8 then
      ix_bd (ix_cpI r4.2 a5 v1.toNatClampNeg a6 (nI 0).toNatClampNeg r4.1.toNatClampNeg) fun h7 =>
      some (.inl (some (ix_R (some (ix_sz r1)))), h7)
    else none) none
theorem eJ14_copyOfRangeByte (cal : ix_C) (K : ix_K) (v0 : Option Nat) (v1 : Int32) (v2 : Int32) (h : ix_H) : ix_fwd cal K stJ14_copyOfRangeByte 0 [(0, ix_R v0), (1, ix_I v1), (2, ix_I v2)] [] h = bJ14_copyOfRangeByte cal K v0 v1 v2 h := rfl
theorem rJ14_copyOfRangeByte (N d : Nat) (v0 : Option Nat) (v1 : Int32) (v2 : Int32) (h : ix_H) : ix_run iy_P N (d + 1) 29 [ix_R v0, ix_I v1, ix_I v2] h = bJ14_copyOfRangeByte (ix_run iy_P N d) (ix_lp (ix_run iy_P N d) stJ14_copyOfRangeByte N) v0 v1 v2 h := (rfl : ix_run iy_P N (d + 1) 29 [ix_R v0, ix_I v1, ix_I v2] h = ix_fwd (ix_run iy_P N d) (ix_lp (ix_run iy_P N d) stJ14_copyOfRangeByte N) stJ14_copyOfRangeByte 0 [(0, ix_R v0), (1, ix_I v1), (2, ix_I v2)] [] h).trans (eJ14_copyOfRangeByte _ _ v0 v1 v2 h)
def bJ14_checkLength (cal : ix_C) (K : ix_K) (v0 : Int32) (v1 : Int32) (h : ix_H) : ix_O :=
  if v0 ≤ v1 then
    some (.inl none, h)
  else
    none
theorem eJ14_checkLength (cal : ix_C) (K : ix_K) (v0 : Int32) (v1 : Int32) (h : ix_H) : ix_fwd cal K stJ14_checkLength 0 [(0, ix_I v0), (1, ix_I v1)] [] h = bJ14_checkLength cal K v0 v1 h := rfl
theorem rJ14_checkLength (N d : Nat) (v0 : Int32) (v1 : Int32) (h : ix_H) : ix_run iy_P N (d + 1) 30 [ix_I v0, ix_I v1] h = bJ14_checkLength (ix_run iy_P N d) (ix_lp (ix_run iy_P N d) stJ14_checkLength N) v0 v1 h := (rfl : ix_run iy_P N (d + 1) 30 [ix_I v0, ix_I v1] h = ix_fwd (ix_run iy_P N d) (ix_lp (ix_run iy_P N d) stJ14_checkLength N) stJ14_checkLength 0 [(0, ix_I v0), (1, ix_I v1)] [] h).trans (eJ14_checkLength _ _ v0 v1 h)
def bJ14_copyOf_2 (cal : ix_C) (K : ix_K) (v0 : Option Nat) (v1 : Int32) (h : ix_H) : ix_O :=
  (ix_is h 115 v0).bind fun _ =>
  (ix_rR (cal 32 [ix_R v0, ix_I v1, ix_R (some (ix_cs h 43))] h)).bind fun r1 =>
  some (.inl (some (ix_R r1.1)), r1.2)
theorem eJ14_copyOf_2 (cal : ix_C) (K : ix_K) (v0 : Option Nat) (v1 : Int32) (h : ix_H) : ix_fwd cal K stJ14_copyOf_2 0 [(0, ix_R v0), (1, ix_I v1)] [] h = bJ14_copyOf_2 cal K v0 v1 h := rfl
theorem rJ14_copyOf_2 (N d : Nat) (v0 : Option Nat) (v1 : Int32) (h : ix_H) : ix_run iy_P N (d + 1) 31 [ix_R v0, ix_I v1] h = bJ14_copyOf_2 (ix_run iy_P N d) (ix_lp (ix_run iy_P N d) stJ14_copyOf_2 N) v0 v1 h := (rfl : ix_run iy_P N (d + 1) 31 [ix_R v0, ix_I v1] h = ix_fwd (ix_run iy_P N d) (ix_lp (ix_run iy_P N d) stJ14_copyOf_2 N) stJ14_copyOf_2 0 [(0, ix_R v0), (1, ix_I v1)] [] h).trans (eJ14_copyOf_2 _ _ v0 v1 h)
def jJ14_copyOf_3_11 (cal : ix_C) (K : ix_K) (v0 : Option Nat) (v1 : Int32) (s0 : Option Nat) (h : ix_H) : ix_O :=
  (ix_isr h 115 v0).bind fun a2 =>
  (ix_rI (cal 25 [ix_I (Int32.ofNat (ix_ln h a2)), ix_I v1] h)).bind fun r3 =>
  (ix_is r3.2 115 v0).bind fun a4 => (ix_is r3.2 115 s0).bind fun a5 =>
  if ¬ r3.1 < 0 ∧ ¬ (nI 0) < 0 ∧ ¬ (nI 0) < 0 ∧ (nI 0).toNatClampNeg + r3.1.toNatClampNeg ≤ ix_ln r3.2 a4 ∧ (nI 0).toNatClampNeg + r3.1.toNatClampNeg ≤ ix_ln r3.2 a5 ∧ 0 ≤ 8 ∧ ∀ i, i < r3.1.toNatClampNeg → ix_of r3.2 [14, 15, 16, 9] (ix_aR r3.2 a4 ((nI 0).toNatClampNeg + i)) = true then
    ix_bd (ix_cpR r3.2 a4 (nI 0).toNatClampNeg a5 (nI 0).toNatClampNeg r3.1.toNatClampNeg) fun h6 =>
    some (.inl (some (ix_R s0)), h6)
  else none
theorem jJ14_copyOf_3_11_eq (cal : ix_C) (K : ix_K) (v0 : Option Nat) (v1 : Int32) (s0 : Option Nat) (h : ix_H) : ix_fwd cal K (stJ14_copyOf_3.drop 11) 0 [(0, ix_R v0), (1, ix_I v1)] [ix_R s0] h = jJ14_copyOf_3_11 cal K v0 v1 s0 h := rfl
def bJ14_copyOf_3 (cal : ix_C) (K : ix_K) (v0 : Option Nat) (v1 : Int32) (v2 : Option Nat) (h : ix_H) : ix_O :=
  if v2 = (some (ix_cs h 43)) then
    cond (ix_in v1 1000001) (
    ix_bd (ix_nwA h 115 v1.toNatClampNeg) fun h1 =>
      jJ14_copyOf_3_11 cal K v0 v1 (some (ix_sz h)) h1) none
  else
    none
theorem eJ14_copyOf_3 (cal : ix_C) (K : ix_K) (v0 : Option Nat) (v1 : Int32) (v2 : Option Nat) (h : ix_H) : ix_fwd cal K stJ14_copyOf_3 0 [(0, ix_R v0), (1, ix_I v1), (2, ix_R v2)] [] h = bJ14_copyOf_3 cal K v0 v1 v2 h := rfl
theorem rJ14_copyOf_3 (N d : Nat) (v0 : Option Nat) (v1 : Int32) (v2 : Option Nat) (h : ix_H) : ix_run iy_P N (d + 1) 32 [ix_R v0, ix_I v1, ix_R v2] h = bJ14_copyOf_3 (ix_run iy_P N d) (ix_lp (ix_run iy_P N d) stJ14_copyOf_3 N) v0 v1 v2 h := (rfl : ix_run iy_P N (d + 1) 32 [ix_R v0, ix_I v1, ix_R v2] h = ix_fwd (ix_run iy_P N d) (ix_lp (ix_run iy_P N d) stJ14_copyOf_3 N) stJ14_copyOf_3 0 [(0, ix_R v0), (1, ix_I v1), (2, ix_R v2)] [] h).trans (eJ14_copyOf_3 _ _ v0 v1 v2 h)
def bJ15_checkIndex (cal : ix_C) (K : ix_K) (v0 : Int32) (v1 : Int32) (h : ix_H) : ix_O :=
  (ix_rI (cal 62 [ix_I v0, ix_I v1, ix_R none] h)).bind fun r1 =>
  some (.inl (some (ix_I r1.1)), r1.2)
theorem eJ15_checkIndex (cal : ix_C) (K : ix_K) (v0 : Int32) (v1 : Int32) (h : ix_H) : ix_fwd cal K stJ15_checkIndex 0 [(0, ix_I v0), (1, ix_I v1)] [] h = bJ15_checkIndex cal K v0 v1 h := rfl
theorem rJ15_checkIndex (N d : Nat) (v0 : Int32) (v1 : Int32) (h : ix_H) : ix_run iy_P N (d + 1) 33 [ix_I v0, ix_I v1] h = bJ15_checkIndex (ix_run iy_P N d) (ix_lp (ix_run iy_P N d) stJ15_checkIndex N) v0 v1 h := (rfl : ix_run iy_P N (d + 1) 33 [ix_I v0, ix_I v1] h = ix_fwd (ix_run iy_P N d) (ix_lp (ix_run iy_P N d) stJ15_checkIndex N) stJ15_checkIndex 0 [(0, ix_I v0), (1, ix_I v1)] [] h).trans (eJ15_checkIndex _ _ v0 v1 h)
def bJ17_getUTF16Char (cal : ix_C) (K : ix_K) (v0 : Nat) (v1 : Option Nat) (v2 : Int32) (h : ix_H) : ix_O :=
  (ix_rI (cal 67 [ix_R v1, ix_I v2] h)).bind fun r1 =>
  cond (ix_okn 4 r1.1) (some (.inl (some (ix_I r1.1)), r1.2)) none
theorem eJ17_getUTF16Char (cal : ix_C) (K : ix_K) (v0 : Nat) (v1 : Option Nat) (v2 : Int32) (h : ix_H) : ix_fwd cal K stJ17_getUTF16Char 0 [(0, ix_R (some v0)), (1, ix_R v1), (2, ix_I v2)] [] h = bJ17_getUTF16Char cal K v0 v1 v2 h := rfl
theorem rJ17_getUTF16Char (N d : Nat) (v0 : Nat) (v1 : Option Nat) (v2 : Int32) (h : ix_H) : ix_run iy_P N (d + 1) 35 [ix_R (some v0), ix_R v1, ix_I v2] h = bJ17_getUTF16Char (ix_run iy_P N d) (ix_lp (ix_run iy_P N d) stJ17_getUTF16Char N) v0 v1 v2 h := (rfl : ix_run iy_P N (d + 1) 35 [ix_R (some v0), ix_R v1, ix_I v2] h = ix_fwd (ix_run iy_P N d) (ix_lp (ix_run iy_P N d) stJ17_getUTF16Char N) stJ17_getUTF16Char 0 [(0, ix_R (some v0)), (1, ix_R v1), (2, ix_I v2)] [] h).trans (eJ17_getUTF16Char _ _ v0 v1 v2 h)
def bJ2_init (cal : ix_C) (K : ix_K) (v0 : Nat) (v1 : Option Nat) (v2 : Option Nat) (v3 : Int32) (v4 : Int32) (h : ix_H) : ix_O :=
  (ix_isr h 2 (some v0)).bind fun a2 =>
  (ix_rV (cal 2 [ix_R (some a2), ix_R v1, ix_R v2, ix_I v3, ix_I v4] h)).bind fun r1 =>
  some (.inl none, r1)
theorem eJ2_init (cal : ix_C) (K : ix_K) (v0 : Nat) (v1 : Option Nat) (v2 : Option Nat) (v3 : Int32) (v4 : Int32) (h : ix_H) : ix_fwd cal K stJ2_init 0 [(0, ix_R (some v0)), (1, ix_R v1), (2, ix_R v2), (3, ix_I v3), (4, ix_I v4)] [] h = bJ2_init cal K v0 v1 v2 v3 v4 h := rfl
theorem rJ2_init (N d : Nat) (v0 : Nat) (v1 : Option Nat) (v2 : Option Nat) (v3 : Int32) (v4 : Int32) (h : ix_H) : ix_run iy_P N (d + 1) 36 [ix_R (some v0), ix_R v1, ix_R v2, ix_I v3, ix_I v4] h = bJ2_init (ix_run iy_P N d) (ix_lp (ix_run iy_P N d) stJ2_init N) v0 v1 v2 v3 v4 h := (rfl : ix_run iy_P N (d + 1) 36 [ix_R (some v0), ix_R v1, ix_R v2, ix_I v3, ix_I v4] h = ix_fwd (ix_run iy_P N d) (ix_lp (ix_run iy_P N d) stJ2_init N) stJ2_init 0 [(0, ix_R (some v0)), (1, ix_R v1), (2, ix_R v2), (3, ix_I v3), (4, ix_I v4)] [] h).trans (eJ2_init _ _ v0 v1 v2 v3 v4 h)
def bJ3_init (cal : ix_C) (K : ix_K) (v0 : Nat) (h : ix_H) : ix_O :=
  some (.inl none, h)
theorem eJ3_init (cal : ix_C) (K : ix_K) (v0 : Nat) (h : ix_H) : ix_fwd cal K stJ3_init 0 [(0, ix_R (some v0))] [] h = bJ3_init cal K v0 h := rfl
theorem rJ3_init (N d : Nat) (v0 : Nat) (h : ix_H) : ix_run iy_P N (d + 1) 37 [ix_R (some v0)] h = bJ3_init (ix_run iy_P N d) (ix_lp (ix_run iy_P N d) stJ3_init N) v0 h := (rfl : ix_run iy_P N (d + 1) 37 [ix_R (some v0)] h = ix_fwd (ix_run iy_P N d) (ix_lp (ix_run iy_P N d) stJ3_init N) stJ3_init 0 [(0, ix_R (some v0))] [] h).trans (eJ3_init _ _ v0 h)
def bJ4_init (cal : ix_C) (K : ix_K) (v0 : Nat) (h : ix_H) : ix_O :=
  (ix_isr h 18 (some v0)).bind fun a2 =>
  (ix_rV (cal 37 [ix_R (some a2)] h)).bind fun r1 =>
  (ix_is r1 18 (some v0)).bind fun a3 =>
  ix_bd (ix_wfI r1 a3 0 (nI 0)) fun h4 =>
  some (.inl none, h4)
theorem eJ4_init (cal : ix_C) (K : ix_K) (v0 : Nat) (h : ix_H) : ix_fwd cal K stJ4_init 0 [(0, ix_R (some v0))] [] h = bJ4_init cal K v0 h := rfl
theorem rJ4_init (N d : Nat) (v0 : Nat) (h : ix_H) : ix_run iy_P N (d + 1) 38 [ix_R (some v0)] h = bJ4_init (ix_run iy_P N d) (ix_lp (ix_run iy_P N d) stJ4_init N) v0 h := (rfl : ix_run iy_P N (d + 1) 38 [ix_R (some v0)] h = ix_fwd (ix_run iy_P N d) (ix_lp (ix_run iy_P N d) stJ4_init N) stJ4_init 0 [(0, ix_R (some v0))] [] h).trans (eJ4_init _ _ v0 h)
def bJ5_init (cal : ix_C) (K : ix_K) (v0 : Nat) (h : ix_H) : ix_O :=
  (ix_isr h 18 (some v0)).bind fun a2 =>
  (ix_rV (cal 38 [ix_R (some a2)] h)).bind fun r1 =>
  (ix_is r1 18 (some v0)).bind fun a3 =>
  ix_bd (ix_wfR r1 a3 1 (some (ix_cs r1 40))) fun h4 =>
  some (.inl none, h4)
theorem eJ5_init (cal : ix_C) (K : ix_K) (v0 : Nat) (h : ix_H) : ix_fwd cal K stJ5_init 0 [(0, ix_R (some v0))] [] h = bJ5_init cal K v0 h := rfl
theorem rJ5_init (N d : Nat) (v0 : Nat) (h : ix_H) : ix_run iy_P N (d + 1) 39 [ix_R (some v0)] h = bJ5_init (ix_run iy_P N d) (ix_lp (ix_run iy_P N d) stJ5_init N) v0 h := (rfl : ix_run iy_P N (d + 1) 39 [ix_R (some v0)] h = ix_fwd (ix_run iy_P N d) (ix_lp (ix_run iy_P N d) stJ5_init N) stJ5_init 0 [(0, ix_R (some v0))] [] h).trans (eJ5_init _ _ v0 h)
def bJ5_add (cal : ix_C) (K : ix_K) (v0 : Nat) (v1 : Option Nat) (h : ix_H) : ix_O :=
  (ix_is h 18 (some v0)).bind fun a1 =>
  (ix_is h 18 (some v0)).bind fun a2 =>
  ix_bd (ix_wfI h a2 0 ((ix_fI h a1 0) + (nI 1))) fun h3 =>
  (ix_is h3 18 (some v0)).bind fun a4 =>
  (ix_is h3 18 (some v0)).bind fun a5 =>
  (ix_isr h3 18 (some v0)).bind fun a7 =>
  (ix_rV (cal 41 [ix_R (some a7), ix_R v1, ix_R (ix_fR h3 a4 1), ix_I (ix_fI h3 a5 2)] h3)).bind fun r6 =>
  cond (ix_okn 1 (nI 1)) (some (.inl (some (ix_I (nI 1))), r6)) none
theorem eJ5_add (cal : ix_C) (K : ix_K) (v0 : Nat) (v1 : Option Nat) (h : ix_H) : ix_fwd cal K stJ5_add 0 [(0, ix_R (some v0)), (1, ix_R v1)] [] h = bJ5_add cal K v0 v1 h := rfl
theorem rJ5_add (N d : Nat) (v0 : Nat) (v1 : Option Nat) (h : ix_H) : ix_run iy_P N (d + 1) 40 [ix_R (some v0), ix_R v1] h = bJ5_add (ix_run iy_P N d) (ix_lp (ix_run iy_P N d) stJ5_add N) v0 v1 h := (rfl : ix_run iy_P N (d + 1) 40 [ix_R (some v0), ix_R v1] h = ix_fwd (ix_run iy_P N d) (ix_lp (ix_run iy_P N d) stJ5_add N) stJ5_add 0 [(0, ix_R (some v0)), (1, ix_R v1)] [] h).trans (eJ5_add _ _ v0 v1 h)
def jJ5_add_2_7 (cal : ix_C) (K : ix_K) (v0 : Nat) (v1 : Option Nat) (v2 : Option Nat) (v3 : Int32) (h : ix_H) : ix_O :=
  (ix_at h 115 v2 v3).bind fun a2 =>
  cond (ix_of h [14, 15, 16, 9] v1) (
  ix_bd (ix_waR h a2 v3.toNatClampNeg v1) fun h3 =>
    (ix_is h3 18 (some v0)).bind fun a4 =>
    ix_bd (ix_wfI h3 a4 2 (v3 + (nI 1))) fun h5 =>
    some (.inl none, h5)) none
theorem jJ5_add_2_7_eq (cal : ix_C) (K : ix_K) (v0 : Nat) (v1 : Option Nat) (v2 : Option Nat) (v3 : Int32) (h : ix_H) : ix_fwd cal K (stJ5_add_2.drop 7) 0 [(0, ix_R (some v0)), (1, ix_R v1), (2, ix_R v2), (3, ix_I v3)] [] h = jJ5_add_2_7 cal K v0 v1 v2 v3 h := rfl
def bJ5_add_2 (cal : ix_C) (K : ix_K) (v0 : Nat) (v1 : Option Nat) (v2 : Option Nat) (v3 : Int32) (h : ix_H) : ix_O :=
  (ix_isr h 115 v2).bind fun a1 =>
  if v3 = (Int32.ofNat (ix_ln h a1)) then
    (ix_isr h 18 (some v0)).bind fun a7 =>
    (ix_rR (cal 42 [ix_R (some a7)] h)).bind fun r6 =>
    jJ5_add_2_7 cal K v0 v1 r6.1 v3 r6.2
  else
    jJ5_add_2_7 cal K v0 v1 v2 v3 h
theorem eJ5_add_2 (cal : ix_C) (K : ix_K) (v0 : Nat) (v1 : Option Nat) (v2 : Option Nat) (v3 : Int32) (h : ix_H) : ix_fwd cal K stJ5_add_2 0 [(0, ix_R (some v0)), (1, ix_R v1), (2, ix_R v2), (3, ix_I v3)] [] h = bJ5_add_2 cal K v0 v1 v2 v3 h := rfl
theorem rJ5_add_2 (N d : Nat) (v0 : Nat) (v1 : Option Nat) (v2 : Option Nat) (v3 : Int32) (h : ix_H) : ix_run iy_P N (d + 1) 41 [ix_R (some v0), ix_R v1, ix_R v2, ix_I v3] h = bJ5_add_2 (ix_run iy_P N d) (ix_lp (ix_run iy_P N d) stJ5_add_2 N) v0 v1 v2 v3 h := (rfl : ix_run iy_P N (d + 1) 41 [ix_R (some v0), ix_R v1, ix_R v2, ix_I v3] h = ix_fwd (ix_run iy_P N d) (ix_lp (ix_run iy_P N d) stJ5_add_2 N) stJ5_add_2 0 [(0, ix_R (some v0)), (1, ix_R v1), (2, ix_R v2), (3, ix_I v3)] [] h).trans (eJ5_add_2 _ _ v0 v1 v2 v3 h)
def bJ5_grow (cal : ix_C) (K : ix_K) (v0 : Nat) (h : ix_H) : ix_O :=
  (ix_is h 18 (some v0)).bind fun a1 =>
  (ix_isr h 18 (some v0)).bind fun a3 =>
  (ix_rR (cal 43 [ix_R (some a3), ix_I ((ix_fI h a1 2) + (nI 1))] h)).bind fun r2 =>
  some (.inl (some (ix_R r2.1)), r2.2)
theorem eJ5_grow (cal : ix_C) (K : ix_K) (v0 : Nat) (h : ix_H) : ix_fwd cal K stJ5_grow 0 [(0, ix_R (some v0))] [] h = bJ5_grow cal K v0 h := rfl
theorem rJ5_grow (N d : Nat) (v0 : Nat) (h : ix_H) : ix_run iy_P N (d + 1) 42 [ix_R (some v0)] h = bJ5_grow (ix_run iy_P N d) (ix_lp (ix_run iy_P N d) stJ5_grow N) v0 h := (rfl : ix_run iy_P N (d + 1) 42 [ix_R (some v0)] h = ix_fwd (ix_run iy_P N d) (ix_lp (ix_run iy_P N d) stJ5_grow N) stJ5_grow 0 [(0, ix_R (some v0))] [] h).trans (eJ5_grow _ _ v0 h)
def jJ5_grow_2_10 (cal : ix_C) (K : ix_K) (v0 : Nat) (v1 : Int32) (v2 : Int32) (h : ix_H) : ix_O :=
  (ix_rI (cal 15 [ix_I v2, ix_I (v1 - v2), ix_I (v2 >>> ((nI 1) &&& 31))] h)).bind fun r3 =>
  (ix_is r3.2 18 (some v0)).bind fun a4 =>
  (ix_rR (cal 31 [ix_R (ix_fR r3.2 a4 1), ix_I r3.1] r3.2)).bind fun r5 =>
  (ix_is r5.2 18 (some v0)).bind fun a6 =>
  ix_bd (ix_wfR r5.2 a6 1 r5.1) fun h7 =>
  some (.inl (some (ix_R r5.1)), h7)
theorem jJ5_grow_2_10_eq (cal : ix_C) (K : ix_K) (v0 : Nat) (v1 : Int32) (v2 : Int32) (h : ix_H) : ix_fwd cal K (stJ5_grow_2.drop 10) 0 [(0, ix_R (some v0)), (1, ix_I v1), (2, ix_I v2)] [] h = jJ5_grow_2_10 cal K v0 v1 v2 h := rfl
def bJ5_grow_2 (cal : ix_C) (K : ix_K) (v0 : Nat) (v1 : Int32) (h : ix_H) : ix_O :=
  (ix_is h 18 (some v0)).bind fun a1 =>
  (ix_isr h 115 (ix_fR h a1 1)).bind fun a2 =>
  if nI 0 < (Int32.ofNat (ix_ln h a2)) then
    jJ5_grow_2_10 cal K v0 v1 (Int32.ofNat (ix_ln h a2)) h
  else
    (ix_is h 18 (some v0)).bind fun a8 =>
    if (ix_fR h a8 1) = (some (ix_cs h 40)) then
      (ix_rI (cal 24 [ix_I (nI 10), ix_I v1] h)).bind fun r9 =>
      cond (ix_in r9.1 1000001) (
      ix_bd (ix_nwA r9.2 115 r9.1.toNatClampNeg) fun h10 =>
        (ix_is h10 18 (some v0)).bind fun a11 =>
        ix_bd (ix_wfR h10 a11 1 (some (ix_sz r9.2))) fun h12 =>
        some (.inl (some (ix_R (some (ix_sz r9.2)))), h12)) none
    else
      jJ5_grow_2_10 cal K v0 v1 (Int32.ofNat (ix_ln h a2)) h
theorem eJ5_grow_2 (cal : ix_C) (K : ix_K) (v0 : Nat) (v1 : Int32) (h : ix_H) : ix_fwd cal K stJ5_grow_2 0 [(0, ix_R (some v0)), (1, ix_I v1)] [] h = bJ5_grow_2 cal K v0 v1 h := rfl
theorem rJ5_grow_2 (N d : Nat) (v0 : Nat) (v1 : Int32) (h : ix_H) : ix_run iy_P N (d + 1) 43 [ix_R (some v0), ix_I v1] h = bJ5_grow_2 (ix_run iy_P N d) (ix_lp (ix_run iy_P N d) stJ5_grow_2 N) v0 v1 h := (rfl : ix_run iy_P N (d + 1) 43 [ix_R (some v0), ix_I v1] h = ix_fwd (ix_run iy_P N d) (ix_lp (ix_run iy_P N d) stJ5_grow_2 N) stJ5_grow_2 0 [(0, ix_R (some v0)), (1, ix_I v1)] [] h).trans (eJ5_grow_2 _ _ v0 v1 h)
def bJ5_size (cal : ix_C) (K : ix_K) (v0 : Nat) (h : ix_H) : ix_O :=
  (ix_is h 18 (some v0)).bind fun a1 =>
  some (.inl (some (ix_I (ix_fI h a1 2))), h)
theorem eJ5_size (cal : ix_C) (K : ix_K) (v0 : Nat) (h : ix_H) : ix_fwd cal K stJ5_size 0 [(0, ix_R (some v0))] [] h = bJ5_size cal K v0 h := rfl
theorem rJ5_size (N d : Nat) (v0 : Nat) (h : ix_H) : ix_run iy_P N (d + 1) 44 [ix_R (some v0)] h = bJ5_size (ix_run iy_P N d) (ix_lp (ix_run iy_P N d) stJ5_size N) v0 h := (rfl : ix_run iy_P N (d + 1) 44 [ix_R (some v0)] h = ix_fwd (ix_run iy_P N d) (ix_lp (ix_run iy_P N d) stJ5_size N) stJ5_size 0 [(0, ix_R (some v0))] [] h).trans (eJ5_size _ _ v0 h)
def bJ5_get (cal : ix_C) (K : ix_K) (v0 : Nat) (v1 : Int32) (h : ix_H) : ix_O :=
  (ix_is h 18 (some v0)).bind fun a1 =>
  (ix_rI (cal 33 [ix_I v1, ix_I (ix_fI h a1 2)] h)).bind fun r2 =>
  (ix_isr r2.2 18 (some v0)).bind fun a4 =>
  (ix_rR (cal 46 [ix_R (some a4), ix_I v1] r2.2)).bind fun r3 =>
  some (.inl (some (ix_R r3.1)), r3.2)
theorem eJ5_get (cal : ix_C) (K : ix_K) (v0 : Nat) (v1 : Int32) (h : ix_H) : ix_fwd cal K stJ5_get 0 [(0, ix_R (some v0)), (1, ix_I v1)] [] h = bJ5_get cal K v0 v1 h := rfl
theorem rJ5_get (N d : Nat) (v0 : Nat) (v1 : Int32) (h : ix_H) : ix_run iy_P N (d + 1) 45 [ix_R (some v0), ix_I v1] h = bJ5_get (ix_run iy_P N d) (ix_lp (ix_run iy_P N d) stJ5_get N) v0 v1 h := (rfl : ix_run iy_P N (d + 1) 45 [ix_R (some v0), ix_I v1] h = ix_fwd (ix_run iy_P N d) (ix_lp (ix_run iy_P N d) stJ5_get N) stJ5_get 0 [(0, ix_R (some v0)), (1, ix_I v1)] [] h).trans (eJ5_get _ _ v0 v1 h)
def bJ5_elementData (cal : ix_C) (K : ix_K) (v0 : Nat) (v1 : Int32) (h : ix_H) : ix_O :=
  (ix_is h 18 (some v0)).bind fun a1 =>
  (ix_atr h 115 (ix_fR h a1 1) v1).bind fun a2 =>
  some (.inl (some (ix_R (ix_aR h a2 v1.toNatClampNeg))), h)
theorem eJ5_elementData (cal : ix_C) (K : ix_K) (v0 : Nat) (v1 : Int32) (h : ix_H) : ix_fwd cal K stJ5_elementData 0 [(0, ix_R (some v0)), (1, ix_I v1)] [] h = bJ5_elementData cal K v0 v1 h := rfl
theorem rJ5_elementData (N d : Nat) (v0 : Nat) (v1 : Int32) (h : ix_H) : ix_run iy_P N (d + 1) 46 [ix_R (some v0), ix_I v1] h = bJ5_elementData (ix_run iy_P N d) (ix_lp (ix_run iy_P N d) stJ5_elementData N) v0 v1 h := (rfl : ix_run iy_P N (d + 1) 46 [ix_R (some v0), ix_I v1] h = ix_fwd (ix_run iy_P N d) (ix_lp (ix_run iy_P N d) stJ5_elementData N) stJ5_elementData 0 [(0, ix_R (some v0)), (1, ix_I v1)] [] h).trans (eJ5_elementData _ _ v0 v1 h)
def bJ6_length (cal : ix_C) (K : ix_K) (v0 : Nat) (h : ix_H) : ix_O :=
  (ix_isr h 19 (some v0)).bind fun a1 =>
  (ix_isr h 102 (ix_fR h a1 0)).bind fun a2 =>
  (ix_isr h 19 (some v0)).bind fun a4 =>
  (ix_rI (cal 48 [ix_R (some a4)] h)).bind fun r3 =>
  some (.inl (some (ix_I ((Int32.ofNat (ix_ln h a2)) >>> (r3.1 &&& 31)))), r3.2)
theorem eJ6_length (cal : ix_C) (K : ix_K) (v0 : Nat) (h : ix_H) : ix_fwd cal K stJ6_length 0 [(0, ix_R (some v0))] [] h = bJ6_length cal K v0 h := rfl
theorem rJ6_length (N d : Nat) (v0 : Nat) (h : ix_H) : ix_run iy_P N (d + 1) 47 [ix_R (some v0)] h = bJ6_length (ix_run iy_P N d) (ix_lp (ix_run iy_P N d) stJ6_length N) v0 h := (rfl : ix_run iy_P N (d + 1) 47 [ix_R (some v0)] h = ix_fwd (ix_run iy_P N d) (ix_lp (ix_run iy_P N d) stJ6_length N) stJ6_length 0 [(0, ix_R (some v0))] [] h).trans (eJ6_length _ _ v0 h)
def jJ6_coder_6 (cal : ix_C) (K : ix_K) (s0 : Int32) (h : ix_H) : ix_O :=
  cond (ix_okn 2 s0) (some (.inl (some (ix_I s0)), h)) none
theorem jJ6_coder_6_eq (cal : ix_C) (K : ix_K) (s0 : Int32) (h : ix_H) : ix_fwd cal K (stJ6_coder.drop 6) 0 [] [ix_I s0] h = jJ6_coder_6 cal K s0 h := rfl
def bJ6_coder (cal : ix_C) (K : ix_K) (v0 : Nat) (h : ix_H) : ix_O :=
  if (nI 1) = nI 0 then
    jJ6_coder_6 cal K (nI 1) h
  else
    (ix_isr h 19 (some v0)).bind fun a1 =>
    jJ6_coder_6 cal K (ix_fI h a1 1) h
theorem eJ6_coder (cal : ix_C) (K : ix_K) (v0 : Nat) (h : ix_H) : ix_fwd cal K stJ6_coder 0 [(0, ix_R (some v0))] [] h = bJ6_coder cal K v0 h := rfl
theorem rJ6_coder (N d : Nat) (v0 : Nat) (h : ix_H) : ix_run iy_P N (d + 1) 48 [ix_R (some v0)] h = bJ6_coder (ix_run iy_P N d) (ix_lp (ix_run iy_P N d) stJ6_coder N) v0 h := (rfl : ix_run iy_P N (d + 1) 48 [ix_R (some v0)] h = ix_fwd (ix_run iy_P N d) (ix_lp (ix_run iy_P N d) stJ6_coder N) stJ6_coder 0 [(0, ix_R (some v0))] [] h).trans (eJ6_coder _ _ v0 h)
def bJ6_charAt (cal : ix_C) (K : ix_K) (v0 : Nat) (v1 : Int32) (h : ix_H) : ix_O :=
  (ix_isr h 19 (some v0)).bind fun a2 =>
  (ix_rI (cal 50 [ix_R (some a2)] h)).bind fun r1 =>
  if r1.1 = nI 0 then
    (ix_isr r1.2 19 (some v0)).bind fun a3 =>
    (ix_rI (cal 64 [ix_R (ix_fR r1.2 a3 0), ix_I v1] r1.2)).bind fun r4 =>
    cond (ix_okn 4 r4.1) (some (.inl (some (ix_I r4.1)), r4.2)) none
  else
    (ix_isr r1.2 19 (some v0)).bind fun a5 =>
    (ix_rI (cal 57 [ix_R (ix_fR r1.2 a5 0), ix_I v1] r1.2)).bind fun r6 =>
    cond (ix_okn 4 r6.1) (some (.inl (some (ix_I r6.1)), r6.2)) none
theorem eJ6_charAt (cal : ix_C) (K : ix_K) (v0 : Nat) (v1 : Int32) (h : ix_H) : ix_fwd cal K stJ6_charAt 0 [(0, ix_R (some v0)), (1, ix_I v1)] [] h = bJ6_charAt cal K v0 v1 h := rfl
theorem rJ6_charAt (N d : Nat) (v0 : Nat) (v1 : Int32) (h : ix_H) : ix_run iy_P N (d + 1) 49 [ix_R (some v0), ix_I v1] h = bJ6_charAt (ix_run iy_P N d) (ix_lp (ix_run iy_P N d) stJ6_charAt N) v0 v1 h := (rfl : ix_run iy_P N (d + 1) 49 [ix_R (some v0), ix_I v1] h = ix_fwd (ix_run iy_P N d) (ix_lp (ix_run iy_P N d) stJ6_charAt N) stJ6_charAt 0 [(0, ix_R (some v0)), (1, ix_I v1)] [] h).trans (eJ6_charAt _ _ v0 v1 h)
def jJ6_isLatin1_9 (cal : ix_C) (K : ix_K) (s0 : Int32) (h : ix_H) : ix_O :=
  cond (ix_okn 1 s0) (some (.inl (some (ix_I s0)), h)) none
theorem jJ6_isLatin1_9_eq (cal : ix_C) (K : ix_K) (s0 : Int32) (h : ix_H) : ix_fwd cal K (stJ6_isLatin1.drop 9) 0 [] [ix_I s0] h = jJ6_isLatin1_9 cal K s0 h := rfl
def jJ6_isLatin1_7 (cal : ix_C) (K : ix_K) (h : ix_H) : ix_O :=
  jJ6_isLatin1_9 cal K (nI 0) h
theorem jJ6_isLatin1_7_eq (cal : ix_C) (K : ix_K) (h : ix_H) : ix_fwd cal K (stJ6_isLatin1.drop 7) 0 [] [] h = jJ6_isLatin1_7 cal K h := rfl
def bJ6_isLatin1 (cal : ix_C) (K : ix_K) (v0 : Nat) (h : ix_H) : ix_O :=
  if (nI 1) = nI 0 then
    jJ6_isLatin1_7 cal K h
  else
    (ix_isr h 19 (some v0)).bind fun a1 =>
    if (ix_fI h a1 1) = nI 0 then
      jJ6_isLatin1_9 cal K (nI 1) h
    else
      jJ6_isLatin1_7 cal K h
theorem eJ6_isLatin1 (cal : ix_C) (K : ix_K) (v0 : Nat) (h : ix_H) : ix_fwd cal K stJ6_isLatin1 0 [(0, ix_R (some v0))] [] h = bJ6_isLatin1 cal K v0 h := rfl
theorem rJ6_isLatin1 (N d : Nat) (v0 : Nat) (h : ix_H) : ix_run iy_P N (d + 1) 50 [ix_R (some v0)] h = bJ6_isLatin1 (ix_run iy_P N d) (ix_lp (ix_run iy_P N d) stJ6_isLatin1 N) v0 h := (rfl : ix_run iy_P N (d + 1) 50 [ix_R (some v0)] h = ix_fwd (ix_run iy_P N d) (ix_lp (ix_run iy_P N d) stJ6_isLatin1 N) stJ6_isLatin1 0 [(0, ix_R (some v0))] [] h).trans (eJ6_isLatin1 _ _ v0 h)
def bJ6_checkIndex (cal : ix_C) (K : ix_K) (v0 : Int32) (v1 : Int32) (h : ix_H) : ix_O :=
  (ix_rI (cal 62 [ix_I v0, ix_I v1, ix_R (some (ix_cs h 44))] h)).bind fun r1 =>
  some (.inl none, r1.2)
theorem eJ6_checkIndex (cal : ix_C) (K : ix_K) (v0 : Int32) (v1 : Int32) (h : ix_H) : ix_fwd cal K stJ6_checkIndex 0 [(0, ix_I v0), (1, ix_I v1)] [] h = bJ6_checkIndex cal K v0 v1 h := rfl
theorem rJ6_checkIndex (N d : Nat) (v0 : Int32) (v1 : Int32) (h : ix_H) : ix_run iy_P N (d + 1) 51 [ix_I v0, ix_I v1] h = bJ6_checkIndex (ix_run iy_P N d) (ix_lp (ix_run iy_P N d) stJ6_checkIndex N) v0 v1 h := (rfl : ix_run iy_P N (d + 1) 51 [ix_I v0, ix_I v1] h = ix_fwd (ix_run iy_P N d) (ix_lp (ix_run iy_P N d) stJ6_checkIndex N) stJ6_checkIndex 0 [(0, ix_I v0), (1, ix_I v1)] [] h).trans (eJ6_checkIndex _ _ v0 v1 h)
def bJ6_checkBoundsOffCount (cal : ix_C) (K : ix_K) (v0 : Int32) (v1 : Int32) (v2 : Int32) (h : ix_H) : ix_O :=
  (ix_rI (cal 63 [ix_I v0, ix_I v1, ix_I v2, ix_R (some (ix_cs h 44))] h)).bind fun r1 =>
  some (.inl (some (ix_I r1.1)), r1.2)
theorem eJ6_checkBoundsOffCount (cal : ix_C) (K : ix_K) (v0 : Int32) (v1 : Int32) (v2 : Int32) (h : ix_H) : ix_fwd cal K stJ6_checkBoundsOffCount 0 [(0, ix_I v0), (1, ix_I v1), (2, ix_I v2)] [] h = bJ6_checkBoundsOffCount cal K v0 v1 v2 h := rfl
theorem rJ6_checkBoundsOffCount (N d : Nat) (v0 : Int32) (v1 : Int32) (v2 : Int32) (h : ix_H) : ix_run iy_P N (d + 1) 52 [ix_I v0, ix_I v1, ix_I v2] h = bJ6_checkBoundsOffCount (ix_run iy_P N d) (ix_lp (ix_run iy_P N d) stJ6_checkBoundsOffCount N) v0 v1 v2 h := (rfl : ix_run iy_P N (d + 1) 52 [ix_I v0, ix_I v1, ix_I v2] h = ix_fwd (ix_run iy_P N d) (ix_lp (ix_run iy_P N d) stJ6_checkBoundsOffCount N) stJ6_checkBoundsOffCount 0 [(0, ix_I v0), (1, ix_I v1), (2, ix_I v2)] [] h).trans (eJ6_checkBoundsOffCount _ _ v0 v1 v2 h)
def bJ6_init (cal : ix_C) (K : ix_K) (v0 : Nat) (v1 : Option Nat) (h : ix_H) : ix_O :=
  (ix_isr h 19 (some v0)).bind fun a2 =>
  (ix_rV (cal 54 [ix_R (some a2), ix_R v1, ix_R none] h)).bind fun r1 =>
  some (.inl none, r1)
theorem eJ6_init (cal : ix_C) (K : ix_K) (v0 : Nat) (v1 : Option Nat) (h : ix_H) : ix_fwd cal K stJ6_init 0 [(0, ix_R (some v0)), (1, ix_R v1)] [] h = bJ6_init cal K v0 v1 h := rfl
theorem rJ6_init (N d : Nat) (v0 : Nat) (v1 : Option Nat) (h : ix_H) : ix_run iy_P N (d + 1) 53 [ix_R (some v0), ix_R v1] h = bJ6_init (ix_run iy_P N d) (ix_lp (ix_run iy_P N d) stJ6_init N) v0 v1 h := (rfl : ix_run iy_P N (d + 1) 53 [ix_R (some v0), ix_R v1] h = ix_fwd (ix_run iy_P N d) (ix_lp (ix_run iy_P N d) stJ6_init N) stJ6_init 0 [(0, ix_R (some v0)), (1, ix_R v1)] [] h).trans (eJ6_init _ _ v0 v1 h)
def jJ6_init_2_51 (cal : ix_C) (K : ix_K) (h : ix_H) : ix_O :=
  some (.inl none, h)
theorem jJ6_init_2_51_eq (cal : ix_C) (K : ix_K) (h : ix_H) : ix_fwd cal K (stJ6_init_2.drop 51) 0 [] [] h = jJ6_init_2_51 cal K h := rfl
def jJ6_init_2_39 (cal : ix_C) (K : ix_K) (v0 : Nat) (v3 : Option Nat) (v4 : Int32) (h : ix_H) : ix_O :=
  (ix_is h 19 (some v0)).bind fun a8 =>
  cond (ix_okn 2 (nI 1)) (
  ix_bd (ix_wfI h a8 1 (nI 1)) fun h9 =>
    (ix_rR (cal 28 [ix_R v3, ix_I (nI 0), ix_I (v4 <<< ((nI 1) &&& 31))] h9)).bind fun r10 =>
    (ix_is r10.2 19 (some v0)).bind fun a11 =>
    ix_bd (ix_wfR r10.2 a11 0 r10.1) fun h12 =>
    jJ6_init_2_51 cal K h12) none
theorem jJ6_init_2_39_eq (cal : ix_C) (K : ix_K) (v0 : Nat) (v3 : Option Nat) (v4 : Int32) (h : ix_H) : ix_fwd cal K (stJ6_init_2.drop 39) 0 [(0, ix_R (some v0)), (3, ix_R v3), (4, ix_I v4)] [] h = jJ6_init_2_39 cal K v0 v3 v4 h := rfl
def bJ6_init_2 (cal : ix_C) (K : ix_K) (v0 : Nat) (v1 : Option Nat) (v2 : Option Nat) (h : ix_H) : ix_O :=
  (ix_isr h 20 v1).bind fun a3 =>
  (ix_rR (cal 9 [ix_R (some a3)] h)).bind fun r2 =>
  (ix_isr r2.2 20 v1).bind fun a5 =>
  (ix_rI (cal 14 [ix_R (some a5)] r2.2)).bind fun r4 =>
  (ix_isr r4.2 20 v1).bind fun a7 =>
  (ix_rI (cal 7 [ix_R (some a7)] r4.2)).bind fun r6 =>
  if r6.1 = nI 0 then
    if (nI 1) = nI 0 then
      jJ6_init_2_39 cal K v0 r2.1 r4.1 r6.2
    else
      (ix_is r6.2 20 v1).bind fun a13 =>
      if (ix_fI r6.2 a13 2) = nI 0 then
        jJ6_init_2_39 cal K v0 r2.1 r4.1 r6.2
      else
        (ix_rR (cal 74 [ix_R r2.1, ix_I (nI 0), ix_I r4.1] r6.2)).bind fun r14 =>
        (ix_is r14.2 19 (some v0)).bind fun a15 =>
        ix_bd (ix_wfR r14.2 a15 0 r14.1) fun h16 =>
        (ix_isr h16 19 (some v0)).bind fun a17 =>
        (ix_rI (cal 76 [ix_R (ix_fR h16 a17 0), ix_I r4.1] h16)).bind fun r18 =>
        (ix_is r18.2 19 (some v0)).bind fun a19 =>
        cond (ix_okn 2 r18.1) (
        ix_bd (ix_wfI r18.2 a19 1 r18.1) fun h20 =>
          some (.inl none, h20)) none
  else
    (ix_is r6.2 19 (some v0)).bind fun a21 =>
    cond (ix_okn 2 (nI 0)) (
    ix_bd (ix_wfI r6.2 a21 1 (nI 0)) fun h22 =>
      (ix_rR (cal 28 [ix_R r2.1, ix_I (nI 0), ix_I r4.1] h22)).bind fun r23 =>
      (ix_is r23.2 19 (some v0)).bind fun a24 =>
      ix_bd (ix_wfR r23.2 a24 0 r23.1) fun h25 =>
      jJ6_init_2_51 cal K h25) none
theorem eJ6_init_2 (cal : ix_C) (K : ix_K) (v0 : Nat) (v1 : Option Nat) (v2 : Option Nat) (h : ix_H) : ix_fwd cal K stJ6_init_2 0 [(0, ix_R (some v0)), (1, ix_R v1), (2, ix_R v2)] [] h = bJ6_init_2 cal K v0 v1 v2 h := rfl
theorem rJ6_init_2 (N d : Nat) (v0 : Nat) (v1 : Option Nat) (v2 : Option Nat) (h : ix_H) : ix_run iy_P N (d + 1) 54 [ix_R (some v0), ix_R v1, ix_R v2] h = bJ6_init_2 (ix_run iy_P N d) (ix_lp (ix_run iy_P N d) stJ6_init_2 N) v0 v1 v2 h := (rfl : ix_run iy_P N (d + 1) 54 [ix_R (some v0), ix_R v1, ix_R v2] h = ix_fwd (ix_run iy_P N d) (ix_lp (ix_run iy_P N d) stJ6_init_2 N) stJ6_init_2 0 [(0, ix_R (some v0)), (1, ix_R v1), (2, ix_R v2)] [] h).trans (eJ6_init_2 _ _ v0 v1 v2 h)
def jJ6_equals_29 (cal : ix_C) (K : ix_K) (s0 : Int32) (h : ix_H) : ix_O :=
  cond (ix_okn 1 s0) (some (.inl (some (ix_I s0)), h)) none
theorem jJ6_equals_29_eq (cal : ix_C) (K : ix_K) (s0 : Int32) (h : ix_H) : ix_fwd cal K (stJ6_equals.drop 29) 0 [] [ix_I s0] h = jJ6_equals_29 cal K s0 h := rfl
def jJ6_equals_27 (cal : ix_C) (K : ix_K) (h : ix_H) : ix_O :=
  jJ6_equals_29 cal K (nI 0) h
theorem jJ6_equals_27_eq (cal : ix_C) (K : ix_K) (h : ix_H) : ix_fwd cal K (stJ6_equals.drop 27) 0 [] [] h = jJ6_equals_27 cal K h := rfl
def jJ6_equals_18 (cal : ix_C) (K : ix_K) (v0 : Nat) (v2 : Option Nat) (h : ix_H) : ix_O :=
  (ix_isr h 19 (some v0)).bind fun a2 =>
  (ix_isr h 19 v2).bind fun a3 =>
  (ix_rI (cal 60 [ix_R (ix_fR h a2 0), ix_R (ix_fR h a3 0)] h)).bind fun r4 =>
  if r4.1 = nI 0 then
    jJ6_equals_27 cal K r4.2
  else
    jJ6_equals_29 cal K (nI 1) r4.2
theorem jJ6_equals_18_eq (cal : ix_C) (K : ix_K) (v0 : Nat) (v2 : Option Nat) (h : ix_H) : ix_fwd cal K (stJ6_equals.drop 18) 0 [(0, ix_R (some v0)), (2, ix_R v2)] [] h = jJ6_equals_18 cal K v0 v2 h := rfl
def bJ6_equals (cal : ix_C) (K : ix_K) (v0 : Nat) (v1 : Nat) (h : ix_H) : ix_O :=
  if (some v0) = (some v1) then
    cond (ix_okn 1 (nI 1)) (some (.inl (some (ix_I (nI 1))), h)) none
  else
    (some v1).bind fun a1 => cond (([19] : List Nat).any (fun t => Nat.beq (ix_tg h a1 % 512) t)) (
      if (1 : Int32) = nI 0 then
        jJ6_equals_27 cal K h
      else
        cond (ix_of h [19, 531] (some v1)) (
          if (nI 1) = nI 0 then
            jJ6_equals_18 cal K v0 (some v1) h
          else
            (ix_isr h 19 (some v0)).bind fun a5 =>
            (ix_isr h 19 (some v1)).bind fun a6 =>
            if (ix_fI h a5 1) = (ix_fI h a6 1) then
              jJ6_equals_18 cal K v0 (some v1) h
            else
              jJ6_equals_27 cal K h) none) none
theorem eJ6_equals (cal : ix_C) (K : ix_K) (v0 : Nat) (v1 : Nat) (h : ix_H) : ix_fwd cal K stJ6_equals 0 [(0, ix_R (some v0)), (1, ix_R (some v1))] [] h = bJ6_equals cal K v0 v1 h := rfl
theorem rJ6_equals (N d : Nat) (v0 : Nat) (v1 : Nat) (h : ix_H) : ix_run iy_P N (d + 1) 55 [ix_R (some v0), ix_R (some v1)] h = bJ6_equals (ix_run iy_P N d) (ix_lp (ix_run iy_P N d) stJ6_equals N) v0 v1 h := (rfl : ix_run iy_P N (d + 1) 55 [ix_R (some v0), ix_R (some v1)] h = ix_fwd (ix_run iy_P N d) (ix_lp (ix_run iy_P N d) stJ6_equals N) stJ6_equals 0 [(0, ix_R (some v0)), (1, ix_R (some v1))] [] h).trans (eJ6_equals _ _ v0 v1 h)
def jJ6_hashCode_29 (cal : ix_C) (K : ix_K) (v1 : Int32) (h : ix_H) : ix_O :=
  some (.inl (some (ix_I v1)), h)
theorem jJ6_hashCode_29_eq (cal : ix_C) (K : ix_K) (v1 : Int32) (h : ix_H) : ix_fwd cal K (stJ6_hashCode.drop 29) 0 [(1, ix_I v1)] [] h = jJ6_hashCode_29 cal K v1 h := rfl
def jJ6_hashCode_18 (cal : ix_C) (K : ix_K) (v0 : Nat) (s0 : Int32) (h : ix_H) : ix_O :=
  if s0 = nI 0 then
    (ix_is h 19 (some v0)).bind fun a9 =>
    cond (ix_okn 1 (nI 1)) (
    ix_bd (ix_wfI h a9 3 (nI 1)) fun h10 =>
      jJ6_hashCode_29 cal K s0 h10) none
  else
    (ix_is h 19 (some v0)).bind fun a7 =>
    ix_bd (ix_wfI h a7 2 s0) fun h8 =>
    jJ6_hashCode_29 cal K s0 h8
theorem jJ6_hashCode_18_eq (cal : ix_C) (K : ix_K) (v0 : Nat) (s0 : Int32) (h : ix_H) : ix_fwd cal K (stJ6_hashCode.drop 18) 0 [(0, ix_R (some v0))] [ix_I s0] h = jJ6_hashCode_18 cal K v0 s0 h := rfl
def bJ6_hashCode (cal : ix_C) (K : ix_K) (v0 : Nat) (h : ix_H) : ix_O :=
  (ix_is h 19 (some v0)).bind fun a1 =>
  if (ix_fI h a1 2) = nI 0 then
    (ix_is h 19 (some v0)).bind fun a2 =>
    if (ix_fI h a2 3) = nI 0 then
      (ix_isr h 19 (some v0)).bind fun a4 =>
      (ix_rI (cal 50 [ix_R (some a4)] h)).bind fun r3 =>
      if r3.1 = nI 0 then
        (ix_isr r3.2 19 (some v0)).bind fun a5 =>
        (ix_rI (cal 77 [ix_R (ix_fR r3.2 a5 0)] r3.2)).bind fun r6 =>
        jJ6_hashCode_18 cal K v0 r6.1 r6.2
      else
        (ix_isr r3.2 19 (some v0)).bind fun a11 =>
        (ix_rI (cal 61 [ix_R (ix_fR r3.2 a11 0)] r3.2)).bind fun r12 =>
        jJ6_hashCode_18 cal K v0 r12.1 r12.2
    else
      jJ6_hashCode_29 cal K (ix_fI h a1 2) h
  else
    jJ6_hashCode_29 cal K (ix_fI h a1 2) h
theorem eJ6_hashCode (cal : ix_C) (K : ix_K) (v0 : Nat) (h : ix_H) : ix_fwd cal K stJ6_hashCode 0 [(0, ix_R (some v0))] [] h = bJ6_hashCode cal K v0 h := rfl
theorem rJ6_hashCode (N d : Nat) (v0 : Nat) (h : ix_H) : ix_run iy_P N (d + 1) 56 [ix_R (some v0)] h = bJ6_hashCode (ix_run iy_P N d) (ix_lp (ix_run iy_P N d) stJ6_hashCode N) v0 h := (rfl : ix_run iy_P N (d + 1) 56 [ix_R (some v0)] h = ix_fwd (ix_run iy_P N d) (ix_lp (ix_run iy_P N d) stJ6_hashCode N) stJ6_hashCode 0 [(0, ix_R (some v0))] [] h).trans (eJ6_hashCode _ _ v0 h)
def bJ7_charAt (cal : ix_C) (K : ix_K) (v0 : Option Nat) (v1 : Int32) (h : ix_H) : ix_O :=
  (ix_isr h 102 v0).bind fun a1 =>
  (ix_rV (cal 51 [ix_I v1, ix_I (Int32.ofNat (ix_ln h a1))] h)).bind fun r2 =>
  (ix_atr r2 102 v0 v1).bind fun a3 =>
  cond (ix_okn 4 ((((ix_aI r2 a3 v1.toNatClampNeg) &&& (nI 255)).toUInt32 % 65536).toInt32)) (some (.inl (some (ix_I ((((ix_aI r2 a3 v1.toNatClampNeg) &&& (nI 255)).toUInt32 % 65536).toInt32))), r2)) none
theorem eJ7_charAt (cal : ix_C) (K : ix_K) (v0 : Option Nat) (v1 : Int32) (h : ix_H) : ix_fwd cal K stJ7_charAt 0 [(0, ix_R v0), (1, ix_I v1)] [] h = bJ7_charAt cal K v0 v1 h := rfl
theorem rJ7_charAt (N d : Nat) (v0 : Option Nat) (v1 : Int32) (h : ix_H) : ix_run iy_P N (d + 1) 57 [ix_R v0, ix_I v1] h = bJ7_charAt (ix_run iy_P N d) (ix_lp (ix_run iy_P N d) stJ7_charAt N) v0 v1 h := (rfl : ix_run iy_P N (d + 1) 57 [ix_R v0, ix_I v1] h = ix_fwd (ix_run iy_P N d) (ix_lp (ix_run iy_P N d) stJ7_charAt N) stJ7_charAt 0 [(0, ix_R v0), (1, ix_I v1)] [] h).trans (eJ7_charAt _ _ v0 v1 h)
def jJ7_canEncode_6 (cal : ix_C) (K : ix_K) (s0 : Int32) (h : ix_H) : ix_O :=
  cond (ix_okn 1 s0) (some (.inl (some (ix_I s0)), h)) none
theorem jJ7_canEncode_6_eq (cal : ix_C) (K : ix_K) (s0 : Int32) (h : ix_H) : ix_fwd cal K (stJ7_canEncode.drop 6) 0 [] [ix_I s0] h = jJ7_canEncode_6 cal K s0 h := rfl
def bJ7_canEncode (cal : ix_C) (K : ix_K) (v0 : Int32) (h : ix_H) : ix_O :=
  if (nI 255) < v0 then
    jJ7_canEncode_6 cal K (nI 0) h
  else
    jJ7_canEncode_6 cal K (nI 1) h
theorem eJ7_canEncode (cal : ix_C) (K : ix_K) (v0 : Int32) (h : ix_H) : ix_fwd cal K stJ7_canEncode 0 [(0, ix_I v0)] [] h = bJ7_canEncode cal K v0 h := rfl
theorem rJ7_canEncode (N d : Nat) (v0 : Int32) (h : ix_H) : ix_run iy_P N (d + 1) 58 [ix_I v0] h = bJ7_canEncode (ix_run iy_P N d) (ix_lp (ix_run iy_P N d) stJ7_canEncode N) v0 h := (rfl : ix_run iy_P N (d + 1) 58 [ix_I v0] h = ix_fwd (ix_run iy_P N d) (ix_lp (ix_run iy_P N d) stJ7_canEncode N) stJ7_canEncode 0 [(0, ix_I v0)] [] h).trans (eJ7_canEncode _ _ v0 h)
def bJ7_inflate (cal : ix_C) (K : ix_K) (v0 : Option Nat) (v1 : Int32) (v2 : Option Nat) (v3 : Int32) (v4 : Int32) (h : ix_H) : ix_O :=
  (ix_rV (cal 70 [ix_R v0, ix_I v1, ix_R v2, ix_I v3, ix_I v4] h)).bind fun r1 =>
  some (.inl none, r1)
theorem eJ7_inflate (cal : ix_C) (K : ix_K) (v0 : Option Nat) (v1 : Int32) (v2 : Option Nat) (v3 : Int32) (v4 : Int32) (h : ix_H) : ix_fwd cal K stJ7_inflate 0 [(0, ix_R v0), (1, ix_I v1), (2, ix_R v2), (3, ix_I v3), (4, ix_I v4)] [] h = bJ7_inflate cal K v0 v1 v2 v3 v4 h := rfl
theorem rJ7_inflate (N d : Nat) (v0 : Option Nat) (v1 : Int32) (v2 : Option Nat) (v3 : Int32) (v4 : Int32) (h : ix_H) : ix_run iy_P N (d + 1) 59 [ix_R v0, ix_I v1, ix_R v2, ix_I v3, ix_I v4] h = bJ7_inflate (ix_run iy_P N d) (ix_lp (ix_run iy_P N d) stJ7_inflate N) v0 v1 v2 v3 v4 h := (rfl : ix_run iy_P N (d + 1) 59 [ix_R v0, ix_I v1, ix_R v2, ix_I v3, ix_I v4] h = ix_fwd (ix_run iy_P N d) (ix_lp (ix_run iy_P N d) stJ7_inflate N) stJ7_inflate 0 [(0, ix_R v0), (1, ix_I v1), (2, ix_R v2), (3, ix_I v3), (4, ix_I v4)] [] h).trans (eJ7_inflate _ _ v0 v1 v2 v3 v4 h)
def jJ7_equals_7 (cal : ix_C) (K : ix_K) (v0 : Option Nat) (v1 : Option Nat) (v2 : Int32) (h : ix_H) : ix_O :=
  (ix_isr h 102 v0).bind fun a3 =>
  if (Int32.ofNat (ix_ln h a3)) ≤ v2 then
    cond (ix_okn 1 (nI 1)) (some (.inl (some (ix_I (nI 1))), h)) none
  else
    (ix_atr h 102 v0 v2).bind fun a4 =>
    (ix_atr h 102 v1 v2).bind fun a5 =>
    if (ix_aI h a4 v2.toNatClampNeg) = (ix_aI h a5 v2.toNatClampNeg) then
      K 7 [(0, ix_R v0), (1, ix_R v1), (2, ix_I (v2 + (nI 1)))] [] h
    else
      cond (ix_okn 1 (nI 0)) (some (.inl (some (ix_I (nI 0))), h)) none
theorem jJ7_equals_7_eq (cal : ix_C) (K : ix_K) (v0 : Option Nat) (v1 : Option Nat) (v2 : Int32) (h : ix_H) : ix_fwd cal K (stJ7_equals.drop 7) 0 [(0, ix_R v0), (1, ix_R v1), (2, ix_I v2)] [] h = jJ7_equals_7 cal K v0 v1 v2 h := rfl
def bJ7_equals (cal : ix_C) (K : ix_K) (v0 : Option Nat) (v1 : Option Nat) (h : ix_H) : ix_O :=
  (ix_isr h 102 v0).bind fun a1 =>
  (ix_isr h 102 v1).bind fun a2 =>
  if (Int32.ofNat (ix_ln h a1)) = (Int32.ofNat (ix_ln h a2)) then
    jJ7_equals_7 cal K v0 v1 (nI 0) h
  else
    cond (ix_okn 1 (nI 0)) (some (.inl (some (ix_I (nI 0))), h)) none
theorem eJ7_equals (cal : ix_C) (K : ix_K) (v0 : Option Nat) (v1 : Option Nat) (h : ix_H) : ix_fwd cal K stJ7_equals 0 [(0, ix_R v0), (1, ix_R v1)] [] h = bJ7_equals cal K v0 v1 h := rfl
theorem rJ7_equals (N d : Nat) (v0 : Option Nat) (v1 : Option Nat) (h : ix_H) : ix_run iy_P N (d + 1) 60 [ix_R v0, ix_R v1] h = bJ7_equals (ix_run iy_P N d) (ix_lp (ix_run iy_P N d) stJ7_equals N) v0 v1 h := (rfl : ix_run iy_P N (d + 1) 60 [ix_R v0, ix_R v1] h = ix_fwd (ix_run iy_P N d) (ix_lp (ix_run iy_P N d) stJ7_equals N) stJ7_equals 0 [(0, ix_R v0), (1, ix_R v1)] [] h).trans (eJ7_equals _ _ v0 v1 h)
theorem lJ7_equals_7 (cal : ix_C) (n : Nat) (v0 : Option Nat) (v1 : Option Nat) (v2 : Int32) (h : ix_H) : ix_lp cal stJ7_equals (n + 1) 7 [(0, ix_R v0), (1, ix_R v1), (2, ix_I v2)] [] h = jJ7_equals_7 cal (ix_lp cal stJ7_equals n) v0 v1 v2 h := jJ7_equals_7_eq cal (ix_lp cal stJ7_equals n) v0 v1 v2 h
def jJ7_hashCode_18 (cal : ix_C) (K : ix_K) (s0 : Int32) (h : ix_H) : ix_O :=
  some (.inl (some (ix_I s0)), h)
theorem jJ7_hashCode_18_eq (cal : ix_C) (K : ix_K) (s0 : Int32) (h : ix_H) : ix_fwd cal K (stJ7_hashCode.drop 18) 0 [] [ix_I s0] h = jJ7_hashCode_18 cal K s0 h := rfl
def bJ7_hashCode (cal : ix_C) (K : ix_K) (v0 : Option Nat) (h : ix_H) : ix_O :=
  (ix_isr h 102 v0).bind fun a1 =>
  if (Int32.ofNat (ix_ln h a1)) = nI 0 then
    jJ7_hashCode_18 cal K (nI 0) h
  else
  if (Int32.ofNat (ix_ln h a1)) = nI 1 then
    (ix_atr h 102 v0 (nI 0)).bind fun a2 =>
    jJ7_hashCode_18 cal K ((ix_aI h a2 (nI 0).toNatClampNeg) &&& (nI 255)) h
  else
    (ix_isr h 102 v0).bind fun a3 =>
    (ix_rI (cal 17 [ix_R v0, ix_I (nI 0), ix_I (Int32.ofNat (ix_ln h a3)), ix_I (nI 0), ix_I (nI 4)] h)).bind fun r4 =>
    jJ7_hashCode_18 cal K r4.1 r4.2
theorem eJ7_hashCode (cal : ix_C) (K : ix_K) (v0 : Option Nat) (h : ix_H) : ix_fwd cal K stJ7_hashCode 0 [(0, ix_R v0)] [] h = bJ7_hashCode cal K v0 h := rfl
theorem rJ7_hashCode (N d : Nat) (v0 : Option Nat) (h : ix_H) : ix_run iy_P N (d + 1) 61 [ix_R v0] h = bJ7_hashCode (ix_run iy_P N d) (ix_lp (ix_run iy_P N d) stJ7_hashCode N) v0 h := (rfl : ix_run iy_P N (d + 1) 61 [ix_R v0] h = ix_fwd (ix_run iy_P N d) (ix_lp (ix_run iy_P N d) stJ7_hashCode N) stJ7_hashCode 0 [(0, ix_R v0)] [] h).trans (eJ7_hashCode _ _ v0 h)
def jJ8_checkIndex_5 (cal : ix_C) (K : ix_K) (v0 : Int32) (v1 : Int32) (v2 : Option Nat) (h : ix_H) : ix_O :=
  none
theorem jJ8_checkIndex_5_eq (cal : ix_C) (K : ix_K) (v0 : Int32) (v1 : Int32) (v2 : Option Nat) (h : ix_H) : ix_fwd cal K (stJ8_checkIndex.drop 5) 0 [(0, ix_I v0), (1, ix_I v1), (2, ix_R v2)] [] h = jJ8_checkIndex_5 cal K v0 v1 v2 h := rfl
def bJ8_checkIndex (cal : ix_C) (K : ix_K) (v0 : Int32) (v1 : Int32) (v2 : Option Nat) (h : ix_H) : ix_O :=
  if v0 < nI 0 then
    jJ8_checkIndex_5 cal K v0 v1 v2 h
  else
    if v0 < v1 then
      some (.inl (some (ix_I v0)), h)
    else
      jJ8_checkIndex_5 cal K v0 v1 v2 h
theorem eJ8_checkIndex (cal : ix_C) (K : ix_K) (v0 : Int32) (v1 : Int32) (v2 : Option Nat) (h : ix_H) : ix_fwd cal K stJ8_checkIndex 0 [(0, ix_I v0), (1, ix_I v1), (2, ix_R v2)] [] h = bJ8_checkIndex cal K v0 v1 v2 h := rfl
theorem rJ8_checkIndex (N d : Nat) (v0 : Int32) (v1 : Int32) (v2 : Option Nat) (h : ix_H) : ix_run iy_P N (d + 1) 62 [ix_I v0, ix_I v1, ix_R v2] h = bJ8_checkIndex (ix_run iy_P N d) (ix_lp (ix_run iy_P N d) stJ8_checkIndex N) v0 v1 v2 h := (rfl : ix_run iy_P N (d + 1) 62 [ix_I v0, ix_I v1, ix_R v2] h = ix_fwd (ix_run iy_P N d) (ix_lp (ix_run iy_P N d) stJ8_checkIndex N) stJ8_checkIndex 0 [(0, ix_I v0), (1, ix_I v1), (2, ix_R v2)] [] h).trans (eJ8_checkIndex _ _ v0 v1 v2 h)
def jJ8_checkFromIndexSize_11 (cal : ix_C) (K : ix_K) (v0 : Int32) (v1 : Int32) (v2 : Int32) (v3 : Option Nat) (h : ix_H) : ix_O :=
  none
theorem jJ8_checkFromIndexSize_11_eq (cal : ix_C) (K : ix_K) (v0 : Int32) (v1 : Int32) (v2 : Int32) (v3 : Option Nat) (h : ix_H) : ix_fwd cal K (stJ8_checkFromIndexSize.drop 11) 0 [(0, ix_I v0), (1, ix_I v1), (2, ix_I v2), (3, ix_R v3)] [] h = jJ8_checkFromIndexSize_11 cal K v0 v1 v2 v3 h := rfl
def bJ8_checkFromIndexSize (cal : ix_C) (K : ix_K) (v0 : Int32) (v1 : Int32) (v2 : Int32) (v3 : Option Nat) (h : ix_H) : ix_O :=
  if ((v2 ||| v0) ||| v1) < nI 0 then
    jJ8_checkFromIndexSize_11 cal K v0 v1 v2 v3 h
  else
    if v1 ≤ (v2 - v0) then
      some (.inl (some (ix_I v0)), h)
    else
      jJ8_checkFromIndexSize_11 cal K v0 v1 v2 v3 h
theorem eJ8_checkFromIndexSize (cal : ix_C) (K : ix_K) (v0 : Int32) (v1 : Int32) (v2 : Int32) (v3 : Option Nat) (h : ix_H) : ix_fwd cal K stJ8_checkFromIndexSize 0 [(0, ix_I v0), (1, ix_I v1), (2, ix_I v2), (3, ix_R v3)] [] h = bJ8_checkFromIndexSize cal K v0 v1 v2 v3 h := rfl
theorem rJ8_checkFromIndexSize (N d : Nat) (v0 : Int32) (v1 : Int32) (v2 : Int32) (v3 : Option Nat) (h : ix_H) : ix_run iy_P N (d + 1) 63 [ix_I v0, ix_I v1, ix_I v2, ix_R v3] h = bJ8_checkFromIndexSize (ix_run iy_P N d) (ix_lp (ix_run iy_P N d) stJ8_checkFromIndexSize N) v0 v1 v2 v3 h := (rfl : ix_run iy_P N (d + 1) 63 [ix_I v0, ix_I v1, ix_I v2, ix_R v3] h = ix_fwd (ix_run iy_P N d) (ix_lp (ix_run iy_P N d) stJ8_checkFromIndexSize N) stJ8_checkFromIndexSize 0 [(0, ix_I v0), (1, ix_I v1), (2, ix_I v2), (3, ix_R v3)] [] h).trans (eJ8_checkFromIndexSize _ _ v0 v1 v2 v3 h)
def bJ9_charAt (cal : ix_C) (K : ix_K) (v0 : Option Nat) (v1 : Int32) (h : ix_H) : ix_O :=
  (ix_rV (cal 65 [ix_I v1, ix_R v0] h)).bind fun r1 =>
  (ix_rI (cal 67 [ix_R v0, ix_I v1] r1)).bind fun r2 =>
  cond (ix_okn 4 r2.1) (some (.inl (some (ix_I r2.1)), r2.2)) none
theorem eJ9_charAt (cal : ix_C) (K : ix_K) (v0 : Option Nat) (v1 : Int32) (h : ix_H) : ix_fwd cal K stJ9_charAt 0 [(0, ix_R v0), (1, ix_I v1)] [] h = bJ9_charAt cal K v0 v1 h := rfl
theorem rJ9_charAt (N d : Nat) (v0 : Option Nat) (v1 : Int32) (h : ix_H) : ix_run iy_P N (d + 1) 64 [ix_R v0, ix_I v1] h = bJ9_charAt (ix_run iy_P N d) (ix_lp (ix_run iy_P N d) stJ9_charAt N) v0 v1 h := (rfl : ix_run iy_P N (d + 1) 64 [ix_R v0, ix_I v1] h = ix_fwd (ix_run iy_P N d) (ix_lp (ix_run iy_P N d) stJ9_charAt N) stJ9_charAt 0 [(0, ix_R v0), (1, ix_I v1)] [] h).trans (eJ9_charAt _ _ v0 v1 h)
def bJ9_checkIndex (cal : ix_C) (K : ix_K) (v0 : Int32) (v1 : Option Nat) (h : ix_H) : ix_O :=
  (ix_rI (cal 66 [ix_R v1] h)).bind fun r1 =>
  (ix_rV (cal 51 [ix_I v0, ix_I r1.1] r1.2)).bind fun r2 =>
  some (.inl none, r2)
theorem eJ9_checkIndex (cal : ix_C) (K : ix_K) (v0 : Int32) (v1 : Option Nat) (h : ix_H) : ix_fwd cal K stJ9_checkIndex 0 [(0, ix_I v0), (1, ix_R v1)] [] h = bJ9_checkIndex cal K v0 v1 h := rfl
theorem rJ9_checkIndex (N d : Nat) (v0 : Int32) (v1 : Option Nat) (h : ix_H) : ix_run iy_P N (d + 1) 65 [ix_I v0, ix_R v1] h = bJ9_checkIndex (ix_run iy_P N d) (ix_lp (ix_run iy_P N d) stJ9_checkIndex N) v0 v1 h := (rfl : ix_run iy_P N (d + 1) 65 [ix_I v0, ix_R v1] h = ix_fwd (ix_run iy_P N d) (ix_lp (ix_run iy_P N d) stJ9_checkIndex N) stJ9_checkIndex 0 [(0, ix_I v0), (1, ix_R v1)] [] h).trans (eJ9_checkIndex _ _ v0 v1 h)
def bJ9_length (cal : ix_C) (K : ix_K) (v0 : Option Nat) (h : ix_H) : ix_O :=
  (ix_isr h 102 v0).bind fun a1 =>
  some (.inl (some (ix_I ((Int32.ofNat (ix_ln h a1)) >>> ((nI 1) &&& 31)))), h)
theorem eJ9_length (cal : ix_C) (K : ix_K) (v0 : Option Nat) (h : ix_H) : ix_fwd cal K stJ9_length 0 [(0, ix_R v0)] [] h = bJ9_length cal K v0 h := rfl
theorem rJ9_length (N d : Nat) (v0 : Option Nat) (h : ix_H) : ix_run iy_P N (d + 1) 66 [ix_R v0] h = bJ9_length (ix_run iy_P N d) (ix_lp (ix_run iy_P N d) stJ9_length N) v0 h := (rfl : ix_run iy_P N (d + 1) 66 [ix_R v0] h = ix_fwd (ix_run iy_P N d) (ix_lp (ix_run iy_P N d) stJ9_length N) stJ9_length 0 [(0, ix_R v0)] [] h).trans (eJ9_length _ _ v0 h)
def bJ9_getChar (cal : ix_C) (K : ix_K) (v0 : Option Nat) (v1 : Int32) (h : ix_H) : ix_O :=
  none
theorem eJ9_getChar (cal : ix_C) (K : ix_K) (v0 : Option Nat) (v1 : Int32) (h : ix_H) : ix_fwd cal K stJ9_getChar 0 [(0, ix_R v0), (1, ix_I v1)] [] h = bJ9_getChar cal K v0 v1 h := rfl
theorem rJ9_getChar (N d : Nat) (v0 : Option Nat) (v1 : Int32) (h : ix_H) : ix_run iy_P N (d + 1) 67 [ix_R v0, ix_I v1] h = bJ9_getChar (ix_run iy_P N d) (ix_lp (ix_run iy_P N d) stJ9_getChar N) v0 v1 h := (rfl : ix_run iy_P N (d + 1) 67 [ix_R v0, ix_I v1] h = ix_fwd (ix_run iy_P N d) (ix_lp (ix_run iy_P N d) stJ9_getChar N) stJ9_getChar 0 [(0, ix_R v0), (1, ix_I v1)] [] h).trans (eJ9_getChar _ _ v0 v1 h)
def bJ9_newBytesFor (cal : ix_C) (K : ix_K) (v0 : Int32) (h : ix_H) : ix_O :=
  (ix_rI (cal 69 [ix_I v0] h)).bind fun r1 =>
  cond (ix_in r1.1 1000001) (
  ix_bd (ix_nwA r1.2 102 r1.1.toNatClampNeg) fun h2 =>
    some (.inl (some (ix_R (some (ix_sz r1.2)))), h2)) none
theorem eJ9_newBytesFor (cal : ix_C) (K : ix_K) (v0 : Int32) (h : ix_H) : ix_fwd cal K stJ9_newBytesFor 0 [(0, ix_I v0)] [] h = bJ9_newBytesFor cal K v0 h := rfl
theorem rJ9_newBytesFor (N d : Nat) (v0 : Int32) (h : ix_H) : ix_run iy_P N (d + 1) 68 [ix_I v0] h = bJ9_newBytesFor (ix_run iy_P N d) (ix_lp (ix_run iy_P N d) stJ9_newBytesFor N) v0 h := (rfl : ix_run iy_P N (d + 1) 68 [ix_I v0] h = ix_fwd (ix_run iy_P N d) (ix_lp (ix_run iy_P N d) stJ9_newBytesFor N) stJ9_newBytesFor 0 [(0, ix_I v0)] [] h).trans (eJ9_newBytesFor _ _ v0 h)
def bJ9_newBytesLength (cal : ix_C) (K : ix_K) (v0 : Int32) (h : ix_H) : ix_O :=
  if nI 0 ≤ v0 then
    if v0 < (nI 1073741823) then
      some (.inl (some (ix_I (v0 <<< ((nI 1) &&& 31)))), h)
    else
      none
  else
    none
theorem eJ9_newBytesLength (cal : ix_C) (K : ix_K) (v0 : Int32) (h : ix_H) : ix_fwd cal K stJ9_newBytesLength 0 [(0, ix_I v0)] [] h = bJ9_newBytesLength cal K v0 h := rfl
theorem rJ9_newBytesLength (N d : Nat) (v0 : Int32) (h : ix_H) : ix_run iy_P N (d + 1) 69 [ix_I v0] h = bJ9_newBytesLength (ix_run iy_P N d) (ix_lp (ix_run iy_P N d) stJ9_newBytesLength N) v0 h := (rfl : ix_run iy_P N (d + 1) 69 [ix_I v0] h = ix_fwd (ix_run iy_P N d) (ix_lp (ix_run iy_P N d) stJ9_newBytesLength N) stJ9_newBytesLength 0 [(0, ix_I v0)] [] h).trans (eJ9_newBytesLength _ _ v0 h)
def jJ9_inflate_6 (cal : ix_C) (K : ix_K) (v0 : Option Nat) (v1 : Int32) (v2 : Option Nat) (v3 : Int32) (v4 : Int32) (v5 : Int32) (h : ix_H) : ix_O :=
  if v4 ≤ v5 then
    some (.inl none, h)
  else
    (ix_atr h 102 v0 v1).bind fun a2 =>
    (ix_rV (cal 72 [ix_R v2, ix_I v3, ix_I ((ix_aI h a2 v1.toNatClampNeg) &&& (nI 255))] h)).bind fun r3 =>
    K 6 [(0, ix_R v0), (1, ix_I (v1 + (nI 1))), (2, ix_R v2), (3, ix_I (v3 + (nI 1))), (4, ix_I v4), (5, ix_I (v5 + (nI 1)))] [] r3
theorem jJ9_inflate_6_eq (cal : ix_C) (K : ix_K) (v0 : Option Nat) (v1 : Int32) (v2 : Option Nat) (v3 : Int32) (v4 : Int32) (v5 : Int32) (h : ix_H) : ix_fwd cal K (stJ9_inflate.drop 6) 0 [(0, ix_R v0), (1, ix_I v1), (2, ix_R v2), (3, ix_I v3), (4, ix_I v4), (5, ix_I v5)] [] h = jJ9_inflate_6 cal K v0 v1 v2 v3 v4 v5 h := rfl
def bJ9_inflate (cal : ix_C) (K : ix_K) (v0 : Option Nat) (v1 : Int32) (v2 : Option Nat) (v3 : Int32) (v4 : Int32) (h : ix_H) : ix_O :=
  (ix_rV (cal 71 [ix_I v3, ix_I v4, ix_R v2] h)).bind fun r1 =>
  jJ9_inflate_6 cal K v0 v1 v2 v3 v4 (nI 0) r1
theorem eJ9_inflate (cal : ix_C) (K : ix_K) (v0 : Option Nat) (v1 : Int32) (v2 : Option Nat) (v3 : Int32) (v4 : Int32) (h : ix_H) : ix_fwd cal K stJ9_inflate 0 [(0, ix_R v0), (1, ix_I v1), (2, ix_R v2), (3, ix_I v3), (4, ix_I v4)] [] h = bJ9_inflate cal K v0 v1 v2 v3 v4 h := rfl
theorem rJ9_inflate (N d : Nat) (v0 : Option Nat) (v1 : Int32) (v2 : Option Nat) (v3 : Int32) (v4 : Int32) (h : ix_H) : ix_run iy_P N (d + 1) 70 [ix_R v0, ix_I v1, ix_R v2, ix_I v3, ix_I v4] h = bJ9_inflate (ix_run iy_P N d) (ix_lp (ix_run iy_P N d) stJ9_inflate N) v0 v1 v2 v3 v4 h := (rfl : ix_run iy_P N (d + 1) 70 [ix_R v0, ix_I v1, ix_R v2, ix_I v3, ix_I v4] h = ix_fwd (ix_run iy_P N d) (ix_lp (ix_run iy_P N d) stJ9_inflate N) stJ9_inflate 0 [(0, ix_R v0), (1, ix_I v1), (2, ix_R v2), (3, ix_I v3), (4, ix_I v4)] [] h).trans (eJ9_inflate _ _ v0 v1 v2 v3 v4 h)
theorem lJ9_inflate_6 (cal : ix_C) (n : Nat) (v0 : Option Nat) (v1 : Int32) (v2 : Option Nat) (v3 : Int32) (v4 : Int32) (v5 : Int32) (h : ix_H) : ix_lp cal stJ9_inflate (n + 1) 6 [(0, ix_R v0), (1, ix_I v1), (2, ix_R v2), (3, ix_I v3), (4, ix_I v4), (5, ix_I v5)] [] h = jJ9_inflate_6 cal (ix_lp cal stJ9_inflate n) v0 v1 v2 v3 v4 v5 h := jJ9_inflate_6_eq cal (ix_lp cal stJ9_inflate n) v0 v1 v2 v3 v4 v5 h
def bJ9_checkBoundsOffCount (cal : ix_C) (K : ix_K) (v0 : Int32) (v1 : Int32) (v2 : Option Nat) (h : ix_H) : ix_O :=
  (ix_rI (cal 66 [ix_R v2] h)).bind fun r1 =>
  (ix_rI (cal 52 [ix_I v0, ix_I v1, ix_I r1.1] r1.2)).bind fun r2 =>
  some (.inl none, r2.2)
theorem eJ9_checkBoundsOffCount (cal : ix_C) (K : ix_K) (v0 : Int32) (v1 : Int32) (v2 : Option Nat) (h : ix_H) : ix_fwd cal K stJ9_checkBoundsOffCount 0 [(0, ix_I v0), (1, ix_I v1), (2, ix_R v2)] [] h = bJ9_checkBoundsOffCount cal K v0 v1 v2 h := rfl
theorem rJ9_checkBoundsOffCount (N d : Nat) (v0 : Int32) (v1 : Int32) (v2 : Option Nat) (h : ix_H) : ix_run iy_P N (d + 1) 71 [ix_I v0, ix_I v1, ix_R v2] h = bJ9_checkBoundsOffCount (ix_run iy_P N d) (ix_lp (ix_run iy_P N d) stJ9_checkBoundsOffCount N) v0 v1 v2 h := (rfl : ix_run iy_P N (d + 1) 71 [ix_I v0, ix_I v1, ix_R v2] h = ix_fwd (ix_run iy_P N d) (ix_lp (ix_run iy_P N d) stJ9_checkBoundsOffCount N) stJ9_checkBoundsOffCount 0 [(0, ix_I v0), (1, ix_I v1), (2, ix_R v2)] [] h).trans (eJ9_checkBoundsOffCount _ _ v0 v1 v2 h)
def bJ9_putChar (cal : ix_C) (K : ix_K) (v0 : Option Nat) (v1 : Int32) (v2 : Int32) (h : ix_H) : ix_O :=
  none
theorem eJ9_putChar (cal : ix_C) (K : ix_K) (v0 : Option Nat) (v1 : Int32) (v2 : Int32) (h : ix_H) : ix_fwd cal K stJ9_putChar 0 [(0, ix_R v0), (1, ix_I v1), (2, ix_I v2)] [] h = bJ9_putChar cal K v0 v1 v2 h := rfl
theorem rJ9_putChar (N d : Nat) (v0 : Option Nat) (v1 : Int32) (v2 : Int32) (h : ix_H) : ix_run iy_P N (d + 1) 72 [ix_R v0, ix_I v1, ix_I v2] h = bJ9_putChar (ix_run iy_P N d) (ix_lp (ix_run iy_P N d) stJ9_putChar N) v0 v1 v2 h := (rfl : ix_run iy_P N (d + 1) 72 [ix_R v0, ix_I v1, ix_I v2] h = ix_fwd (ix_run iy_P N d) (ix_lp (ix_run iy_P N d) stJ9_putChar N) stJ9_putChar 0 [(0, ix_R v0), (1, ix_I v1), (2, ix_I v2)] [] h).trans (eJ9_putChar _ _ v0 v1 v2 h)
def bJ9_putCharSB (cal : ix_C) (K : ix_K) (v0 : Option Nat) (v1 : Int32) (v2 : Int32) (h : ix_H) : ix_O :=
  (ix_rV (cal 65 [ix_I v1, ix_R v0] h)).bind fun r1 =>
  (ix_rV (cal 72 [ix_R v0, ix_I v1, ix_I v2] r1)).bind fun r2 =>
  some (.inl none, r2)
theorem eJ9_putCharSB (cal : ix_C) (K : ix_K) (v0 : Option Nat) (v1 : Int32) (v2 : Int32) (h : ix_H) : ix_fwd cal K stJ9_putCharSB 0 [(0, ix_R v0), (1, ix_I v1), (2, ix_I v2)] [] h = bJ9_putCharSB cal K v0 v1 v2 h := rfl
theorem rJ9_putCharSB (N d : Nat) (v0 : Option Nat) (v1 : Int32) (v2 : Int32) (h : ix_H) : ix_run iy_P N (d + 1) 73 [ix_R v0, ix_I v1, ix_I v2] h = bJ9_putCharSB (ix_run iy_P N d) (ix_lp (ix_run iy_P N d) stJ9_putCharSB N) v0 v1 v2 h := (rfl : ix_run iy_P N (d + 1) 73 [ix_R v0, ix_I v1, ix_I v2] h = ix_fwd (ix_run iy_P N d) (ix_lp (ix_run iy_P N d) stJ9_putCharSB N) stJ9_putCharSB 0 [(0, ix_R v0), (1, ix_I v1), (2, ix_I v2)] [] h).trans (eJ9_putCharSB _ _ v0 v1 v2 h)
def jJ9_compress_39 (cal : ix_C) (K : ix_K) (v3 : Option Nat) (h : ix_H) : ix_O :=
  some (.inl (some (ix_R v3)), h)
theorem jJ9_compress_39_eq (cal : ix_C) (K : ix_K) (v3 : Option Nat) (h : ix_H) : ix_fwd cal K (stJ9_compress.drop 39) 0 [(3, ix_R v3)] [] h = jJ9_compress_39 cal K v3 h := rfl
def jJ9_compress_36 (cal : ix_C) (K : ix_K) (v5 : Option Nat) (h : ix_H) : ix_O :=
  some (.inl (some (ix_R v5)), h)
theorem jJ9_compress_36_eq (cal : ix_C) (K : ix_K) (v5 : Option Nat) (h : ix_H) : ix_fwd cal K (stJ9_compress.drop 36) 0 [(5, ix_R v5)] [] h = jJ9_compress_36 cal K v5 h := rfl
def bJ9_compress (cal : ix_C) (K : ix_K) (v0 : Option Nat) (v1 : Int32) (v2 : Int32) (h : ix_H) : ix_O :=
  cond (ix_in v2 1000001) (
  ix_bd (ix_nwA h 102 v2.toNatClampNeg) fun h1 =>
    (ix_rI (cal 75 [ix_R v0, ix_I v1, ix_R (some (ix_sz h)), ix_I (nI 0), ix_I v2] h1)).bind fun r2 =>
    if r2.1 = v2 then
      jJ9_compress_39 cal K (some (ix_sz h)) r2.2
    else
      (ix_rI (cal 69 [ix_I (v1 + v2)] r2.2)).bind fun r3 =>
      (ix_rR (cal 28 [ix_R v0, ix_I (v1 <<< ((nI 1) &&& 31)), ix_I r3.1] r3.2)).bind fun r4 =>
      (ix_rI (cal 67 [ix_R r4.1, ix_I r2.1] r4.2)).bind fun r5 =>
      if (nI 255) < r5.1 then
        jJ9_compress_36 cal K r4.1 r5.2
      else
        (ix_rI (cal 75 [ix_R r4.1, ix_I (nI 0), ix_R (some (ix_sz h)), ix_I (nI 0), ix_I v2] r5.2)).bind fun r6 =>
        if r6.1 = v2 then
          jJ9_compress_39 cal K (some (ix_sz h)) r6.2
        else
          jJ9_compress_36 cal K r4.1 r6.2) none
theorem eJ9_compress (cal : ix_C) (K : ix_K) (v0 : Option Nat) (v1 : Int32) (v2 : Int32) (h : ix_H) : ix_fwd cal K stJ9_compress 0 [(0, ix_R v0), (1, ix_I v1), (2, ix_I v2)] [] h = bJ9_compress cal K v0 v1 v2 h := rfl
theorem rJ9_compress (N d : Nat) (v0 : Option Nat) (v1 : Int32) (v2 : Int32) (h : ix_H) : ix_run iy_P N (d + 1) 74 [ix_R v0, ix_I v1, ix_I v2] h = bJ9_compress (ix_run iy_P N d) (ix_lp (ix_run iy_P N d) stJ9_compress N) v0 v1 v2 h := (rfl : ix_run iy_P N (d + 1) 74 [ix_R v0, ix_I v1, ix_I v2] h = ix_fwd (ix_run iy_P N d) (ix_lp (ix_run iy_P N d) stJ9_compress N) stJ9_compress 0 [(0, ix_R v0), (1, ix_I v1), (2, ix_I v2)] [] h).trans (eJ9_compress _ _ v0 v1 v2 h)
def jJ9_compress_2_6 (cal : ix_C) (K : ix_K) (v0 : Option Nat) (v1 : Int32) (v2 : Option Nat) (v3 : Int32) (v4 : Int32) (v5 : Int32) (h : ix_H) : ix_O :=
  if v4 ≤ v5 then
    some (.inl (some (ix_I v4)), h)
  else
    (ix_rI (cal 67 [ix_R v0, ix_I v1] h)).bind fun r2 =>
    if r2.1 ≤ (nI 255) then
      (ix_at r2.2 102 v2 v3).bind fun a3 =>
      ix_bd (ix_waI r2.2 a3 v3.toNatClampNeg (ix_nar 2 (r2.1.toInt8.toInt32))) fun h4 =>
      K 6 [(0, ix_R v0), (1, ix_I (v1 + (nI 1))), (2, ix_R v2), (3, ix_I (v3 + (nI 1))), (4, ix_I v4), (5, ix_I (v5 + (nI 1)))] [] h4
    else
      some (.inl (some (ix_I v5)), r2.2)
theorem jJ9_compress_2_6_eq (cal : ix_C) (K : ix_K) (v0 : Option Nat) (v1 : Int32) (v2 : Option Nat) (v3 : Int32) (v4 : Int32) (v5 : Int32) (h : ix_H) : ix_fwd cal K (stJ9_compress_2.drop 6) 0 [(0, ix_R v0), (1, ix_I v1), (2, ix_R v2), (3, ix_I v3), (4, ix_I v4), (5, ix_I v5)] [] h = jJ9_compress_2_6 cal K v0 v1 v2 v3 v4 v5 h := rfl
def bJ9_compress_2 (cal : ix_C) (K : ix_K) (v0 : Option Nat) (v1 : Int32) (v2 : Option Nat) (v3 : Int32) (v4 : Int32) (h : ix_H) : ix_O :=
  (ix_rV (cal 71 [ix_I v1, ix_I v4, ix_R v0] h)).bind fun r1 =>
  jJ9_compress_2_6 cal K v0 v1 v2 v3 v4 (nI 0) r1
theorem eJ9_compress_2 (cal : ix_C) (K : ix_K) (v0 : Option Nat) (v1 : Int32) (v2 : Option Nat) (v3 : Int32) (v4 : Int32) (h : ix_H) : ix_fwd cal K stJ9_compress_2 0 [(0, ix_R v0), (1, ix_I v1), (2, ix_R v2), (3, ix_I v3), (4, ix_I v4)] [] h = bJ9_compress_2 cal K v0 v1 v2 v3 v4 h := rfl
theorem rJ9_compress_2 (N d : Nat) (v0 : Option Nat) (v1 : Int32) (v2 : Option Nat) (v3 : Int32) (v4 : Int32) (h : ix_H) : ix_run iy_P N (d + 1) 75 [ix_R v0, ix_I v1, ix_R v2, ix_I v3, ix_I v4] h = bJ9_compress_2 (ix_run iy_P N d) (ix_lp (ix_run iy_P N d) stJ9_compress_2 N) v0 v1 v2 v3 v4 h := (rfl : ix_run iy_P N (d + 1) 75 [ix_R v0, ix_I v1, ix_R v2, ix_I v3, ix_I v4] h = ix_fwd (ix_run iy_P N d) (ix_lp (ix_run iy_P N d) stJ9_compress_2 N) stJ9_compress_2 0 [(0, ix_R v0), (1, ix_I v1), (2, ix_R v2), (3, ix_I v3), (4, ix_I v4)] [] h).trans (eJ9_compress_2 _ _ v0 v1 v2 v3 v4 h)
theorem lJ9_compress_2_6 (cal : ix_C) (n : Nat) (v0 : Option Nat) (v1 : Int32) (v2 : Option Nat) (v3 : Int32) (v4 : Int32) (v5 : Int32) (h : ix_H) : ix_lp cal stJ9_compress_2 (n + 1) 6 [(0, ix_R v0), (1, ix_I v1), (2, ix_R v2), (3, ix_I v3), (4, ix_I v4), (5, ix_I v5)] [] h = jJ9_compress_2_6 cal (ix_lp cal stJ9_compress_2 n) v0 v1 v2 v3 v4 v5 h := jJ9_compress_2_6_eq cal (ix_lp cal stJ9_compress_2 n) v0 v1 v2 v3 v4 v5 h
def bJ9_coderFromArrayLen (cal : ix_C) (K : ix_K) (v0 : Option Nat) (v1 : Int32) (h : ix_H) : ix_O :=
  (ix_isr h 102 v0).bind fun a1 =>
  cond (ix_okn 2 ((((v1 - (Int32.ofNat (ix_ln h a1))).toUInt32 >>> ((nI 31).toUInt32 &&& Int32.toUInt32 31)).toInt32).toInt8.toInt32)) (some (.inl (some (ix_I ((((v1 - (Int32.ofNat (ix_ln h a1))).toUInt32 >>> ((nI 31).toUInt32 &&& Int32.toUInt32 31)).toInt32).toInt8.toInt32))), h)) none
theorem eJ9_coderFromArrayLen (cal : ix_C) (K : ix_K) (v0 : Option Nat) (v1 : Int32) (h : ix_H) : ix_fwd cal K stJ9_coderFromArrayLen 0 [(0, ix_R v0), (1, ix_I v1)] [] h = bJ9_coderFromArrayLen cal K v0 v1 h := rfl
theorem rJ9_coderFromArrayLen (N d : Nat) (v0 : Option Nat) (v1 : Int32) (h : ix_H) : ix_run iy_P N (d + 1) 76 [ix_R v0, ix_I v1] h = bJ9_coderFromArrayLen (ix_run iy_P N d) (ix_lp (ix_run iy_P N d) stJ9_coderFromArrayLen N) v0 v1 h := (rfl : ix_run iy_P N (d + 1) 76 [ix_R v0, ix_I v1] h = ix_fwd (ix_run iy_P N d) (ix_lp (ix_run iy_P N d) stJ9_coderFromArrayLen N) stJ9_coderFromArrayLen 0 [(0, ix_R v0), (1, ix_I v1)] [] h).trans (eJ9_coderFromArrayLen _ _ v0 v1 h)
def jJ9_hashCode_18 (cal : ix_C) (K : ix_K) (s0 : Int32) (h : ix_H) : ix_O :=
  some (.inl (some (ix_I s0)), h)
theorem jJ9_hashCode_18_eq (cal : ix_C) (K : ix_K) (s0 : Int32) (h : ix_H) : ix_fwd cal K (stJ9_hashCode.drop 18) 0 [] [ix_I s0] h = jJ9_hashCode_18 cal K s0 h := rfl
def bJ9_hashCode (cal : ix_C) (K : ix_K) (v0 : Option Nat) (h : ix_H) : ix_O :=
  (ix_isr h 102 v0).bind fun a1 =>
  if (Int32.ofNat (ix_ln h a1)) = nI 0 then
    jJ9_hashCode_18 cal K (nI 0) h
  else
  if (Int32.ofNat (ix_ln h a1)) = nI 2 then
    (ix_rI (cal 67 [ix_R v0, ix_I (nI 0)] h)).bind fun r2 =>
    jJ9_hashCode_18 cal K r2.1 r2.2
  else
    (ix_isr h 102 v0).bind fun a3 =>
    (ix_rI (cal 17 [ix_R v0, ix_I (nI 0), ix_I ((Int32.ofNat (ix_ln h a3)) >>> ((nI 1) &&& 31)), ix_I (nI 0), ix_I (nI 5)] h)).bind fun r4 =>
    jJ9_hashCode_18 cal K r4.1 r4.2
theorem eJ9_hashCode (cal : ix_C) (K : ix_K) (v0 : Option Nat) (h : ix_H) : ix_fwd cal K stJ9_hashCode 0 [(0, ix_R v0)] [] h = bJ9_hashCode cal K v0 h := rfl
theorem rJ9_hashCode (N d : Nat) (v0 : Option Nat) (h : ix_H) : ix_run iy_P N (d + 1) 77 [ix_R v0] h = bJ9_hashCode (ix_run iy_P N d) (ix_lp (ix_run iy_P N d) stJ9_hashCode N) v0 h := (rfl : ix_run iy_P N (d + 1) 77 [ix_R v0] h = ix_fwd (ix_run iy_P N d) (ix_lp (ix_run iy_P N d) stJ9_hashCode N) stJ9_hashCode 0 [(0, ix_R v0)] [] h).trans (eJ9_hashCode _ _ v0 h)
