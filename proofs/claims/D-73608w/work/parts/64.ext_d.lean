/-! BODIES. Written by gen_ext.py -/
set_option maxRecDepth 100000
def jL_law_581 (cal : ix_C) (K : ix_K) (v0 : Option Nat) (v1 : Option Nat) (v2 : Option Nat) (v3 : Int32) (h : ix_H) : ix_O :=
  K 10 [(0, ix_R v0), (1, ix_R v1), (2, ix_R v2), (3, ix_I (v3 + (nI 6)))] [] h
theorem jL_law_581_eq (cal : ix_C) (K : ix_K) (v0 : Option Nat) (v1 : Option Nat) (v2 : Option Nat) (v3 : Int32) (h : ix_H) : ix_fwd cal K (stL_law.drop 581) 0 [(0, ix_R v0), (1, ix_R v1), (2, ix_R v2), (3, ix_I v3)] [] h = jL_law_581 cal K v0 v1 v2 v3 h := rfl
def jL_law_10 (cal : ix_C) (K : ix_K) (v0 : Option Nat) (v1 : Option Nat) (v2 : Option Nat) (v3 : Int32) (h : ix_H) : ix_O :=
  (ix_isr h 101 v0).bind fun a7 =>
  if ((Int32.ofNat (ix_ln h a7)) - (nI 6)) < v3 then
    cond (ix_okn 1 (nI 1)) (some (.inl (some (ix_I (nI 1))), h)) none
  else
    (ix_atr h 101 v0 v3).bind fun a8 =>
    if ((ix_aI h a8 v3.toNatClampNeg) &&& (nI 31)) = nI 0 then
      (ix_atr h 101 v0 (v3 + (nI 1))).bind fun a9 =>
      (ix_atr h 101 v0 (v3 + (nI 2))).bind fun a10 =>
      (ix_atr h 101 v0 (v3 + (nI 3))).bind fun a11 =>
      (ix_atr h 101 v0 (v3 + (nI 4))).bind fun a12 =>
      (ix_atr h 101 v0 (v3 + (nI 5))).bind fun a13 =>
      (ix_isr h 1 v1).bind fun a15 =>
      (ix_rI (cal 80 [ix_R (some a15), ix_I (ix_aI h a9 (v3 + (nI 1)).toNatClampNeg), ix_I (ix_aI h a10 (v3 + (nI 2)).toNatClampNeg), ix_I (ix_aI h a11 (v3 + (nI 3)).toNatClampNeg), ix_I (ix_aI h a12 (v3 + (nI 4)).toNatClampNeg), ix_I (ix_aI h a13 (v3 + (nI 5)).toNatClampNeg)] h)).bind fun r14 =>
      (ix_atr r14.2 101 v0 (v3 + (nI 1))).bind fun a16 =>
      (ix_atr r14.2 101 v0 (v3 + (nI 2))).bind fun a17 =>
      (ix_atr r14.2 101 v0 (v3 + (nI 3))).bind fun a18 =>
      (ix_atr r14.2 101 v0 (v3 + (nI 4))).bind fun a19 =>
      (ix_atr r14.2 101 v0 (v3 + (nI 5))).bind fun a20 =>
      (ix_isr r14.2 10 v2).bind fun a22 =>
      (ix_rI (cal 240 [ix_R (some a22), ix_I (ix_aI r14.2 a16 (v3 + (nI 1)).toNatClampNeg), ix_I (ix_aI r14.2 a17 (v3 + (nI 2)).toNatClampNeg), ix_I (ix_aI r14.2 a18 (v3 + (nI 3)).toNatClampNeg), ix_I (ix_aI r14.2 a19 (v3 + (nI 4)).toNatClampNeg), ix_I (ix_aI r14.2 a20 (v3 + (nI 5)).toNatClampNeg)] r14.2)).bind fun r21 =>
      if r14.1 = r21.1 then
        jL_law_581 cal K v0 v1 v2 v3 r21.2
      else
        cond (ix_okn 1 (nI 0)) (some (.inl (some (ix_I (nI 0))), r21.2)) none
    else
    if ((ix_aI h a8 v3.toNatClampNeg) &&& (nI 31)) = nI 1 then
      (ix_atr h 101 v0 (v3 + (nI 1))).bind fun a23 =>
      (ix_isr h 1 v1).bind fun a25 =>
      (ix_rI (cal 82 [ix_R (some a25), ix_I (ix_aI h a23 (v3 + (nI 1)).toNatClampNeg)] h)).bind fun r24 =>
      (ix_atr r24.2 101 v0 (v3 + (nI 1))).bind fun a26 =>
      (ix_isr r24.2 10 v2).bind fun a28 =>
      (ix_rI (cal 242 [ix_R (some a28), ix_I (ix_aI r24.2 a26 (v3 + (nI 1)).toNatClampNeg)] r24.2)).bind fun r27 =>
      if r24.1 = r27.1 then
        jL_law_581 cal K v0 v1 v2 v3 r27.2
      else
        cond (ix_okn 1 (nI 0)) (some (.inl (some (ix_I (nI 0))), r27.2)) none
    else
    if ((ix_aI h a8 v3.toNatClampNeg) &&& (nI 31)) = nI 2 then
      (ix_isr h 1 v1).bind fun a30 =>
      (ix_rI (cal 83 [ix_R (some a30)] h)).bind fun r29 =>
      (ix_isr r29.2 10 v2).bind fun a32 =>
      (ix_rI (cal 243 [ix_R (some a32)] r29.2)).bind fun r31 =>
      if r29.1 = r31.1 then
        jL_law_581 cal K v0 v1 v2 v3 r31.2
      else
        cond (ix_okn 1 (nI 0)) (some (.inl (some (ix_I (nI 0))), r31.2)) none
    else
    if ((ix_aI h a8 v3.toNatClampNeg) &&& (nI 31)) = nI 3 then
      (ix_isr h 1 v1).bind fun a34 =>
      (ix_rI (cal 85 [ix_R (some a34)] h)).bind fun r33 =>
      (ix_isr r33.2 10 v2).bind fun a36 =>
      (ix_rI (cal 315 [ix_R (some a36)] r33.2)).bind fun r35 =>
      if r33.1 = r35.1 then
        jL_law_581 cal K v0 v1 v2 v3 r35.2
      else
        cond (ix_okn 1 (nI 0)) (some (.inl (some (ix_I (nI 0))), r35.2)) none
    else
    if ((ix_aI h a8 v3.toNatClampNeg) &&& (nI 31)) = nI 4 then
      (ix_atr h 101 v0 (v3 + (nI 1))).bind fun a37 =>
      (ix_atr h 101 v0 (v3 + (nI 2))).bind fun a38 =>
      (ix_atr h 101 v0 (v3 + (nI 3))).bind fun a39 =>
      (ix_atr h 101 v0 (v3 + (nI 4))).bind fun a40 =>
      (ix_isr h 1 v1).bind fun a42 =>
      (ix_rI (cal 86 [ix_R (some a42), ix_I (ix_aI h a37 (v3 + (nI 1)).toNatClampNeg), ix_I (ix_aI h a38 (v3 + (nI 2)).toNatClampNeg), ix_I (ix_aI h a39 (v3 + (nI 3)).toNatClampNeg), ix_I (ix_aI h a40 (v3 + (nI 4)).toNatClampNeg)] h)).bind fun r41 =>
      (ix_atr r41.2 101 v0 (v3 + (nI 1))).bind fun a43 =>
      (ix_atr r41.2 101 v0 (v3 + (nI 2))).bind fun a44 =>
      (ix_atr r41.2 101 v0 (v3 + (nI 3))).bind fun a45 =>
      (ix_atr r41.2 101 v0 (v3 + (nI 4))).bind fun a46 =>
      (ix_isr r41.2 10 v2).bind fun a48 =>
      (ix_rI (cal 316 [ix_R (some a48), ix_I (ix_aI r41.2 a43 (v3 + (nI 1)).toNatClampNeg), ix_I (ix_aI r41.2 a44 (v3 + (nI 2)).toNatClampNeg), ix_I (ix_aI r41.2 a45 (v3 + (nI 3)).toNatClampNeg), ix_I (ix_aI r41.2 a46 (v3 + (nI 4)).toNatClampNeg)] r41.2)).bind fun r47 =>
      if r41.1 = r47.1 then
        jL_law_581 cal K v0 v1 v2 v3 r47.2
      else
        cond (ix_okn 1 (nI 0)) (some (.inl (some (ix_I (nI 0))), r47.2)) none
    else
    if ((ix_aI h a8 v3.toNatClampNeg) &&& (nI 31)) = nI 5 then
      (ix_atr h 101 v0 (v3 + (nI 1))).bind fun a49 =>
      (ix_isr h 1 v1).bind fun a51 =>
      (ix_rI (cal 90 [ix_R (some a51), ix_I (ix_aI h a49 (v3 + (nI 1)).toNatClampNeg)] h)).bind fun r50 =>
      (ix_atr r50.2 101 v0 (v3 + (nI 1))).bind fun a52 =>
      (ix_isr r50.2 10 v2).bind fun a54 =>
      (ix_rI (cal 320 [ix_R (some a54), ix_I (ix_aI r50.2 a52 (v3 + (nI 1)).toNatClampNeg)] r50.2)).bind fun r53 =>
      if r50.1 = r53.1 then
        jL_law_581 cal K v0 v1 v2 v3 r53.2
      else
        cond (ix_okn 1 (nI 0)) (some (.inl (some (ix_I (nI 0))), r53.2)) none
    else
    if ((ix_aI h a8 v3.toNatClampNeg) &&& (nI 31)) = nI 6 then
      (ix_atr h 101 v0 (v3 + (nI 1))).bind fun a55 =>
      (ix_isr h 1 v1).bind fun a57 =>
      (ix_rI (cal 91 [ix_R (some a57), ix_I (ix_aI h a55 (v3 + (nI 1)).toNatClampNeg)] h)).bind fun r56 =>
      (ix_atr r56.2 101 v0 (v3 + (nI 1))).bind fun a58 =>
      (ix_isr r56.2 10 v2).bind fun a60 =>
      (ix_rI (cal 321 [ix_R (some a60), ix_I (ix_aI r56.2 a58 (v3 + (nI 1)).toNatClampNeg)] r56.2)).bind fun r59 =>
      if r56.1 = r59.1 then
        jL_law_581 cal K v0 v1 v2 v3 r59.2
      else
        cond (ix_okn 1 (nI 0)) (some (.inl (some (ix_I (nI 0))), r59.2)) none
    else
    if ((ix_aI h a8 v3.toNatClampNeg) &&& (nI 31)) = nI 7 then
      (ix_isr h 1 v1).bind fun a62 =>
      (ix_rI (cal 92 [ix_R (some a62)] h)).bind fun r61 =>
      (ix_isr r61.2 10 v2).bind fun a64 =>
      (ix_rI (cal 322 [ix_R (some a64)] r61.2)).bind fun r63 =>
      if r61.1 = r63.1 then
        jL_law_581 cal K v0 v1 v2 v3 r63.2
      else
        cond (ix_okn 1 (nI 0)) (some (.inl (some (ix_I (nI 0))), r63.2)) none
    else
    if ((ix_aI h a8 v3.toNatClampNeg) &&& (nI 31)) = nI 8 then
      (ix_atr h 101 v0 (v3 + (nI 1))).bind fun a65 =>
      (ix_isr h 1 v1).bind fun a67 =>
      (ix_rI (cal 93 [ix_R (some a67), ix_I (ix_aI h a65 (v3 + (nI 1)).toNatClampNeg)] h)).bind fun r66 =>
      (ix_atr r66.2 101 v0 (v3 + (nI 1))).bind fun a68 =>
      (ix_isr r66.2 10 v2).bind fun a70 =>
      (ix_rI (cal 323 [ix_R (some a70), ix_I (ix_aI r66.2 a68 (v3 + (nI 1)).toNatClampNeg)] r66.2)).bind fun r69 =>
      if r66.1 = r69.1 then
        jL_law_581 cal K v0 v1 v2 v3 r69.2
      else
        cond (ix_okn 1 (nI 0)) (some (.inl (some (ix_I (nI 0))), r69.2)) none
    else
    if ((ix_aI h a8 v3.toNatClampNeg) &&& (nI 31)) = nI 9 then
      (ix_atr h 101 v0 (v3 + (nI 1))).bind fun a71 =>
      (ix_isr h 1 v1).bind fun a73 =>
      (ix_rI (cal 95 [ix_R (some a73), ix_I (ix_aI h a71 (v3 + (nI 1)).toNatClampNeg)] h)).bind fun r72 =>
      (ix_atr r72.2 101 v0 (v3 + (nI 1))).bind fun a74 =>
      (ix_isr r72.2 10 v2).bind fun a76 =>
      (ix_rI (cal 325 [ix_R (some a76), ix_I (ix_aI r72.2 a74 (v3 + (nI 1)).toNatClampNeg)] r72.2)).bind fun r75 =>
      if r72.1 = r75.1 then
        jL_law_581 cal K v0 v1 v2 v3 r75.2
      else
        cond (ix_okn 1 (nI 0)) (some (.inl (some (ix_I (nI 0))), r75.2)) none
    else
    if ((ix_aI h a8 v3.toNatClampNeg) &&& (nI 31)) = nI 10 then
      (ix_atr h 101 v0 (v3 + (nI 1))).bind fun a77 =>
      (ix_atr h 101 v0 (v3 + (nI 2))).bind fun a78 =>
      (ix_isr h 1 v1).bind fun a80 =>
      (ix_rI (cal 96 [ix_R (some a80), ix_I (ix_aI h a77 (v3 + (nI 1)).toNatClampNeg), ix_I (ix_aI h a78 (v3 + (nI 2)).toNatClampNeg)] h)).bind fun r79 =>
      (ix_atr r79.2 101 v0 (v3 + (nI 1))).bind fun a81 =>
      (ix_atr r79.2 101 v0 (v3 + (nI 2))).bind fun a82 =>
      (ix_isr r79.2 10 v2).bind fun a84 =>
      (ix_rI (cal 326 [ix_R (some a84), ix_I (ix_aI r79.2 a81 (v3 + (nI 1)).toNatClampNeg), ix_I (ix_aI r79.2 a82 (v3 + (nI 2)).toNatClampNeg)] r79.2)).bind fun r83 =>
      if r79.1 = r83.1 then
        jL_law_581 cal K v0 v1 v2 v3 r83.2
      else
        cond (ix_okn 1 (nI 0)) (some (.inl (some (ix_I (nI 0))), r83.2)) none
    else
    if ((ix_aI h a8 v3.toNatClampNeg) &&& (nI 31)) = nI 11 then
      (ix_atr h 101 v0 (v3 + (nI 1))).bind fun a85 =>
      (ix_atr h 101 v0 (v3 + (nI 2))).bind fun a86 =>
      (ix_isr h 1 v1).bind fun a88 =>
      (ix_rI (cal 97 [ix_R (some a88), ix_I (ix_aI h a85 (v3 + (nI 1)).toNatClampNeg), ix_I (ix_aI h a86 (v3 + (nI 2)).toNatClampNeg)] h)).bind fun r87 =>
      (ix_atr r87.2 101 v0 (v3 + (nI 1))).bind fun a89 =>
      (ix_atr r87.2 101 v0 (v3 + (nI 2))).bind fun a90 =>
      (ix_isr r87.2 10 v2).bind fun a92 =>
      (ix_rI (cal 327 [ix_R (some a92), ix_I (ix_aI r87.2 a89 (v3 + (nI 1)).toNatClampNeg), ix_I (ix_aI r87.2 a90 (v3 + (nI 2)).toNatClampNeg)] r87.2)).bind fun r91 =>
      if r87.1 = r91.1 then
        jL_law_581 cal K v0 v1 v2 v3 r91.2
      else
        cond (ix_okn 1 (nI 0)) (some (.inl (some (ix_I (nI 0))), r91.2)) none
    else
    if ((ix_aI h a8 v3.toNatClampNeg) &&& (nI 31)) = nI 12 then
      (ix_atr h 101 v0 (v3 + (nI 1))).bind fun a93 =>
      (ix_isr h 1 v1).bind fun a95 =>
      (ix_rI (cal 98 [ix_R (some a95), ix_I (ix_aI h a93 (v3 + (nI 1)).toNatClampNeg)] h)).bind fun r94 =>
      (ix_atr r94.2 101 v0 (v3 + (nI 1))).bind fun a96 =>
      (ix_isr r94.2 10 v2).bind fun a98 =>
      (ix_rI (cal 328 [ix_R (some a98), ix_I (ix_aI r94.2 a96 (v3 + (nI 1)).toNatClampNeg)] r94.2)).bind fun r97 =>
      if r94.1 = r97.1 then
        jL_law_581 cal K v0 v1 v2 v3 r97.2
      else
        cond (ix_okn 1 (nI 0)) (some (.inl (some (ix_I (nI 0))), r97.2)) none
    else
    if ((ix_aI h a8 v3.toNatClampNeg) &&& (nI 31)) = nI 13 then
      (ix_atr h 101 v0 (v3 + (nI 1))).bind fun a99 =>
      (ix_atr h 101 v0 (v3 + (nI 2))).bind fun a100 =>
      (ix_isr h 1 v1).bind fun a102 =>
      (ix_rI (cal 99 [ix_R (some a102), ix_I (ix_aI h a99 (v3 + (nI 1)).toNatClampNeg), ix_I (ix_aI h a100 (v3 + (nI 2)).toNatClampNeg)] h)).bind fun r101 =>
      (ix_atr r101.2 101 v0 (v3 + (nI 1))).bind fun a103 =>
      (ix_atr r101.2 101 v0 (v3 + (nI 2))).bind fun a104 =>
      (ix_isr r101.2 10 v2).bind fun a106 =>
      (ix_rI (cal 329 [ix_R (some a106), ix_I (ix_aI r101.2 a103 (v3 + (nI 1)).toNatClampNeg), ix_I (ix_aI r101.2 a104 (v3 + (nI 2)).toNatClampNeg)] r101.2)).bind fun r105 =>
      if r101.1 = r105.1 then
        jL_law_581 cal K v0 v1 v2 v3 r105.2
      else
        cond (ix_okn 1 (nI 0)) (some (.inl (some (ix_I (nI 0))), r105.2)) none
    else
    if ((ix_aI h a8 v3.toNatClampNeg) &&& (nI 31)) = nI 14 then
      (ix_atr h 101 v0 (v3 + (nI 1))).bind fun a107 =>
      (ix_atr h 101 v0 (v3 + (nI 2))).bind fun a108 =>
      (ix_isr h 1 v1).bind fun a110 =>
      (ix_rI (cal 101 [ix_R (some a110), ix_I (ix_aI h a107 (v3 + (nI 1)).toNatClampNeg), ix_I (ix_aI h a108 (v3 + (nI 2)).toNatClampNeg)] h)).bind fun r109 =>
      (ix_atr r109.2 101 v0 (v3 + (nI 1))).bind fun a111 =>
      (ix_atr r109.2 101 v0 (v3 + (nI 2))).bind fun a112 =>
      (ix_isr r109.2 10 v2).bind fun a114 =>
      (ix_rI (cal 330 [ix_R (some a114), ix_I (ix_aI r109.2 a111 (v3 + (nI 1)).toNatClampNeg), ix_I (ix_aI r109.2 a112 (v3 + (nI 2)).toNatClampNeg)] r109.2)).bind fun r113 =>
      if r109.1 = r113.1 then
        jL_law_581 cal K v0 v1 v2 v3 r113.2
      else
        cond (ix_okn 1 (nI 0)) (some (.inl (some (ix_I (nI 0))), r113.2)) none
    else
    if ((ix_aI h a8 v3.toNatClampNeg) &&& (nI 31)) = nI 15 then
      (ix_atr h 101 v0 (v3 + (nI 1))).bind fun a115 =>
      (ix_atr h 101 v0 (v3 + (nI 2))).bind fun a116 =>
      (ix_isr h 1 v1).bind fun a118 =>
      (ix_rI (cal 102 [ix_R (some a118), ix_I (ix_aI h a115 (v3 + (nI 1)).toNatClampNeg), ix_I (ix_aI h a116 (v3 + (nI 2)).toNatClampNeg)] h)).bind fun r117 =>
      (ix_atr r117.2 101 v0 (v3 + (nI 1))).bind fun a119 =>
      (ix_atr r117.2 101 v0 (v3 + (nI 2))).bind fun a120 =>
      (ix_isr r117.2 10 v2).bind fun a122 =>
      (ix_rI (cal 331 [ix_R (some a122), ix_I (ix_aI r117.2 a119 (v3 + (nI 1)).toNatClampNeg), ix_I (ix_aI r117.2 a120 (v3 + (nI 2)).toNatClampNeg)] r117.2)).bind fun r121 =>
      if r117.1 = r121.1 then
        jL_law_581 cal K v0 v1 v2 v3 r121.2
      else
        cond (ix_okn 1 (nI 0)) (some (.inl (some (ix_I (nI 0))), r121.2)) none
    else
    if ((ix_aI h a8 v3.toNatClampNeg) &&& (nI 31)) = nI 16 then
      (ix_atr h 101 v0 (v3 + (nI 1))).bind fun a123 =>
      (ix_atr h 101 v0 (v3 + (nI 2))).bind fun a124 =>
      (ix_atr h 101 v0 (v3 + (nI 3))).bind fun a125 =>
      (ix_isr h 1 v1).bind fun a127 =>
      (ix_rI (cal 104 [ix_R (some a127), ix_I (ix_aI h a123 (v3 + (nI 1)).toNatClampNeg), ix_I (ix_aI h a124 (v3 + (nI 2)).toNatClampNeg), ix_I (ix_aI h a125 (v3 + (nI 3)).toNatClampNeg)] h)).bind fun r126 =>
      (ix_atr r126.2 101 v0 (v3 + (nI 1))).bind fun a128 =>
      (ix_atr r126.2 101 v0 (v3 + (nI 2))).bind fun a129 =>
      (ix_atr r126.2 101 v0 (v3 + (nI 3))).bind fun a130 =>
      (ix_isr r126.2 10 v2).bind fun a132 =>
      (ix_rI (cal 333 [ix_R (some a132), ix_I (ix_aI r126.2 a128 (v3 + (nI 1)).toNatClampNeg), ix_I (ix_aI r126.2 a129 (v3 + (nI 2)).toNatClampNeg), ix_I (ix_aI r126.2 a130 (v3 + (nI 3)).toNatClampNeg)] r126.2)).bind fun r131 =>
      if r126.1 = r131.1 then
        jL_law_581 cal K v0 v1 v2 v3 r131.2
      else
        cond (ix_okn 1 (nI 0)) (some (.inl (some (ix_I (nI 0))), r131.2)) none
    else
    if ((ix_aI h a8 v3.toNatClampNeg) &&& (nI 31)) = nI 17 then
      (ix_atr h 101 v0 (v3 + (nI 1))).bind fun a133 =>
      (ix_atr h 101 v0 (v3 + (nI 2))).bind fun a134 =>
      (ix_isr h 1 v1).bind fun a136 =>
      (ix_rI (cal 105 [ix_R (some a136), ix_I (ix_aI h a133 (v3 + (nI 1)).toNatClampNeg), ix_I (ix_aI h a134 (v3 + (nI 2)).toNatClampNeg)] h)).bind fun r135 =>
      (ix_atr r135.2 101 v0 (v3 + (nI 1))).bind fun a137 =>
      (ix_atr r135.2 101 v0 (v3 + (nI 2))).bind fun a138 =>
      (ix_isr r135.2 10 v2).bind fun a140 =>
      (ix_rI (cal 334 [ix_R (some a140), ix_I (ix_aI r135.2 a137 (v3 + (nI 1)).toNatClampNeg), ix_I (ix_aI r135.2 a138 (v3 + (nI 2)).toNatClampNeg)] r135.2)).bind fun r139 =>
      if r135.1 = r139.1 then
        jL_law_581 cal K v0 v1 v2 v3 r139.2
      else
        cond (ix_okn 1 (nI 0)) (some (.inl (some (ix_I (nI 0))), r139.2)) none
    else
    if ((ix_aI h a8 v3.toNatClampNeg) &&& (nI 31)) = nI 18 then
      (ix_atr h 101 v0 (v3 + (nI 1))).bind fun a141 =>
      (ix_isr h 1 v1).bind fun a143 =>
      (ix_rI (cal 106 [ix_R (some a143), ix_I (ix_aI h a141 (v3 + (nI 1)).toNatClampNeg)] h)).bind fun r142 =>
      (ix_atr r142.2 101 v0 (v3 + (nI 1))).bind fun a144 =>
      (ix_isr r142.2 10 v2).bind fun a146 =>
      (ix_rI (cal 335 [ix_R (some a146), ix_I (ix_aI r142.2 a144 (v3 + (nI 1)).toNatClampNeg)] r142.2)).bind fun r145 =>
      if r142.1 = r145.1 then
        jL_law_581 cal K v0 v1 v2 v3 r145.2
      else
        cond (ix_okn 1 (nI 0)) (some (.inl (some (ix_I (nI 0))), r145.2)) none
    else
    if ((ix_aI h a8 v3.toNatClampNeg) &&& (nI 31)) = nI 19 then
      (ix_atr h 101 v0 (v3 + (nI 1))).bind fun a147 =>
      (ix_isr h 1 v1).bind fun a149 =>
      (ix_rI (cal 107 [ix_R (some a149), ix_I (ix_aI h a147 (v3 + (nI 1)).toNatClampNeg)] h)).bind fun r148 =>
      (ix_atr r148.2 101 v0 (v3 + (nI 1))).bind fun a150 =>
      (ix_isr r148.2 10 v2).bind fun a152 =>
      (ix_rI (cal 336 [ix_R (some a152), ix_I (ix_aI r148.2 a150 (v3 + (nI 1)).toNatClampNeg)] r148.2)).bind fun r151 =>
      if r148.1 = r151.1 then
        jL_law_581 cal K v0 v1 v2 v3 r151.2
      else
        cond (ix_okn 1 (nI 0)) (some (.inl (some (ix_I (nI 0))), r151.2)) none
    else
    if ((ix_aI h a8 v3.toNatClampNeg) &&& (nI 31)) = nI 20 then
      (ix_atr h 101 v0 (v3 + (nI 1))).bind fun a153 =>
      (ix_atr h 101 v0 (v3 + (nI 2))).bind fun a154 =>
      (ix_atr h 101 v0 (v3 + (nI 3))).bind fun a155 =>
      (ix_atr h 101 v0 (v3 + (nI 4))).bind fun a156 =>
      (ix_isr h 1 v1).bind fun a158 =>
      (ix_rI (cal 108 [ix_R (some a158), ix_I (ix_aI h a153 (v3 + (nI 1)).toNatClampNeg), ix_I (ix_aI h a154 (v3 + (nI 2)).toNatClampNeg), ix_I (ix_aI h a155 (v3 + (nI 3)).toNatClampNeg), ix_I (ix_aI h a156 (v3 + (nI 4)).toNatClampNeg)] h)).bind fun r157 =>
      (ix_atr r157.2 101 v0 (v3 + (nI 1))).bind fun a159 =>
      (ix_atr r157.2 101 v0 (v3 + (nI 2))).bind fun a160 =>
      (ix_atr r157.2 101 v0 (v3 + (nI 3))).bind fun a161 =>
      (ix_atr r157.2 101 v0 (v3 + (nI 4))).bind fun a162 =>
      (ix_isr r157.2 10 v2).bind fun a164 =>
      (ix_rI (cal 339 [ix_R (some a164), ix_I (ix_aI r157.2 a159 (v3 + (nI 1)).toNatClampNeg), ix_I (ix_aI r157.2 a160 (v3 + (nI 2)).toNatClampNeg), ix_I (ix_aI r157.2 a161 (v3 + (nI 3)).toNatClampNeg), ix_I (ix_aI r157.2 a162 (v3 + (nI 4)).toNatClampNeg)] r157.2)).bind fun r163 =>
      if r157.1 = r163.1 then
        jL_law_581 cal K v0 v1 v2 v3 r163.2
      else
        cond (ix_okn 1 (nI 0)) (some (.inl (some (ix_I (nI 0))), r163.2)) none
    else
    if ((ix_aI h a8 v3.toNatClampNeg) &&& (nI 31)) = nI 21 then
      (ix_atr h 101 v0 (v3 + (nI 1))).bind fun a165 =>
      (ix_isr h 1 v1).bind fun a167 =>
      (ix_rI (cal 112 [ix_R (some a167), ix_I (ix_aI h a165 (v3 + (nI 1)).toNatClampNeg)] h)).bind fun r166 =>
      (ix_atr r166.2 101 v0 (v3 + (nI 1))).bind fun a168 =>
      (ix_isr r166.2 10 v2).bind fun a170 =>
      (ix_rI (cal 345 [ix_R (some a170), ix_I (ix_aI r166.2 a168 (v3 + (nI 1)).toNatClampNeg)] r166.2)).bind fun r169 =>
      if r166.1 = r169.1 then
        jL_law_581 cal K v0 v1 v2 v3 r169.2
      else
        cond (ix_okn 1 (nI 0)) (some (.inl (some (ix_I (nI 0))), r169.2)) none
    else
    if ((ix_aI h a8 v3.toNatClampNeg) &&& (nI 31)) = nI 22 then
      (ix_atr h 101 v0 (v3 + (nI 1))).bind fun a171 =>
      (ix_isr h 1 v1).bind fun a173 =>
      (ix_rI (cal 113 [ix_R (some a173), ix_I (ix_aI h a171 (v3 + (nI 1)).toNatClampNeg)] h)).bind fun r172 =>
      (ix_atr r172.2 101 v0 (v3 + (nI 1))).bind fun a174 =>
      (ix_isr r172.2 10 v2).bind fun a176 =>
      (ix_rI (cal 346 [ix_R (some a176), ix_I (ix_aI r172.2 a174 (v3 + (nI 1)).toNatClampNeg)] r172.2)).bind fun r175 =>
      if r172.1 = r175.1 then
        jL_law_581 cal K v0 v1 v2 v3 r175.2
      else
        cond (ix_okn 1 (nI 0)) (some (.inl (some (ix_I (nI 0))), r175.2)) none
    else
    if ((ix_aI h a8 v3.toNatClampNeg) &&& (nI 31)) = nI 23 then
      (ix_atr h 101 v0 (v3 + (nI 1))).bind fun a177 =>
      (ix_isr h 1 v1).bind fun a179 =>
      (ix_rI (cal 114 [ix_R (some a179), ix_I (ix_aI h a177 (v3 + (nI 1)).toNatClampNeg)] h)).bind fun r178 =>
      (ix_atr r178.2 101 v0 (v3 + (nI 1))).bind fun a180 =>
      (ix_isr r178.2 10 v2).bind fun a182 =>
      (ix_rI (cal 347 [ix_R (some a182), ix_I (ix_aI r178.2 a180 (v3 + (nI 1)).toNatClampNeg)] r178.2)).bind fun r181 =>
      if r178.1 = r181.1 then
        jL_law_581 cal K v0 v1 v2 v3 r181.2
      else
        cond (ix_okn 1 (nI 0)) (some (.inl (some (ix_I (nI 0))), r181.2)) none
    else
      jL_law_581 cal K v0 v1 v2 v3 h
theorem jL_law_10_eq (cal : ix_C) (K : ix_K) (v0 : Option Nat) (v1 : Option Nat) (v2 : Option Nat) (v3 : Int32) (h : ix_H) : ix_fwd cal K (stL_law.drop 10) 0 [(0, ix_R v0), (1, ix_R v1), (2, ix_R v2), (3, ix_I v3)] [] h = jL_law_10 cal K v0 v1 v2 v3 h := rfl
def bL_law (cal : ix_C) (K : ix_K) (v0 : Option Nat) (h : ix_H) : ix_O :=
  ix_bd (ix_nwO h 1 14) fun h1 =>
  (ix_isr h1 1 (some (ix_sz h))).bind fun a3 =>
  (ix_rV (cal 79 [ix_R (some a3)] h1)).bind fun r2 =>
  ix_bd (ix_nwO r2 10 55) fun h4 =>
  (ix_isr h4 10 (some (ix_sz r2))).bind fun a6 =>
  (ix_rV (cal 230 [ix_R (some a6)] h4)).bind fun r5 =>
  jL_law_10 cal K v0 (some (ix_sz h)) (some (ix_sz r2)) (nI 0) r5
theorem eL_law (cal : ix_C) (K : ix_K) (v0 : Option Nat) (h : ix_H) : ix_fwd cal K stL_law 0 [(0, ix_R v0)] [] h = bL_law cal K v0 h := rfl
theorem lL_law_10 (cal : ix_C) (n : Nat) (v0 : Option Nat) (v1 : Option Nat) (v2 : Option Nat) (v3 : Int32) (h : ix_H) : ix_lp cal stL_law (n + 1) 10 [(0, ix_R v0), (1, ix_R v1), (2, ix_R v2), (3, ix_I v3)] [] h = jL_law_10 cal (ix_lp cal stL_law n) v0 v1 v2 v3 h := jL_law_10_eq cal (ix_lp cal stL_law n) v0 v1 v2 v3 h
def bX0_init (cal : ix_C) (K : ix_K) (v0 : Nat) (h : ix_H) : ix_O :=
  ix_bd (ix_nwO h 2 8) fun h2 =>
  (ix_isr h2 2 (some (ix_sz h))).bind fun a4 =>
  (ix_rV (cal 117 [ix_R (some a4)] h2)).bind fun r3 =>
  (ix_is r3 1 (some v0)).bind fun a5 =>
  ix_bd (ix_wfR r3 a5 0 (some (ix_sz h))) fun h6 =>
  ix_bd (ix_nwO h6 3 8) fun h7 =>
  (ix_isr h7 3 (some (ix_sz h6))).bind fun a9 =>
  (ix_rV (cal 138 [ix_R (some a9)] h7)).bind fun r8 =>
  (ix_is r8 1 (some v0)).bind fun a10 =>
  ix_bd (ix_wfR r8 a10 1 (some (ix_sz h6))) fun h11 =>
  ix_bd (ix_nwO h11 4 8) fun h12 =>
  (ix_is h12 1 (some v0)).bind fun a13 =>
  (ix_is h12 1 (some v0)).bind fun a14 =>
  (ix_isr h12 4 (some (ix_sz h11))).bind fun a16 =>
  (ix_rV (cal 148 [ix_R (some a16), ix_R (ix_fR h12 a13 1), ix_R (ix_fR h12 a14 0)] h12)).bind fun r15 =>
  (ix_is r15 1 (some v0)).bind fun a17 =>
  ix_bd (ix_wfR r15 a17 2 (some (ix_sz h11))) fun h18 =>
  (ix_is h18 1 (some v0)).bind fun a19 =>
  ix_bd (ix_wfI h18 a19 3 (-1 : Int32)) fun h20 =>
  ix_bd (ix_nwO h20 5 13) fun h21 =>
  (ix_isr h21 5 (some (ix_sz h20))).bind fun a23 =>
  (ix_rV (cal 171 [ix_R (some a23)] h21)).bind fun r22 =>
  (ix_is r22 1 (some v0)).bind fun a24 =>
  ix_bd (ix_wfR r22 a24 5 (some (ix_sz h20))) fun h25 =>
  ix_bd (ix_nwO h25 5 13) fun h26 =>
  (ix_isr h26 5 (some (ix_sz h25))).bind fun a28 =>
  (ix_rV (cal 171 [ix_R (some a28)] h26)).bind fun r27 =>
  (ix_is r27 1 (some v0)).bind fun a29 =>
  ix_bd (ix_wfR r27 a29 6 (some (ix_sz h25))) fun h30 =>
  cond (ix_in (nI 3) 1000001) (
  ix_bd (ix_nwA h30 113 (nI 3).toNatClampNeg) fun h31 =>
    ix_bd (ix_nwO h31 5 13) fun h32 =>
    (ix_isr h32 5 (some (ix_sz h31))).bind fun a34 =>
    (ix_rV (cal 171 [ix_R (some a34)] h32)).bind fun r33 =>
    (ix_at r33 113 (some (ix_sz h30)) (nI 0)).bind fun a35 =>
    cond (ix_of r33 [5] (some (ix_sz h31))) (
    ix_bd (ix_waR r33 a35 (nI 0).toNatClampNeg (some (ix_sz h31))) fun h36 =>
      ix_bd (ix_nwO h36 5 13) fun h37 =>
      (ix_isr h37 5 (some (ix_sz h36))).bind fun a39 =>
      (ix_rV (cal 171 [ix_R (some a39)] h37)).bind fun r38 =>
      (ix_at r38 113 (some (ix_sz h30)) (nI 1)).bind fun a40 =>
      cond (ix_of r38 [5] (some (ix_sz h36))) (
      ix_bd (ix_waR r38 a40 (nI 1).toNatClampNeg (some (ix_sz h36))) fun h41 =>
        ix_bd (ix_nwO h41 5 13) fun h42 =>
        (ix_isr h42 5 (some (ix_sz h41))).bind fun a44 =>
        (ix_rV (cal 171 [ix_R (some a44)] h42)).bind fun r43 =>
        (ix_at r43 113 (some (ix_sz h30)) (nI 2)).bind fun a45 =>
        cond (ix_of r43 [5] (some (ix_sz h41))) (
        ix_bd (ix_waR r43 a45 (nI 2).toNatClampNeg (some (ix_sz h41))) fun h46 =>
          (ix_is h46 1 (some v0)).bind fun a47 =>
          ix_bd (ix_wfR h46 a47 7 (some (ix_sz h30))) fun h48 =>
          ix_bd (ix_nwO h48 6 12) fun h49 =>
          (ix_isr h49 6 (some (ix_sz h48))).bind fun a51 =>
          (ix_rV (cal 207 [ix_R (some a51)] h49)).bind fun r50 =>
          (ix_is r50 1 (some v0)).bind fun a52 =>
          ix_bd (ix_wfR r50 a52 8 (some (ix_sz h48))) fun h53 =>
          cond (ix_in (nI 3) 1000001) (
          ix_bd (ix_nwA h53 105 (nI 3).toNatClampNeg) fun h54 =>
            (ix_is h54 1 (some v0)).bind fun a55 =>
            ix_bd (ix_wfR h54 a55 9 (some (ix_sz h53))) fun h56 =>
            cond (ix_in (nI 1000) 1000001) (
            ix_bd (ix_nwA h56 101 (nI 1000).toNatClampNeg) fun h57 =>
              (ix_is h57 1 (some v0)).bind fun a58 =>
              ix_bd (ix_wfR h57 a58 10 (some (ix_sz h56))) fun h59 =>
              cond (ix_in (nI 1000) 1000001) (
              ix_bd (ix_nwA h59 101 (nI 1000).toNatClampNeg) fun h60 =>
                (ix_is h60 1 (some v0)).bind fun a61 =>
                ix_bd (ix_wfR h60 a61 11 (some (ix_sz h59))) fun h62 =>
                cond (ix_in (nI 1000) 1000001) (
                ix_bd (ix_nwA h62 101 (nI 1000).toNatClampNeg) fun h63 =>
                  (ix_is h63 1 (some v0)).bind fun a64 =>
                  ix_bd (ix_wfR h63 a64 12 (some (ix_sz h62))) fun h65 =>
                  cond (ix_in (nI 1000) 1000001) (
                  ix_bd (ix_nwA h65 101 (nI 1000).toNatClampNeg) fun h66 =>
                    (ix_is h66 1 (some v0)).bind fun a67 =>
                    ix_bd (ix_wfR h66 a67 13 (some (ix_sz h65))) fun h68 =>
                    (ix_is h68 1 (some v0)).bind fun a69 =>
                    ix_bd (ix_nwO h68 8 4) fun h70 =>
                    (ix_isr h70 8 (some (ix_sz h68))).bind fun a72 =>
                    (ix_rV (cal 225 [ix_R (some a72)] h70)).bind fun r71 =>
                    (ix_isr r71 5 (ix_fR h68 a69 5)).bind fun a74 =>
                    (ix_rV (cal 172 [ix_R (some a74), ix_R (some (ix_sz h68))] r71)).bind fun r73 =>
                    some (.inl none, r73)) none) none) none) none) none) none) none) none) none
theorem eX0_init (cal : ix_C) (K : ix_K) (v0 : Nat) (h : ix_H) : ix_fwd cal K stX0_init 0 [(0, ix_R (some v0))] [] h = bX0_init cal K v0 h := rfl
theorem rX0_init (N d : Nat) (v0 : Nat) (h : ix_H) : ix_run iy_P N (d + 1) 79 [ix_R (some v0)] h = bX0_init (ix_run iy_P N d) (ix_lp (ix_run iy_P N d) stX0_init N) v0 h := (rfl : ix_run iy_P N (d + 1) 79 [ix_R (some v0)] h = ix_fwd (ix_run iy_P N d) (ix_lp (ix_run iy_P N d) stX0_init N) stX0_init 0 [(0, ix_R (some v0))] [] h).trans (eX0_init _ _ v0 h)
def bX0_feed (cal : ix_C) (K : ix_K) (v0 : Nat) (v1 : Int32) (v2 : Int32) (v3 : Int32) (v4 : Int32) (v5 : Int32) (h : ix_H) : ix_O :=
  (ix_is h 1 (some v0)).bind fun a1 =>
  (ix_is h 3 (ix_fR h a1 1)).bind fun a2 =>
  if ((ix_fI h a2 2) + (nI 20)) ≤ (nI 2000) then
    (ix_isr h 1 (some v0)).bind fun a4 =>
    (ix_rV (cal 81 [ix_R (some a4), ix_I v1] h)).bind fun r3 =>
    (ix_isr r3 1 (some v0)).bind fun a6 =>
    (ix_rV (cal 81 [ix_R (some a6), ix_I v2] r3)).bind fun r5 =>
    (ix_isr r5 1 (some v0)).bind fun a8 =>
    (ix_rV (cal 81 [ix_R (some a8), ix_I v3] r5)).bind fun r7 =>
    (ix_isr r7 1 (some v0)).bind fun a10 =>
    (ix_rV (cal 81 [ix_R (some a10), ix_I v4] r7)).bind fun r9 =>
    (ix_isr r9 1 (some v0)).bind fun a12 =>
    (ix_rV (cal 81 [ix_R (some a12), ix_I v5] r9)).bind fun r11 =>
    (ix_is r11 1 (some v0)).bind fun a13 =>
    (ix_is r11 3 (ix_fR r11 a13 1)).bind fun a14 =>
    some (.inl (some (ix_I (ix_fI r11 a14 2))), r11)
  else
    some (.inl (some (ix_I (-1 : Int32))), h)
theorem eX0_feed (cal : ix_C) (K : ix_K) (v0 : Nat) (v1 : Int32) (v2 : Int32) (v3 : Int32) (v4 : Int32) (v5 : Int32) (h : ix_H) : ix_fwd cal K stX0_feed 0 [(0, ix_R (some v0)), (1, ix_I v1), (2, ix_I v2), (3, ix_I v3), (4, ix_I v4), (5, ix_I v5)] [] h = bX0_feed cal K v0 v1 v2 v3 v4 v5 h := rfl
theorem rX0_feed (N d : Nat) (v0 : Nat) (v1 : Int32) (v2 : Int32) (v3 : Int32) (v4 : Int32) (v5 : Int32) (h : ix_H) : ix_run iy_P N (d + 1) 80 [ix_R (some v0), ix_I v1, ix_I v2, ix_I v3, ix_I v4, ix_I v5] h = bX0_feed (ix_run iy_P N d) (ix_lp (ix_run iy_P N d) stX0_feed N) v0 v1 v2 v3 v4 v5 h := (rfl : ix_run iy_P N (d + 1) 80 [ix_R (some v0), ix_I v1, ix_I v2, ix_I v3, ix_I v4, ix_I v5] h = ix_fwd (ix_run iy_P N d) (ix_lp (ix_run iy_P N d) stX0_feed N) stX0_feed 0 [(0, ix_R (some v0)), (1, ix_I v1), (2, ix_I v2), (3, ix_I v3), (4, ix_I v4), (5, ix_I v5)] [] h).trans (eX0_feed _ _ v0 v1 v2 v3 v4 v5 h)
def jX0_typed_2 (cal : ix_C) (K : ix_K) (v0 : Nat) (v1 : Int32) (v2 : Int32) (h : ix_H) : ix_O :=
  if v2 < nI 0 then
    some (.inl none, h)
  else
    (ix_is h 1 (some v0)).bind fun a1 =>
    (ix_is h 3 (ix_fR h a1 1)).bind fun a2 =>
    (ix_is h 1 (some v0)).bind fun a3 =>
    (ix_is h 3 (ix_fR h a3 1)).bind fun a4 =>
    (ix_at h 102 (ix_fR h a2 1) (ix_fI h a4 2)).bind fun a5 =>
    ix_bd (ix_waI h a5 (ix_fI h a4 2).toNatClampNeg (ix_nar 2 ((v1 >>> (v2 &&& 31)).toInt8.toInt32))) fun h6 =>
    (ix_is h6 1 (some v0)).bind fun a7 =>
    (ix_is h6 3 (ix_fR h6 a7 1)).bind fun a8 =>
    (ix_is h6 3 (ix_fR h6 a7 1)).bind fun a9 =>
    ix_bd (ix_wfI h6 a9 2 ((ix_fI h6 a8 2) + (nI 1))) fun h10 =>
    K 2 [(0, ix_R (some v0)), (1, ix_I v1), (2, ix_I (v2 + (-8)))] [] h10
theorem jX0_typed_2_eq (cal : ix_C) (K : ix_K) (v0 : Nat) (v1 : Int32) (v2 : Int32) (h : ix_H) : ix_fwd cal K (stX0_typed.drop 2) 0 [(0, ix_R (some v0)), (1, ix_I v1), (2, ix_I v2)] [] h = jX0_typed_2 cal K v0 v1 v2 h := rfl
def bX0_typed (cal : ix_C) (K : ix_K) (v0 : Nat) (v1 : Int32) (h : ix_H) : ix_O :=
  jX0_typed_2 cal K v0 v1 (nI 24) h
theorem eX0_typed (cal : ix_C) (K : ix_K) (v0 : Nat) (v1 : Int32) (h : ix_H) : ix_fwd cal K stX0_typed 0 [(0, ix_R (some v0)), (1, ix_I v1)] [] h = bX0_typed cal K v0 v1 h := rfl
theorem rX0_typed (N d : Nat) (v0 : Nat) (v1 : Int32) (h : ix_H) : ix_run iy_P N (d + 1) 81 [ix_R (some v0), ix_I v1] h = bX0_typed (ix_run iy_P N d) (ix_lp (ix_run iy_P N d) stX0_typed N) v0 v1 h := (rfl : ix_run iy_P N (d + 1) 81 [ix_R (some v0), ix_I v1] h = ix_fwd (ix_run iy_P N d) (ix_lp (ix_run iy_P N d) stX0_typed N) stX0_typed 0 [(0, ix_R (some v0)), (1, ix_I v1)] [] h).trans (eX0_typed _ _ v0 v1 h)
theorem lX0_typed_2 (cal : ix_C) (n : Nat) (v0 : Nat) (v1 : Int32) (v2 : Int32) (h : ix_H) : ix_lp cal stX0_typed (n + 1) 2 [(0, ix_R (some v0)), (1, ix_I v1), (2, ix_I v2)] [] h = jX0_typed_2 cal (ix_lp cal stX0_typed n) v0 v1 v2 h := jX0_typed_2_eq cal (ix_lp cal stX0_typed n) v0 v1 v2 h
def jX0_back_7 (cal : ix_C) (K : ix_K) (h : ix_H) : ix_O :=
  some (.inl (some (ix_I (-1 : Int32))), h)
theorem jX0_back_7_eq (cal : ix_C) (K : ix_K) (h : ix_H) : ix_fwd cal K (stX0_back.drop 7) 0 [] [] h = jX0_back_7 cal K h := rfl
def bX0_back (cal : ix_C) (K : ix_K) (v0 : Nat) (v1 : Int32) (h : ix_H) : ix_O :=
  if v1 < nI 0 then
    jX0_back_7 cal K h
  else
    (ix_is h 1 (some v0)).bind fun a1 =>
    (ix_is h 3 (ix_fR h a1 1)).bind fun a2 =>
    if v1 ≤ (ix_fI h a2 2) then
      (ix_is h 1 (some v0)).bind fun a3 =>
      (ix_is h 3 (ix_fR h a3 1)).bind fun a4 =>
      (ix_is h 3 (ix_fR h a3 1)).bind fun a5 =>
      ix_bd (ix_wfI h a5 2 ((ix_fI h a4 2) - v1)) fun h6 =>
      (ix_is h6 1 (some v0)).bind fun a7 =>
      (ix_is h6 3 (ix_fR h6 a7 1)).bind fun a8 =>
      some (.inl (some (ix_I (ix_fI h6 a8 2))), h6)
    else
      jX0_back_7 cal K h
theorem eX0_back (cal : ix_C) (K : ix_K) (v0 : Nat) (v1 : Int32) (h : ix_H) : ix_fwd cal K stX0_back 0 [(0, ix_R (some v0)), (1, ix_I v1)] [] h = bX0_back cal K v0 v1 h := rfl
theorem rX0_back (N d : Nat) (v0 : Nat) (v1 : Int32) (h : ix_H) : ix_run iy_P N (d + 1) 82 [ix_R (some v0), ix_I v1] h = bX0_back (ix_run iy_P N d) (ix_lp (ix_run iy_P N d) stX0_back N) v0 v1 h := (rfl : ix_run iy_P N (d + 1) 82 [ix_R (some v0), ix_I v1] h = ix_fwd (ix_run iy_P N d) (ix_lp (ix_run iy_P N d) stX0_back N) stX0_back 0 [(0, ix_R (some v0)), (1, ix_I v1)] [] h).trans (eX0_back _ _ v0 v1 h)
def jX0_read_20 (cal : ix_C) (K : ix_K) (v0 : Nat) (v1 : Int32) (h : ix_H) : ix_O :=
  (ix_is h 1 (some v0)).bind fun a12 =>
  (ix_is h 3 (ix_fR h a12 1)).bind fun a13 =>
  ix_bd (ix_wfI h a13 2 (nI 0)) fun h14 =>
  some (.inl (some (ix_I v1)), h14)
theorem jX0_read_20_eq (cal : ix_C) (K : ix_K) (v0 : Nat) (v1 : Int32) (h : ix_H) : ix_fwd cal K (stX0_read.drop 20) 0 [(0, ix_R (some v0)), (1, ix_I v1)] [] h = jX0_read_20 cal K v0 v1 h := rfl
def jX0_read_11 (cal : ix_C) (K : ix_K) (v0 : Nat) (s0 : Option Nat) (h : ix_H) : ix_O :=
  (ix_is h 2 s0).bind fun a8 =>
  (ix_is h 2 s0).bind fun a9 =>
  (ix_is h 1 (some v0)).bind fun a10 =>
  ix_bd (ix_wfI h a10 3 (ix_fI h a9 7)) fun h11 =>
  jX0_read_20 cal K v0 (ix_fI h a8 6) h11
theorem jX0_read_11_eq (cal : ix_C) (K : ix_K) (v0 : Nat) (s0 : Option Nat) (h : ix_H) : ix_fwd cal K (stX0_read.drop 11) 0 [(0, ix_R (some v0))] [ix_R s0] h = jX0_read_11 cal K v0 s0 h := rfl
def bX0_read (cal : ix_C) (K : ix_K) (v0 : Nat) (h : ix_H) : ix_O :=
  (ix_is h 1 (some v0)).bind fun a1 =>
  ix_bd (ix_wfI h a1 3 (-1 : Int32)) fun h2 =>
  (ix_is h2 1 (some v0)).bind fun a3 =>
  (ix_isr h2 4 (ix_fR h2 a3 2)).bind fun a5 =>
  ix_xR (cal 149 [ix_R (some a5)] h2) (fun q7 h6 =>
    jX0_read_11 cal K v0 (some q7) h6) fun r4 h6 =>
  (ix_isr h6 1 (some v0)).bind fun a16 =>
  (ix_rV (cal 84 [ix_R (some a16), ix_R r4] h6)).bind fun r15 =>
  jX0_read_20 cal K v0 (nI 0) r15
theorem eX0_read (cal : ix_C) (K : ix_K) (v0 : Nat) (h : ix_H) : ix_fwd cal K stX0_read 0 [(0, ix_R (some v0))] [] h = bX0_read cal K v0 h := rfl
theorem rX0_read (N d : Nat) (v0 : Nat) (h : ix_H) : ix_run iy_P N (d + 1) 83 [ix_R (some v0)] h = bX0_read (ix_run iy_P N d) (ix_lp (ix_run iy_P N d) stX0_read N) v0 h := (rfl : ix_run iy_P N (d + 1) 83 [ix_R (some v0)] h = ix_fwd (ix_run iy_P N d) (ix_lp (ix_run iy_P N d) stX0_read N) stX0_read 0 [(0, ix_R (some v0))] [] h).trans (eX0_read _ _ v0 h)
def jX0_goesThrough_20 (cal : ix_C) (K : ix_K) (v0 : Nat) (v3 : Int32) (h : ix_H) : ix_O :=
  if (nI 3) ≤ v3 then
    some (.inl none, h)
  else
    (ix_is h 1 (some v0)).bind fun a14 =>
    (ix_at h 105 (ix_fR h a14 9) v3).bind fun a15 =>
    ix_bd (ix_waI h a15 v3.toNatClampNeg (ix_nar 1 (nI 0))) fun h16 =>
    K 20 [(0, ix_R (some v0)), (3, ix_I (v3 + (nI 1)))] [] h16
theorem jX0_goesThrough_20_eq (cal : ix_C) (K : ix_K) (v0 : Nat) (v3 : Int32) (h : ix_H) : ix_fwd cal K (stX0_goesThrough.drop 20) 0 [(0, ix_R (some v0)), (3, ix_I v3)] [] h = jX0_goesThrough_20 cal K v0 v3 h := rfl
def bX0_goesThrough (cal : ix_C) (K : ix_K) (v0 : Nat) (v1 : Option Nat) (h : ix_H) : ix_O :=
  (ix_is h 1 (some v0)).bind fun a1 =>
  (ix_isr h 5 (ix_fR h a1 5)).bind fun a3 =>
  (ix_rV (cal 172 [ix_R (some a3), ix_R v1] h)).bind fun r2 =>
  ix_bd (ix_nwO r2 17 5) fun h4 =>
  (ix_is h4 1 (some v0)).bind fun a5 =>
  (ix_isr h4 17 (some (ix_sz r2))).bind fun a7 =>
  (ix_rV (cal 135 [ix_R (some a7), ix_R (ix_fR h4 a5 5)] h4)).bind fun r6 =>
  (ix_is r6 8 v1).bind fun a8 =>
  (ix_isr r6 9 (ix_fR r6 a8 0)).bind fun a10 =>
  (ix_rV (cal 227 [ix_R (some a10), ix_R (some (ix_sz r2))] r6)).bind fun r9 =>
  (ix_is r9 17 (some (ix_sz r2))).bind fun a11 =>
  (ix_is r9 1 (some v0)).bind fun a12 =>
  ix_bd (ix_wfI r9 a12 4 (ix_fI r9 a11 4)) fun h13 =>
  jX0_goesThrough_20 cal K v0 (nI 0) h13
theorem eX0_goesThrough (cal : ix_C) (K : ix_K) (v0 : Nat) (v1 : Option Nat) (h : ix_H) : ix_fwd cal K stX0_goesThrough 0 [(0, ix_R (some v0)), (1, ix_R v1)] [] h = bX0_goesThrough cal K v0 v1 h := rfl
theorem rX0_goesThrough (N d : Nat) (v0 : Nat) (v1 : Option Nat) (h : ix_H) : ix_run iy_P N (d + 1) 84 [ix_R (some v0), ix_R v1] h = bX0_goesThrough (ix_run iy_P N d) (ix_lp (ix_run iy_P N d) stX0_goesThrough N) v0 v1 h := (rfl : ix_run iy_P N (d + 1) 84 [ix_R (some v0), ix_R v1] h = ix_fwd (ix_run iy_P N d) (ix_lp (ix_run iy_P N d) stX0_goesThrough N) stX0_goesThrough 0 [(0, ix_R (some v0)), (1, ix_R v1)] [] h).trans (eX0_goesThrough _ _ v0 v1 h)
theorem lX0_goesThrough_20 (cal : ix_C) (n : Nat) (v0 : Nat) (v3 : Int32) (h : ix_H) : ix_lp cal stX0_goesThrough (n + 1) 20 [(0, ix_R (some v0)), (3, ix_I v3)] [] h = jX0_goesThrough_20 cal (ix_lp cal stX0_goesThrough n) v0 v3 h := jX0_goesThrough_20_eq cal (ix_lp cal stX0_goesThrough n) v0 v3 h
def bX0_place (cal : ix_C) (K : ix_K) (v0 : Nat) (h : ix_H) : ix_O :=
  (ix_is h 1 (some v0)).bind fun a1 =>
  some (.inl (some (ix_I (ix_fI h a1 3))), h)
theorem eX0_place (cal : ix_C) (K : ix_K) (v0 : Nat) (h : ix_H) : ix_fwd cal K stX0_place 0 [(0, ix_R (some v0))] [] h = bX0_place cal K v0 h := rfl
theorem rX0_place (N d : Nat) (v0 : Nat) (h : ix_H) : ix_run iy_P N (d + 1) 85 [ix_R (some v0)] h = bX0_place (ix_run iy_P N d) (ix_lp (ix_run iy_P N d) stX0_place N) v0 h := (rfl : ix_run iy_P N (d + 1) 85 [ix_R (some v0)] h = ix_fwd (ix_run iy_P N d) (ix_lp (ix_run iy_P N d) stX0_place N) stX0_place 0 [(0, ix_R (some v0))] [] h).trans (eX0_place _ _ v0 h)
def jX0_begin_23 (cal : ix_C) (K : ix_K) (s0 : Int32) (h : ix_H) : ix_O :=
  cond (ix_okn 1 s0) (some (.inl (some (ix_I s0)), h)) none
theorem jX0_begin_23_eq (cal : ix_C) (K : ix_K) (s0 : Int32) (h : ix_H) : ix_fwd cal K (stX0_begin.drop 23) 0 [] [ix_I s0] h = jX0_begin_23 cal K s0 h := rfl
def jX0_begin_21 (cal : ix_C) (K : ix_K) (h : ix_H) : ix_O :=
  jX0_begin_23 cal K (nI 0) h
theorem jX0_begin_21_eq (cal : ix_C) (K : ix_K) (h : ix_H) : ix_fwd cal K (stX0_begin.drop 21) 0 [] [] h = jX0_begin_21 cal K h := rfl
def bX0_begin (cal : ix_C) (K : ix_K) (v0 : Nat) (v1 : Int32) (v2 : Int32) (v3 : Int32) (v4 : Int32) (h : ix_H) : ix_O :=
  (ix_rI (cal 87 [ix_I v1] h)).bind fun r1 =>
  if r1.1 = nI 0 then
    jX0_begin_21 cal K r1.2
  else
    (ix_rI (cal 88 [ix_I v2, ix_I (nI 1), ix_I (nI 3)] r1.2)).bind fun r2 =>
    if r2.1 = nI 0 then
      jX0_begin_21 cal K r2.2
    else
      (ix_rI (cal 89 [ix_I v3] r2.2)).bind fun r3 =>
      if r3.1 = nI 0 then
        jX0_begin_21 cal K r3.2
      else
        (ix_is r3.2 1 (some v0)).bind fun a4 =>
        (ix_isr r3.2 5 (ix_fR r3.2 a4 5)).bind fun a6 =>
        (ix_rI (cal 178 [ix_R (some a6), ix_I v1, ix_I v2, ix_I v3, ix_I v4] r3.2)).bind fun r5 =>
        if r5.1 = nI 0 then
          jX0_begin_21 cal K r5.2
        else
          jX0_begin_23 cal K (nI 1) r5.2
theorem eX0_begin (cal : ix_C) (K : ix_K) (v0 : Nat) (v1 : Int32) (v2 : Int32) (v3 : Int32) (v4 : Int32) (h : ix_H) : ix_fwd cal K stX0_begin 0 [(0, ix_R (some v0)), (1, ix_I v1), (2, ix_I v2), (3, ix_I v3), (4, ix_I v4)] [] h = bX0_begin cal K v0 v1 v2 v3 v4 h := rfl
theorem rX0_begin (N d : Nat) (v0 : Nat) (v1 : Int32) (v2 : Int32) (v3 : Int32) (v4 : Int32) (h : ix_H) : ix_run iy_P N (d + 1) 86 [ix_R (some v0), ix_I v1, ix_I v2, ix_I v3, ix_I v4] h = bX0_begin (ix_run iy_P N d) (ix_lp (ix_run iy_P N d) stX0_begin N) v0 v1 v2 v3 v4 h := (rfl : ix_run iy_P N (d + 1) 86 [ix_R (some v0), ix_I v1, ix_I v2, ix_I v3, ix_I v4] h = ix_fwd (ix_run iy_P N d) (ix_lp (ix_run iy_P N d) stX0_begin N) stX0_begin 0 [(0, ix_R (some v0)), (1, ix_I v1), (2, ix_I v2), (3, ix_I v3), (4, ix_I v4)] [] h).trans (eX0_begin _ _ v0 v1 v2 v3 v4 h)
def bX0_isHand (cal : ix_C) (K : ix_K) (v0 : Int32) (h : ix_H) : ix_O :=
  (ix_rI (cal 88 [ix_I v0, ix_I (nI 0), ix_I (nI 3)] h)).bind fun r1 =>
  cond (ix_okn 1 r1.1) (some (.inl (some (ix_I r1.1)), r1.2)) none
theorem eX0_isHand (cal : ix_C) (K : ix_K) (v0 : Int32) (h : ix_H) : ix_fwd cal K stX0_isHand 0 [(0, ix_I v0)] [] h = bX0_isHand cal K v0 h := rfl
theorem rX0_isHand (N d : Nat) (v0 : Int32) (h : ix_H) : ix_run iy_P N (d + 1) 87 [ix_I v0] h = bX0_isHand (ix_run iy_P N d) (ix_lp (ix_run iy_P N d) stX0_isHand N) v0 h := (rfl : ix_run iy_P N (d + 1) 87 [ix_I v0] h = ix_fwd (ix_run iy_P N d) (ix_lp (ix_run iy_P N d) stX0_isHand N) stX0_isHand 0 [(0, ix_I v0)] [] h).trans (eX0_isHand _ _ v0 h)
def jX0_isIn_10 (cal : ix_C) (K : ix_K) (s0 : Int32) (h : ix_H) : ix_O :=
  cond (ix_okn 1 s0) (some (.inl (some (ix_I s0)), h)) none
theorem jX0_isIn_10_eq (cal : ix_C) (K : ix_K) (s0 : Int32) (h : ix_H) : ix_fwd cal K (stX0_isIn.drop 10) 0 [] [ix_I s0] h = jX0_isIn_10 cal K s0 h := rfl
def jX0_isIn_8 (cal : ix_C) (K : ix_K) (h : ix_H) : ix_O :=
  jX0_isIn_10 cal K (nI 0) h
theorem jX0_isIn_8_eq (cal : ix_C) (K : ix_K) (h : ix_H) : ix_fwd cal K (stX0_isIn.drop 8) 0 [] [] h = jX0_isIn_8 cal K h := rfl
def bX0_isIn (cal : ix_C) (K : ix_K) (v0 : Int32) (v1 : Int32) (v2 : Int32) (h : ix_H) : ix_O :=
  if v0 < v1 then
    jX0_isIn_8 cal K h
  else
    if v2 < v0 then
      jX0_isIn_8 cal K h
    else
      jX0_isIn_10 cal K (nI 1) h
theorem eX0_isIn (cal : ix_C) (K : ix_K) (v0 : Int32) (v1 : Int32) (v2 : Int32) (h : ix_H) : ix_fwd cal K stX0_isIn 0 [(0, ix_I v0), (1, ix_I v1), (2, ix_I v2)] [] h = bX0_isIn cal K v0 v1 v2 h := rfl
theorem rX0_isIn (N d : Nat) (v0 : Int32) (v1 : Int32) (v2 : Int32) (h : ix_H) : ix_run iy_P N (d + 1) 88 [ix_I v0, ix_I v1, ix_I v2] h = bX0_isIn (ix_run iy_P N d) (ix_lp (ix_run iy_P N d) stX0_isIn N) v0 v1 v2 h := (rfl : ix_run iy_P N (d + 1) 88 [ix_I v0, ix_I v1, ix_I v2] h = ix_fwd (ix_run iy_P N d) (ix_lp (ix_run iy_P N d) stX0_isIn N) stX0_isIn 0 [(0, ix_I v0), (1, ix_I v1), (2, ix_I v2)] [] h).trans (eX0_isIn _ _ v0 v1 v2 h)
def bX0_isKey (cal : ix_C) (K : ix_K) (v0 : Int32) (h : ix_H) : ix_O :=
  (ix_rI (cal 88 [ix_I v0, ix_I (nI 0), ix_I (nI 999)] h)).bind fun r1 =>
  cond (ix_okn 1 r1.1) (some (.inl (some (ix_I r1.1)), r1.2)) none
theorem eX0_isKey (cal : ix_C) (K : ix_K) (v0 : Int32) (h : ix_H) : ix_fwd cal K stX0_isKey 0 [(0, ix_I v0)] [] h = bX0_isKey cal K v0 h := rfl
theorem rX0_isKey (N d : Nat) (v0 : Int32) (h : ix_H) : ix_run iy_P N (d + 1) 89 [ix_I v0] h = bX0_isKey (ix_run iy_P N d) (ix_lp (ix_run iy_P N d) stX0_isKey N) v0 h := (rfl : ix_run iy_P N (d + 1) 89 [ix_I v0] h = ix_fwd (ix_run iy_P N d) (ix_lp (ix_run iy_P N d) stX0_isKey N) stX0_isKey 0 [(0, ix_I v0)] [] h).trans (eX0_isKey _ _ v0 h)
def jX0_step_9 (cal : ix_C) (K : ix_K) (s0 : Int32) (h : ix_H) : ix_O :=
  some (.inl (some (ix_I s0)), h)
theorem jX0_step_9_eq (cal : ix_C) (K : ix_K) (s0 : Int32) (h : ix_H) : ix_fwd cal K (stX0_step.drop 9) 0 [] [ix_I s0] h = jX0_step_9 cal K s0 h := rfl
def bX0_step (cal : ix_C) (K : ix_K) (v0 : Nat) (v1 : Int32) (h : ix_H) : ix_O :=
  (ix_rI (cal 87 [ix_I v1] h)).bind fun r1 =>
  if r1.1 = nI 0 then
    jX0_step_9 cal K (-1 : Int32) r1.2
  else
    (ix_is r1.2 1 (some v0)).bind fun a2 =>
    (ix_isr r1.2 5 (ix_fR r1.2 a2 5)).bind fun a4 =>
    (ix_rI (cal 180 [ix_R (some a4), ix_I v1] r1.2)).bind fun r3 =>
    jX0_step_9 cal K r3.1 r3.2
theorem eX0_step (cal : ix_C) (K : ix_K) (v0 : Nat) (v1 : Int32) (h : ix_H) : ix_fwd cal K stX0_step 0 [(0, ix_R (some v0)), (1, ix_I v1)] [] h = bX0_step cal K v0 v1 h := rfl
theorem rX0_step (N d : Nat) (v0 : Nat) (v1 : Int32) (h : ix_H) : ix_run iy_P N (d + 1) 90 [ix_R (some v0), ix_I v1] h = bX0_step (ix_run iy_P N d) (ix_lp (ix_run iy_P N d) stX0_step N) v0 v1 h := (rfl : ix_run iy_P N (d + 1) 90 [ix_R (some v0), ix_I v1] h = ix_fwd (ix_run iy_P N d) (ix_lp (ix_run iy_P N d) stX0_step N) stX0_step 0 [(0, ix_R (some v0)), (1, ix_I v1)] [] h).trans (eX0_step _ _ v0 v1 h)
def jX0_close_9 (cal : ix_C) (K : ix_K) (s0 : Int32) (h : ix_H) : ix_O :=
  some (.inl (some (ix_I s0)), h)
theorem jX0_close_9_eq (cal : ix_C) (K : ix_K) (s0 : Int32) (h : ix_H) : ix_fwd cal K (stX0_close.drop 9) 0 [] [ix_I s0] h = jX0_close_9 cal K s0 h := rfl
def bX0_close (cal : ix_C) (K : ix_K) (v0 : Nat) (v1 : Int32) (h : ix_H) : ix_O :=
  (ix_rI (cal 87 [ix_I v1] h)).bind fun r1 =>
  if r1.1 = nI 0 then
    jX0_close_9 cal K (-1 : Int32) r1.2
  else
    (ix_is r1.2 1 (some v0)).bind fun a2 =>
    (ix_isr r1.2 5 (ix_fR r1.2 a2 5)).bind fun a4 =>
    (ix_rI (cal 179 [ix_R (some a4), ix_I v1] r1.2)).bind fun r3 =>
    jX0_close_9 cal K r3.1 r3.2
theorem eX0_close (cal : ix_C) (K : ix_K) (v0 : Nat) (v1 : Int32) (h : ix_H) : ix_fwd cal K stX0_close 0 [(0, ix_R (some v0)), (1, ix_I v1)] [] h = bX0_close cal K v0 v1 h := rfl
theorem rX0_close (N d : Nat) (v0 : Nat) (v1 : Int32) (h : ix_H) : ix_run iy_P N (d + 1) 91 [ix_R (some v0), ix_I v1] h = bX0_close (ix_run iy_P N d) (ix_lp (ix_run iy_P N d) stX0_close N) v0 v1 h := (rfl : ix_run iy_P N (d + 1) 91 [ix_R (some v0), ix_I v1] h = ix_fwd (ix_run iy_P N d) (ix_lp (ix_run iy_P N d) stX0_close N) stX0_close 0 [(0, ix_R (some v0)), (1, ix_I v1)] [] h).trans (eX0_close _ _ v0 v1 h)
def bX0_sweep (cal : ix_C) (K : ix_K) (v0 : Nat) (h : ix_H) : ix_O :=
  (ix_is h 1 (some v0)).bind fun a1 =>
  (ix_isr h 5 (ix_fR h a1 5)).bind fun a3 =>
  (ix_rI (cal 202 [ix_R (some a3)] h)).bind fun r2 =>
  some (.inl (some (ix_I r2.1)), r2.2)
theorem eX0_sweep (cal : ix_C) (K : ix_K) (v0 : Nat) (h : ix_H) : ix_fwd cal K stX0_sweep 0 [(0, ix_R (some v0))] [] h = bX0_sweep cal K v0 h := rfl
theorem rX0_sweep (N d : Nat) (v0 : Nat) (h : ix_H) : ix_run iy_P N (d + 1) 92 [ix_R (some v0)] h = bX0_sweep (ix_run iy_P N d) (ix_lp (ix_run iy_P N d) stX0_sweep N) v0 h := (rfl : ix_run iy_P N (d + 1) 92 [ix_R (some v0)] h = ix_fwd (ix_run iy_P N d) (ix_lp (ix_run iy_P N d) stX0_sweep N) stX0_sweep 0 [(0, ix_R (some v0))] [] h).trans (eX0_sweep _ _ v0 h)
def jX0_has_12 (cal : ix_C) (K : ix_K) (s0 : Int32) (h : ix_H) : ix_O :=
  some (.inl (some (ix_I s0)), h)
theorem jX0_has_12_eq (cal : ix_C) (K : ix_K) (s0 : Int32) (h : ix_H) : ix_fwd cal K (stX0_has.drop 12) 0 [] [ix_I s0] h = jX0_has_12 cal K s0 h := rfl
def bX0_has (cal : ix_C) (K : ix_K) (v0 : Nat) (v1 : Int32) (h : ix_H) : ix_O :=
  (ix_rI (cal 89 [ix_I v1] h)).bind fun r1 =>
  if r1.1 = nI 0 then
    jX0_has_12 cal K (-1 : Int32) r1.2
  else
    (ix_isr r1.2 1 (some v0)).bind fun a3 =>
    (ix_rI (cal 94 [ix_R (some a3), ix_I v1] r1.2)).bind fun r2 =>
    if nI 0 ≤ r2.1 then
      jX0_has_12 cal K (nI 1) r2.2
    else
      jX0_has_12 cal K (nI 0) r2.2
theorem eX0_has (cal : ix_C) (K : ix_K) (v0 : Nat) (v1 : Int32) (h : ix_H) : ix_fwd cal K stX0_has 0 [(0, ix_R (some v0)), (1, ix_I v1)] [] h = bX0_has cal K v0 v1 h := rfl
theorem rX0_has (N d : Nat) (v0 : Nat) (v1 : Int32) (h : ix_H) : ix_run iy_P N (d + 1) 93 [ix_R (some v0), ix_I v1] h = bX0_has (ix_run iy_P N d) (ix_lp (ix_run iy_P N d) stX0_has N) v0 v1 h := (rfl : ix_run iy_P N (d + 1) 93 [ix_R (some v0), ix_I v1] h = ix_fwd (ix_run iy_P N d) (ix_lp (ix_run iy_P N d) stX0_has N) stX0_has 0 [(0, ix_R (some v0)), (1, ix_I v1)] [] h).trans (eX0_has _ _ v0 v1 h)
def jX0_placeOf_10 (cal : ix_C) (K : ix_K) (v0 : Nat) (v1 : Int32) (v2 : Int32) (v3 : Int32) (h : ix_H) : ix_O :=
  if v2 ≤ v3 then
    some (.inl (some (ix_I (-1 : Int32))), h)
  else
    (ix_is h 1 (some v0)).bind fun a6 =>
    (ix_atr h 101 (ix_fR h a6 10) v3).bind fun a7 =>
    if (ix_aI h a7 v3.toNatClampNeg) = v1 then
      some (.inl (some (ix_I v3)), h)
    else
      K 10 [(0, ix_R (some v0)), (1, ix_I v1), (2, ix_I v2), (3, ix_I (v3 + (nI 1)))] [] h
theorem jX0_placeOf_10_eq (cal : ix_C) (K : ix_K) (v0 : Nat) (v1 : Int32) (v2 : Int32) (v3 : Int32) (h : ix_H) : ix_fwd cal K (stX0_placeOf.drop 10) 0 [(0, ix_R (some v0)), (1, ix_I v1), (2, ix_I v2), (3, ix_I v3)] [] h = jX0_placeOf_10 cal K v0 v1 v2 v3 h := rfl
def bX0_placeOf (cal : ix_C) (K : ix_K) (v0 : Nat) (v1 : Int32) (h : ix_H) : ix_O :=
  (ix_is h 1 (some v0)).bind fun a1 =>
  (ix_is h 1 (some v0)).bind fun a2 =>
  (ix_is h 1 (some v0)).bind fun a3 =>
  (ix_isr h 5 (ix_fR h a1 5)).bind fun a5 =>
  (ix_rI (cal 203 [ix_R (some a5), ix_R (ix_fR h a2 10), ix_R (ix_fR h a3 11)] h)).bind fun r4 =>
  jX0_placeOf_10 cal K v0 v1 r4.1 (nI 0) r4.2
theorem eX0_placeOf (cal : ix_C) (K : ix_K) (v0 : Nat) (v1 : Int32) (h : ix_H) : ix_fwd cal K stX0_placeOf 0 [(0, ix_R (some v0)), (1, ix_I v1)] [] h = bX0_placeOf cal K v0 v1 h := rfl
theorem rX0_placeOf (N d : Nat) (v0 : Nat) (v1 : Int32) (h : ix_H) : ix_run iy_P N (d + 1) 94 [ix_R (some v0), ix_I v1] h = bX0_placeOf (ix_run iy_P N d) (ix_lp (ix_run iy_P N d) stX0_placeOf N) v0 v1 h := (rfl : ix_run iy_P N (d + 1) 94 [ix_R (some v0), ix_I v1] h = ix_fwd (ix_run iy_P N d) (ix_lp (ix_run iy_P N d) stX0_placeOf N) stX0_placeOf 0 [(0, ix_R (some v0)), (1, ix_I v1)] [] h).trans (eX0_placeOf _ _ v0 v1 h)
theorem lX0_placeOf_10 (cal : ix_C) (n : Nat) (v0 : Nat) (v1 : Int32) (v2 : Int32) (v3 : Int32) (h : ix_H) : ix_lp cal stX0_placeOf (n + 1) 10 [(0, ix_R (some v0)), (1, ix_I v1), (2, ix_I v2), (3, ix_I v3)] [] h = jX0_placeOf_10 cal (ix_lp cal stX0_placeOf n) v0 v1 v2 v3 h := jX0_placeOf_10_eq cal (ix_lp cal stX0_placeOf n) v0 v1 v2 v3 h
def jX0_value_12 (cal : ix_C) (K : ix_K) (s0 : Int32) (h : ix_H) : ix_O :=
  some (.inl (some (ix_I s0)), h)
theorem jX0_value_12_eq (cal : ix_C) (K : ix_K) (s0 : Int32) (h : ix_H) : ix_fwd cal K (stX0_value.drop 12) 0 [] [ix_I s0] h = jX0_value_12 cal K s0 h := rfl
def bX0_value (cal : ix_C) (K : ix_K) (v0 : Nat) (v1 : Int32) (h : ix_H) : ix_O :=
  (ix_isr h 1 (some v0)).bind fun a2 =>
  (ix_rI (cal 94 [ix_R (some a2), ix_I v1] h)).bind fun r1 =>
  if nI 0 ≤ r1.1 then
    (ix_is r1.2 1 (some v0)).bind fun a3 =>
    (ix_atr r1.2 101 (ix_fR r1.2 a3 11) r1.1).bind fun a4 =>
    jX0_value_12 cal K (ix_aI r1.2 a4 r1.1.toNatClampNeg) r1.2
  else
    jX0_value_12 cal K (nI 0) r1.2
theorem eX0_value (cal : ix_C) (K : ix_K) (v0 : Nat) (v1 : Int32) (h : ix_H) : ix_fwd cal K stX0_value 0 [(0, ix_R (some v0)), (1, ix_I v1)] [] h = bX0_value cal K v0 v1 h := rfl
theorem rX0_value (N d : Nat) (v0 : Nat) (v1 : Int32) (h : ix_H) : ix_run iy_P N (d + 1) 95 [ix_R (some v0), ix_I v1] h = bX0_value (ix_run iy_P N d) (ix_lp (ix_run iy_P N d) stX0_value N) v0 v1 h := (rfl : ix_run iy_P N (d + 1) 95 [ix_R (some v0), ix_I v1] h = ix_fwd (ix_run iy_P N d) (ix_lp (ix_run iy_P N d) stX0_value N) stX0_value 0 [(0, ix_R (some v0)), (1, ix_I v1)] [] h).trans (eX0_value _ _ v0 v1 h)
def jX0_many_6 (cal : ix_C) (K : ix_K) (h : ix_H) : ix_O :=
  some (.inl (some (ix_I (-1 : Int32))), h)
theorem jX0_many_6_eq (cal : ix_C) (K : ix_K) (h : ix_H) : ix_fwd cal K (stX0_many.drop 6) 0 [] [] h = jX0_many_6 cal K h := rfl
def jX0_many_37 (cal : ix_C) (K : ix_K) (v0 : Nat) (v1 : Int32) (v2 : Int32) (v3 : Int32) (v5 : Int32) (s0 : Int32) (s1 : Int32) (h : ix_H) : ix_O :=
  K 21 [(0, ix_R (some v0)), (1, ix_I v1), (2, ix_I v2), (3, ix_I v3), (4, ix_I (s0 + s1)), (5, ix_I (v5 + (nI 1)))] [] h
theorem jX0_many_37_eq (cal : ix_C) (K : ix_K) (v0 : Nat) (v1 : Int32) (v2 : Int32) (v3 : Int32) (v5 : Int32) (s0 : Int32) (s1 : Int32) (h : ix_H) : ix_fwd cal K (stX0_many.drop 37) 0 [(0, ix_R (some v0)), (1, ix_I v1), (2, ix_I v2), (3, ix_I v3), (5, ix_I v5)] [ix_I s1, ix_I s0] h = jX0_many_37 cal K v0 v1 v2 v3 v5 s0 s1 h := rfl
def jX0_many_21 (cal : ix_C) (K : ix_K) (v0 : Nat) (v1 : Int32) (v2 : Int32) (v3 : Int32) (v4 : Int32) (v5 : Int32) (h : ix_H) : ix_O :=
  if v3 ≤ v5 then
    some (.inl (some (ix_I v4)), h)
  else
    (ix_is h 1 (some v0)).bind fun a8 =>
    (ix_atr h 101 (ix_fR h a8 10) v5).bind fun a9 =>
    (ix_rI (cal 88 [ix_I (ix_aI h a9 v5.toNatClampNeg), ix_I v1, ix_I v2] h)).bind fun r10 =>
    if r10.1 = nI 0 then
      jX0_many_37 cal K v0 v1 v2 v3 v5 v4 (nI 0) r10.2
    else
      jX0_many_37 cal K v0 v1 v2 v3 v5 v4 (nI 1) r10.2
theorem jX0_many_21_eq (cal : ix_C) (K : ix_K) (v0 : Nat) (v1 : Int32) (v2 : Int32) (v3 : Int32) (v4 : Int32) (v5 : Int32) (h : ix_H) : ix_fwd cal K (stX0_many.drop 21) 0 [(0, ix_R (some v0)), (1, ix_I v1), (2, ix_I v2), (3, ix_I v3), (4, ix_I v4), (5, ix_I v5)] [] h = jX0_many_21 cal K v0 v1 v2 v3 v4 v5 h := rfl
def bX0_many (cal : ix_C) (K : ix_K) (v0 : Nat) (v1 : Int32) (v2 : Int32) (h : ix_H) : ix_O :=
  (ix_rI (cal 89 [ix_I v1] h)).bind fun r1 =>
  if r1.1 = nI 0 then
    jX0_many_6 cal K r1.2
  else
    (ix_rI (cal 89 [ix_I v2] r1.2)).bind fun r2 =>
    if r2.1 = nI 0 then
      jX0_many_6 cal K r2.2
    else
      (ix_is r2.2 1 (some v0)).bind fun a3 =>
      (ix_is r2.2 1 (some v0)).bind fun a4 =>
      (ix_is r2.2 1 (some v0)).bind fun a5 =>
      (ix_isr r2.2 5 (ix_fR r2.2 a3 5)).bind fun a7 =>
      (ix_rI (cal 203 [ix_R (some a7), ix_R (ix_fR r2.2 a4 10), ix_R (ix_fR r2.2 a5 11)] r2.2)).bind fun r6 =>
      jX0_many_21 cal K v0 v1 v2 r6.1 (nI 0) (nI 0) r6.2
theorem eX0_many (cal : ix_C) (K : ix_K) (v0 : Nat) (v1 : Int32) (v2 : Int32) (h : ix_H) : ix_fwd cal K stX0_many 0 [(0, ix_R (some v0)), (1, ix_I v1), (2, ix_I v2)] [] h = bX0_many cal K v0 v1 v2 h := rfl
theorem rX0_many (N d : Nat) (v0 : Nat) (v1 : Int32) (v2 : Int32) (h : ix_H) : ix_run iy_P N (d + 1) 96 [ix_R (some v0), ix_I v1, ix_I v2] h = bX0_many (ix_run iy_P N d) (ix_lp (ix_run iy_P N d) stX0_many N) v0 v1 v2 h := (rfl : ix_run iy_P N (d + 1) 96 [ix_R (some v0), ix_I v1, ix_I v2] h = ix_fwd (ix_run iy_P N d) (ix_lp (ix_run iy_P N d) stX0_many N) stX0_many 0 [(0, ix_R (some v0)), (1, ix_I v1), (2, ix_I v2)] [] h).trans (eX0_many _ _ v0 v1 v2 h)
theorem lX0_many_21 (cal : ix_C) (n : Nat) (v0 : Nat) (v1 : Int32) (v2 : Int32) (v3 : Int32) (v4 : Int32) (v5 : Int32) (h : ix_H) : ix_lp cal stX0_many (n + 1) 21 [(0, ix_R (some v0)), (1, ix_I v1), (2, ix_I v2), (3, ix_I v3), (4, ix_I v4), (5, ix_I v5)] [] h = jX0_many_21 cal (ix_lp cal stX0_many n) v0 v1 v2 v3 v4 v5 h := jX0_many_21_eq cal (ix_lp cal stX0_many n) v0 v1 v2 v3 v4 v5 h
def jX0_sum_6 (cal : ix_C) (K : ix_K) (h : ix_H) : ix_O :=
  some (.inl (some (ix_I (nI 0))), h)
theorem jX0_sum_6_eq (cal : ix_C) (K : ix_K) (h : ix_H) : ix_fwd cal K (stX0_sum.drop 6) 0 [] [] h = jX0_sum_6 cal K h := rfl
def jX0_sum_40 (cal : ix_C) (K : ix_K) (v0 : Nat) (v1 : Int32) (v2 : Int32) (v3 : Int32) (v5 : Int32) (s0 : Int32) (s1 : Int32) (h : ix_H) : ix_O :=
  K 21 [(0, ix_R (some v0)), (1, ix_I v1), (2, ix_I v2), (3, ix_I v3), (4, ix_I (s0 + s1)), (5, ix_I (v5 + (nI 1)))] [] h
theorem jX0_sum_40_eq (cal : ix_C) (K : ix_K) (v0 : Nat) (v1 : Int32) (v2 : Int32) (v3 : Int32) (v5 : Int32) (s0 : Int32) (s1 : Int32) (h : ix_H) : ix_fwd cal K (stX0_sum.drop 40) 0 [(0, ix_R (some v0)), (1, ix_I v1), (2, ix_I v2), (3, ix_I v3), (5, ix_I v5)] [ix_I s1, ix_I s0] h = jX0_sum_40 cal K v0 v1 v2 v3 v5 s0 s1 h := rfl
def jX0_sum_21 (cal : ix_C) (K : ix_K) (v0 : Nat) (v1 : Int32) (v2 : Int32) (v3 : Int32) (v4 : Int32) (v5 : Int32) (h : ix_H) : ix_O :=
  if v3 ≤ v5 then
    some (.inl (some (ix_I v4)), h)
  else
    (ix_is h 1 (some v0)).bind fun a8 =>
    (ix_atr h 101 (ix_fR h a8 10) v5).bind fun a9 =>
    (ix_rI (cal 88 [ix_I (ix_aI h a9 v5.toNatClampNeg), ix_I v1, ix_I v2] h)).bind fun r10 =>
    if r10.1 = nI 0 then
      jX0_sum_40 cal K v0 v1 v2 v3 v5 v4 (nI 0) r10.2
    else
      (ix_is r10.2 1 (some v0)).bind fun a11 =>
      (ix_atr r10.2 101 (ix_fR r10.2 a11 11) v5).bind fun a12 =>
      jX0_sum_40 cal K v0 v1 v2 v3 v5 v4 (ix_aI r10.2 a12 v5.toNatClampNeg) r10.2
theorem jX0_sum_21_eq (cal : ix_C) (K : ix_K) (v0 : Nat) (v1 : Int32) (v2 : Int32) (v3 : Int32) (v4 : Int32) (v5 : Int32) (h : ix_H) : ix_fwd cal K (stX0_sum.drop 21) 0 [(0, ix_R (some v0)), (1, ix_I v1), (2, ix_I v2), (3, ix_I v3), (4, ix_I v4), (5, ix_I v5)] [] h = jX0_sum_21 cal K v0 v1 v2 v3 v4 v5 h := rfl
def bX0_sum (cal : ix_C) (K : ix_K) (v0 : Nat) (v1 : Int32) (v2 : Int32) (h : ix_H) : ix_O :=
  (ix_rI (cal 89 [ix_I v1] h)).bind fun r1 =>
  if r1.1 = nI 0 then
    jX0_sum_6 cal K r1.2
  else
    (ix_rI (cal 89 [ix_I v2] r1.2)).bind fun r2 =>
    if r2.1 = nI 0 then
      jX0_sum_6 cal K r2.2
    else
      (ix_is r2.2 1 (some v0)).bind fun a3 =>
      (ix_is r2.2 1 (some v0)).bind fun a4 =>
      (ix_is r2.2 1 (some v0)).bind fun a5 =>
      (ix_isr r2.2 5 (ix_fR r2.2 a3 5)).bind fun a7 =>
      (ix_rI (cal 203 [ix_R (some a7), ix_R (ix_fR r2.2 a4 10), ix_R (ix_fR r2.2 a5 11)] r2.2)).bind fun r6 =>
      jX0_sum_21 cal K v0 v1 v2 r6.1 (nI 0) (nI 0) r6.2
theorem eX0_sum (cal : ix_C) (K : ix_K) (v0 : Nat) (v1 : Int32) (v2 : Int32) (h : ix_H) : ix_fwd cal K stX0_sum 0 [(0, ix_R (some v0)), (1, ix_I v1), (2, ix_I v2)] [] h = bX0_sum cal K v0 v1 v2 h := rfl
theorem rX0_sum (N d : Nat) (v0 : Nat) (v1 : Int32) (v2 : Int32) (h : ix_H) : ix_run iy_P N (d + 1) 97 [ix_R (some v0), ix_I v1, ix_I v2] h = bX0_sum (ix_run iy_P N d) (ix_lp (ix_run iy_P N d) stX0_sum N) v0 v1 v2 h := (rfl : ix_run iy_P N (d + 1) 97 [ix_R (some v0), ix_I v1, ix_I v2] h = ix_fwd (ix_run iy_P N d) (ix_lp (ix_run iy_P N d) stX0_sum N) stX0_sum 0 [(0, ix_R (some v0)), (1, ix_I v1), (2, ix_I v2)] [] h).trans (eX0_sum _ _ v0 v1 v2 h)
theorem lX0_sum_21 (cal : ix_C) (n : Nat) (v0 : Nat) (v1 : Int32) (v2 : Int32) (v3 : Int32) (v4 : Int32) (v5 : Int32) (h : ix_H) : ix_lp cal stX0_sum (n + 1) 21 [(0, ix_R (some v0)), (1, ix_I v1), (2, ix_I v2), (3, ix_I v3), (4, ix_I v4), (5, ix_I v5)] [] h = jX0_sum_21 cal (ix_lp cal stX0_sum n) v0 v1 v2 v3 v4 v5 h := jX0_sum_21_eq cal (ix_lp cal stX0_sum n) v0 v1 v2 v3 v4 v5 h
def jX0_nth_21 (cal : ix_C) (K : ix_K) (s0 : Int32) (h : ix_H) : ix_O :=
  some (.inl (some (ix_I s0)), h)
theorem jX0_nth_21_eq (cal : ix_C) (K : ix_K) (s0 : Int32) (h : ix_H) : ix_fwd cal K (stX0_nth.drop 21) 0 [] [ix_I s0] h = jX0_nth_21 cal K s0 h := rfl
def bX0_nth (cal : ix_C) (K : ix_K) (v0 : Nat) (v1 : Int32) (h : ix_H) : ix_O :=
  if nI 0 ≤ v1 then
    (ix_is h 1 (some v0)).bind fun a1 =>
    (ix_is h 1 (some v0)).bind fun a2 =>
    (ix_is h 1 (some v0)).bind fun a3 =>
    (ix_isr h 5 (ix_fR h a1 5)).bind fun a5 =>
    (ix_rI (cal 203 [ix_R (some a5), ix_R (ix_fR h a2 10), ix_R (ix_fR h a3 11)] h)).bind fun r4 =>
    if r4.1 ≤ v1 then
      jX0_nth_21 cal K (-2 : Int32) r4.2
    else
      (ix_is r4.2 1 (some v0)).bind fun a6 =>
      (ix_atr r4.2 101 (ix_fR r4.2 a6 10) v1).bind fun a7 =>
      jX0_nth_21 cal K (ix_aI r4.2 a7 v1.toNatClampNeg) r4.2
  else
    some (.inl (some (ix_I (-1 : Int32))), h)
theorem eX0_nth (cal : ix_C) (K : ix_K) (v0 : Nat) (v1 : Int32) (h : ix_H) : ix_fwd cal K stX0_nth 0 [(0, ix_R (some v0)), (1, ix_I v1)] [] h = bX0_nth cal K v0 v1 h := rfl
theorem rX0_nth (N d : Nat) (v0 : Nat) (v1 : Int32) (h : ix_H) : ix_run iy_P N (d + 1) 98 [ix_R (some v0), ix_I v1] h = bX0_nth (ix_run iy_P N d) (ix_lp (ix_run iy_P N d) stX0_nth N) v0 v1 h := (rfl : ix_run iy_P N (d + 1) 98 [ix_R (some v0), ix_I v1] h = ix_fwd (ix_run iy_P N d) (ix_lp (ix_run iy_P N d) stX0_nth N) stX0_nth 0 [(0, ix_R (some v0)), (1, ix_I v1)] [] h).trans (eX0_nth _ _ v0 v1 h)
def jX0_page_71 (cal : ix_C) (K : ix_K) (s0 : Int32) (h : ix_H) : ix_O :=
  some (.inl (some (ix_I s0)), h)
theorem jX0_page_71_eq (cal : ix_C) (K : ix_K) (s0 : Int32) (h : ix_H) : ix_fwd cal K (stX0_page.drop 71) 0 [] [ix_I s0] h = jX0_page_71 cal K s0 h := rfl
def jX0_page_19 (cal : ix_C) (K : ix_K) (v0 : Nat) (v1 : Int32) (v2 : Int32) (v3 : Int32) (s0 : Int32) (h : ix_H) : ix_O :=
  (ix_is h 1 (some v0)).bind fun a6 =>
  (ix_is h 1 (some v0)).bind fun a7 =>
  (ix_isr h 5 (ix_fR h a6 5)).bind fun a9 =>
  (ix_rV (cal 175 [ix_R (some a9), ix_I v1, ix_R (ix_fR h a7 8)] h)).bind fun r8 =>
  if v2 = nI 0 then
    (ix_is r8 1 (some v0)).bind fun a10 =>
    (ix_is r8 5 (ix_fR r8 a10 5)).bind fun a11 =>
    (ix_atr r8 101 (ix_fR r8 a11 1) v1).bind fun a12 =>
    jX0_page_71 cal K (ix_aI r8 a12 v1.toNatClampNeg) r8
  else
  if v2 = nI 1 then
    (ix_is r8 1 (some v0)).bind fun a13 =>
    (ix_isr r8 5 (ix_fR r8 a13 5)).bind fun a15 =>
    (ix_rI (cal 187 [ix_R (some a15), ix_I v1] r8)).bind fun r14 =>
    jX0_page_71 cal K r14.1 r14.2
  else
  if v2 = nI 2 then
    if v3 = nI 0 then
      (ix_is r8 1 (some v0)).bind fun a16 =>
      (ix_is r8 6 (ix_fR r8 a16 8)).bind fun a17 =>
      jX0_page_71 cal K (ix_fI r8 a17 3) r8
    else
      jX0_page_71 cal K (nI 0) r8
  else
  if v2 = nI 3 then
    if s0 = nI 0 then
      (ix_is r8 1 (some v0)).bind fun a18 =>
      (ix_is r8 6 (ix_fR r8 a18 8)).bind fun a19 =>
      jX0_page_71 cal K (ix_fI r8 a19 4) r8
    else
      jX0_page_71 cal K (nI 0) r8
  else
  if v2 = nI 4 then
    if s0 = nI 0 then
      (ix_is r8 1 (some v0)).bind fun a20 =>
      (ix_is r8 6 (ix_fR r8 a20 8)).bind fun a21 =>
      jX0_page_71 cal K (ix_fI r8 a21 5) r8
    else
      jX0_page_71 cal K (-2 : Int32) r8
  else
  if v2 = nI 5 then
    if v3 = nI 0 then
      jX0_page_71 cal K (nI 0) r8
    else
      jX0_page_71 cal K (nI 1) r8
  else
    jX0_page_71 cal K (-1 : Int32) r8
theorem jX0_page_19_eq (cal : ix_C) (K : ix_K) (v0 : Nat) (v1 : Int32) (v2 : Int32) (v3 : Int32) (s0 : Int32) (h : ix_H) : ix_fwd cal K (stX0_page.drop 19) 0 [(0, ix_R (some v0)), (1, ix_I v1), (2, ix_I v2), (3, ix_I v3)] [ix_I s0] h = jX0_page_19 cal K v0 v1 v2 v3 s0 h := rfl
def jX0_page_15 (cal : ix_C) (K : ix_K) (v0 : Nat) (v1 : Int32) (v2 : Int32) (v3 : Int32) (h : ix_H) : ix_O :=
  jX0_page_19 cal K v0 v1 v2 v3 (nI 1) h
theorem jX0_page_15_eq (cal : ix_C) (K : ix_K) (v0 : Nat) (v1 : Int32) (v2 : Int32) (v3 : Int32) (h : ix_H) : ix_fwd cal K (stX0_page.drop 15) 0 [(0, ix_R (some v0)), (1, ix_I v1), (2, ix_I v2), (3, ix_I v3)] [] h = jX0_page_15 cal K v0 v1 v2 v3 h := rfl
def bX0_page (cal : ix_C) (K : ix_K) (v0 : Nat) (v1 : Int32) (v2 : Int32) (h : ix_H) : ix_O :=
  (ix_isr h 1 (some v0)).bind fun a2 =>
  (ix_rI (cal 100 [ix_R (some a2), ix_I v1] h)).bind fun r1 =>
  if r1.1 = nI 0 then
    some (.inl (some (ix_I (-1 : Int32))), r1.2)
  else
    (ix_is r1.2 1 (some v0)).bind fun a3 =>
    (ix_isr r1.2 5 (ix_fR r1.2 a3 5)).bind fun a5 =>
    (ix_rI (cal 184 [ix_R (some a5), ix_I v1] r1.2)).bind fun r4 =>
    if v1 = nI 0 then
      jX0_page_15 cal K v0 v1 v2 r4.1 r4.2
    else
      if r4.1 = nI 0 then
        jX0_page_19 cal K v0 v1 v2 r4.1 (nI 0) r4.2
      else
        jX0_page_15 cal K v0 v1 v2 r4.1 r4.2
theorem eX0_page (cal : ix_C) (K : ix_K) (v0 : Nat) (v1 : Int32) (v2 : Int32) (h : ix_H) : ix_fwd cal K stX0_page 0 [(0, ix_R (some v0)), (1, ix_I v1), (2, ix_I v2)] [] h = bX0_page cal K v0 v1 v2 h := rfl
theorem rX0_page (N d : Nat) (v0 : Nat) (v1 : Int32) (v2 : Int32) (h : ix_H) : ix_run iy_P N (d + 1) 99 [ix_R (some v0), ix_I v1, ix_I v2] h = bX0_page (ix_run iy_P N d) (ix_lp (ix_run iy_P N d) stX0_page N) v0 v1 v2 h := (rfl : ix_run iy_P N (d + 1) 99 [ix_R (some v0), ix_I v1, ix_I v2] h = ix_fwd (ix_run iy_P N d) (ix_lp (ix_run iy_P N d) stX0_page N) stX0_page 0 [(0, ix_R (some v0)), (1, ix_I v1), (2, ix_I v2)] [] h).trans (eX0_page _ _ v0 v1 v2 h)
def bX0_isPage (cal : ix_C) (K : ix_K) (v0 : Nat) (v1 : Int32) (h : ix_H) : ix_O :=
  (ix_is h 1 (some v0)).bind fun a1 =>
  (ix_is h 5 (ix_fR h a1 5)).bind fun a2 =>
  (ix_rI (cal 88 [ix_I v1, ix_I (nI 0), ix_I ((ix_fI h a2 4) - (nI 1))] h)).bind fun r3 =>
  cond (ix_okn 1 r3.1) (some (.inl (some (ix_I r3.1)), r3.2)) none
theorem eX0_isPage (cal : ix_C) (K : ix_K) (v0 : Nat) (v1 : Int32) (h : ix_H) : ix_fwd cal K stX0_isPage 0 [(0, ix_R (some v0)), (1, ix_I v1)] [] h = bX0_isPage cal K v0 v1 h := rfl
theorem rX0_isPage (N d : Nat) (v0 : Nat) (v1 : Int32) (h : ix_H) : ix_run iy_P N (d + 1) 100 [ix_R (some v0), ix_I v1] h = bX0_isPage (ix_run iy_P N d) (ix_lp (ix_run iy_P N d) stX0_isPage N) v0 v1 h := (rfl : ix_run iy_P N (d + 1) 100 [ix_R (some v0), ix_I v1] h = ix_fwd (ix_run iy_P N d) (ix_lp (ix_run iy_P N d) stX0_isPage N) stX0_isPage 0 [(0, ix_R (some v0)), (1, ix_I v1)] [] h).trans (eX0_isPage _ _ v0 v1 h)
def jX0_bound_30 (cal : ix_C) (K : ix_K) (s0 : Int32) (h : ix_H) : ix_O :=
  some (.inl (some (ix_I s0)), h)
theorem jX0_bound_30_eq (cal : ix_C) (K : ix_K) (s0 : Int32) (h : ix_H) : ix_fwd cal K (stX0_bound.drop 30) 0 [] [ix_I s0] h = jX0_bound_30 cal K s0 h := rfl
def bX0_bound (cal : ix_C) (K : ix_K) (v0 : Nat) (v1 : Int32) (v2 : Int32) (h : ix_H) : ix_O :=
  (ix_is h 1 (some v0)).bind fun a1 =>
  (ix_isr h 5 (ix_fR h a1 5)).bind fun a3 =>
  (ix_rR (cal 182 [ix_R (some a3)] h)).bind fun r2 =>
  (ix_is r2.2 6 r2.1).bind fun a4 =>
  (ix_rI (cal 88 [ix_I v1, ix_I (nI 0), ix_I ((ix_fI r2.2 a4 3) - (nI 1))] r2.2)).bind fun r5 =>
  if r5.1 = nI 0 then
    jX0_bound_30 cal K (-1 : Int32) r5.2
  else
    if v2 = nI 0 then
      (ix_is r5.2 6 r2.1).bind fun a8 =>
      (ix_atr r5.2 101 (ix_fR r5.2 a8 0) v1).bind fun a9 =>
      jX0_bound_30 cal K (ix_aI r5.2 a9 v1.toNatClampNeg) r5.2
    else
      if v2 = (nI 1) then
        (ix_is r5.2 6 r2.1).bind fun a6 =>
        (ix_atr r5.2 101 (ix_fR r5.2 a6 1) v1).bind fun a7 =>
        jX0_bound_30 cal K (ix_aI r5.2 a7 v1.toNatClampNeg) r5.2
      else
        jX0_bound_30 cal K (-1 : Int32) r5.2
theorem eX0_bound (cal : ix_C) (K : ix_K) (v0 : Nat) (v1 : Int32) (v2 : Int32) (h : ix_H) : ix_fwd cal K stX0_bound 0 [(0, ix_R (some v0)), (1, ix_I v1), (2, ix_I v2)] [] h = bX0_bound cal K v0 v1 v2 h := rfl
theorem rX0_bound (N d : Nat) (v0 : Nat) (v1 : Int32) (v2 : Int32) (h : ix_H) : ix_run iy_P N (d + 1) 101 [ix_R (some v0), ix_I v1, ix_I v2] h = bX0_bound (ix_run iy_P N d) (ix_lp (ix_run iy_P N d) stX0_bound N) v0 v1 v2 h := (rfl : ix_run iy_P N (d + 1) 101 [ix_R (some v0), ix_I v1, ix_I v2] h = ix_fwd (ix_run iy_P N d) (ix_lp (ix_run iy_P N d) stX0_bound N) stX0_bound 0 [(0, ix_R (some v0)), (1, ix_I v1), (2, ix_I v2)] [] h).trans (eX0_bound _ _ v0 v1 v2 h)
def jX0_record_40 (cal : ix_C) (K : ix_K) (s0 : Int32) (h : ix_H) : ix_O :=
  some (.inl (some (ix_I s0)), h)
theorem jX0_record_40_eq (cal : ix_C) (K : ix_K) (s0 : Int32) (h : ix_H) : ix_fwd cal K (stX0_record.drop 40) 0 [] [ix_I s0] h = jX0_record_40 cal K s0 h := rfl
def bX0_record (cal : ix_C) (K : ix_K) (v0 : Nat) (v1 : Int32) (v2 : Int32) (h : ix_H) : ix_O :=
  (ix_isr h 1 (some v0)).bind fun a2 =>
  (ix_rI (cal 103 [ix_R (some a2), ix_I v1] h)).bind fun r1 =>
  if r1.1 = nI 0 then
    some (.inl (some (ix_I (-1000 : Int32))), r1.2)
  else
    (ix_is r1.2 1 (some v0)).bind fun a3 =>
    (ix_is r1.2 5 (ix_fR r1.2 a3 5)).bind fun a4 =>
    (ix_atr r1.2 111 (ix_fR r1.2 a4 0) v1).bind fun a5 =>
    if v2 = nI 0 then
      (ix_is r1.2 6 (ix_aR r1.2 a5 v1.toNatClampNeg)).bind fun a6 =>
      jX0_record_40 cal K (ix_fI r1.2 a6 2) r1.2
    else
    if v2 = nI 1 then
      (ix_is r1.2 6 (ix_aR r1.2 a5 v1.toNatClampNeg)).bind fun a7 =>
      jX0_record_40 cal K (ix_fI r1.2 a7 6) r1.2
    else
    if v2 = nI 2 then
      (ix_is r1.2 6 (ix_aR r1.2 a5 v1.toNatClampNeg)).bind fun a8 =>
      jX0_record_40 cal K (ix_fI r1.2 a8 7) r1.2
    else
    if v2 = nI 3 then
      (ix_is r1.2 6 (ix_aR r1.2 a5 v1.toNatClampNeg)).bind fun a9 =>
      jX0_record_40 cal K (ix_fI r1.2 a9 8) r1.2
    else
    if v2 = nI 4 then
      (ix_is r1.2 6 (ix_aR r1.2 a5 v1.toNatClampNeg)).bind fun a10 =>
      jX0_record_40 cal K (ix_fI r1.2 a10 10) r1.2
    else
    if v2 = nI 5 then
      (ix_is r1.2 6 (ix_aR r1.2 a5 v1.toNatClampNeg)).bind fun a11 =>
      if (ix_fI r1.2 a11 11) = nI 0 then
        jX0_record_40 cal K (nI 0) r1.2
      else
        jX0_record_40 cal K (nI 1) r1.2
    else
    if v2 = nI 6 then
      (ix_is r1.2 6 (ix_aR r1.2 a5 v1.toNatClampNeg)).bind fun a12 =>
      jX0_record_40 cal K (ix_fI r1.2 a12 3) r1.2
    else
      jX0_record_40 cal K (-1000 : Int32) r1.2
theorem eX0_record (cal : ix_C) (K : ix_K) (v0 : Nat) (v1 : Int32) (v2 : Int32) (h : ix_H) : ix_fwd cal K stX0_record 0 [(0, ix_R (some v0)), (1, ix_I v1), (2, ix_I v2)] [] h = bX0_record cal K v0 v1 v2 h := rfl
theorem rX0_record (N d : Nat) (v0 : Nat) (v1 : Int32) (v2 : Int32) (h : ix_H) : ix_run iy_P N (d + 1) 102 [ix_R (some v0), ix_I v1, ix_I v2] h = bX0_record (ix_run iy_P N d) (ix_lp (ix_run iy_P N d) stX0_record N) v0 v1 v2 h := (rfl : ix_run iy_P N (d + 1) 102 [ix_R (some v0), ix_I v1, ix_I v2] h = ix_fwd (ix_run iy_P N d) (ix_lp (ix_run iy_P N d) stX0_record N) stX0_record 0 [(0, ix_R (some v0)), (1, ix_I v1), (2, ix_I v2)] [] h).trans (eX0_record _ _ v0 v1 v2 h)
def bX0_isRecord (cal : ix_C) (K : ix_K) (v0 : Nat) (v1 : Int32) (h : ix_H) : ix_O :=
  (ix_is h 1 (some v0)).bind fun a1 =>
  (ix_is h 5 (ix_fR h a1 5)).bind fun a2 =>
  (ix_rI (cal 88 [ix_I v1, ix_I (nI 0), ix_I ((ix_fI h a2 3) - (nI 1))] h)).bind fun r3 =>
  cond (ix_okn 1 r3.1) (some (.inl (some (ix_I r3.1)), r3.2)) none
theorem eX0_isRecord (cal : ix_C) (K : ix_K) (v0 : Nat) (v1 : Int32) (h : ix_H) : ix_fwd cal K stX0_isRecord 0 [(0, ix_R (some v0)), (1, ix_I v1)] [] h = bX0_isRecord cal K v0 v1 h := rfl
theorem rX0_isRecord (N d : Nat) (v0 : Nat) (v1 : Int32) (h : ix_H) : ix_run iy_P N (d + 1) 103 [ix_R (some v0), ix_I v1] h = bX0_isRecord (ix_run iy_P N d) (ix_lp (ix_run iy_P N d) stX0_isRecord N) v0 v1 h := (rfl : ix_run iy_P N (d + 1) 103 [ix_R (some v0), ix_I v1] h = ix_fwd (ix_run iy_P N d) (ix_lp (ix_run iy_P N d) stX0_isRecord N) stX0_isRecord 0 [(0, ix_R (some v0)), (1, ix_I v1)] [] h).trans (eX0_isRecord _ _ v0 v1 h)
def jX0_base_16 (cal : ix_C) (K : ix_K) (h : ix_H) : ix_O :=
  some (.inl (some (ix_I (-1000 : Int32))), h)
theorem jX0_base_16_eq (cal : ix_C) (K : ix_K) (h : ix_H) : ix_fwd cal K (stX0_base.drop 16) 0 [] [] h = jX0_base_16 cal K h := rfl
def jX0_base_41 (cal : ix_C) (K : ix_K) (s0 : Int32) (h : ix_H) : ix_O :=
  some (.inl (some (ix_I s0)), h)
theorem jX0_base_41_eq (cal : ix_C) (K : ix_K) (s0 : Int32) (h : ix_H) : ix_fwd cal K (stX0_base.drop 41) 0 [] [ix_I s0] h = jX0_base_41 cal K s0 h := rfl
def bX0_base (cal : ix_C) (K : ix_K) (v0 : Nat) (v1 : Int32) (v2 : Int32) (v3 : Int32) (h : ix_H) : ix_O :=
  (ix_isr h 1 (some v0)).bind fun a2 =>
  (ix_rI (cal 103 [ix_R (some a2), ix_I v1] h)).bind fun r1 =>
  if r1.1 = nI 0 then
    jX0_base_16 cal K r1.2
  else
    (ix_is r1.2 1 (some v0)).bind fun a3 =>
    (ix_is r1.2 5 (ix_fR r1.2 a3 5)).bind fun a4 =>
    (ix_atr r1.2 111 (ix_fR r1.2 a4 0) v1).bind fun a5 =>
    (ix_is r1.2 6 (ix_aR r1.2 a5 v1.toNatClampNeg)).bind fun a6 =>
    (ix_rI (cal 88 [ix_I v2, ix_I (nI 0), ix_I ((ix_fI r1.2 a6 3) - (nI 1))] r1.2)).bind fun r7 =>
    if r7.1 = nI 0 then
      jX0_base_16 cal K r7.2
    else
      (ix_is r7.2 1 (some v0)).bind fun a8 =>
      (ix_is r7.2 5 (ix_fR r7.2 a8 5)).bind fun a9 =>
      (ix_atr r7.2 111 (ix_fR r7.2 a9 0) v1).bind fun a10 =>
      if v3 = nI 0 then
        (ix_is r7.2 6 (ix_aR r7.2 a10 v1.toNatClampNeg)).bind fun a13 =>
        (ix_atr r7.2 101 (ix_fR r7.2 a13 0) v2).bind fun a14 =>
        jX0_base_41 cal K (ix_aI r7.2 a14 v2.toNatClampNeg) r7.2
      else
        if v3 = (nI 1) then
          (ix_is r7.2 6 (ix_aR r7.2 a10 v1.toNatClampNeg)).bind fun a11 =>
          (ix_atr r7.2 101 (ix_fR r7.2 a11 1) v2).bind fun a12 =>
          jX0_base_41 cal K (ix_aI r7.2 a12 v2.toNatClampNeg) r7.2
        else
          jX0_base_41 cal K (-1000 : Int32) r7.2
theorem eX0_base (cal : ix_C) (K : ix_K) (v0 : Nat) (v1 : Int32) (v2 : Int32) (v3 : Int32) (h : ix_H) : ix_fwd cal K stX0_base 0 [(0, ix_R (some v0)), (1, ix_I v1), (2, ix_I v2), (3, ix_I v3)] [] h = bX0_base cal K v0 v1 v2 v3 h := rfl
theorem rX0_base (N d : Nat) (v0 : Nat) (v1 : Int32) (v2 : Int32) (v3 : Int32) (h : ix_H) : ix_run iy_P N (d + 1) 104 [ix_R (some v0), ix_I v1, ix_I v2, ix_I v3] h = bX0_base (ix_run iy_P N d) (ix_lp (ix_run iy_P N d) stX0_base N) v0 v1 v2 v3 h := (rfl : ix_run iy_P N (d + 1) 104 [ix_R (some v0), ix_I v1, ix_I v2, ix_I v3] h = ix_fwd (ix_run iy_P N d) (ix_lp (ix_run iy_P N d) stX0_base N) stX0_base 0 [(0, ix_R (some v0)), (1, ix_I v1), (2, ix_I v2), (3, ix_I v3)] [] h).trans (eX0_base _ _ v0 v1 v2 v3 h)
def jX0_hand_35 (cal : ix_C) (K : ix_K) (s0 : Int32) (h : ix_H) : ix_O :=
  some (.inl (some (ix_I s0)), h)
theorem jX0_hand_35_eq (cal : ix_C) (K : ix_K) (s0 : Int32) (h : ix_H) : ix_fwd cal K (stX0_hand.drop 35) 0 [] [ix_I s0] h = jX0_hand_35 cal K s0 h := rfl
def bX0_hand (cal : ix_C) (K : ix_K) (v0 : Nat) (v1 : Int32) (v2 : Int32) (h : ix_H) : ix_O :=
  (ix_rI (cal 87 [ix_I v1] h)).bind fun r1 =>
  if r1.1 = nI 0 then
    some (.inl (some (ix_I (-1 : Int32))), r1.2)
  else
    (ix_is r1.2 1 (some v0)).bind fun a2 =>
    (ix_is r1.2 5 (ix_fR r1.2 a2 5)).bind fun a3 =>
    (ix_atr r1.2 112 (ix_fR r1.2 a3 2) v1).bind fun a4 =>
    if v2 = nI 0 then
      (ix_is r1.2 7 (ix_aR r1.2 a4 v1.toNatClampNeg)).bind fun a5 =>
      jX0_hand_35 cal K (ix_fI r1.2 a5 0) r1.2
    else
    if v2 = nI 1 then
      (ix_is r1.2 7 (ix_aR r1.2 a4 v1.toNatClampNeg)).bind fun a6 =>
      jX0_hand_35 cal K (ix_fI r1.2 a6 3) r1.2
    else
    if v2 = nI 2 then
      (ix_is r1.2 7 (ix_aR r1.2 a4 v1.toNatClampNeg)).bind fun a7 =>
      jX0_hand_35 cal K (ix_fI r1.2 a7 4) r1.2
    else
    if v2 = nI 3 then
      (ix_is r1.2 7 (ix_aR r1.2 a4 v1.toNatClampNeg)).bind fun a8 =>
      jX0_hand_35 cal K (ix_fI r1.2 a8 11) r1.2
    else
    if v2 = nI 4 then
      (ix_is r1.2 7 (ix_aR r1.2 a4 v1.toNatClampNeg)).bind fun a9 =>
      jX0_hand_35 cal K (ix_fI r1.2 a9 12) r1.2
    else
    if v2 = nI 5 then
      (ix_is r1.2 7 (ix_aR r1.2 a4 v1.toNatClampNeg)).bind fun a10 =>
      jX0_hand_35 cal K (ix_fI r1.2 a10 13) r1.2
    else
    if v2 = nI 6 then
      (ix_is r1.2 7 (ix_aR r1.2 a4 v1.toNatClampNeg)).bind fun a11 =>
      jX0_hand_35 cal K (ix_fI r1.2 a11 1) r1.2
    else
      jX0_hand_35 cal K (-1 : Int32) r1.2
theorem eX0_hand (cal : ix_C) (K : ix_K) (v0 : Nat) (v1 : Int32) (v2 : Int32) (h : ix_H) : ix_fwd cal K stX0_hand 0 [(0, ix_R (some v0)), (1, ix_I v1), (2, ix_I v2)] [] h = bX0_hand cal K v0 v1 v2 h := rfl
theorem rX0_hand (N d : Nat) (v0 : Nat) (v1 : Int32) (v2 : Int32) (h : ix_H) : ix_run iy_P N (d + 1) 105 [ix_R (some v0), ix_I v1, ix_I v2] h = bX0_hand (ix_run iy_P N d) (ix_lp (ix_run iy_P N d) stX0_hand N) v0 v1 v2 h := (rfl : ix_run iy_P N (d + 1) 105 [ix_R (some v0), ix_I v1, ix_I v2] h = ix_fwd (ix_run iy_P N d) (ix_lp (ix_run iy_P N d) stX0_hand N) stX0_hand 0 [(0, ix_R (some v0)), (1, ix_I v1), (2, ix_I v2)] [] h).trans (eX0_hand _ _ v0 v1 v2 h)
def jX0_result_11 (cal : ix_C) (K : ix_K) (s0 : Int32) (h : ix_H) : ix_O :=
  some (.inl (some (ix_I s0)), h)
theorem jX0_result_11_eq (cal : ix_C) (K : ix_K) (s0 : Int32) (h : ix_H) : ix_fwd cal K (stX0_result.drop 11) 0 [] [ix_I s0] h = jX0_result_11 cal K s0 h := rfl
def bX0_result (cal : ix_C) (K : ix_K) (v0 : Nat) (v1 : Int32) (h : ix_H) : ix_O :=
  (ix_rI (cal 87 [ix_I v1] h)).bind fun r1 =>
  if r1.1 = nI 0 then
    jX0_result_11 cal K (nI 0) r1.2
  else
    (ix_is r1.2 1 (some v0)).bind fun a2 =>
    (ix_is r1.2 5 (ix_fR r1.2 a2 5)).bind fun a3 =>
    (ix_atr r1.2 112 (ix_fR r1.2 a3 2) v1).bind fun a4 =>
    (ix_is r1.2 7 (ix_aR r1.2 a4 v1.toNatClampNeg)).bind fun a5 =>
    jX0_result_11 cal K (ix_fI r1.2 a5 14) r1.2
theorem eX0_result (cal : ix_C) (K : ix_K) (v0 : Nat) (v1 : Int32) (h : ix_H) : ix_fwd cal K stX0_result 0 [(0, ix_R (some v0)), (1, ix_I v1)] [] h = bX0_result cal K v0 v1 h := rfl
theorem rX0_result (N d : Nat) (v0 : Nat) (v1 : Int32) (h : ix_H) : ix_run iy_P N (d + 1) 106 [ix_R (some v0), ix_I v1] h = bX0_result (ix_run iy_P N d) (ix_lp (ix_run iy_P N d) stX0_result N) v0 v1 h := (rfl : ix_run iy_P N (d + 1) 106 [ix_R (some v0), ix_I v1] h = ix_fwd (ix_run iy_P N d) (ix_lp (ix_run iy_P N d) stX0_result N) stX0_result 0 [(0, ix_R (some v0)), (1, ix_I v1)] [] h).trans (eX0_result _ _ v0 v1 h)
def jX0_halves_14 (cal : ix_C) (K : ix_K) (s0 : Int32) (h : ix_H) : ix_O :=
  some (.inl (some (ix_I s0)), h)
theorem jX0_halves_14_eq (cal : ix_C) (K : ix_K) (s0 : Int32) (h : ix_H) : ix_fwd cal K (stX0_halves.drop 14) 0 [] [ix_I s0] h = jX0_halves_14 cal K s0 h := rfl
def bX0_halves (cal : ix_C) (K : ix_K) (v0 : Nat) (v1 : Int32) (h : ix_H) : ix_O :=
  if v1 = nI 0 then
    (ix_is h 1 (some v0)).bind fun a4 =>
    (ix_isr h 5 (ix_fR h a4 5)).bind fun a6 =>
    (ix_rI (cal 204 [ix_R (some a6)] h)).bind fun r5 =>
    jX0_halves_14 cal K r5.1 r5.2
  else
    if v1 = (nI 1) then
      (ix_is h 1 (some v0)).bind fun a1 =>
      (ix_isr h 5 (ix_fR h a1 5)).bind fun a3 =>
      (ix_rI (cal 205 [ix_R (some a3)] h)).bind fun r2 =>
      jX0_halves_14 cal K r2.1 r2.2
    else
      jX0_halves_14 cal K (-1 : Int32) h
theorem eX0_halves (cal : ix_C) (K : ix_K) (v0 : Nat) (v1 : Int32) (h : ix_H) : ix_fwd cal K stX0_halves 0 [(0, ix_R (some v0)), (1, ix_I v1)] [] h = bX0_halves cal K v0 v1 h := rfl
theorem rX0_halves (N d : Nat) (v0 : Nat) (v1 : Int32) (h : ix_H) : ix_run iy_P N (d + 1) 107 [ix_R (some v0), ix_I v1] h = bX0_halves (ix_run iy_P N d) (ix_lp (ix_run iy_P N d) stX0_halves N) v0 v1 h := (rfl : ix_run iy_P N (d + 1) 107 [ix_R (some v0), ix_I v1] h = ix_fwd (ix_run iy_P N d) (ix_lp (ix_run iy_P N d) stX0_halves N) stX0_halves 0 [(0, ix_R (some v0)), (1, ix_I v1)] [] h).trans (eX0_halves _ _ v0 v1 h)
def jX0_replay_19 (cal : ix_C) (K : ix_K) (h : ix_H) : ix_O :=
  some (.inl (some (ix_I (-1 : Int32))), h)
theorem jX0_replay_19_eq (cal : ix_C) (K : ix_K) (h : ix_H) : ix_fwd cal K (stX0_replay.drop 19) 0 [] [] h = jX0_replay_19 cal K h := rfl
def jX0_replay_110 (cal : ix_C) (K : ix_K) (s0 : Int32) (h : ix_H) : ix_O :=
  some (.inl (some (ix_I s0)), h)
theorem jX0_replay_110_eq (cal : ix_C) (K : ix_K) (s0 : Int32) (h : ix_H) : ix_fwd cal K (stX0_replay.drop 110) 0 [] [ix_I s0] h = jX0_replay_110 cal K s0 h := rfl
def jX0_replay_92 (cal : ix_C) (K : ix_K) (v0 : Nat) (v1 : Int32) (v2 : Int32) (v3 : Int32) (v4 : Int32) (v5 : Int32) (v6 : Int32) (v7 : Int32) (v8 : Int32) (v9 : Int32) (v10 : Int32) (h : ix_H) : ix_O :=
  K 34 [(0, ix_R (some v0)), (1, ix_I v1), (2, ix_I v2), (3, ix_I v3), (4, ix_I v4), (5, ix_I v5), (6, ix_I v6), (7, ix_I v7), (8, ix_I v8), (9, ix_I v9), (10, ix_I (v10 + (nI 1)))] [] h
theorem jX0_replay_92_eq (cal : ix_C) (K : ix_K) (v0 : Nat) (v1 : Int32) (v2 : Int32) (v3 : Int32) (v4 : Int32) (v5 : Int32) (v6 : Int32) (v7 : Int32) (v8 : Int32) (v9 : Int32) (v10 : Int32) (h : ix_H) : ix_fwd cal K (stX0_replay.drop 92) 0 [(0, ix_R (some v0)), (1, ix_I v1), (2, ix_I v2), (3, ix_I v3), (4, ix_I v4), (5, ix_I v5), (6, ix_I v6), (7, ix_I v7), (8, ix_I v8), (9, ix_I v9), (10, ix_I v10)] [] h = jX0_replay_92 cal K v0 v1 v2 v3 v4 v5 v6 v7 v8 v9 v10 h := rfl
def jX0_replay_65 (cal : ix_C) (K : ix_K) (v0 : Nat) (v1 : Int32) (v2 : Int32) (v3 : Int32) (v4 : Int32) (v6 : Int32) (v7 : Int32) (v8 : Int32) (v9 : Int32) (v10 : Int32) (s0 : Int32) (s1 : Int32) (h : ix_H) : ix_O :=
  (ix_is h 1 (some v0)).bind fun a9 =>
  (ix_is h 5 (ix_fR h a9 6)).bind fun a10 =>
  (ix_is h 1 (some v0)).bind fun a11 =>
  (ix_is h 5 (ix_fR h a11 5)).bind fun a12 =>
  (ix_rI (cal 25 [ix_I v8, ix_I ((ix_fI h a10 3) - (ix_fI h a12 3))] h)).bind fun r13 =>
  (ix_isr r13.2 1 (some v0)).bind fun a15 =>
  (ix_rI (cal 111 [ix_R (some a15), ix_I v1, ix_I v2] r13.2)).bind fun r14 =>
  if v6 < r14.1 then
    (ix_isr r14.2 1 (some v0)).bind fun a17 =>
    (ix_rI (cal 111 [ix_R (some a17), ix_I v1, ix_I v2] r14.2)).bind fun r16 =>
    jX0_replay_92 cal K v0 v1 v2 v3 v4 (s0 + s1) r16.1 v10 r13.1 v9 v10 r16.2
  else
    jX0_replay_92 cal K v0 v1 v2 v3 v4 (s0 + s1) v6 v7 r13.1 v9 v10 r14.2
theorem jX0_replay_65_eq (cal : ix_C) (K : ix_K) (v0 : Nat) (v1 : Int32) (v2 : Int32) (v3 : Int32) (v4 : Int32) (v6 : Int32) (v7 : Int32) (v8 : Int32) (v9 : Int32) (v10 : Int32) (s0 : Int32) (s1 : Int32) (h : ix_H) : ix_fwd cal K (stX0_replay.drop 65) 0 [(0, ix_R (some v0)), (1, ix_I v1), (2, ix_I v2), (3, ix_I v3), (4, ix_I v4), (6, ix_I v6), (7, ix_I v7), (8, ix_I v8), (9, ix_I v9), (10, ix_I v10)] [ix_I s1, ix_I s0] h = jX0_replay_65 cal K v0 v1 v2 v3 v4 v6 v7 v8 v9 v10 s0 s1 h := rfl
def jX0_replay_56 (cal : ix_C) (K : ix_K) (v0 : Nat) (v1 : Int32) (v2 : Int32) (v3 : Int32) (v4 : Int32) (v5 : Int32) (v6 : Int32) (v7 : Int32) (v8 : Int32) (v9 : Int32) (v10 : Int32) (h : ix_H) : ix_O :=
  (ix_isr h 1 (some v0)).bind fun a8 =>
  (ix_rI (cal 110 [ix_R (some a8), ix_I v9] h)).bind fun r7 =>
  if r7.1 = nI 0 then
    jX0_replay_65 cal K v0 v1 v2 v3 v4 v6 v7 v8 v9 v10 v5 (nI 0) r7.2
  else
    jX0_replay_65 cal K v0 v1 v2 v3 v4 v6 v7 v8 v9 v10 v5 (nI 1) r7.2
theorem jX0_replay_56_eq (cal : ix_C) (K : ix_K) (v0 : Nat) (v1 : Int32) (v2 : Int32) (v3 : Int32) (v4 : Int32) (v5 : Int32) (v6 : Int32) (v7 : Int32) (v8 : Int32) (v9 : Int32) (v10 : Int32) (h : ix_H) : ix_fwd cal K (stX0_replay.drop 56) 0 [(0, ix_R (some v0)), (1, ix_I v1), (2, ix_I v2), (3, ix_I v3), (4, ix_I v4), (5, ix_I v5), (6, ix_I v6), (7, ix_I v7), (8, ix_I v8), (9, ix_I v9), (10, ix_I v10)] [] h = jX0_replay_56 cal K v0 v1 v2 v3 v4 v5 v6 v7 v8 v9 v10 h := rfl
def jX0_replay_34 (cal : ix_C) (K : ix_K) (v0 : Nat) (v1 : Int32) (v2 : Int32) (v3 : Int32) (v4 : Int32) (v5 : Int32) (v6 : Int32) (v7 : Int32) (v8 : Int32) (v9 : Int32) (v10 : Int32) (h : ix_H) : ix_O :=
  if ((nI 1) <<< (v3 &&& 31)) ≤ v10 then
    if v4 = nI 0 then
      jX0_replay_110 cal K v5 h
    else
      if v4 = (nI 1) then
        jX0_replay_110 cal K v6 h
      else
        if v4 = (nI 2) then
          jX0_replay_110 cal K v7 h
        else
          jX0_replay_110 cal K v8 h
  else
    (ix_isr h 1 (some v0)).bind fun a6 =>
    (ix_rV (cal 109 [ix_R (some a6), ix_I v1, ix_I v2, ix_I v3, ix_I v10] h)).bind fun r5 =>
    if v10 = nI 0 then
      (ix_is r5 1 (some v0)).bind fun a18 =>
      (ix_is r5 1 (some v0)).bind fun a19 =>
      (ix_is r5 1 (some v0)).bind fun a20 =>
      (ix_isr r5 5 (ix_fR r5 a18 6)).bind fun a22 =>
      (ix_rI (cal 203 [ix_R (some a22), ix_R (ix_fR r5 a19 12), ix_R (ix_fR r5 a20 13)] r5)).bind fun r21 =>
      jX0_replay_56 cal K v0 v1 v2 v3 v4 v5 v6 v7 v8 r21.1 v10 r21.2
    else
      jX0_replay_56 cal K v0 v1 v2 v3 v4 v5 v6 v7 v8 v9 v10 r5
theorem jX0_replay_34_eq (cal : ix_C) (K : ix_K) (v0 : Nat) (v1 : Int32) (v2 : Int32) (v3 : Int32) (v4 : Int32) (v5 : Int32) (v6 : Int32) (v7 : Int32) (v8 : Int32) (v9 : Int32) (v10 : Int32) (h : ix_H) : ix_fwd cal K (stX0_replay.drop 34) 0 [(0, ix_R (some v0)), (1, ix_I v1), (2, ix_I v2), (3, ix_I v3), (4, ix_I v4), (5, ix_I v5), (6, ix_I v6), (7, ix_I v7), (8, ix_I v8), (9, ix_I v9), (10, ix_I v10)] [] h = jX0_replay_34 cal K v0 v1 v2 v3 v4 v5 v6 v7 v8 v9 v10 h := rfl
def bX0_replay (cal : ix_C) (K : ix_K) (v0 : Nat) (v1 : Int32) (v2 : Int32) (v3 : Int32) (v4 : Int32) (h : ix_H) : ix_O :=
  (ix_rI (cal 87 [ix_I v1] h)).bind fun r1 =>
  if r1.1 = nI 0 then
    jX0_replay_19 cal K r1.2
  else
    (ix_rI (cal 87 [ix_I v2] r1.2)).bind fun r2 =>
    if r2.1 = nI 0 then
      jX0_replay_19 cal K r2.2
    else
      if v1 = v2 then
        jX0_replay_19 cal K r2.2
      else
        (ix_rI (cal 88 [ix_I v3, ix_I (nI 0), ix_I (nI 8)] r2.2)).bind fun r3 =>
        if r3.1 = nI 0 then
          jX0_replay_19 cal K r3.2
        else
          (ix_rI (cal 88 [ix_I v4, ix_I (nI 0), ix_I (nI 3)] r3.2)).bind fun r4 =>
          if r4.1 = nI 0 then
            jX0_replay_19 cal K r4.2
          else
            jX0_replay_34 cal K v0 v1 v2 v3 v4 (nI 0) (-1 : Int32) (nI 0) (nI 2000) (nI 0) (nI 0) r4.2
theorem eX0_replay (cal : ix_C) (K : ix_K) (v0 : Nat) (v1 : Int32) (v2 : Int32) (v3 : Int32) (v4 : Int32) (h : ix_H) : ix_fwd cal K stX0_replay 0 [(0, ix_R (some v0)), (1, ix_I v1), (2, ix_I v2), (3, ix_I v3), (4, ix_I v4)] [] h = bX0_replay cal K v0 v1 v2 v3 v4 h := rfl
theorem rX0_replay (N d : Nat) (v0 : Nat) (v1 : Int32) (v2 : Int32) (v3 : Int32) (v4 : Int32) (h : ix_H) : ix_run iy_P N (d + 1) 108 [ix_R (some v0), ix_I v1, ix_I v2, ix_I v3, ix_I v4] h = bX0_replay (ix_run iy_P N d) (ix_lp (ix_run iy_P N d) stX0_replay N) v0 v1 v2 v3 v4 h := (rfl : ix_run iy_P N (d + 1) 108 [ix_R (some v0), ix_I v1, ix_I v2, ix_I v3, ix_I v4] h = ix_fwd (ix_run iy_P N d) (ix_lp (ix_run iy_P N d) stX0_replay N) stX0_replay 0 [(0, ix_R (some v0)), (1, ix_I v1), (2, ix_I v2), (3, ix_I v3), (4, ix_I v4)] [] h).trans (eX0_replay _ _ v0 v1 v2 v3 v4 h)
theorem lX0_replay_34 (cal : ix_C) (n : Nat) (v0 : Nat) (v1 : Int32) (v2 : Int32) (v3 : Int32) (v4 : Int32) (v5 : Int32) (v6 : Int32) (v7 : Int32) (v8 : Int32) (v9 : Int32) (v10 : Int32) (h : ix_H) : ix_lp cal stX0_replay (n + 1) 34 [(0, ix_R (some v0)), (1, ix_I v1), (2, ix_I v2), (3, ix_I v3), (4, ix_I v4), (5, ix_I v5), (6, ix_I v6), (7, ix_I v7), (8, ix_I v8), (9, ix_I v9), (10, ix_I v10)] [] h = jX0_replay_34 cal (ix_lp cal stX0_replay n) v0 v1 v2 v3 v4 v5 v6 v7 v8 v9 v10 h := jX0_replay_34_eq cal (ix_lp cal stX0_replay n) v0 v1 v2 v3 v4 v5 v6 v7 v8 v9 v10 h
def jX0_replays_22 (cal : ix_C) (K : ix_K) (v0 : Nat) (v1 : Int32) (v2 : Int32) (v3 : Int32) (v4 : Int32) (v5 : Int32) (s0 : Option Nat) (s1 : Int32) (h : ix_H) : ix_O :=
  (ix_isr h 5 s0).bind fun a13 =>
  (ix_rI (cal 180 [ix_R (some a13), ix_I s1] h)).bind fun r12 =>
  K 7 [(0, ix_R (some v0)), (1, ix_I v1), (2, ix_I v2), (3, ix_I v3), (4, ix_I v4), (5, ix_I (v5 + (nI 1)))] [] r12.2
theorem jX0_replays_22_eq (cal : ix_C) (K : ix_K) (v0 : Nat) (v1 : Int32) (v2 : Int32) (v3 : Int32) (v4 : Int32) (v5 : Int32) (s0 : Option Nat) (s1 : Int32) (h : ix_H) : ix_fwd cal K (stX0_replays.drop 22) 0 [(0, ix_R (some v0)), (1, ix_I v1), (2, ix_I v2), (3, ix_I v3), (4, ix_I v4), (5, ix_I v5)] [ix_I s1, ix_R s0] h = jX0_replays_22 cal K v0 v1 v2 v3 v4 v5 s0 s1 h := rfl
def jX0_replays_7 (cal : ix_C) (K : ix_K) (v0 : Nat) (v1 : Int32) (v2 : Int32) (v3 : Int32) (v4 : Int32) (v5 : Int32) (h : ix_H) : ix_O :=
  if v3 ≤ v5 then
    (ix_is h 1 (some v0)).bind fun a5 =>
    (ix_isr h 5 (ix_fR h a5 6)).bind fun a7 =>
    (ix_rI (cal 179 [ix_R (some a7), ix_I v1] h)).bind fun r6 =>
    (ix_is r6.2 1 (some v0)).bind fun a8 =>
    (ix_isr r6.2 5 (ix_fR r6.2 a8 6)).bind fun a10 =>
    (ix_rI (cal 179 [ix_R (some a10), ix_I v2] r6.2)).bind fun r9 =>
    some (.inl none, r9.2)
  else
    (ix_is h 1 (some v0)).bind fun a11 =>
    if ((v4 >>> (v5 &&& 31)) &&& (nI 1)) = nI 0 then
      jX0_replays_22 cal K v0 v1 v2 v3 v4 v5 (ix_fR h a11 6) v1 h
    else
      jX0_replays_22 cal K v0 v1 v2 v3 v4 v5 (ix_fR h a11 6) v2 h
theorem jX0_replays_7_eq (cal : ix_C) (K : ix_K) (v0 : Nat) (v1 : Int32) (v2 : Int32) (v3 : Int32) (v4 : Int32) (v5 : Int32) (h : ix_H) : ix_fwd cal K (stX0_replays.drop 7) 0 [(0, ix_R (some v0)), (1, ix_I v1), (2, ix_I v2), (3, ix_I v3), (4, ix_I v4), (5, ix_I v5)] [] h = jX0_replays_7 cal K v0 v1 v2 v3 v4 v5 h := rfl
def bX0_replays (cal : ix_C) (K : ix_K) (v0 : Nat) (v1 : Int32) (v2 : Int32) (v3 : Int32) (v4 : Int32) (h : ix_H) : ix_O :=
  (ix_is h 1 (some v0)).bind fun a1 =>
  (ix_is h 1 (some v0)).bind fun a2 =>
  (ix_isr h 5 (ix_fR h a1 6)).bind fun a4 =>
  (ix_rV (cal 206 [ix_R (some a4), ix_R (ix_fR h a2 5)] h)).bind fun r3 =>
  jX0_replays_7 cal K v0 v1 v2 v3 v4 (nI 0) r3
theorem eX0_replays (cal : ix_C) (K : ix_K) (v0 : Nat) (v1 : Int32) (v2 : Int32) (v3 : Int32) (v4 : Int32) (h : ix_H) : ix_fwd cal K stX0_replays 0 [(0, ix_R (some v0)), (1, ix_I v1), (2, ix_I v2), (3, ix_I v3), (4, ix_I v4)] [] h = bX0_replays cal K v0 v1 v2 v3 v4 h := rfl
theorem rX0_replays (N d : Nat) (v0 : Nat) (v1 : Int32) (v2 : Int32) (v3 : Int32) (v4 : Int32) (h : ix_H) : ix_run iy_P N (d + 1) 109 [ix_R (some v0), ix_I v1, ix_I v2, ix_I v3, ix_I v4] h = bX0_replays (ix_run iy_P N d) (ix_lp (ix_run iy_P N d) stX0_replays N) v0 v1 v2 v3 v4 h := (rfl : ix_run iy_P N (d + 1) 109 [ix_R (some v0), ix_I v1, ix_I v2, ix_I v3, ix_I v4] h = ix_fwd (ix_run iy_P N d) (ix_lp (ix_run iy_P N d) stX0_replays N) stX0_replays 0 [(0, ix_R (some v0)), (1, ix_I v1), (2, ix_I v2), (3, ix_I v3), (4, ix_I v4)] [] h).trans (eX0_replays _ _ v0 v1 v2 v3 v4 h)
theorem lX0_replays_7 (cal : ix_C) (n : Nat) (v0 : Nat) (v1 : Int32) (v2 : Int32) (v3 : Int32) (v4 : Int32) (v5 : Int32) (h : ix_H) : ix_lp cal stX0_replays (n + 1) 7 [(0, ix_R (some v0)), (1, ix_I v1), (2, ix_I v2), (3, ix_I v3), (4, ix_I v4), (5, ix_I v5)] [] h = jX0_replays_7 cal (ix_lp cal stX0_replays n) v0 v1 v2 v3 v4 v5 h := jX0_replays_7_eq cal (ix_lp cal stX0_replays n) v0 v1 v2 v3 v4 v5 h
def jX0_isAsFirst_50 (cal : ix_C) (K : ix_K) (v3 : Int32) (h : ix_H) : ix_O :=
  cond (ix_okn 1 v3) (some (.inl (some (ix_I v3)), h)) none
theorem jX0_isAsFirst_50_eq (cal : ix_C) (K : ix_K) (v3 : Int32) (h : ix_H) : ix_fwd cal K (stX0_isAsFirst.drop 50) 0 [(3, ix_I v3)] [] h = jX0_isAsFirst_50 cal K v3 h := rfl
def jX0_isAsFirst_46 (cal : ix_C) (K : ix_K) (v0 : Nat) (v2 : Int32) (v4 : Int32) (s0 : Int32) (h : ix_H) : ix_O :=
  K 18 [(0, ix_R (some v0)), (2, ix_I v2), (3, ix_I s0), (4, ix_I (v4 + (nI 1)))] [] h
theorem jX0_isAsFirst_46_eq (cal : ix_C) (K : ix_K) (v0 : Nat) (v2 : Int32) (v4 : Int32) (s0 : Int32) (h : ix_H) : ix_fwd cal K (stX0_isAsFirst.drop 46) 0 [(0, ix_R (some v0)), (2, ix_I v2), (4, ix_I v4)] [ix_I s0] h = jX0_isAsFirst_46 cal K v0 v2 v4 s0 h := rfl
def jX0_isAsFirst_44 (cal : ix_C) (K : ix_K) (v0 : Nat) (v2 : Int32) (v4 : Int32) (h : ix_H) : ix_O :=
  jX0_isAsFirst_46 cal K v0 v2 v4 (nI 0) h
theorem jX0_isAsFirst_44_eq (cal : ix_C) (K : ix_K) (v0 : Nat) (v2 : Int32) (v4 : Int32) (h : ix_H) : ix_fwd cal K (stX0_isAsFirst.drop 44) 0 [(0, ix_R (some v0)), (2, ix_I v2), (4, ix_I v4)] [] h = jX0_isAsFirst_44 cal K v0 v2 v4 h := rfl
def jX0_isAsFirst_18 (cal : ix_C) (K : ix_K) (v0 : Nat) (v2 : Int32) (v3 : Int32) (v4 : Int32) (h : ix_H) : ix_O :=
  if v2 ≤ v4 then
    jX0_isAsFirst_50 cal K v3 h
  else
    if v3 = nI 0 then
      jX0_isAsFirst_50 cal K v3 h
    else
      (ix_is h 1 (some v0)).bind fun a6 =>
      (ix_atr h 101 (ix_fR h a6 10) v4).bind fun a7 =>
      (ix_is h 1 (some v0)).bind fun a8 =>
      (ix_atr h 101 (ix_fR h a8 12) v4).bind fun a9 =>
      if (ix_aI h a7 v4.toNatClampNeg) = (ix_aI h a9 v4.toNatClampNeg) then
        (ix_is h 1 (some v0)).bind fun a10 =>
        (ix_atr h 101 (ix_fR h a10 11) v4).bind fun a11 =>
        (ix_is h 1 (some v0)).bind fun a12 =>
        (ix_atr h 101 (ix_fR h a12 13) v4).bind fun a13 =>
        if (ix_aI h a11 v4.toNatClampNeg) = (ix_aI h a13 v4.toNatClampNeg) then
          jX0_isAsFirst_46 cal K v0 v2 v4 (nI 1) h
        else
          jX0_isAsFirst_44 cal K v0 v2 v4 h
      else
        jX0_isAsFirst_44 cal K v0 v2 v4 h
theorem jX0_isAsFirst_18_eq (cal : ix_C) (K : ix_K) (v0 : Nat) (v2 : Int32) (v3 : Int32) (v4 : Int32) (h : ix_H) : ix_fwd cal K (stX0_isAsFirst.drop 18) 0 [(0, ix_R (some v0)), (2, ix_I v2), (3, ix_I v3), (4, ix_I v4)] [] h = jX0_isAsFirst_18 cal K v0 v2 v3 v4 h := rfl
def jX0_isAsFirst_14 (cal : ix_C) (K : ix_K) (v0 : Nat) (v2 : Int32) (s0 : Int32) (h : ix_H) : ix_O :=
  jX0_isAsFirst_18 cal K v0 v2 s0 (nI 0) h
theorem jX0_isAsFirst_14_eq (cal : ix_C) (K : ix_K) (v0 : Nat) (v2 : Int32) (s0 : Int32) (h : ix_H) : ix_fwd cal K (stX0_isAsFirst.drop 14) 0 [(0, ix_R (some v0)), (2, ix_I v2)] [ix_I s0] h = jX0_isAsFirst_14 cal K v0 v2 s0 h := rfl
def bX0_isAsFirst (cal : ix_C) (K : ix_K) (v0 : Nat) (v1 : Int32) (h : ix_H) : ix_O :=
  (ix_is h 1 (some v0)).bind fun a1 =>
  (ix_is h 1 (some v0)).bind fun a2 =>
  (ix_is h 1 (some v0)).bind fun a3 =>
  (ix_isr h 5 (ix_fR h a1 6)).bind fun a5 =>
  (ix_rI (cal 203 [ix_R (some a5), ix_R (ix_fR h a2 10), ix_R (ix_fR h a3 11)] h)).bind fun r4 =>
  if r4.1 = v1 then
    jX0_isAsFirst_14 cal K v0 r4.1 (nI 1) r4.2
  else
    jX0_isAsFirst_14 cal K v0 r4.1 (nI 0) r4.2
theorem eX0_isAsFirst (cal : ix_C) (K : ix_K) (v0 : Nat) (v1 : Int32) (h : ix_H) : ix_fwd cal K stX0_isAsFirst 0 [(0, ix_R (some v0)), (1, ix_I v1)] [] h = bX0_isAsFirst cal K v0 v1 h := rfl
theorem rX0_isAsFirst (N d : Nat) (v0 : Nat) (v1 : Int32) (h : ix_H) : ix_run iy_P N (d + 1) 110 [ix_R (some v0), ix_I v1] h = bX0_isAsFirst (ix_run iy_P N d) (ix_lp (ix_run iy_P N d) stX0_isAsFirst N) v0 v1 h := (rfl : ix_run iy_P N (d + 1) 110 [ix_R (some v0), ix_I v1] h = ix_fwd (ix_run iy_P N d) (ix_lp (ix_run iy_P N d) stX0_isAsFirst N) stX0_isAsFirst 0 [(0, ix_R (some v0)), (1, ix_I v1)] [] h).trans (eX0_isAsFirst _ _ v0 v1 h)
theorem lX0_isAsFirst_18 (cal : ix_C) (n : Nat) (v0 : Nat) (v2 : Int32) (v3 : Int32) (v4 : Int32) (h : ix_H) : ix_lp cal stX0_isAsFirst (n + 1) 18 [(0, ix_R (some v0)), (2, ix_I v2), (3, ix_I v3), (4, ix_I v4)] [] h = jX0_isAsFirst_18 cal (ix_lp cal stX0_isAsFirst n) v0 v2 v3 v4 h := jX0_isAsFirst_18_eq cal (ix_lp cal stX0_isAsFirst n) v0 v2 v3 v4 h
def bX0_lostIn (cal : ix_C) (K : ix_K) (v0 : Nat) (v1 : Int32) (v2 : Int32) (h : ix_H) : ix_O :=
  (ix_is h 1 (some v0)).bind fun a1 =>
  (ix_is h 5 (ix_fR h a1 6)).bind fun a2 =>
  (ix_atr h 112 (ix_fR h a2 2) v1).bind fun a3 =>
  (ix_is h 7 (ix_aR h a3 v1.toNatClampNeg)).bind fun a4 =>
  (ix_is h 1 (some v0)).bind fun a5 =>
  (ix_is h 5 (ix_fR h a5 6)).bind fun a6 =>
  (ix_atr h 112 (ix_fR h a6 2) v2).bind fun a7 =>
  (ix_is h 7 (ix_aR h a7 v2.toNatClampNeg)).bind fun a8 =>
  (ix_is h 1 (some v0)).bind fun a9 =>
  (ix_is h 5 (ix_fR h a9 5)).bind fun a10 =>
  (ix_atr h 112 (ix_fR h a10 2) v1).bind fun a11 =>
  (ix_is h 7 (ix_aR h a11 v1.toNatClampNeg)).bind fun a12 =>
  (ix_is h 1 (some v0)).bind fun a13 =>
  (ix_is h 5 (ix_fR h a13 5)).bind fun a14 =>
  (ix_atr h 112 (ix_fR h a14 2) v2).bind fun a15 =>
  (ix_is h 7 (ix_aR h a15 v2.toNatClampNeg)).bind fun a16 =>
  some (.inl (some (ix_I ((((ix_fI h a4 11) + (ix_fI h a8 11)) - (ix_fI h a12 11)) - (ix_fI h a16 11)))), h)
theorem eX0_lostIn (cal : ix_C) (K : ix_K) (v0 : Nat) (v1 : Int32) (v2 : Int32) (h : ix_H) : ix_fwd cal K stX0_lostIn 0 [(0, ix_R (some v0)), (1, ix_I v1), (2, ix_I v2)] [] h = bX0_lostIn cal K v0 v1 v2 h := rfl
theorem rX0_lostIn (N d : Nat) (v0 : Nat) (v1 : Int32) (v2 : Int32) (h : ix_H) : ix_run iy_P N (d + 1) 111 [ix_R (some v0), ix_I v1, ix_I v2] h = bX0_lostIn (ix_run iy_P N d) (ix_lp (ix_run iy_P N d) stX0_lostIn N) v0 v1 v2 h := (rfl : ix_run iy_P N (d + 1) 111 [ix_R (some v0), ix_I v1, ix_I v2] h = ix_fwd (ix_run iy_P N d) (ix_lp (ix_run iy_P N d) stX0_lostIn N) stX0_lostIn 0 [(0, ix_R (some v0)), (1, ix_I v1), (2, ix_I v2)] [] h).trans (eX0_lostIn _ _ v0 v1 v2 h)
def bX0_hold (cal : ix_C) (K : ix_K) (v0 : Nat) (v1 : Int32) (h : ix_H) : ix_O :=
  (ix_rI (cal 88 [ix_I v1, ix_I (nI 0), ix_I (nI 2)] h)).bind fun r1 =>
  if r1.1 = nI 0 then
    cond (ix_okn 1 (nI 0)) (some (.inl (some (ix_I (nI 0))), r1.2)) none
  else
    (ix_is r1.2 1 (some v0)).bind fun a2 =>
    (ix_atr r1.2 113 (ix_fR r1.2 a2 7) v1).bind fun a3 =>
    (ix_is r1.2 1 (some v0)).bind fun a4 =>
    (ix_isr r1.2 5 (ix_aR r1.2 a3 v1.toNatClampNeg)).bind fun a6 =>
    (ix_rV (cal 206 [ix_R (some a6), ix_R (ix_fR r1.2 a4 5)] r1.2)).bind fun r5 =>
    (ix_is r5 1 (some v0)).bind fun a7 =>
    (ix_at r5 105 (ix_fR r5 a7 9) v1).bind fun a8 =>
    ix_bd (ix_waI r5 a8 v1.toNatClampNeg (ix_nar 1 (nI 1))) fun h9 =>
    cond (ix_okn 1 (nI 1)) (some (.inl (some (ix_I (nI 1))), h9)) none
theorem eX0_hold (cal : ix_C) (K : ix_K) (v0 : Nat) (v1 : Int32) (h : ix_H) : ix_fwd cal K stX0_hold 0 [(0, ix_R (some v0)), (1, ix_I v1)] [] h = bX0_hold cal K v0 v1 h := rfl
theorem rX0_hold (N d : Nat) (v0 : Nat) (v1 : Int32) (h : ix_H) : ix_run iy_P N (d + 1) 112 [ix_R (some v0), ix_I v1] h = bX0_hold (ix_run iy_P N d) (ix_lp (ix_run iy_P N d) stX0_hold N) v0 v1 h := (rfl : ix_run iy_P N (d + 1) 112 [ix_R (some v0), ix_I v1] h = ix_fwd (ix_run iy_P N d) (ix_lp (ix_run iy_P N d) stX0_hold N) stX0_hold 0 [(0, ix_R (some v0)), (1, ix_I v1)] [] h).trans (eX0_hold _ _ v0 v1 h)
def jX0_restore_10 (cal : ix_C) (K : ix_K) (h : ix_H) : ix_O :=
  cond (ix_okn 1 (nI 0)) (some (.inl (some (ix_I (nI 0))), h)) none
theorem jX0_restore_10_eq (cal : ix_C) (K : ix_K) (h : ix_H) : ix_fwd cal K (stX0_restore.drop 10) 0 [] [] h = jX0_restore_10 cal K h := rfl
def bX0_restore (cal : ix_C) (K : ix_K) (v0 : Nat) (v1 : Int32) (h : ix_H) : ix_O :=
  (ix_rI (cal 88 [ix_I v1, ix_I (nI 0), ix_I (nI 2)] h)).bind fun r1 =>
  if r1.1 = nI 0 then
    jX0_restore_10 cal K r1.2
  else
    (ix_is r1.2 1 (some v0)).bind fun a2 =>
    (ix_atr r1.2 105 (ix_fR r1.2 a2 9) v1).bind fun a3 =>
    if (ix_aI r1.2 a3 v1.toNatClampNeg) = nI 0 then
      jX0_restore_10 cal K r1.2
    else
      (ix_is r1.2 1 (some v0)).bind fun a4 =>
      (ix_is r1.2 1 (some v0)).bind fun a5 =>
      (ix_atr r1.2 113 (ix_fR r1.2 a5 7) v1).bind fun a6 =>
      (ix_isr r1.2 5 (ix_fR r1.2 a4 5)).bind fun a8 =>
      (ix_rV (cal 206 [ix_R (some a8), ix_R (ix_aR r1.2 a6 v1.toNatClampNeg)] r1.2)).bind fun r7 =>
      cond (ix_okn 1 (nI 1)) (some (.inl (some (ix_I (nI 1))), r7)) none
theorem eX0_restore (cal : ix_C) (K : ix_K) (v0 : Nat) (v1 : Int32) (h : ix_H) : ix_fwd cal K stX0_restore 0 [(0, ix_R (some v0)), (1, ix_I v1)] [] h = bX0_restore cal K v0 v1 h := rfl
theorem rX0_restore (N d : Nat) (v0 : Nat) (v1 : Int32) (h : ix_H) : ix_run iy_P N (d + 1) 113 [ix_R (some v0), ix_I v1] h = bX0_restore (ix_run iy_P N d) (ix_lp (ix_run iy_P N d) stX0_restore N) v0 v1 h := (rfl : ix_run iy_P N (d + 1) 113 [ix_R (some v0), ix_I v1] h = ix_fwd (ix_run iy_P N d) (ix_lp (ix_run iy_P N d) stX0_restore N) stX0_restore 0 [(0, ix_R (some v0)), (1, ix_I v1)] [] h).trans (eX0_restore _ _ v0 v1 h)
def jX0_count_83 (cal : ix_C) (K : ix_K) (s0 : Int32) (h : ix_H) : ix_O :=
  some (.inl (some (ix_I s0)), h)
theorem jX0_count_83_eq (cal : ix_C) (K : ix_K) (s0 : Int32) (h : ix_H) : ix_fwd cal K (stX0_count.drop 83) 0 [] [ix_I s0] h = jX0_count_83 cal K s0 h := rfl
def jX0_count_64 (cal : ix_C) (K : ix_K) (s0 : Int32) (s1 : Int32) (h : ix_H) : ix_O :=
  jX0_count_83 cal K (s0 + s1) h
theorem jX0_count_64_eq (cal : ix_C) (K : ix_K) (s0 : Int32) (s1 : Int32) (h : ix_H) : ix_fwd cal K (stX0_count.drop 64) 0 [] [ix_I s1, ix_I s0] h = jX0_count_64 cal K s0 s1 h := rfl
def jX0_count_54 (cal : ix_C) (K : ix_K) (v0 : Nat) (s0 : Int32) (s1 : Int32) (h : ix_H) : ix_O :=
  (ix_is h 1 (some v0)).bind fun a25 =>
  (ix_atr h 105 (ix_fR h a25 9) (nI 2)).bind fun a26 =>
  if (ix_aI h a26 (nI 2).toNatClampNeg) = nI 0 then
    jX0_count_64 cal K (s0 + s1) (nI 0) h
  else
    jX0_count_64 cal K (s0 + s1) (nI 1) h
theorem jX0_count_54_eq (cal : ix_C) (K : ix_K) (v0 : Nat) (s0 : Int32) (s1 : Int32) (h : ix_H) : ix_fwd cal K (stX0_count.drop 54) 0 [(0, ix_R (some v0))] [ix_I s1, ix_I s0] h = jX0_count_54 cal K v0 s0 s1 h := rfl
def jX0_count_45 (cal : ix_C) (K : ix_K) (v0 : Nat) (s0 : Int32) (h : ix_H) : ix_O :=
  (ix_is h 1 (some v0)).bind fun a23 =>
  (ix_atr h 105 (ix_fR h a23 9) (nI 1)).bind fun a24 =>
  if (ix_aI h a24 (nI 1).toNatClampNeg) = nI 0 then
    jX0_count_54 cal K v0 s0 (nI 0) h
  else
    jX0_count_54 cal K v0 s0 (nI 1) h
theorem jX0_count_45_eq (cal : ix_C) (K : ix_K) (v0 : Nat) (s0 : Int32) (h : ix_H) : ix_fwd cal K (stX0_count.drop 45) 0 [(0, ix_R (some v0))] [ix_I s0] h = jX0_count_45 cal K v0 s0 h := rfl
def bX0_count (cal : ix_C) (K : ix_K) (v0 : Nat) (v1 : Int32) (h : ix_H) : ix_O :=
  if v1 = nI 0 then
    (ix_is h 1 (some v0)).bind fun a1 =>
    (ix_isr h 5 (ix_fR h a1 5)).bind fun a3 =>
    (ix_rI (cal 174 [ix_R (some a3)] h)).bind fun r2 =>
    jX0_count_83 cal K r2.1 r2.2
  else
  if v1 = nI 1 then
    (ix_is h 1 (some v0)).bind fun a4 =>
    (ix_is h 5 (ix_fR h a4 5)).bind fun a5 =>
    jX0_count_83 cal K (ix_fI h a5 3) h
  else
  if v1 = nI 2 then
    (ix_is h 1 (some v0)).bind fun a6 =>
    (ix_is h 5 (ix_fR h a6 5)).bind fun a7 =>
    jX0_count_83 cal K (ix_fI h a7 4) h
  else
  if v1 = nI 3 then
    (ix_is h 1 (some v0)).bind fun a8 =>
    (ix_is h 5 (ix_fR h a8 5)).bind fun a9 =>
    jX0_count_83 cal K (ix_fI h a9 5) h
  else
  if v1 = nI 4 then
    (ix_isr h 1 (some v0)).bind fun a11 =>
    (ix_rI (cal 115 [ix_R (some a11), ix_I (nI 0)] h)).bind fun r10 =>
    jX0_count_83 cal K r10.1 r10.2
  else
  if v1 = nI 5 then
    (ix_isr h 1 (some v0)).bind fun a13 =>
    (ix_rI (cal 115 [ix_R (some a13), ix_I (nI 1)] h)).bind fun r12 =>
    jX0_count_83 cal K r12.1 r12.2
  else
  if v1 = nI 6 then
    (ix_isr h 1 (some v0)).bind fun a15 =>
    (ix_rI (cal 116 [ix_R (some a15)] h)).bind fun r14 =>
    jX0_count_83 cal K r14.1 r14.2
  else
  if v1 = nI 7 then
    (ix_is h 1 (some v0)).bind fun a16 =>
    (ix_isr h 5 (ix_fR h a16 5)).bind fun a18 =>
    (ix_rI (cal 177 [ix_R (some a18)] h)).bind fun r17 =>
    jX0_count_83 cal K r17.1 r17.2
  else
  if v1 = nI 8 then
    (ix_is h 1 (some v0)).bind fun a19 =>
    (ix_is h 3 (ix_fR h a19 1)).bind fun a20 =>
    jX0_count_83 cal K (ix_fI h a20 2) h
  else
  if v1 = nI 9 then
    (ix_is h 1 (some v0)).bind fun a21 =>
    (ix_atr h 105 (ix_fR h a21 9) (nI 0)).bind fun a22 =>
    if (ix_aI h a22 (nI 0).toNatClampNeg) = nI 0 then
      jX0_count_45 cal K v0 (nI 0) h
    else
      jX0_count_45 cal K v0 (nI 1) h
  else
  if v1 = nI 10 then
    (ix_is h 1 (some v0)).bind fun a27 =>
    (ix_is h 5 (ix_fR h a27 5)).bind fun a28 =>
    jX0_count_83 cal K (ix_fI h a28 6) h
  else
  if v1 = nI 11 then
    (ix_is h 1 (some v0)).bind fun a29 =>
    (ix_is h 5 (ix_fR h a29 5)).bind fun a30 =>
    jX0_count_83 cal K (ix_fI h a30 7) h
  else
  if v1 = nI 12 then
    (ix_is h 1 (some v0)).bind fun a31 =>
    (ix_is h 5 (ix_fR h a31 5)).bind fun a32 =>
    jX0_count_83 cal K (ix_fI h a32 8) h
  else
  if v1 = nI 13 then
    (ix_is h 1 (some v0)).bind fun a33 =>
    jX0_count_83 cal K (ix_fI h a33 4) h
  else
    jX0_count_83 cal K (-1 : Int32) h
theorem eX0_count (cal : ix_C) (K : ix_K) (v0 : Nat) (v1 : Int32) (h : ix_H) : ix_fwd cal K stX0_count 0 [(0, ix_R (some v0)), (1, ix_I v1)] [] h = bX0_count cal K v0 v1 h := rfl
theorem rX0_count (N d : Nat) (v0 : Nat) (v1 : Int32) (h : ix_H) : ix_run iy_P N (d + 1) 114 [ix_R (some v0), ix_I v1] h = bX0_count (ix_run iy_P N d) (ix_lp (ix_run iy_P N d) stX0_count N) v0 v1 h := (rfl : ix_run iy_P N (d + 1) 114 [ix_R (some v0), ix_I v1] h = ix_fwd (ix_run iy_P N d) (ix_lp (ix_run iy_P N d) stX0_count N) stX0_count 0 [(0, ix_R (some v0)), (1, ix_I v1)] [] h).trans (eX0_count _ _ v0 v1 h)
def jX0_retired_32 (cal : ix_C) (K : ix_K) (v0 : Nat) (v1 : Int32) (v3 : Int32) (s0 : Int32) (s1 : Int32) (h : ix_H) : ix_O :=
  K 4 [(0, ix_R (some v0)), (1, ix_I v1), (2, ix_I (s0 + s1)), (3, ix_I (v3 + (nI 1)))] [] h
theorem jX0_retired_32_eq (cal : ix_C) (K : ix_K) (v0 : Nat) (v1 : Int32) (v3 : Int32) (s0 : Int32) (s1 : Int32) (h : ix_H) : ix_fwd cal K (stX0_retired.drop 32) 0 [(0, ix_R (some v0)), (1, ix_I v1), (3, ix_I v3)] [ix_I s1, ix_I s0] h = jX0_retired_32 cal K v0 v1 v3 s0 s1 h := rfl
def jX0_retired_30 (cal : ix_C) (K : ix_K) (v0 : Nat) (v1 : Int32) (v3 : Int32) (s0 : Int32) (h : ix_H) : ix_O :=
  jX0_retired_32 cal K v0 v1 v3 s0 (nI 0) h
theorem jX0_retired_30_eq (cal : ix_C) (K : ix_K) (v0 : Nat) (v1 : Int32) (v3 : Int32) (s0 : Int32) (h : ix_H) : ix_fwd cal K (stX0_retired.drop 30) 0 [(0, ix_R (some v0)), (1, ix_I v1), (3, ix_I v3)] [ix_I s0] h = jX0_retired_30 cal K v0 v1 v3 s0 h := rfl
def jX0_retired_27 (cal : ix_C) (K : ix_K) (v0 : Nat) (v1 : Int32) (v3 : Int32) (s0 : Int32) (h : ix_H) : ix_O :=
  jX0_retired_32 cal K v0 v1 v3 s0 (nI 1) h
theorem jX0_retired_27_eq (cal : ix_C) (K : ix_K) (v0 : Nat) (v1 : Int32) (v3 : Int32) (s0 : Int32) (h : ix_H) : ix_fwd cal K (stX0_retired.drop 27) 0 [(0, ix_R (some v0)), (1, ix_I v1), (3, ix_I v3)] [ix_I s0] h = jX0_retired_27 cal K v0 v1 v3 s0 h := rfl
def jX0_retired_4 (cal : ix_C) (K : ix_K) (v0 : Nat) (v1 : Int32) (v2 : Int32) (v3 : Int32) (h : ix_H) : ix_O :=
  (ix_is h 1 (some v0)).bind fun a1 =>
  (ix_is h 5 (ix_fR h a1 5)).bind fun a2 =>
  if (ix_fI h a2 3) ≤ v3 then
    some (.inl (some (ix_I v2)), h)
  else
    (ix_is h 1 (some v0)).bind fun a3 =>
    (ix_is h 5 (ix_fR h a3 5)).bind fun a4 =>
    (ix_atr h 111 (ix_fR h a4 0) v3).bind fun a5 =>
    (ix_is h 6 (ix_aR h a5 v3.toNatClampNeg)).bind fun a6 =>
    if (ix_fI h a6 10) < nI 0 then
      jX0_retired_30 cal K v0 v1 v3 v2 h
    else
      if v1 = nI 0 then
        jX0_retired_27 cal K v0 v1 v3 v2 h
      else
        (ix_is h 1 (some v0)).bind fun a7 =>
        (ix_is h 5 (ix_fR h a7 5)).bind fun a8 =>
        (ix_atr h 111 (ix_fR h a8 0) v3).bind fun a9 =>
        (ix_is h 6 (ix_aR h a9 v3.toNatClampNeg)).bind fun a10 =>
        if (ix_fI h a10 11) = nI 0 then
          jX0_retired_30 cal K v0 v1 v3 v2 h
        else
          jX0_retired_27 cal K v0 v1 v3 v2 h
theorem jX0_retired_4_eq (cal : ix_C) (K : ix_K) (v0 : Nat) (v1 : Int32) (v2 : Int32) (v3 : Int32) (h : ix_H) : ix_fwd cal K (stX0_retired.drop 4) 0 [(0, ix_R (some v0)), (1, ix_I v1), (2, ix_I v2), (3, ix_I v3)] [] h = jX0_retired_4 cal K v0 v1 v2 v3 h := rfl
def bX0_retired (cal : ix_C) (K : ix_K) (v0 : Nat) (v1 : Int32) (h : ix_H) : ix_O :=
  jX0_retired_4 cal K v0 v1 (nI 0) (nI 0) h
theorem eX0_retired (cal : ix_C) (K : ix_K) (v0 : Nat) (v1 : Int32) (h : ix_H) : ix_fwd cal K stX0_retired 0 [(0, ix_R (some v0)), (1, ix_I v1)] [] h = bX0_retired cal K v0 v1 h := rfl
theorem rX0_retired (N d : Nat) (v0 : Nat) (v1 : Int32) (h : ix_H) : ix_run iy_P N (d + 1) 115 [ix_R (some v0), ix_I v1] h = bX0_retired (ix_run iy_P N d) (ix_lp (ix_run iy_P N d) stX0_retired N) v0 v1 h := (rfl : ix_run iy_P N (d + 1) 115 [ix_R (some v0), ix_I v1] h = ix_fwd (ix_run iy_P N d) (ix_lp (ix_run iy_P N d) stX0_retired N) stX0_retired 0 [(0, ix_R (some v0)), (1, ix_I v1)] [] h).trans (eX0_retired _ _ v0 v1 h)
theorem lX0_retired_4 (cal : ix_C) (n : Nat) (v0 : Nat) (v1 : Int32) (v2 : Int32) (v3 : Int32) (h : ix_H) : ix_lp cal stX0_retired (n + 1) 4 [(0, ix_R (some v0)), (1, ix_I v1), (2, ix_I v2), (3, ix_I v3)] [] h = jX0_retired_4 cal (ix_lp cal stX0_retired n) v0 v1 v2 v3 h := jX0_retired_4_eq cal (ix_lp cal stX0_retired n) v0 v1 v2 v3 h
def jX0_busy_21 (cal : ix_C) (K : ix_K) (v0 : Nat) (v2 : Int32) (s0 : Int32) (s1 : Int32) (h : ix_H) : ix_O :=
  K 4 [(0, ix_R (some v0)), (1, ix_I (s0 ||| s1)), (2, ix_I (v2 + (nI 1)))] [] h
theorem jX0_busy_21_eq (cal : ix_C) (K : ix_K) (v0 : Nat) (v2 : Int32) (s0 : Int32) (s1 : Int32) (h : ix_H) : ix_fwd cal K (stX0_busy.drop 21) 0 [(0, ix_R (some v0)), (2, ix_I v2)] [ix_I s1, ix_I s0] h = jX0_busy_21 cal K v0 v2 s0 s1 h := rfl
def jX0_busy_4 (cal : ix_C) (K : ix_K) (v0 : Nat) (v1 : Int32) (v2 : Int32) (h : ix_H) : ix_O :=
  if (nI 4) ≤ v2 then
    some (.inl (some (ix_I v1)), h)
  else
    (ix_is h 1 (some v0)).bind fun a1 =>
    (ix_is h 5 (ix_fR h a1 5)).bind fun a2 =>
    (ix_atr h 112 (ix_fR h a2 2) v2).bind fun a3 =>
    (ix_is h 7 (ix_aR h a3 v2.toNatClampNeg)).bind fun a4 =>
    if (ix_fI h a4 3) = nI 0 then
      jX0_busy_21 cal K v0 v2 v1 (nI 0) h
    else
      jX0_busy_21 cal K v0 v2 v1 ((nI 1) <<< (v2 &&& 31)) h
theorem jX0_busy_4_eq (cal : ix_C) (K : ix_K) (v0 : Nat) (v1 : Int32) (v2 : Int32) (h : ix_H) : ix_fwd cal K (stX0_busy.drop 4) 0 [(0, ix_R (some v0)), (1, ix_I v1), (2, ix_I v2)] [] h = jX0_busy_4 cal K v0 v1 v2 h := rfl
def bX0_busy (cal : ix_C) (K : ix_K) (v0 : Nat) (h : ix_H) : ix_O :=
  jX0_busy_4 cal K v0 (nI 0) (nI 0) h
theorem eX0_busy (cal : ix_C) (K : ix_K) (v0 : Nat) (h : ix_H) : ix_fwd cal K stX0_busy 0 [(0, ix_R (some v0))] [] h = bX0_busy cal K v0 h := rfl
theorem rX0_busy (N d : Nat) (v0 : Nat) (h : ix_H) : ix_run iy_P N (d + 1) 116 [ix_R (some v0)] h = bX0_busy (ix_run iy_P N d) (ix_lp (ix_run iy_P N d) stX0_busy N) v0 h := (rfl : ix_run iy_P N (d + 1) 116 [ix_R (some v0)] h = ix_fwd (ix_run iy_P N d) (ix_lp (ix_run iy_P N d) stX0_busy N) stX0_busy 0 [(0, ix_R (some v0))] [] h).trans (eX0_busy _ _ v0 h)
theorem lX0_busy_4 (cal : ix_C) (n : Nat) (v0 : Nat) (v1 : Int32) (v2 : Int32) (h : ix_H) : ix_lp cal stX0_busy (n + 1) 4 [(0, ix_R (some v0)), (1, ix_I v1), (2, ix_I v2)] [] h = jX0_busy_4 cal (ix_lp cal stX0_busy n) v0 v1 v2 h := jX0_busy_4_eq cal (ix_lp cal stX0_busy n) v0 v1 v2 h
