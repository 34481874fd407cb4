/-! DeltaIndexModel -/
set_option maxRecDepth 100000
def RX9 : String := "DeltaIndexModel"
def TX9 : u_T := fun k => match k with
  | 0 => ("DeltaIndexModel", "thrown", "I", false)
  | 1 => ("DeltaIndexModel", "tape", "[B", true)
  | 2 => ("DeltaIndexModel", "taped", "I", false)
  | 3 => ("DeltaIndexModel", "text", "[B", true)
  | 4 => ("DeltaIndexModel", "size", "I", false)
  | 5 => ("DeltaIndexModel", "tKind", "[I", true)
  | 6 => ("DeltaIndexModel", "tPlace", "[I", true)
  | 7 => ("DeltaIndexModel", "tValue", "[I", true)
  | 8 => ("DeltaIndexModel", "tName", "[J", true)
  | 9 => ("DeltaIndexModel", "keys", "[J", true)
  | 10 => ("DeltaIndexModel", "tokens", "I", false)
  | 11 => ("DeltaIndexModel", "t", "I", false)
  | 12 => ("DeltaIndexModel", "open", "I", false)
  | 13 => ("DeltaIndexModel", "fault", "I", false)
  | 14 => ("DeltaIndexModel", "faultPlace", "I", false)
  | 15 => ("DeltaIndexModel", "worst", "I", false)
  | 16 => ("DeltaIndexModel", "worstPlace", "I", false)
  | 17 => ("DeltaIndexModel", "place", "I", false)
  | 18 => ("DeltaIndexModel", "tells", "I", false)
  | 19 => ("DeltaIndexModel", "tellSort", "[I", true)
  | 20 => ("DeltaIndexModel", "tellHand", "[I", true)
  | 21 => ("DeltaIndexModel", "tellFrom", "[I", true)
  | 22 => ("DeltaIndexModel", "tellMid", "[I", true)
  | 23 => ("DeltaIndexModel", "tellTo", "[I", true)
  | 24 => ("DeltaIndexModel", "tellMate", "[I", true)
  | 25 => ("DeltaIndexModel", "within", "I", false)
  | 26 => ("DeltaIndexModel", "aboutBy", "[I", true)
  | 27 => ("DeltaIndexModel", "codes", "I", false)
  | 28 => ("DeltaIndexModel", "code", "[I", true)
  | 29 => ("DeltaIndexModel", "codeInt", "[I", true)
  | 30 => ("DeltaIndexModel", "waits", "[I", true)
  | 31 => ("DeltaIndexModel", "waiting", "I", false)
  | 32 => ("DeltaIndexModel", "variables", "[I", true)
  | 33 => ("DeltaIndexModel", "pile", "[I", true)
  | 34 => ("DeltaIndexModel", "roundNow", "[I", true)
  | 35 => ("DeltaIndexModel", "now", "[I", true)
  | 36 => ("DeltaIndexModel", "chainAt", "[I", true)
  | 37 => ("DeltaIndexModel", "chainMany", "I", false)
  | 38 => ("DeltaIndexModel", "hasKey", "[I", true)
  | 39 => ("DeltaIndexModel", "hasValue", "[I", true)
  | 40 => ("DeltaIndexModel", "hasMany", "I", false)
  | 41 => ("DeltaIndexModel", "hasHigh", "I", false)
  | 42 => ("DeltaIndexModel", "hasRight", "I", false)
  | 43 => ("DeltaIndexModel", "boundKey", "[I", true)
  | 44 => ("DeltaIndexModel", "boundPage", "[I", true)
  | 45 => ("DeltaIndexModel", "boundMany", "I", false)
  | 46 => ("DeltaIndexModel", "allKey", "[I", true)
  | 47 => ("DeltaIndexModel", "allValue", "[I", true)
  | 48 => ("DeltaIndexModel", "allMany", "I", false)
  | 49 => ("DeltaIndexModel", "kept", "[I", true)
  | 50 => ("DeltaIndexModel", "firstKey", "[I", true)
  | 51 => ("DeltaIndexModel", "firstValue", "[I", true)
  | 52 => ("DeltaIndexModel", "firstMany", "I", false)
  | 53 => ("DeltaIndexModel", "isHeld", "[Z", true)
  | _ => ("DeltaIndexModel", "heldRows", "[I", true)
def tyX9 : Nat → FieldType := fun k => match k with
  | 0 => .int
  | 1 => .array .byte
  | 2 => .int
  | 3 => .array .byte
  | 4 => .int
  | 5 => .array .int
  | 6 => .array .int
  | 7 => .array .int
  | 8 => .array .long
  | 9 => .array .long
  | 10 => .int
  | 11 => .int
  | 12 => .int
  | 13 => .int
  | 14 => .int
  | 15 => .int
  | 16 => .int
  | 17 => .int
  | 18 => .int
  | 19 => .array .int
  | 20 => .array .int
  | 21 => .array .int
  | 22 => .array .int
  | 23 => .array .int
  | 24 => .array .int
  | 25 => .int
  | 26 => .array .int
  | 27 => .int
  | 28 => .array .int
  | 29 => .array .int
  | 30 => .array .int
  | 31 => .int
  | 32 => .array .int
  | 33 => .array .int
  | 34 => .array .int
  | 35 => .array .int
  | 36 => .array .int
  | 37 => .int
  | 38 => .array .int
  | 39 => .array .int
  | 40 => .int
  | 41 => .int
  | 42 => .int
  | 43 => .array .int
  | 44 => .array .int
  | 45 => .int
  | 46 => .array .int
  | 47 => .array .int
  | 48 => .int
  | 49 => .array .int
  | 50 => .array .int
  | 51 => .array .int
  | 52 => .int
  | 53 => .array .boolean
  | _ => .array .int
abbrev wsX90 : List Cond := u_ws RX9 TX9 55
set_option maxRecDepth 100000 in
theorem nmX9 : ∀ a, a < 55 → ∀ b, b < 55 → a ≠ b → (TX9 a).2.1 ≠ (TX9 b).2.1 := by decide +kernel
set_option maxRecDepth 100000 in
theorem tyX9_ok : ∀ k, k < 55 → parseFieldDescriptor (TX9 k).2.2.1 = some (tyX9 k) := by decide +kernel
abbrev cX9_init : ByteArray := prog_20_method_2_code
def yX9_init : MethodName := ⟨RX9, "<init>", "()V"⟩
def dkwX9_init_28 : List UInt8 := [80, 42, 6, 16, 6, 5, 182, 0, 125, 177]
abbrev dktX9_init_28 : List UInt8 := dkwX9_init_28 ++ []
def dkwX9_init_27 : List UInt8 := [184, 0, 121, 80, 42, 180, 0, 34, 16, 17, 16, 108, 16, 111, 16, 115, 16, 116, 3, 3, 3, 184, 0, 121]
abbrev dktX9_init_27 : List UInt8 := dkwX9_init_27 ++ dktX9_init_28
def dkwX9_init_26 : List UInt8 := [184, 0, 121, 80, 42, 180, 0, 34, 16, 16, 16, 114, 16, 101, 16, 99, 16, 111, 16, 114, 16, 100, 16, 115]
abbrev dktX9_init_26 : List UInt8 := dkwX9_init_26 ++ dktX9_init_27
def dkwX9_init_25 : List UInt8 := [3, 184, 0, 121, 80, 42, 180, 0, 34, 16, 15, 16, 108, 16, 97, 16, 115, 16, 116, 3, 3, 3]
abbrev dktX9_init_25 : List UInt8 := dkwX9_init_25 ++ dktX9_init_26
def dkwX9_init_24 : List UInt8 := [3, 3, 3, 3, 184, 0, 121, 80, 42, 180, 0, 34, 16, 14, 16, 107, 16, 101, 16, 121, 16, 115, 3, 3]
abbrev dktX9_init_24 : List UInt8 := dkwX9_init_24 ++ dktX9_init_25
def dkwX9_init_23 : List UInt8 := [16, 12, 16, 105, 3, 3, 3, 3, 3, 3, 184, 0, 121, 80, 42, 180, 0, 34, 16, 13, 16, 106, 3, 3]
abbrev dktX9_init_23 : List UInt8 := dkwX9_init_23 ++ dktX9_init_24
def dkwX9_init_22 : List UInt8 := [42, 180, 0, 34, 16, 11, 16, 99, 16, 117, 16, 116, 3, 3, 3, 3, 184, 0, 121, 80, 42, 180, 0, 34]
abbrev dktX9_init_22 : List UInt8 := dkwX9_init_22 ++ dktX9_init_23
def dkwX9_init_21 : List UInt8 := [184, 0, 121, 80, 42, 180, 0, 34, 16, 10, 16, 112, 16, 117, 16, 116, 3, 3, 3, 3, 184, 0, 121, 80]
abbrev dktX9_init_21 : List UInt8 := dkwX9_init_21 ++ dktX9_init_22
def dkwX9_init_20 : List UInt8 := [3, 3, 3, 184, 0, 121, 80, 42, 180, 0, 34, 16, 9, 16, 101, 16, 110, 16, 100, 3, 3, 3, 3]
abbrev dktX9_init_20 : List UInt8 := dkwX9_init_20 ++ dktX9_init_21
def dkwX9_init_19 : List UInt8 := [16, 101, 16, 101, 16, 112, 3, 3, 184, 0, 121, 80, 42, 180, 0, 34, 16, 8, 16, 100, 16, 111, 3, 3]
abbrev dktX9_init_19 : List UInt8 := dkwX9_init_19 ++ dktX9_init_20
def dkwX9_init_18 : List UInt8 := [16, 108, 16, 111, 16, 115, 16, 101, 3, 3, 184, 0, 121, 80, 42, 180, 0, 34, 16, 7, 16, 115, 16, 119]
abbrev dktX9_init_18 : List UInt8 := dkwX9_init_18 ++ dktX9_init_19
def dkwX9_init_17 : List UInt8 := [8, 16, 115, 16, 116, 16, 101, 16, 112, 3, 3, 3, 184, 0, 121, 80, 42, 180, 0, 34, 16, 6, 16, 99]
abbrev dktX9_init_17 : List UInt8 := dkwX9_init_17 ++ dktX9_init_18
def dkwX9_init_16 : List UInt8 := [80, 42, 180, 0, 34, 7, 16, 103, 16, 101, 16, 116, 3, 3, 3, 3, 184, 0, 121, 80, 42, 180, 0, 34]
abbrev dktX9_init_16 : List UInt8 := dkwX9_init_16 ++ dktX9_init_17
def dkwX9_init_15 : List UInt8 := [184, 0, 121, 80, 42, 180, 0, 34, 6, 16, 98, 16, 101, 16, 103, 16, 105, 16, 110, 3, 3, 184, 0, 121]
abbrev dktX9_init_15 : List UInt8 := dkwX9_init_15 ++ dktX9_init_16
def dkwX9_init_14 : List UInt8 := [3, 3, 184, 0, 121, 80, 42, 180, 0, 34, 5, 16, 108, 16, 101, 16, 97, 16, 115, 16, 116, 3, 3]
abbrev dktX9_init_14 : List UInt8 := dkwX9_init_14 ++ dktX9_init_15
def dkwX9_init_13 : List UInt8 := [16, 105, 16, 110, 3, 3, 184, 0, 121, 80, 42, 180, 0, 34, 4, 16, 109, 16, 111, 16, 115, 16, 116, 3]
abbrev dktX9_init_13 : List UInt8 := dkwX9_init_13 ++ dktX9_init_14
def dkwX9_init_12 : List UInt8 := [188, 4, 181, 0, 113, 42, 18, 117, 188, 10, 181, 0, 118, 42, 180, 0, 34, 3, 16, 99, 16, 104, 16, 97]
abbrev dktX9_init_12 : List UInt8 := dkwX9_init_12 ++ dktX9_init_13
def dkwX9_init_11 : List UInt8 := [181, 0, 104, 42, 17, 0, 200, 188, 10, 181, 0, 107, 42, 17, 0, 200, 188, 10, 181, 0, 110, 42, 6]
abbrev dktX9_init_11 : List UInt8 := dkwX9_init_11 ++ dktX9_init_12
def dkwX9_init_10 : List UInt8 := [42, 17, 0, 200, 188, 10, 181, 0, 98, 42, 17, 0, 200, 188, 10, 181, 0, 101, 42, 17, 55, 20, 188, 10]
abbrev dktX9_init_10 : List UInt8 := dkwX9_init_10 ++ dktX9_init_11
def dkwX9_init_9 : List UInt8 := [42, 16, 90, 188, 10, 181, 0, 89, 42, 16, 90, 188, 10, 181, 0, 92, 42, 16, 90, 188, 10, 181, 0, 95]
abbrev dktX9_init_9 : List UInt8 := dkwX9_init_9 ++ dktX9_init_10
def dkwX9_init_8 : List UInt8 := [18, 79, 188, 10, 181, 0, 80, 42, 17, 3, 72, 188, 10, 181, 0, 83, 42, 16, 90, 188, 10, 181, 0, 86]
abbrev dktX9_init_8 : List UInt8 := dkwX9_init_8 ++ dktX9_init_9
def dkwX9_init_7 : List UInt8 := [16, 6, 188, 10, 181, 0, 70, 42, 17, 1, 144, 188, 10, 181, 0, 73, 42, 6, 188, 10, 181, 0, 76, 42]
abbrev dktX9_init_7 : List UInt8 := dkwX9_init_7 ++ dktX9_init_8
def dkwX9_init_6 : List UInt8 := [188, 10, 181, 0, 61, 42, 17, 1, 164, 188, 10, 181, 0, 64, 42, 16, 64, 188, 10, 181, 0, 67, 42]
abbrev dktX9_init_6 : List UInt8 := dkwX9_init_6 ++ dktX9_init_7
def dkwX9_init_5 : List UInt8 := [181, 0, 52, 42, 17, 0, 210, 188, 10, 181, 0, 55, 42, 6, 188, 10, 181, 0, 58, 42, 17, 1, 164]
abbrev dktX9_init_5 : List UInt8 := dkwX9_init_5 ++ dktX9_init_6
def dkwX9_init_4 : List UInt8 := [17, 0, 210, 188, 10, 181, 0, 46, 42, 17, 0, 210, 188, 10, 181, 0, 49, 42, 17, 0, 210, 188, 10]
abbrev dktX9_init_4 : List UInt8 := dkwX9_init_4 ++ dktX9_init_5
def dkwX9_init_3 : List UInt8 := [181, 0, 37, 42, 17, 0, 210, 188, 10, 181, 0, 40, 42, 17, 0, 210, 188, 10, 181, 0, 43, 42]
abbrev dktX9_init_3 : List UInt8 := dkwX9_init_3 ++ dktX9_init_4
def dkwX9_init_2 : List UInt8 := [181, 0, 27, 42, 17, 1, 147, 188, 11, 181, 0, 30, 42, 16, 18, 188, 11, 181, 0, 34, 42, 2]
abbrev dktX9_init_2 : List UInt8 := dkwX9_init_2 ++ dktX9_init_3
def dkwX9_init_1 : List UInt8 := [17, 1, 147, 188, 10, 181, 0, 20, 42, 17, 1, 147, 188, 10, 181, 0, 24, 42, 17, 1, 147, 188, 10]
abbrev dktX9_init_1 : List UInt8 := dkwX9_init_1 ++ dktX9_init_2
def dkwX9_init_0 : List UInt8 := [42, 183, 0, 7, 42, 17, 7, 208, 188, 8, 181, 0, 13, 42, 17, 7, 208, 188, 8, 181, 0, 17, 42]
abbrev dktX9_init_0 : List UInt8 := dkwX9_init_0 ++ dktX9_init_1
theorem dksX9_init_0 : cX9_init.data.toList.drop 0 = dktX9_init_0 := by decide +kernel
theorem dksX9_init_1 : cX9_init.data.toList.drop 23 = dktX9_init_1 := dk_seg dksX9_init_0 23 rfl rfl
theorem dksX9_init_2 : cX9_init.data.toList.drop 46 = dktX9_init_2 := dk_seg dksX9_init_1 23 rfl rfl
theorem dksX9_init_3 : cX9_init.data.toList.drop 68 = dktX9_init_3 := dk_seg dksX9_init_2 22 rfl rfl
theorem dksX9_init_4 : cX9_init.data.toList.drop 90 = dktX9_init_4 := dk_seg dksX9_init_3 22 rfl rfl
theorem dksX9_init_5 : cX9_init.data.toList.drop 113 = dktX9_init_5 := dk_seg dksX9_init_4 23 rfl rfl
theorem dksX9_init_6 : cX9_init.data.toList.drop 136 = dktX9_init_6 := dk_seg dksX9_init_5 23 rfl rfl
theorem dksX9_init_7 : cX9_init.data.toList.drop 159 = dktX9_init_7 := dk_seg dksX9_init_6 23 rfl rfl
theorem dksX9_init_8 : cX9_init.data.toList.drop 183 = dktX9_init_8 := dk_seg dksX9_init_7 24 rfl rfl
theorem dksX9_init_9 : cX9_init.data.toList.drop 207 = dktX9_init_9 := dk_seg dksX9_init_8 24 rfl rfl
theorem dksX9_init_10 : cX9_init.data.toList.drop 231 = dktX9_init_10 := dk_seg dksX9_init_9 24 rfl rfl
theorem dksX9_init_11 : cX9_init.data.toList.drop 255 = dktX9_init_11 := dk_seg dksX9_init_10 24 rfl rfl
theorem dksX9_init_12 : cX9_init.data.toList.drop 278 = dktX9_init_12 := dk_seg dksX9_init_11 23 rfl rfl
theorem dksX9_init_13 : cX9_init.data.toList.drop 302 = dktX9_init_13 := dk_seg dksX9_init_12 24 rfl rfl
theorem dksX9_init_14 : cX9_init.data.toList.drop 326 = dktX9_init_14 := dk_seg dksX9_init_13 24 rfl rfl
theorem dksX9_init_15 : cX9_init.data.toList.drop 349 = dktX9_init_15 := dk_seg dksX9_init_14 23 rfl rfl
theorem dksX9_init_16 : cX9_init.data.toList.drop 373 = dktX9_init_16 := dk_seg dksX9_init_15 24 rfl rfl
theorem dksX9_init_17 : cX9_init.data.toList.drop 397 = dktX9_init_17 := dk_seg dksX9_init_16 24 rfl rfl
theorem dksX9_init_18 : cX9_init.data.toList.drop 421 = dktX9_init_18 := dk_seg dksX9_init_17 24 rfl rfl
theorem dksX9_init_19 : cX9_init.data.toList.drop 445 = dktX9_init_19 := dk_seg dksX9_init_18 24 rfl rfl
theorem dksX9_init_20 : cX9_init.data.toList.drop 469 = dktX9_init_20 := dk_seg dksX9_init_19 24 rfl rfl
theorem dksX9_init_21 : cX9_init.data.toList.drop 492 = dktX9_init_21 := dk_seg dksX9_init_20 23 rfl rfl
theorem dksX9_init_22 : cX9_init.data.toList.drop 516 = dktX9_init_22 := dk_seg dksX9_init_21 24 rfl rfl
theorem dksX9_init_23 : cX9_init.data.toList.drop 540 = dktX9_init_23 := dk_seg dksX9_init_22 24 rfl rfl
theorem dksX9_init_24 : cX9_init.data.toList.drop 564 = dktX9_init_24 := dk_seg dksX9_init_23 24 rfl rfl
theorem dksX9_init_25 : cX9_init.data.toList.drop 588 = dktX9_init_25 := dk_seg dksX9_init_24 24 rfl rfl
theorem dksX9_init_26 : cX9_init.data.toList.drop 610 = dktX9_init_26 := dk_seg dksX9_init_25 22 rfl rfl
theorem dksX9_init_27 : cX9_init.data.toList.drop 634 = dktX9_init_27 := dk_seg dksX9_init_26 24 rfl rfl
theorem dksX9_init_28 : cX9_init.data.toList.drop 658 = dktX9_init_28 := dk_seg dksX9_init_27 24 rfl rfl
theorem dX9_init_0 : decode cX9_init 0 = .ok (.aload_n 0, 1) := dk_42 (dk_at dksX9_init_0 0 rfl rfl)
theorem dX9_init_1 : decode cX9_init 1 = .ok (.invokespecial 7, 3) := dk_183 0 7 (dk_at dksX9_init_0 1 rfl rfl)
theorem dX9_init_4 : decode cX9_init 4 = .ok (.aload_n 0, 1) := dk_42 (dk_at dksX9_init_0 4 rfl rfl)
theorem dX9_init_5 : decode cX9_init 5 = .ok (.sipush 2000, 3) := dk_17 7 208 (dk_at dksX9_init_0 5 rfl rfl)
theorem dX9_init_8 : decode cX9_init 8 = .ok (.newarray .byte, 2) := dk_188_8 (dk_at dksX9_init_0 8 rfl rfl)
theorem dX9_init_10 : decode cX9_init 10 = .ok (.putfield 13, 3) := dk_181 0 13 (dk_at dksX9_init_0 10 rfl rfl)
theorem dX9_init_13 : decode cX9_init 13 = .ok (.aload_n 0, 1) := dk_42 (dk_at dksX9_init_0 13 rfl rfl)
theorem dX9_init_14 : decode cX9_init 14 = .ok (.sipush 2000, 3) := dk_17 7 208 (dk_at dksX9_init_0 14 rfl rfl)
theorem dX9_init_17 : decode cX9_init 17 = .ok (.newarray .byte, 2) := dk_188_8 (dk_at dksX9_init_0 17 rfl rfl)
theorem dX9_init_19 : decode cX9_init 19 = .ok (.putfield 17, 3) := dk_181 0 17 (dk_at dksX9_init_0 19 rfl rfl)
theorem dX9_init_22 : decode cX9_init 22 = .ok (.aload_n 0, 1) := dk_42 (dk_at dksX9_init_0 22 rfl rfl)
theorem dX9_init_23 : decode cX9_init 23 = .ok (.sipush 403, 3) := dk_17 1 147 (dk_at dksX9_init_1 0 rfl rfl)
theorem dX9_init_26 : decode cX9_init 26 = .ok (.newarray .int, 2) := dk_188_10 (dk_at dksX9_init_1 3 rfl rfl)
theorem dX9_init_28 : decode cX9_init 28 = .ok (.putfield 20, 3) := dk_181 0 20 (dk_at dksX9_init_1 5 rfl rfl)
theorem dX9_init_31 : decode cX9_init 31 = .ok (.aload_n 0, 1) := dk_42 (dk_at dksX9_init_1 8 rfl rfl)
theorem dX9_init_32 : decode cX9_init 32 = .ok (.sipush 403, 3) := dk_17 1 147 (dk_at dksX9_init_1 9 rfl rfl)
theorem dX9_init_35 : decode cX9_init 35 = .ok (.newarray .int, 2) := dk_188_10 (dk_at dksX9_init_1 12 rfl rfl)
theorem dX9_init_37 : decode cX9_init 37 = .ok (.putfield 24, 3) := dk_181 0 24 (dk_at dksX9_init_1 14 rfl rfl)
theorem dX9_init_40 : decode cX9_init 40 = .ok (.aload_n 0, 1) := dk_42 (dk_at dksX9_init_1 17 rfl rfl)
theorem dX9_init_41 : decode cX9_init 41 = .ok (.sipush 403, 3) := dk_17 1 147 (dk_at dksX9_init_1 18 rfl rfl)
theorem dX9_init_44 : decode cX9_init 44 = .ok (.newarray .int, 2) := dk_188_10 (dk_at dksX9_init_1 21 rfl rfl)
theorem dX9_init_46 : decode cX9_init 46 = .ok (.putfield 27, 3) := dk_181 0 27 (dk_at dksX9_init_2 0 rfl rfl)
theorem dX9_init_49 : decode cX9_init 49 = .ok (.aload_n 0, 1) := dk_42 (dk_at dksX9_init_2 3 rfl rfl)
theorem dX9_init_50 : decode cX9_init 50 = .ok (.sipush 403, 3) := dk_17 1 147 (dk_at dksX9_init_2 4 rfl rfl)
theorem dX9_init_53 : decode cX9_init 53 = .ok (.newarray .long, 2) := dk_188_11 (dk_at dksX9_init_2 7 rfl rfl)
theorem dX9_init_55 : decode cX9_init 55 = .ok (.putfield 30, 3) := dk_181 0 30 (dk_at dksX9_init_2 9 rfl rfl)
theorem dX9_init_58 : decode cX9_init 58 = .ok (.aload_n 0, 1) := dk_42 (dk_at dksX9_init_2 12 rfl rfl)
theorem dX9_init_59 : decode cX9_init 59 = .ok (.bipush 18, 2) := dk_16 18 (dk_at dksX9_init_2 13 rfl rfl)
theorem dX9_init_61 : decode cX9_init 61 = .ok (.newarray .long, 2) := dk_188_11 (dk_at dksX9_init_2 15 rfl rfl)
theorem dX9_init_63 : decode cX9_init 63 = .ok (.putfield 34, 3) := dk_181 0 34 (dk_at dksX9_init_2 17 rfl rfl)
theorem dX9_init_66 : decode cX9_init 66 = .ok (.aload_n 0, 1) := dk_42 (dk_at dksX9_init_2 20 rfl rfl)
theorem dX9_init_67 : decode cX9_init 67 = .ok (.iconst (-1), 1) := dk_2 (dk_at dksX9_init_2 21 rfl rfl)
theorem dX9_init_68 : decode cX9_init 68 = .ok (.putfield 37, 3) := dk_181 0 37 (dk_at dksX9_init_3 0 rfl rfl)
theorem dX9_init_71 : decode cX9_init 71 = .ok (.aload_n 0, 1) := dk_42 (dk_at dksX9_init_3 3 rfl rfl)
theorem dX9_init_72 : decode cX9_init 72 = .ok (.sipush 210, 3) := dk_17 0 210 (dk_at dksX9_init_3 4 rfl rfl)
theorem dX9_init_75 : decode cX9_init 75 = .ok (.newarray .int, 2) := dk_188_10 (dk_at dksX9_init_3 7 rfl rfl)
theorem dX9_init_77 : decode cX9_init 77 = .ok (.putfield 40, 3) := dk_181 0 40 (dk_at dksX9_init_3 9 rfl rfl)
theorem dX9_init_80 : decode cX9_init 80 = .ok (.aload_n 0, 1) := dk_42 (dk_at dksX9_init_3 12 rfl rfl)
theorem dX9_init_81 : decode cX9_init 81 = .ok (.sipush 210, 3) := dk_17 0 210 (dk_at dksX9_init_3 13 rfl rfl)
theorem dX9_init_84 : decode cX9_init 84 = .ok (.newarray .int, 2) := dk_188_10 (dk_at dksX9_init_3 16 rfl rfl)
theorem dX9_init_86 : decode cX9_init 86 = .ok (.putfield 43, 3) := dk_181 0 43 (dk_at dksX9_init_3 18 rfl rfl)
theorem dX9_init_89 : decode cX9_init 89 = .ok (.aload_n 0, 1) := dk_42 (dk_at dksX9_init_3 21 rfl rfl)
theorem dX9_init_90 : decode cX9_init 90 = .ok (.sipush 210, 3) := dk_17 0 210 (dk_at dksX9_init_4 0 rfl rfl)
theorem dX9_init_93 : decode cX9_init 93 = .ok (.newarray .int, 2) := dk_188_10 (dk_at dksX9_init_4 3 rfl rfl)
theorem dX9_init_95 : decode cX9_init 95 = .ok (.putfield 46, 3) := dk_181 0 46 (dk_at dksX9_init_4 5 rfl rfl)
theorem dX9_init_98 : decode cX9_init 98 = .ok (.aload_n 0, 1) := dk_42 (dk_at dksX9_init_4 8 rfl rfl)
theorem dX9_init_99 : decode cX9_init 99 = .ok (.sipush 210, 3) := dk_17 0 210 (dk_at dksX9_init_4 9 rfl rfl)
theorem dX9_init_102 : decode cX9_init 102 = .ok (.newarray .int, 2) := dk_188_10 (dk_at dksX9_init_4 12 rfl rfl)
theorem dX9_init_104 : decode cX9_init 104 = .ok (.putfield 49, 3) := dk_181 0 49 (dk_at dksX9_init_4 14 rfl rfl)
theorem dX9_init_107 : decode cX9_init 107 = .ok (.aload_n 0, 1) := dk_42 (dk_at dksX9_init_4 17 rfl rfl)
theorem dX9_init_108 : decode cX9_init 108 = .ok (.sipush 210, 3) := dk_17 0 210 (dk_at dksX9_init_4 18 rfl rfl)
theorem dX9_init_111 : decode cX9_init 111 = .ok (.newarray .int, 2) := dk_188_10 (dk_at dksX9_init_4 21 rfl rfl)
theorem dX9_init_113 : decode cX9_init 113 = .ok (.putfield 52, 3) := dk_181 0 52 (dk_at dksX9_init_5 0 rfl rfl)
theorem dX9_init_116 : decode cX9_init 116 = .ok (.aload_n 0, 1) := dk_42 (dk_at dksX9_init_5 3 rfl rfl)
theorem dX9_init_117 : decode cX9_init 117 = .ok (.sipush 210, 3) := dk_17 0 210 (dk_at dksX9_init_5 4 rfl rfl)
theorem dX9_init_120 : decode cX9_init 120 = .ok (.newarray .int, 2) := dk_188_10 (dk_at dksX9_init_5 7 rfl rfl)
theorem dX9_init_122 : decode cX9_init 122 = .ok (.putfield 55, 3) := dk_181 0 55 (dk_at dksX9_init_5 9 rfl rfl)
theorem dX9_init_125 : decode cX9_init 125 = .ok (.aload_n 0, 1) := dk_42 (dk_at dksX9_init_5 12 rfl rfl)
theorem dX9_init_126 : decode cX9_init 126 = .ok (.iconst 3, 1) := dk_6 (dk_at dksX9_init_5 13 rfl rfl)
theorem dX9_init_127 : decode cX9_init 127 = .ok (.newarray .int, 2) := dk_188_10 (dk_at dksX9_init_5 14 rfl rfl)
theorem dX9_init_129 : decode cX9_init 129 = .ok (.putfield 58, 3) := dk_181 0 58 (dk_at dksX9_init_5 16 rfl rfl)
theorem dX9_init_132 : decode cX9_init 132 = .ok (.aload_n 0, 1) := dk_42 (dk_at dksX9_init_5 19 rfl rfl)
theorem dX9_init_133 : decode cX9_init 133 = .ok (.sipush 420, 3) := dk_17 1 164 (dk_at dksX9_init_5 20 rfl rfl)
theorem dX9_init_136 : decode cX9_init 136 = .ok (.newarray .int, 2) := dk_188_10 (dk_at dksX9_init_6 0 rfl rfl)
theorem dX9_init_138 : decode cX9_init 138 = .ok (.putfield 61, 3) := dk_181 0 61 (dk_at dksX9_init_6 2 rfl rfl)
theorem dX9_init_141 : decode cX9_init 141 = .ok (.aload_n 0, 1) := dk_42 (dk_at dksX9_init_6 5 rfl rfl)
theorem dX9_init_142 : decode cX9_init 142 = .ok (.sipush 420, 3) := dk_17 1 164 (dk_at dksX9_init_6 6 rfl rfl)
theorem dX9_init_145 : decode cX9_init 145 = .ok (.newarray .int, 2) := dk_188_10 (dk_at dksX9_init_6 9 rfl rfl)
theorem dX9_init_147 : decode cX9_init 147 = .ok (.putfield 64, 3) := dk_181 0 64 (dk_at dksX9_init_6 11 rfl rfl)
theorem dX9_init_150 : decode cX9_init 150 = .ok (.aload_n 0, 1) := dk_42 (dk_at dksX9_init_6 14 rfl rfl)
theorem dX9_init_151 : decode cX9_init 151 = .ok (.bipush 64, 2) := dk_16 64 (dk_at dksX9_init_6 15 rfl rfl)
theorem dX9_init_153 : decode cX9_init 153 = .ok (.newarray .int, 2) := dk_188_10 (dk_at dksX9_init_6 17 rfl rfl)
theorem dX9_init_155 : decode cX9_init 155 = .ok (.putfield 67, 3) := dk_181 0 67 (dk_at dksX9_init_6 19 rfl rfl)
theorem dX9_init_158 : decode cX9_init 158 = .ok (.aload_n 0, 1) := dk_42 (dk_at dksX9_init_6 22 rfl rfl)
theorem dX9_init_159 : decode cX9_init 159 = .ok (.bipush 6, 2) := dk_16 6 (dk_at dksX9_init_7 0 rfl rfl)
theorem dX9_init_161 : decode cX9_init 161 = .ok (.newarray .int, 2) := dk_188_10 (dk_at dksX9_init_7 2 rfl rfl)
theorem dX9_init_163 : decode cX9_init 163 = .ok (.putfield 70, 3) := dk_181 0 70 (dk_at dksX9_init_7 4 rfl rfl)
theorem dX9_init_166 : decode cX9_init 166 = .ok (.aload_n 0, 1) := dk_42 (dk_at dksX9_init_7 7 rfl rfl)
theorem dX9_init_167 : decode cX9_init 167 = .ok (.sipush 400, 3) := dk_17 1 144 (dk_at dksX9_init_7 8 rfl rfl)
theorem dX9_init_170 : decode cX9_init 170 = .ok (.newarray .int, 2) := dk_188_10 (dk_at dksX9_init_7 11 rfl rfl)
theorem dX9_init_172 : decode cX9_init 172 = .ok (.putfield 73, 3) := dk_181 0 73 (dk_at dksX9_init_7 13 rfl rfl)
theorem dX9_init_175 : decode cX9_init 175 = .ok (.aload_n 0, 1) := dk_42 (dk_at dksX9_init_7 16 rfl rfl)
theorem dX9_init_176 : decode cX9_init 176 = .ok (.iconst 3, 1) := dk_6 (dk_at dksX9_init_7 17 rfl rfl)
theorem dX9_init_177 : decode cX9_init 177 = .ok (.newarray .int, 2) := dk_188_10 (dk_at dksX9_init_7 18 rfl rfl)
theorem dX9_init_179 : decode cX9_init 179 = .ok (.putfield 76, 3) := dk_181 0 76 (dk_at dksX9_init_7 20 rfl rfl)
theorem dX9_init_182 : decode cX9_init 182 = .ok (.aload_n 0, 1) := dk_42 (dk_at dksX9_init_7 23 rfl rfl)
theorem dX9_init_183 : decode cX9_init 183 = .ok (.ldc 79, 2) := dk_18 79 (dk_at dksX9_init_8 0 rfl rfl)
theorem dX9_init_185 : decode cX9_init 185 = .ok (.newarray .int, 2) := dk_188_10 (dk_at dksX9_init_8 2 rfl rfl)
theorem dX9_init_187 : decode cX9_init 187 = .ok (.putfield 80, 3) := dk_181 0 80 (dk_at dksX9_init_8 4 rfl rfl)
theorem dX9_init_190 : decode cX9_init 190 = .ok (.aload_n 0, 1) := dk_42 (dk_at dksX9_init_8 7 rfl rfl)
theorem dX9_init_191 : decode cX9_init 191 = .ok (.sipush 840, 3) := dk_17 3 72 (dk_at dksX9_init_8 8 rfl rfl)
theorem dX9_init_194 : decode cX9_init 194 = .ok (.newarray .int, 2) := dk_188_10 (dk_at dksX9_init_8 11 rfl rfl)
theorem dX9_init_196 : decode cX9_init 196 = .ok (.putfield 83, 3) := dk_181 0 83 (dk_at dksX9_init_8 13 rfl rfl)
theorem dX9_init_199 : decode cX9_init 199 = .ok (.aload_n 0, 1) := dk_42 (dk_at dksX9_init_8 16 rfl rfl)
theorem dX9_init_200 : decode cX9_init 200 = .ok (.bipush 90, 2) := dk_16 90 (dk_at dksX9_init_8 17 rfl rfl)
theorem dX9_init_202 : decode cX9_init 202 = .ok (.newarray .int, 2) := dk_188_10 (dk_at dksX9_init_8 19 rfl rfl)
theorem dX9_init_204 : decode cX9_init 204 = .ok (.putfield 86, 3) := dk_181 0 86 (dk_at dksX9_init_8 21 rfl rfl)
theorem dX9_init_207 : decode cX9_init 207 = .ok (.aload_n 0, 1) := dk_42 (dk_at dksX9_init_9 0 rfl rfl)
theorem dX9_init_208 : decode cX9_init 208 = .ok (.bipush 90, 2) := dk_16 90 (dk_at dksX9_init_9 1 rfl rfl)
theorem dX9_init_210 : decode cX9_init 210 = .ok (.newarray .int, 2) := dk_188_10 (dk_at dksX9_init_9 3 rfl rfl)
theorem dX9_init_212 : decode cX9_init 212 = .ok (.putfield 89, 3) := dk_181 0 89 (dk_at dksX9_init_9 5 rfl rfl)
theorem dX9_init_215 : decode cX9_init 215 = .ok (.aload_n 0, 1) := dk_42 (dk_at dksX9_init_9 8 rfl rfl)
theorem dX9_init_216 : decode cX9_init 216 = .ok (.bipush 90, 2) := dk_16 90 (dk_at dksX9_init_9 9 rfl rfl)
theorem dX9_init_218 : decode cX9_init 218 = .ok (.newarray .int, 2) := dk_188_10 (dk_at dksX9_init_9 11 rfl rfl)
theorem dX9_init_220 : decode cX9_init 220 = .ok (.putfield 92, 3) := dk_181 0 92 (dk_at dksX9_init_9 13 rfl rfl)
theorem dX9_init_223 : decode cX9_init 223 = .ok (.aload_n 0, 1) := dk_42 (dk_at dksX9_init_9 16 rfl rfl)
theorem dX9_init_224 : decode cX9_init 224 = .ok (.bipush 90, 2) := dk_16 90 (dk_at dksX9_init_9 17 rfl rfl)
theorem dX9_init_226 : decode cX9_init 226 = .ok (.newarray .int, 2) := dk_188_10 (dk_at dksX9_init_9 19 rfl rfl)
theorem dX9_init_228 : decode cX9_init 228 = .ok (.putfield 95, 3) := dk_181 0 95 (dk_at dksX9_init_9 21 rfl rfl)
theorem dX9_init_231 : decode cX9_init 231 = .ok (.aload_n 0, 1) := dk_42 (dk_at dksX9_init_10 0 rfl rfl)
theorem dX9_init_232 : decode cX9_init 232 = .ok (.sipush 200, 3) := dk_17 0 200 (dk_at dksX9_init_10 1 rfl rfl)
theorem dX9_init_235 : decode cX9_init 235 = .ok (.newarray .int, 2) := dk_188_10 (dk_at dksX9_init_10 4 rfl rfl)
theorem dX9_init_237 : decode cX9_init 237 = .ok (.putfield 98, 3) := dk_181 0 98 (dk_at dksX9_init_10 6 rfl rfl)
theorem dX9_init_240 : decode cX9_init 240 = .ok (.aload_n 0, 1) := dk_42 (dk_at dksX9_init_10 9 rfl rfl)
theorem dX9_init_241 : decode cX9_init 241 = .ok (.sipush 200, 3) := dk_17 0 200 (dk_at dksX9_init_10 10 rfl rfl)
theorem dX9_init_244 : decode cX9_init 244 = .ok (.newarray .int, 2) := dk_188_10 (dk_at dksX9_init_10 13 rfl rfl)
theorem dX9_init_246 : decode cX9_init 246 = .ok (.putfield 101, 3) := dk_181 0 101 (dk_at dksX9_init_10 15 rfl rfl)
theorem dX9_init_249 : decode cX9_init 249 = .ok (.aload_n 0, 1) := dk_42 (dk_at dksX9_init_10 18 rfl rfl)
theorem dX9_init_250 : decode cX9_init 250 = .ok (.sipush 14100, 3) := dk_17 55 20 (dk_at dksX9_init_10 19 rfl rfl)
theorem dX9_init_253 : decode cX9_init 253 = .ok (.newarray .int, 2) := dk_188_10 (dk_at dksX9_init_10 22 rfl rfl)
theorem dX9_init_255 : decode cX9_init 255 = .ok (.putfield 104, 3) := dk_181 0 104 (dk_at dksX9_init_11 0 rfl rfl)
theorem dX9_init_258 : decode cX9_init 258 = .ok (.aload_n 0, 1) := dk_42 (dk_at dksX9_init_11 3 rfl rfl)
theorem dX9_init_259 : decode cX9_init 259 = .ok (.sipush 200, 3) := dk_17 0 200 (dk_at dksX9_init_11 4 rfl rfl)
theorem dX9_init_262 : decode cX9_init 262 = .ok (.newarray .int, 2) := dk_188_10 (dk_at dksX9_init_11 7 rfl rfl)
theorem dX9_init_264 : decode cX9_init 264 = .ok (.putfield 107, 3) := dk_181 0 107 (dk_at dksX9_init_11 9 rfl rfl)
theorem dX9_init_267 : decode cX9_init 267 = .ok (.aload_n 0, 1) := dk_42 (dk_at dksX9_init_11 12 rfl rfl)
theorem dX9_init_268 : decode cX9_init 268 = .ok (.sipush 200, 3) := dk_17 0 200 (dk_at dksX9_init_11 13 rfl rfl)
theorem dX9_init_271 : decode cX9_init 271 = .ok (.newarray .int, 2) := dk_188_10 (dk_at dksX9_init_11 16 rfl rfl)
theorem dX9_init_273 : decode cX9_init 273 = .ok (.putfield 110, 3) := dk_181 0 110 (dk_at dksX9_init_11 18 rfl rfl)
theorem dX9_init_276 : decode cX9_init 276 = .ok (.aload_n 0, 1) := dk_42 (dk_at dksX9_init_11 21 rfl rfl)
theorem dX9_init_277 : decode cX9_init 277 = .ok (.iconst 3, 1) := dk_6 (dk_at dksX9_init_11 22 rfl rfl)
theorem dX9_init_278 : decode cX9_init 278 = .ok (.newarray .boolean, 2) := dk_188_4 (dk_at dksX9_init_12 0 rfl rfl)
theorem dX9_init_280 : decode cX9_init 280 = .ok (.putfield 113, 3) := dk_181 0 113 (dk_at dksX9_init_12 2 rfl rfl)
theorem dX9_init_283 : decode cX9_init 283 = .ok (.aload_n 0, 1) := dk_42 (dk_at dksX9_init_12 5 rfl rfl)
theorem dX9_init_284 : decode cX9_init 284 = .ok (.ldc 117, 2) := dk_18 117 (dk_at dksX9_init_12 6 rfl rfl)
theorem dX9_init_286 : decode cX9_init 286 = .ok (.newarray .int, 2) := dk_188_10 (dk_at dksX9_init_12 8 rfl rfl)
theorem dX9_init_288 : decode cX9_init 288 = .ok (.putfield 118, 3) := dk_181 0 118 (dk_at dksX9_init_12 10 rfl rfl)
theorem dX9_init_291 : decode cX9_init 291 = .ok (.aload_n 0, 1) := dk_42 (dk_at dksX9_init_12 13 rfl rfl)
theorem dX9_init_292 : decode cX9_init 292 = .ok (.getfield 34, 3) := dk_180 0 34 (dk_at dksX9_init_12 14 rfl rfl)
theorem dX9_init_295 : decode cX9_init 295 = .ok (.iconst 0, 1) := dk_3 (dk_at dksX9_init_12 17 rfl rfl)
theorem dX9_init_296 : decode cX9_init 296 = .ok (.bipush 99, 2) := dk_16 99 (dk_at dksX9_init_12 18 rfl rfl)
theorem dX9_init_298 : decode cX9_init 298 = .ok (.bipush 104, 2) := dk_16 104 (dk_at dksX9_init_12 20 rfl rfl)
theorem dX9_init_300 : decode cX9_init 300 = .ok (.bipush 97, 2) := dk_16 97 (dk_at dksX9_init_12 22 rfl rfl)
theorem dX9_init_302 : decode cX9_init 302 = .ok (.bipush 105, 2) := dk_16 105 (dk_at dksX9_init_13 0 rfl rfl)
theorem dX9_init_304 : decode cX9_init 304 = .ok (.bipush 110, 2) := dk_16 110 (dk_at dksX9_init_13 2 rfl rfl)
theorem dX9_init_306 : decode cX9_init 306 = .ok (.iconst 0, 1) := dk_3 (dk_at dksX9_init_13 4 rfl rfl)
theorem dX9_init_307 : decode cX9_init 307 = .ok (.iconst 0, 1) := dk_3 (dk_at dksX9_init_13 5 rfl rfl)
theorem dX9_init_308 : decode cX9_init 308 = .ok (.invokestatic 121, 3) := dk_184 0 121 (dk_at dksX9_init_13 6 rfl rfl)
theorem dX9_init_311 : decode cX9_init 311 = .ok (.lastore, 1) := dk_80 (dk_at dksX9_init_13 9 rfl rfl)
theorem dX9_init_312 : decode cX9_init 312 = .ok (.aload_n 0, 1) := dk_42 (dk_at dksX9_init_13 10 rfl rfl)
theorem dX9_init_313 : decode cX9_init 313 = .ok (.getfield 34, 3) := dk_180 0 34 (dk_at dksX9_init_13 11 rfl rfl)
theorem dX9_init_316 : decode cX9_init 316 = .ok (.iconst 1, 1) := dk_4 (dk_at dksX9_init_13 14 rfl rfl)
theorem dX9_init_317 : decode cX9_init 317 = .ok (.bipush 109, 2) := dk_16 109 (dk_at dksX9_init_13 15 rfl rfl)
theorem dX9_init_319 : decode cX9_init 319 = .ok (.bipush 111, 2) := dk_16 111 (dk_at dksX9_init_13 17 rfl rfl)
theorem dX9_init_321 : decode cX9_init 321 = .ok (.bipush 115, 2) := dk_16 115 (dk_at dksX9_init_13 19 rfl rfl)
theorem dX9_init_323 : decode cX9_init 323 = .ok (.bipush 116, 2) := dk_16 116 (dk_at dksX9_init_13 21 rfl rfl)
theorem dX9_init_325 : decode cX9_init 325 = .ok (.iconst 0, 1) := dk_3 (dk_at dksX9_init_13 23 rfl rfl)
theorem dX9_init_326 : decode cX9_init 326 = .ok (.iconst 0, 1) := dk_3 (dk_at dksX9_init_14 0 rfl rfl)
theorem dX9_init_327 : decode cX9_init 327 = .ok (.iconst 0, 1) := dk_3 (dk_at dksX9_init_14 1 rfl rfl)
theorem dX9_init_328 : decode cX9_init 328 = .ok (.invokestatic 121, 3) := dk_184 0 121 (dk_at dksX9_init_14 2 rfl rfl)
theorem dX9_init_331 : decode cX9_init 331 = .ok (.lastore, 1) := dk_80 (dk_at dksX9_init_14 5 rfl rfl)
theorem dX9_init_332 : decode cX9_init 332 = .ok (.aload_n 0, 1) := dk_42 (dk_at dksX9_init_14 6 rfl rfl)
theorem dX9_init_333 : decode cX9_init 333 = .ok (.getfield 34, 3) := dk_180 0 34 (dk_at dksX9_init_14 7 rfl rfl)
theorem dX9_init_336 : decode cX9_init 336 = .ok (.iconst 2, 1) := dk_5 (dk_at dksX9_init_14 10 rfl rfl)
theorem dX9_init_337 : decode cX9_init 337 = .ok (.bipush 108, 2) := dk_16 108 (dk_at dksX9_init_14 11 rfl rfl)
theorem dX9_init_339 : decode cX9_init 339 = .ok (.bipush 101, 2) := dk_16 101 (dk_at dksX9_init_14 13 rfl rfl)
theorem dX9_init_341 : decode cX9_init 341 = .ok (.bipush 97, 2) := dk_16 97 (dk_at dksX9_init_14 15 rfl rfl)
theorem dX9_init_343 : decode cX9_init 343 = .ok (.bipush 115, 2) := dk_16 115 (dk_at dksX9_init_14 17 rfl rfl)
theorem dX9_init_345 : decode cX9_init 345 = .ok (.bipush 116, 2) := dk_16 116 (dk_at dksX9_init_14 19 rfl rfl)
theorem dX9_init_347 : decode cX9_init 347 = .ok (.iconst 0, 1) := dk_3 (dk_at dksX9_init_14 21 rfl rfl)
theorem dX9_init_348 : decode cX9_init 348 = .ok (.iconst 0, 1) := dk_3 (dk_at dksX9_init_14 22 rfl rfl)
theorem dX9_init_349 : decode cX9_init 349 = .ok (.invokestatic 121, 3) := dk_184 0 121 (dk_at dksX9_init_15 0 rfl rfl)
theorem dX9_init_352 : decode cX9_init 352 = .ok (.lastore, 1) := dk_80 (dk_at dksX9_init_15 3 rfl rfl)
theorem dX9_init_353 : decode cX9_init 353 = .ok (.aload_n 0, 1) := dk_42 (dk_at dksX9_init_15 4 rfl rfl)
theorem dX9_init_354 : decode cX9_init 354 = .ok (.getfield 34, 3) := dk_180 0 34 (dk_at dksX9_init_15 5 rfl rfl)
theorem dX9_init_357 : decode cX9_init 357 = .ok (.iconst 3, 1) := dk_6 (dk_at dksX9_init_15 8 rfl rfl)
theorem dX9_init_358 : decode cX9_init 358 = .ok (.bipush 98, 2) := dk_16 98 (dk_at dksX9_init_15 9 rfl rfl)
theorem dX9_init_360 : decode cX9_init 360 = .ok (.bipush 101, 2) := dk_16 101 (dk_at dksX9_init_15 11 rfl rfl)
theorem dX9_init_362 : decode cX9_init 362 = .ok (.bipush 103, 2) := dk_16 103 (dk_at dksX9_init_15 13 rfl rfl)
theorem dX9_init_364 : decode cX9_init 364 = .ok (.bipush 105, 2) := dk_16 105 (dk_at dksX9_init_15 15 rfl rfl)
theorem dX9_init_366 : decode cX9_init 366 = .ok (.bipush 110, 2) := dk_16 110 (dk_at dksX9_init_15 17 rfl rfl)
theorem dX9_init_368 : decode cX9_init 368 = .ok (.iconst 0, 1) := dk_3 (dk_at dksX9_init_15 19 rfl rfl)
theorem dX9_init_369 : decode cX9_init 369 = .ok (.iconst 0, 1) := dk_3 (dk_at dksX9_init_15 20 rfl rfl)
theorem dX9_init_370 : decode cX9_init 370 = .ok (.invokestatic 121, 3) := dk_184 0 121 (dk_at dksX9_init_15 21 rfl rfl)
theorem dX9_init_373 : decode cX9_init 373 = .ok (.lastore, 1) := dk_80 (dk_at dksX9_init_16 0 rfl rfl)
theorem dX9_init_374 : decode cX9_init 374 = .ok (.aload_n 0, 1) := dk_42 (dk_at dksX9_init_16 1 rfl rfl)
theorem dX9_init_375 : decode cX9_init 375 = .ok (.getfield 34, 3) := dk_180 0 34 (dk_at dksX9_init_16 2 rfl rfl)
theorem dX9_init_378 : decode cX9_init 378 = .ok (.iconst 4, 1) := dk_7 (dk_at dksX9_init_16 5 rfl rfl)
theorem dX9_init_379 : decode cX9_init 379 = .ok (.bipush 103, 2) := dk_16 103 (dk_at dksX9_init_16 6 rfl rfl)
theorem dX9_init_381 : decode cX9_init 381 = .ok (.bipush 101, 2) := dk_16 101 (dk_at dksX9_init_16 8 rfl rfl)
theorem dX9_init_383 : decode cX9_init 383 = .ok (.bipush 116, 2) := dk_16 116 (dk_at dksX9_init_16 10 rfl rfl)
theorem dX9_init_385 : decode cX9_init 385 = .ok (.iconst 0, 1) := dk_3 (dk_at dksX9_init_16 12 rfl rfl)
theorem dX9_init_386 : decode cX9_init 386 = .ok (.iconst 0, 1) := dk_3 (dk_at dksX9_init_16 13 rfl rfl)
theorem dX9_init_387 : decode cX9_init 387 = .ok (.iconst 0, 1) := dk_3 (dk_at dksX9_init_16 14 rfl rfl)
theorem dX9_init_388 : decode cX9_init 388 = .ok (.iconst 0, 1) := dk_3 (dk_at dksX9_init_16 15 rfl rfl)
theorem dX9_init_389 : decode cX9_init 389 = .ok (.invokestatic 121, 3) := dk_184 0 121 (dk_at dksX9_init_16 16 rfl rfl)
theorem dX9_init_392 : decode cX9_init 392 = .ok (.lastore, 1) := dk_80 (dk_at dksX9_init_16 19 rfl rfl)
theorem dX9_init_393 : decode cX9_init 393 = .ok (.aload_n 0, 1) := dk_42 (dk_at dksX9_init_16 20 rfl rfl)
theorem dX9_init_394 : decode cX9_init 394 = .ok (.getfield 34, 3) := dk_180 0 34 (dk_at dksX9_init_16 21 rfl rfl)
theorem dX9_init_397 : decode cX9_init 397 = .ok (.iconst 5, 1) := dk_8 (dk_at dksX9_init_17 0 rfl rfl)
theorem dX9_init_398 : decode cX9_init 398 = .ok (.bipush 115, 2) := dk_16 115 (dk_at dksX9_init_17 1 rfl rfl)
theorem dX9_init_400 : decode cX9_init 400 = .ok (.bipush 116, 2) := dk_16 116 (dk_at dksX9_init_17 3 rfl rfl)
theorem dX9_init_402 : decode cX9_init 402 = .ok (.bipush 101, 2) := dk_16 101 (dk_at dksX9_init_17 5 rfl rfl)
theorem dX9_init_404 : decode cX9_init 404 = .ok (.bipush 112, 2) := dk_16 112 (dk_at dksX9_init_17 7 rfl rfl)
theorem dX9_init_406 : decode cX9_init 406 = .ok (.iconst 0, 1) := dk_3 (dk_at dksX9_init_17 9 rfl rfl)
theorem dX9_init_407 : decode cX9_init 407 = .ok (.iconst 0, 1) := dk_3 (dk_at dksX9_init_17 10 rfl rfl)
theorem dX9_init_408 : decode cX9_init 408 = .ok (.iconst 0, 1) := dk_3 (dk_at dksX9_init_17 11 rfl rfl)
theorem dX9_init_409 : decode cX9_init 409 = .ok (.invokestatic 121, 3) := dk_184 0 121 (dk_at dksX9_init_17 12 rfl rfl)
theorem dX9_init_412 : decode cX9_init 412 = .ok (.lastore, 1) := dk_80 (dk_at dksX9_init_17 15 rfl rfl)
theorem dX9_init_413 : decode cX9_init 413 = .ok (.aload_n 0, 1) := dk_42 (dk_at dksX9_init_17 16 rfl rfl)
theorem dX9_init_414 : decode cX9_init 414 = .ok (.getfield 34, 3) := dk_180 0 34 (dk_at dksX9_init_17 17 rfl rfl)
theorem dX9_init_417 : decode cX9_init 417 = .ok (.bipush 6, 2) := dk_16 6 (dk_at dksX9_init_17 20 rfl rfl)
theorem dX9_init_419 : decode cX9_init 419 = .ok (.bipush 99, 2) := dk_16 99 (dk_at dksX9_init_17 22 rfl rfl)
theorem dX9_init_421 : decode cX9_init 421 = .ok (.bipush 108, 2) := dk_16 108 (dk_at dksX9_init_18 0 rfl rfl)
theorem dX9_init_423 : decode cX9_init 423 = .ok (.bipush 111, 2) := dk_16 111 (dk_at dksX9_init_18 2 rfl rfl)
theorem dX9_init_425 : decode cX9_init 425 = .ok (.bipush 115, 2) := dk_16 115 (dk_at dksX9_init_18 4 rfl rfl)
theorem dX9_init_427 : decode cX9_init 427 = .ok (.bipush 101, 2) := dk_16 101 (dk_at dksX9_init_18 6 rfl rfl)
theorem dX9_init_429 : decode cX9_init 429 = .ok (.iconst 0, 1) := dk_3 (dk_at dksX9_init_18 8 rfl rfl)
theorem dX9_init_430 : decode cX9_init 430 = .ok (.iconst 0, 1) := dk_3 (dk_at dksX9_init_18 9 rfl rfl)
theorem dX9_init_431 : decode cX9_init 431 = .ok (.invokestatic 121, 3) := dk_184 0 121 (dk_at dksX9_init_18 10 rfl rfl)
theorem dX9_init_434 : decode cX9_init 434 = .ok (.lastore, 1) := dk_80 (dk_at dksX9_init_18 13 rfl rfl)
theorem dX9_init_435 : decode cX9_init 435 = .ok (.aload_n 0, 1) := dk_42 (dk_at dksX9_init_18 14 rfl rfl)
theorem dX9_init_436 : decode cX9_init 436 = .ok (.getfield 34, 3) := dk_180 0 34 (dk_at dksX9_init_18 15 rfl rfl)
theorem dX9_init_439 : decode cX9_init 439 = .ok (.bipush 7, 2) := dk_16 7 (dk_at dksX9_init_18 18 rfl rfl)
theorem dX9_init_441 : decode cX9_init 441 = .ok (.bipush 115, 2) := dk_16 115 (dk_at dksX9_init_18 20 rfl rfl)
theorem dX9_init_443 : decode cX9_init 443 = .ok (.bipush 119, 2) := dk_16 119 (dk_at dksX9_init_18 22 rfl rfl)
theorem dX9_init_445 : decode cX9_init 445 = .ok (.bipush 101, 2) := dk_16 101 (dk_at dksX9_init_19 0 rfl rfl)
theorem dX9_init_447 : decode cX9_init 447 = .ok (.bipush 101, 2) := dk_16 101 (dk_at dksX9_init_19 2 rfl rfl)
theorem dX9_init_449 : decode cX9_init 449 = .ok (.bipush 112, 2) := dk_16 112 (dk_at dksX9_init_19 4 rfl rfl)
theorem dX9_init_451 : decode cX9_init 451 = .ok (.iconst 0, 1) := dk_3 (dk_at dksX9_init_19 6 rfl rfl)
theorem dX9_init_452 : decode cX9_init 452 = .ok (.iconst 0, 1) := dk_3 (dk_at dksX9_init_19 7 rfl rfl)
theorem dX9_init_453 : decode cX9_init 453 = .ok (.invokestatic 121, 3) := dk_184 0 121 (dk_at dksX9_init_19 8 rfl rfl)
theorem dX9_init_456 : decode cX9_init 456 = .ok (.lastore, 1) := dk_80 (dk_at dksX9_init_19 11 rfl rfl)
theorem dX9_init_457 : decode cX9_init 457 = .ok (.aload_n 0, 1) := dk_42 (dk_at dksX9_init_19 12 rfl rfl)
theorem dX9_init_458 : decode cX9_init 458 = .ok (.getfield 34, 3) := dk_180 0 34 (dk_at dksX9_init_19 13 rfl rfl)
theorem dX9_init_461 : decode cX9_init 461 = .ok (.bipush 8, 2) := dk_16 8 (dk_at dksX9_init_19 16 rfl rfl)
theorem dX9_init_463 : decode cX9_init 463 = .ok (.bipush 100, 2) := dk_16 100 (dk_at dksX9_init_19 18 rfl rfl)
theorem dX9_init_465 : decode cX9_init 465 = .ok (.bipush 111, 2) := dk_16 111 (dk_at dksX9_init_19 20 rfl rfl)
theorem dX9_init_467 : decode cX9_init 467 = .ok (.iconst 0, 1) := dk_3 (dk_at dksX9_init_19 22 rfl rfl)
theorem dX9_init_468 : decode cX9_init 468 = .ok (.iconst 0, 1) := dk_3 (dk_at dksX9_init_19 23 rfl rfl)
theorem dX9_init_469 : decode cX9_init 469 = .ok (.iconst 0, 1) := dk_3 (dk_at dksX9_init_20 0 rfl rfl)
theorem dX9_init_470 : decode cX9_init 470 = .ok (.iconst 0, 1) := dk_3 (dk_at dksX9_init_20 1 rfl rfl)
theorem dX9_init_471 : decode cX9_init 471 = .ok (.iconst 0, 1) := dk_3 (dk_at dksX9_init_20 2 rfl rfl)
theorem dX9_init_472 : decode cX9_init 472 = .ok (.invokestatic 121, 3) := dk_184 0 121 (dk_at dksX9_init_20 3 rfl rfl)
theorem dX9_init_475 : decode cX9_init 475 = .ok (.lastore, 1) := dk_80 (dk_at dksX9_init_20 6 rfl rfl)
theorem dX9_init_476 : decode cX9_init 476 = .ok (.aload_n 0, 1) := dk_42 (dk_at dksX9_init_20 7 rfl rfl)
theorem dX9_init_477 : decode cX9_init 477 = .ok (.getfield 34, 3) := dk_180 0 34 (dk_at dksX9_init_20 8 rfl rfl)
theorem dX9_init_480 : decode cX9_init 480 = .ok (.bipush 9, 2) := dk_16 9 (dk_at dksX9_init_20 11 rfl rfl)
theorem dX9_init_482 : decode cX9_init 482 = .ok (.bipush 101, 2) := dk_16 101 (dk_at dksX9_init_20 13 rfl rfl)
theorem dX9_init_484 : decode cX9_init 484 = .ok (.bipush 110, 2) := dk_16 110 (dk_at dksX9_init_20 15 rfl rfl)
theorem dX9_init_486 : decode cX9_init 486 = .ok (.bipush 100, 2) := dk_16 100 (dk_at dksX9_init_20 17 rfl rfl)
theorem dX9_init_488 : decode cX9_init 488 = .ok (.iconst 0, 1) := dk_3 (dk_at dksX9_init_20 19 rfl rfl)
theorem dX9_init_489 : decode cX9_init 489 = .ok (.iconst 0, 1) := dk_3 (dk_at dksX9_init_20 20 rfl rfl)
theorem dX9_init_490 : decode cX9_init 490 = .ok (.iconst 0, 1) := dk_3 (dk_at dksX9_init_20 21 rfl rfl)
theorem dX9_init_491 : decode cX9_init 491 = .ok (.iconst 0, 1) := dk_3 (dk_at dksX9_init_20 22 rfl rfl)
theorem dX9_init_492 : decode cX9_init 492 = .ok (.invokestatic 121, 3) := dk_184 0 121 (dk_at dksX9_init_21 0 rfl rfl)
theorem dX9_init_495 : decode cX9_init 495 = .ok (.lastore, 1) := dk_80 (dk_at dksX9_init_21 3 rfl rfl)
theorem dX9_init_496 : decode cX9_init 496 = .ok (.aload_n 0, 1) := dk_42 (dk_at dksX9_init_21 4 rfl rfl)
theorem dX9_init_497 : decode cX9_init 497 = .ok (.getfield 34, 3) := dk_180 0 34 (dk_at dksX9_init_21 5 rfl rfl)
theorem dX9_init_500 : decode cX9_init 500 = .ok (.bipush 10, 2) := dk_16 10 (dk_at dksX9_init_21 8 rfl rfl)
theorem dX9_init_502 : decode cX9_init 502 = .ok (.bipush 112, 2) := dk_16 112 (dk_at dksX9_init_21 10 rfl rfl)
theorem dX9_init_504 : decode cX9_init 504 = .ok (.bipush 117, 2) := dk_16 117 (dk_at dksX9_init_21 12 rfl rfl)
theorem dX9_init_506 : decode cX9_init 506 = .ok (.bipush 116, 2) := dk_16 116 (dk_at dksX9_init_21 14 rfl rfl)
theorem dX9_init_508 : decode cX9_init 508 = .ok (.iconst 0, 1) := dk_3 (dk_at dksX9_init_21 16 rfl rfl)
theorem dX9_init_509 : decode cX9_init 509 = .ok (.iconst 0, 1) := dk_3 (dk_at dksX9_init_21 17 rfl rfl)
theorem dX9_init_510 : decode cX9_init 510 = .ok (.iconst 0, 1) := dk_3 (dk_at dksX9_init_21 18 rfl rfl)
theorem dX9_init_511 : decode cX9_init 511 = .ok (.iconst 0, 1) := dk_3 (dk_at dksX9_init_21 19 rfl rfl)
theorem dX9_init_512 : decode cX9_init 512 = .ok (.invokestatic 121, 3) := dk_184 0 121 (dk_at dksX9_init_21 20 rfl rfl)
theorem dX9_init_515 : decode cX9_init 515 = .ok (.lastore, 1) := dk_80 (dk_at dksX9_init_21 23 rfl rfl)
theorem dX9_init_516 : decode cX9_init 516 = .ok (.aload_n 0, 1) := dk_42 (dk_at dksX9_init_22 0 rfl rfl)
theorem dX9_init_517 : decode cX9_init 517 = .ok (.getfield 34, 3) := dk_180 0 34 (dk_at dksX9_init_22 1 rfl rfl)
theorem dX9_init_520 : decode cX9_init 520 = .ok (.bipush 11, 2) := dk_16 11 (dk_at dksX9_init_22 4 rfl rfl)
theorem dX9_init_522 : decode cX9_init 522 = .ok (.bipush 99, 2) := dk_16 99 (dk_at dksX9_init_22 6 rfl rfl)
theorem dX9_init_524 : decode cX9_init 524 = .ok (.bipush 117, 2) := dk_16 117 (dk_at dksX9_init_22 8 rfl rfl)
theorem dX9_init_526 : decode cX9_init 526 = .ok (.bipush 116, 2) := dk_16 116 (dk_at dksX9_init_22 10 rfl rfl)
theorem dX9_init_528 : decode cX9_init 528 = .ok (.iconst 0, 1) := dk_3 (dk_at dksX9_init_22 12 rfl rfl)
theorem dX9_init_529 : decode cX9_init 529 = .ok (.iconst 0, 1) := dk_3 (dk_at dksX9_init_22 13 rfl rfl)
theorem dX9_init_530 : decode cX9_init 530 = .ok (.iconst 0, 1) := dk_3 (dk_at dksX9_init_22 14 rfl rfl)
theorem dX9_init_531 : decode cX9_init 531 = .ok (.iconst 0, 1) := dk_3 (dk_at dksX9_init_22 15 rfl rfl)
theorem dX9_init_532 : decode cX9_init 532 = .ok (.invokestatic 121, 3) := dk_184 0 121 (dk_at dksX9_init_22 16 rfl rfl)
theorem dX9_init_535 : decode cX9_init 535 = .ok (.lastore, 1) := dk_80 (dk_at dksX9_init_22 19 rfl rfl)
theorem dX9_init_536 : decode cX9_init 536 = .ok (.aload_n 0, 1) := dk_42 (dk_at dksX9_init_22 20 rfl rfl)
theorem dX9_init_537 : decode cX9_init 537 = .ok (.getfield 34, 3) := dk_180 0 34 (dk_at dksX9_init_22 21 rfl rfl)
theorem dX9_init_540 : decode cX9_init 540 = .ok (.bipush 12, 2) := dk_16 12 (dk_at dksX9_init_23 0 rfl rfl)
theorem dX9_init_542 : decode cX9_init 542 = .ok (.bipush 105, 2) := dk_16 105 (dk_at dksX9_init_23 2 rfl rfl)
theorem dX9_init_544 : decode cX9_init 544 = .ok (.iconst 0, 1) := dk_3 (dk_at dksX9_init_23 4 rfl rfl)
theorem dX9_init_545 : decode cX9_init 545 = .ok (.iconst 0, 1) := dk_3 (dk_at dksX9_init_23 5 rfl rfl)
theorem dX9_init_546 : decode cX9_init 546 = .ok (.iconst 0, 1) := dk_3 (dk_at dksX9_init_23 6 rfl rfl)
theorem dX9_init_547 : decode cX9_init 547 = .ok (.iconst 0, 1) := dk_3 (dk_at dksX9_init_23 7 rfl rfl)
theorem dX9_init_548 : decode cX9_init 548 = .ok (.iconst 0, 1) := dk_3 (dk_at dksX9_init_23 8 rfl rfl)
theorem dX9_init_549 : decode cX9_init 549 = .ok (.iconst 0, 1) := dk_3 (dk_at dksX9_init_23 9 rfl rfl)
theorem dX9_init_550 : decode cX9_init 550 = .ok (.invokestatic 121, 3) := dk_184 0 121 (dk_at dksX9_init_23 10 rfl rfl)
theorem dX9_init_553 : decode cX9_init 553 = .ok (.lastore, 1) := dk_80 (dk_at dksX9_init_23 13 rfl rfl)
theorem dX9_init_554 : decode cX9_init 554 = .ok (.aload_n 0, 1) := dk_42 (dk_at dksX9_init_23 14 rfl rfl)
theorem dX9_init_555 : decode cX9_init 555 = .ok (.getfield 34, 3) := dk_180 0 34 (dk_at dksX9_init_23 15 rfl rfl)
theorem dX9_init_558 : decode cX9_init 558 = .ok (.bipush 13, 2) := dk_16 13 (dk_at dksX9_init_23 18 rfl rfl)
theorem dX9_init_560 : decode cX9_init 560 = .ok (.bipush 106, 2) := dk_16 106 (dk_at dksX9_init_23 20 rfl rfl)
theorem dX9_init_562 : decode cX9_init 562 = .ok (.iconst 0, 1) := dk_3 (dk_at dksX9_init_23 22 rfl rfl)
theorem dX9_init_563 : decode cX9_init 563 = .ok (.iconst 0, 1) := dk_3 (dk_at dksX9_init_23 23 rfl rfl)
theorem dX9_init_564 : decode cX9_init 564 = .ok (.iconst 0, 1) := dk_3 (dk_at dksX9_init_24 0 rfl rfl)
theorem dX9_init_565 : decode cX9_init 565 = .ok (.iconst 0, 1) := dk_3 (dk_at dksX9_init_24 1 rfl rfl)
theorem dX9_init_566 : decode cX9_init 566 = .ok (.iconst 0, 1) := dk_3 (dk_at dksX9_init_24 2 rfl rfl)
theorem dX9_init_567 : decode cX9_init 567 = .ok (.iconst 0, 1) := dk_3 (dk_at dksX9_init_24 3 rfl rfl)
theorem dX9_init_568 : decode cX9_init 568 = .ok (.invokestatic 121, 3) := dk_184 0 121 (dk_at dksX9_init_24 4 rfl rfl)
theorem dX9_init_571 : decode cX9_init 571 = .ok (.lastore, 1) := dk_80 (dk_at dksX9_init_24 7 rfl rfl)
theorem dX9_init_572 : decode cX9_init 572 = .ok (.aload_n 0, 1) := dk_42 (dk_at dksX9_init_24 8 rfl rfl)
theorem dX9_init_573 : decode cX9_init 573 = .ok (.getfield 34, 3) := dk_180 0 34 (dk_at dksX9_init_24 9 rfl rfl)
theorem dX9_init_576 : decode cX9_init 576 = .ok (.bipush 14, 2) := dk_16 14 (dk_at dksX9_init_24 12 rfl rfl)
theorem dX9_init_578 : decode cX9_init 578 = .ok (.bipush 107, 2) := dk_16 107 (dk_at dksX9_init_24 14 rfl rfl)
theorem dX9_init_580 : decode cX9_init 580 = .ok (.bipush 101, 2) := dk_16 101 (dk_at dksX9_init_24 16 rfl rfl)
theorem dX9_init_582 : decode cX9_init 582 = .ok (.bipush 121, 2) := dk_16 121 (dk_at dksX9_init_24 18 rfl rfl)
theorem dX9_init_584 : decode cX9_init 584 = .ok (.bipush 115, 2) := dk_16 115 (dk_at dksX9_init_24 20 rfl rfl)
theorem dX9_init_586 : decode cX9_init 586 = .ok (.iconst 0, 1) := dk_3 (dk_at dksX9_init_24 22 rfl rfl)
theorem dX9_init_587 : decode cX9_init 587 = .ok (.iconst 0, 1) := dk_3 (dk_at dksX9_init_24 23 rfl rfl)
theorem dX9_init_588 : decode cX9_init 588 = .ok (.iconst 0, 1) := dk_3 (dk_at dksX9_init_25 0 rfl rfl)
theorem dX9_init_589 : decode cX9_init 589 = .ok (.invokestatic 121, 3) := dk_184 0 121 (dk_at dksX9_init_25 1 rfl rfl)
theorem dX9_init_592 : decode cX9_init 592 = .ok (.lastore, 1) := dk_80 (dk_at dksX9_init_25 4 rfl rfl)
theorem dX9_init_593 : decode cX9_init 593 = .ok (.aload_n 0, 1) := dk_42 (dk_at dksX9_init_25 5 rfl rfl)
theorem dX9_init_594 : decode cX9_init 594 = .ok (.getfield 34, 3) := dk_180 0 34 (dk_at dksX9_init_25 6 rfl rfl)
theorem dX9_init_597 : decode cX9_init 597 = .ok (.bipush 15, 2) := dk_16 15 (dk_at dksX9_init_25 9 rfl rfl)
theorem dX9_init_599 : decode cX9_init 599 = .ok (.bipush 108, 2) := dk_16 108 (dk_at dksX9_init_25 11 rfl rfl)
theorem dX9_init_601 : decode cX9_init 601 = .ok (.bipush 97, 2) := dk_16 97 (dk_at dksX9_init_25 13 rfl rfl)
theorem dX9_init_603 : decode cX9_init 603 = .ok (.bipush 115, 2) := dk_16 115 (dk_at dksX9_init_25 15 rfl rfl)
theorem dX9_init_605 : decode cX9_init 605 = .ok (.bipush 116, 2) := dk_16 116 (dk_at dksX9_init_25 17 rfl rfl)
theorem dX9_init_607 : decode cX9_init 607 = .ok (.iconst 0, 1) := dk_3 (dk_at dksX9_init_25 19 rfl rfl)
theorem dX9_init_608 : decode cX9_init 608 = .ok (.iconst 0, 1) := dk_3 (dk_at dksX9_init_25 20 rfl rfl)
theorem dX9_init_609 : decode cX9_init 609 = .ok (.iconst 0, 1) := dk_3 (dk_at dksX9_init_25 21 rfl rfl)
theorem dX9_init_610 : decode cX9_init 610 = .ok (.invokestatic 121, 3) := dk_184 0 121 (dk_at dksX9_init_26 0 rfl rfl)
theorem dX9_init_613 : decode cX9_init 613 = .ok (.lastore, 1) := dk_80 (dk_at dksX9_init_26 3 rfl rfl)
theorem dX9_init_614 : decode cX9_init 614 = .ok (.aload_n 0, 1) := dk_42 (dk_at dksX9_init_26 4 rfl rfl)
theorem dX9_init_615 : decode cX9_init 615 = .ok (.getfield 34, 3) := dk_180 0 34 (dk_at dksX9_init_26 5 rfl rfl)
theorem dX9_init_618 : decode cX9_init 618 = .ok (.bipush 16, 2) := dk_16 16 (dk_at dksX9_init_26 8 rfl rfl)
theorem dX9_init_620 : decode cX9_init 620 = .ok (.bipush 114, 2) := dk_16 114 (dk_at dksX9_init_26 10 rfl rfl)
theorem dX9_init_622 : decode cX9_init 622 = .ok (.bipush 101, 2) := dk_16 101 (dk_at dksX9_init_26 12 rfl rfl)
theorem dX9_init_624 : decode cX9_init 624 = .ok (.bipush 99, 2) := dk_16 99 (dk_at dksX9_init_26 14 rfl rfl)
theorem dX9_init_626 : decode cX9_init 626 = .ok (.bipush 111, 2) := dk_16 111 (dk_at dksX9_init_26 16 rfl rfl)
theorem dX9_init_628 : decode cX9_init 628 = .ok (.bipush 114, 2) := dk_16 114 (dk_at dksX9_init_26 18 rfl rfl)
theorem dX9_init_630 : decode cX9_init 630 = .ok (.bipush 100, 2) := dk_16 100 (dk_at dksX9_init_26 20 rfl rfl)
theorem dX9_init_632 : decode cX9_init 632 = .ok (.bipush 115, 2) := dk_16 115 (dk_at dksX9_init_26 22 rfl rfl)
theorem dX9_init_634 : decode cX9_init 634 = .ok (.invokestatic 121, 3) := dk_184 0 121 (dk_at dksX9_init_27 0 rfl rfl)
theorem dX9_init_637 : decode cX9_init 637 = .ok (.lastore, 1) := dk_80 (dk_at dksX9_init_27 3 rfl rfl)
theorem dX9_init_638 : decode cX9_init 638 = .ok (.aload_n 0, 1) := dk_42 (dk_at dksX9_init_27 4 rfl rfl)
theorem dX9_init_639 : decode cX9_init 639 = .ok (.getfield 34, 3) := dk_180 0 34 (dk_at dksX9_init_27 5 rfl rfl)
theorem dX9_init_642 : decode cX9_init 642 = .ok (.bipush 17, 2) := dk_16 17 (dk_at dksX9_init_27 8 rfl rfl)
theorem dX9_init_644 : decode cX9_init 644 = .ok (.bipush 108, 2) := dk_16 108 (dk_at dksX9_init_27 10 rfl rfl)
theorem dX9_init_646 : decode cX9_init 646 = .ok (.bipush 111, 2) := dk_16 111 (dk_at dksX9_init_27 12 rfl rfl)
theorem dX9_init_648 : decode cX9_init 648 = .ok (.bipush 115, 2) := dk_16 115 (dk_at dksX9_init_27 14 rfl rfl)
theorem dX9_init_650 : decode cX9_init 650 = .ok (.bipush 116, 2) := dk_16 116 (dk_at dksX9_init_27 16 rfl rfl)
theorem dX9_init_652 : decode cX9_init 652 = .ok (.iconst 0, 1) := dk_3 (dk_at dksX9_init_27 18 rfl rfl)
theorem dX9_init_653 : decode cX9_init 653 = .ok (.iconst 0, 1) := dk_3 (dk_at dksX9_init_27 19 rfl rfl)
theorem dX9_init_654 : decode cX9_init 654 = .ok (.iconst 0, 1) := dk_3 (dk_at dksX9_init_27 20 rfl rfl)
theorem dX9_init_655 : decode cX9_init 655 = .ok (.invokestatic 121, 3) := dk_184 0 121 (dk_at dksX9_init_27 21 rfl rfl)
theorem dX9_init_658 : decode cX9_init 658 = .ok (.lastore, 1) := dk_80 (dk_at dksX9_init_28 0 rfl rfl)
theorem dX9_init_659 : decode cX9_init 659 = .ok (.aload_n 0, 1) := dk_42 (dk_at dksX9_init_28 1 rfl rfl)
theorem dX9_init_660 : decode cX9_init 660 = .ok (.iconst 3, 1) := dk_6 (dk_at dksX9_init_28 2 rfl rfl)
theorem dX9_init_661 : decode cX9_init 661 = .ok (.bipush 6, 2) := dk_16 6 (dk_at dksX9_init_28 3 rfl rfl)
theorem dX9_init_663 : decode cX9_init 663 = .ok (.iconst 2, 1) := dk_5 (dk_at dksX9_init_28 5 rfl rfl)
theorem dX9_init_664 : decode cX9_init 664 = .ok (.invokevirtual 125, 3) := dk_182 0 125 (dk_at dksX9_init_28 6 rfl rfl)
theorem dX9_init_667 : decode cX9_init 667 = .ok (.return_, 1) := dk_177 (dk_at dksX9_init_28 9 rfl rfl)
abbrev cX9_letters : ByteArray := prog_20_method_10_code
def yX9_letters : MethodName := ⟨RX9, "letters", "(IIIIIII)J"⟩
def dkwX9_letters_1 : List UInt8 := [184, 0, 141, 21, 6, 184, 0, 141, 173]
abbrev dktX9_letters_1 : List UInt8 := dkwX9_letters_1 ++ []
def dkwX9_letters_0 : List UInt8 := [9, 26, 184, 0, 141, 27, 184, 0, 141, 28, 184, 0, 141, 29, 184, 0, 141, 21, 4, 184, 0, 141, 21, 5]
abbrev dktX9_letters_0 : List UInt8 := dkwX9_letters_0 ++ dktX9_letters_1
theorem dksX9_letters_0 : cX9_letters.data.toList.drop 0 = dktX9_letters_0 := by decide +kernel
theorem dksX9_letters_1 : cX9_letters.data.toList.drop 24 = dktX9_letters_1 := dk_seg dksX9_letters_0 24 rfl rfl
theorem dX9_letters_0 : decode cX9_letters 0 = .ok (.lconst 0, 1) := dk_9 (dk_at dksX9_letters_0 0 rfl rfl)
theorem dX9_letters_1 : decode cX9_letters 1 = .ok (.iload_n 0, 1) := dk_26 (dk_at dksX9_letters_0 1 rfl rfl)
theorem dX9_letters_2 : decode cX9_letters 2 = .ok (.invokestatic 141, 3) := dk_184 0 141 (dk_at dksX9_letters_0 2 rfl rfl)
theorem dX9_letters_5 : decode cX9_letters 5 = .ok (.iload_n 1, 1) := dk_27 (dk_at dksX9_letters_0 5 rfl rfl)
theorem dX9_letters_6 : decode cX9_letters 6 = .ok (.invokestatic 141, 3) := dk_184 0 141 (dk_at dksX9_letters_0 6 rfl rfl)
theorem dX9_letters_9 : decode cX9_letters 9 = .ok (.iload_n 2, 1) := dk_28 (dk_at dksX9_letters_0 9 rfl rfl)
theorem dX9_letters_10 : decode cX9_letters 10 = .ok (.invokestatic 141, 3) := dk_184 0 141 (dk_at dksX9_letters_0 10 rfl rfl)
theorem dX9_letters_13 : decode cX9_letters 13 = .ok (.iload_n 3, 1) := dk_29 (dk_at dksX9_letters_0 13 rfl rfl)
theorem dX9_letters_14 : decode cX9_letters 14 = .ok (.invokestatic 141, 3) := dk_184 0 141 (dk_at dksX9_letters_0 14 rfl rfl)
theorem dX9_letters_17 : decode cX9_letters 17 = .ok (.iload 4, 2) := dk_21 4 (dk_at dksX9_letters_0 17 rfl rfl)
theorem dX9_letters_19 : decode cX9_letters 19 = .ok (.invokestatic 141, 3) := dk_184 0 141 (dk_at dksX9_letters_0 19 rfl rfl)
theorem dX9_letters_22 : decode cX9_letters 22 = .ok (.iload 5, 2) := dk_21 5 (dk_at dksX9_letters_0 22 rfl rfl)
theorem dX9_letters_24 : decode cX9_letters 24 = .ok (.invokestatic 141, 3) := dk_184 0 141 (dk_at dksX9_letters_1 0 rfl rfl)
theorem dX9_letters_27 : decode cX9_letters 27 = .ok (.iload 6, 2) := dk_21 6 (dk_at dksX9_letters_1 3 rfl rfl)
theorem dX9_letters_29 : decode cX9_letters 29 = .ok (.invokestatic 141, 3) := dk_184 0 141 (dk_at dksX9_letters_1 5 rfl rfl)
theorem dX9_letters_32 : decode cX9_letters 32 = .ok (.lreturn, 1) := dk_173 (dk_at dksX9_letters_1 8 rfl rfl)
abbrev cX9_appends : ByteArray := prog_20_method_9_code
def yX9_appends : MethodName := ⟨RX9, "appends", "(JI)J"⟩
def dkwX9_appends_0 : List UInt8 := [28, 154, 0, 7, 30, 167, 0, 16, 20, 0, 139, 30, 105, 28, 16, 97, 100, 4, 96, 133, 97, 173]
abbrev dktX9_appends_0 : List UInt8 := dkwX9_appends_0 ++ []
theorem dksX9_appends_0 : cX9_appends.data.toList.drop 0 = dktX9_appends_0 := by decide +kernel
theorem dX9_appends_0 : decode cX9_appends 0 = .ok (.iload_n 2, 1) := dk_28 (dk_at dksX9_appends_0 0 rfl rfl)
theorem dX9_appends_1 : decode cX9_appends 1 = .ok (.ifCond .ne 7, 3) := dk_154 0 7 (dk_at dksX9_appends_0 1 rfl rfl)
theorem dX9_appends_4 : decode cX9_appends 4 = .ok (.lload_n 0, 1) := dk_30 (dk_at dksX9_appends_0 4 rfl rfl)
theorem dX9_appends_5 : decode cX9_appends 5 = .ok (.goto 16, 3) := dk_167 0 16 (dk_at dksX9_appends_0 5 rfl rfl)
theorem dX9_appends_8 : decode cX9_appends 8 = .ok (.ldc2_w 139, 3) := dk_20 0 139 (dk_at dksX9_appends_0 8 rfl rfl)
theorem dX9_appends_11 : decode cX9_appends 11 = .ok (.lload_n 0, 1) := dk_30 (dk_at dksX9_appends_0 11 rfl rfl)
theorem dX9_appends_12 : decode cX9_appends 12 = .ok (.lmul, 1) := dk_105 (dk_at dksX9_appends_0 12 rfl rfl)
theorem dX9_appends_13 : decode cX9_appends 13 = .ok (.iload_n 2, 1) := dk_28 (dk_at dksX9_appends_0 13 rfl rfl)
theorem dX9_appends_14 : decode cX9_appends 14 = .ok (.bipush 97, 2) := dk_16 97 (dk_at dksX9_appends_0 14 rfl rfl)
theorem dX9_appends_16 : decode cX9_appends 16 = .ok (.isub, 1) := dk_100 (dk_at dksX9_appends_0 16 rfl rfl)
theorem dX9_appends_17 : decode cX9_appends 17 = .ok (.iconst 1, 1) := dk_4 (dk_at dksX9_appends_0 17 rfl rfl)
theorem dX9_appends_18 : decode cX9_appends 18 = .ok (.iadd, 1) := dk_96 (dk_at dksX9_appends_0 18 rfl rfl)
theorem dX9_appends_19 : decode cX9_appends 19 = .ok (.i2l, 1) := dk_133 (dk_at dksX9_appends_0 19 rfl rfl)
theorem dX9_appends_20 : decode cX9_appends 20 = .ok (.ladd, 1) := dk_97 (dk_at dksX9_appends_0 20 rfl rfl)
theorem dX9_appends_21 : decode cX9_appends 21 = .ok (.lreturn, 1) := dk_173 (dk_at dksX9_appends_0 21 rfl rfl)
abbrev cX9_begins : ByteArray := prog_20_method_44_code
def yX9_begins : MethodName := ⟨RX9, "begins", "(III)V"⟩
def dkwX9_begins_5 : List UInt8 := [180, 0, 80, 16, 11, 42, 17, 3, 232, 16, 254, 182, 1, 38, 79, 42, 180, 0, 80, 4, 5, 79, 177]
abbrev dktX9_begins_5 : List UInt8 := dkwX9_begins_5 ++ []
def dkwX9_begins_4 : List UInt8 := [182, 1, 38, 54, 4, 42, 21, 4, 3, 4, 182, 1, 41, 42, 180, 0, 80, 16, 10, 21, 4, 79, 42]
abbrev dktX9_begins_4 : List UInt8 := dkwX9_begins_4 ++ dktX9_begins_5
def dkwX9_begins_3 : List UInt8 := [180, 0, 80, 21, 4, 184, 1, 35, 16, 6, 96, 16, 254, 79, 132, 4, 1, 167, 255, 218, 42, 3, 16, 254]
abbrev dktX9_begins_3 : List UInt8 := dkwX9_begins_3 ++ dktX9_begins_4
def dkwX9_begins_2 : List UInt8 := [54, 4, 21, 4, 7, 162, 0, 38, 42, 180, 0, 80, 21, 4, 184, 1, 35, 5, 96, 16, 254, 79, 42]
abbrev dktX9_begins_2 : List UInt8 := dkwX9_begins_2 ++ dktX9_begins_3
def dkwX9_begins_1 : List UInt8 := [42, 180, 0, 80, 8, 27, 79, 42, 180, 0, 80, 16, 6, 28, 79, 42, 180, 0, 80, 16, 7, 29, 79, 3]
abbrev dktX9_begins_1 : List UInt8 := dkwX9_begins_1 ++ dktX9_begins_2
def dkwX9_begins_0 : List UInt8 := [3, 54, 4, 21, 4, 16, 100, 162, 0, 17, 42, 180, 0, 80, 21, 4, 3, 79, 132, 4, 1, 167, 255, 238]
abbrev dktX9_begins_0 : List UInt8 := dkwX9_begins_0 ++ dktX9_begins_1
theorem dksX9_begins_0 : cX9_begins.data.toList.drop 0 = dktX9_begins_0 := by decide +kernel
theorem dksX9_begins_1 : cX9_begins.data.toList.drop 24 = dktX9_begins_1 := dk_seg dksX9_begins_0 24 rfl rfl
theorem dksX9_begins_2 : cX9_begins.data.toList.drop 48 = dktX9_begins_2 := dk_seg dksX9_begins_1 24 rfl rfl
theorem dksX9_begins_3 : cX9_begins.data.toList.drop 71 = dktX9_begins_3 := dk_seg dksX9_begins_2 23 rfl rfl
theorem dksX9_begins_4 : cX9_begins.data.toList.drop 95 = dktX9_begins_4 := dk_seg dksX9_begins_3 24 rfl rfl
theorem dksX9_begins_5 : cX9_begins.data.toList.drop 118 = dktX9_begins_5 := dk_seg dksX9_begins_4 23 rfl rfl
theorem dX9_begins_0 : decode cX9_begins 0 = .ok (.iconst 0, 1) := dk_3 (dk_at dksX9_begins_0 0 rfl rfl)
theorem dX9_begins_1 : decode cX9_begins 1 = .ok (.istore 4, 2) := dk_54 4 (dk_at dksX9_begins_0 1 rfl rfl)
theorem dX9_begins_3 : decode cX9_begins 3 = .ok (.iload 4, 2) := dk_21 4 (dk_at dksX9_begins_0 3 rfl rfl)
theorem dX9_begins_5 : decode cX9_begins 5 = .ok (.bipush 100, 2) := dk_16 100 (dk_at dksX9_begins_0 5 rfl rfl)
theorem dX9_begins_7 : decode cX9_begins 7 = .ok (.if_icmp .ge 17, 3) := dk_162 0 17 (dk_at dksX9_begins_0 7 rfl rfl)
theorem dX9_begins_10 : decode cX9_begins 10 = .ok (.aload_n 0, 1) := dk_42 (dk_at dksX9_begins_0 10 rfl rfl)
theorem dX9_begins_11 : decode cX9_begins 11 = .ok (.getfield 80, 3) := dk_180 0 80 (dk_at dksX9_begins_0 11 rfl rfl)
theorem dX9_begins_14 : decode cX9_begins 14 = .ok (.iload 4, 2) := dk_21 4 (dk_at dksX9_begins_0 14 rfl rfl)
theorem dX9_begins_16 : decode cX9_begins 16 = .ok (.iconst 0, 1) := dk_3 (dk_at dksX9_begins_0 16 rfl rfl)
theorem dX9_begins_17 : decode cX9_begins 17 = .ok (.iastore, 1) := dk_79 (dk_at dksX9_begins_0 17 rfl rfl)
theorem dX9_begins_18 : decode cX9_begins 18 = .ok (.iinc 4 1, 3) := dk_132 4 1 (dk_at dksX9_begins_0 18 rfl rfl)
theorem dX9_begins_21 : decode cX9_begins 21 = .ok (.goto (-18), 3) := dk_167 255 238 (dk_at dksX9_begins_0 21 rfl rfl)
theorem dX9_begins_24 : decode cX9_begins 24 = .ok (.aload_n 0, 1) := dk_42 (dk_at dksX9_begins_1 0 rfl rfl)
theorem dX9_begins_25 : decode cX9_begins 25 = .ok (.getfield 80, 3) := dk_180 0 80 (dk_at dksX9_begins_1 1 rfl rfl)
theorem dX9_begins_28 : decode cX9_begins 28 = .ok (.iconst 5, 1) := dk_8 (dk_at dksX9_begins_1 4 rfl rfl)
theorem dX9_begins_29 : decode cX9_begins 29 = .ok (.iload_n 1, 1) := dk_27 (dk_at dksX9_begins_1 5 rfl rfl)
theorem dX9_begins_30 : decode cX9_begins 30 = .ok (.iastore, 1) := dk_79 (dk_at dksX9_begins_1 6 rfl rfl)
theorem dX9_begins_31 : decode cX9_begins 31 = .ok (.aload_n 0, 1) := dk_42 (dk_at dksX9_begins_1 7 rfl rfl)
theorem dX9_begins_32 : decode cX9_begins 32 = .ok (.getfield 80, 3) := dk_180 0 80 (dk_at dksX9_begins_1 8 rfl rfl)
theorem dX9_begins_35 : decode cX9_begins 35 = .ok (.bipush 6, 2) := dk_16 6 (dk_at dksX9_begins_1 11 rfl rfl)
theorem dX9_begins_37 : decode cX9_begins 37 = .ok (.iload_n 2, 1) := dk_28 (dk_at dksX9_begins_1 13 rfl rfl)
theorem dX9_begins_38 : decode cX9_begins 38 = .ok (.iastore, 1) := dk_79 (dk_at dksX9_begins_1 14 rfl rfl)
theorem dX9_begins_39 : decode cX9_begins 39 = .ok (.aload_n 0, 1) := dk_42 (dk_at dksX9_begins_1 15 rfl rfl)
theorem dX9_begins_40 : decode cX9_begins 40 = .ok (.getfield 80, 3) := dk_180 0 80 (dk_at dksX9_begins_1 16 rfl rfl)
theorem dX9_begins_43 : decode cX9_begins 43 = .ok (.bipush 7, 2) := dk_16 7 (dk_at dksX9_begins_1 19 rfl rfl)
theorem dX9_begins_45 : decode cX9_begins 45 = .ok (.iload_n 3, 1) := dk_29 (dk_at dksX9_begins_1 21 rfl rfl)
theorem dX9_begins_46 : decode cX9_begins 46 = .ok (.iastore, 1) := dk_79 (dk_at dksX9_begins_1 22 rfl rfl)
theorem dX9_begins_47 : decode cX9_begins 47 = .ok (.iconst 0, 1) := dk_3 (dk_at dksX9_begins_1 23 rfl rfl)
theorem dX9_begins_48 : decode cX9_begins 48 = .ok (.istore 4, 2) := dk_54 4 (dk_at dksX9_begins_2 0 rfl rfl)
theorem dX9_begins_50 : decode cX9_begins 50 = .ok (.iload 4, 2) := dk_21 4 (dk_at dksX9_begins_2 2 rfl rfl)
theorem dX9_begins_52 : decode cX9_begins 52 = .ok (.iconst 4, 1) := dk_7 (dk_at dksX9_begins_2 4 rfl rfl)
theorem dX9_begins_53 : decode cX9_begins 53 = .ok (.if_icmp .ge 38, 3) := dk_162 0 38 (dk_at dksX9_begins_2 5 rfl rfl)
theorem dX9_begins_56 : decode cX9_begins 56 = .ok (.aload_n 0, 1) := dk_42 (dk_at dksX9_begins_2 8 rfl rfl)
theorem dX9_begins_57 : decode cX9_begins 57 = .ok (.getfield 80, 3) := dk_180 0 80 (dk_at dksX9_begins_2 9 rfl rfl)
theorem dX9_begins_60 : decode cX9_begins 60 = .ok (.iload 4, 2) := dk_21 4 (dk_at dksX9_begins_2 12 rfl rfl)
theorem dX9_begins_62 : decode cX9_begins 62 = .ok (.invokestatic 291, 3) := dk_184 1 35 (dk_at dksX9_begins_2 14 rfl rfl)
theorem dX9_begins_65 : decode cX9_begins 65 = .ok (.iconst 2, 1) := dk_5 (dk_at dksX9_begins_2 17 rfl rfl)
theorem dX9_begins_66 : decode cX9_begins 66 = .ok (.iadd, 1) := dk_96 (dk_at dksX9_begins_2 18 rfl rfl)
theorem dX9_begins_67 : decode cX9_begins 67 = .ok (.bipush (-2), 2) := dk_16 254 (dk_at dksX9_begins_2 19 rfl rfl)
theorem dX9_begins_69 : decode cX9_begins 69 = .ok (.iastore, 1) := dk_79 (dk_at dksX9_begins_2 21 rfl rfl)
theorem dX9_begins_70 : decode cX9_begins 70 = .ok (.aload_n 0, 1) := dk_42 (dk_at dksX9_begins_2 22 rfl rfl)
theorem dX9_begins_71 : decode cX9_begins 71 = .ok (.getfield 80, 3) := dk_180 0 80 (dk_at dksX9_begins_3 0 rfl rfl)
theorem dX9_begins_74 : decode cX9_begins 74 = .ok (.iload 4, 2) := dk_21 4 (dk_at dksX9_begins_3 3 rfl rfl)
theorem dX9_begins_76 : decode cX9_begins 76 = .ok (.invokestatic 291, 3) := dk_184 1 35 (dk_at dksX9_begins_3 5 rfl rfl)
theorem dX9_begins_79 : decode cX9_begins 79 = .ok (.bipush 6, 2) := dk_16 6 (dk_at dksX9_begins_3 8 rfl rfl)
theorem dX9_begins_81 : decode cX9_begins 81 = .ok (.iadd, 1) := dk_96 (dk_at dksX9_begins_3 10 rfl rfl)
theorem dX9_begins_82 : decode cX9_begins 82 = .ok (.bipush (-2), 2) := dk_16 254 (dk_at dksX9_begins_3 11 rfl rfl)
theorem dX9_begins_84 : decode cX9_begins 84 = .ok (.iastore, 1) := dk_79 (dk_at dksX9_begins_3 13 rfl rfl)
theorem dX9_begins_85 : decode cX9_begins 85 = .ok (.iinc 4 1, 3) := dk_132 4 1 (dk_at dksX9_begins_3 14 rfl rfl)
theorem dX9_begins_88 : decode cX9_begins 88 = .ok (.goto (-38), 3) := dk_167 255 218 (dk_at dksX9_begins_3 17 rfl rfl)
theorem dX9_begins_91 : decode cX9_begins 91 = .ok (.aload_n 0, 1) := dk_42 (dk_at dksX9_begins_3 20 rfl rfl)
theorem dX9_begins_92 : decode cX9_begins 92 = .ok (.iconst 0, 1) := dk_3 (dk_at dksX9_begins_3 21 rfl rfl)
theorem dX9_begins_93 : decode cX9_begins 93 = .ok (.bipush (-2), 2) := dk_16 254 (dk_at dksX9_begins_3 22 rfl rfl)
theorem dX9_begins_95 : decode cX9_begins 95 = .ok (.invokevirtual 294, 3) := dk_182 1 38 (dk_at dksX9_begins_4 0 rfl rfl)
theorem dX9_begins_98 : decode cX9_begins 98 = .ok (.istore 4, 2) := dk_54 4 (dk_at dksX9_begins_4 3 rfl rfl)
theorem dX9_begins_100 : decode cX9_begins 100 = .ok (.aload_n 0, 1) := dk_42 (dk_at dksX9_begins_4 5 rfl rfl)
theorem dX9_begins_101 : decode cX9_begins 101 = .ok (.iload 4, 2) := dk_21 4 (dk_at dksX9_begins_4 6 rfl rfl)
theorem dX9_begins_103 : decode cX9_begins 103 = .ok (.iconst 0, 1) := dk_3 (dk_at dksX9_begins_4 8 rfl rfl)
theorem dX9_begins_104 : decode cX9_begins 104 = .ok (.iconst 1, 1) := dk_4 (dk_at dksX9_begins_4 9 rfl rfl)
theorem dX9_begins_105 : decode cX9_begins 105 = .ok (.invokevirtual 297, 3) := dk_182 1 41 (dk_at dksX9_begins_4 10 rfl rfl)
theorem dX9_begins_108 : decode cX9_begins 108 = .ok (.aload_n 0, 1) := dk_42 (dk_at dksX9_begins_4 13 rfl rfl)
theorem dX9_begins_109 : decode cX9_begins 109 = .ok (.getfield 80, 3) := dk_180 0 80 (dk_at dksX9_begins_4 14 rfl rfl)
theorem dX9_begins_112 : decode cX9_begins 112 = .ok (.bipush 10, 2) := dk_16 10 (dk_at dksX9_begins_4 17 rfl rfl)
theorem dX9_begins_114 : decode cX9_begins 114 = .ok (.iload 4, 2) := dk_21 4 (dk_at dksX9_begins_4 19 rfl rfl)
theorem dX9_begins_116 : decode cX9_begins 116 = .ok (.iastore, 1) := dk_79 (dk_at dksX9_begins_4 21 rfl rfl)
theorem dX9_begins_117 : decode cX9_begins 117 = .ok (.aload_n 0, 1) := dk_42 (dk_at dksX9_begins_4 22 rfl rfl)
theorem dX9_begins_118 : decode cX9_begins 118 = .ok (.getfield 80, 3) := dk_180 0 80 (dk_at dksX9_begins_5 0 rfl rfl)
theorem dX9_begins_121 : decode cX9_begins 121 = .ok (.bipush 11, 2) := dk_16 11 (dk_at dksX9_begins_5 3 rfl rfl)
theorem dX9_begins_123 : decode cX9_begins 123 = .ok (.aload_n 0, 1) := dk_42 (dk_at dksX9_begins_5 5 rfl rfl)
theorem dX9_begins_124 : decode cX9_begins 124 = .ok (.sipush 1000, 3) := dk_17 3 232 (dk_at dksX9_begins_5 6 rfl rfl)
theorem dX9_begins_127 : decode cX9_begins 127 = .ok (.bipush (-2), 2) := dk_16 254 (dk_at dksX9_begins_5 9 rfl rfl)
theorem dX9_begins_129 : decode cX9_begins 129 = .ok (.invokevirtual 294, 3) := dk_182 1 38 (dk_at dksX9_begins_5 11 rfl rfl)
theorem dX9_begins_132 : decode cX9_begins 132 = .ok (.iastore, 1) := dk_79 (dk_at dksX9_begins_5 14 rfl rfl)
theorem dX9_begins_133 : decode cX9_begins 133 = .ok (.aload_n 0, 1) := dk_42 (dk_at dksX9_begins_5 15 rfl rfl)
theorem dX9_begins_134 : decode cX9_begins 134 = .ok (.getfield 80, 3) := dk_180 0 80 (dk_at dksX9_begins_5 16 rfl rfl)
theorem dX9_begins_137 : decode cX9_begins 137 = .ok (.iconst 1, 1) := dk_4 (dk_at dksX9_begins_5 19 rfl rfl)
theorem dX9_begins_138 : decode cX9_begins 138 = .ok (.iconst 2, 1) := dk_5 (dk_at dksX9_begins_5 20 rfl rfl)
theorem dX9_begins_139 : decode cX9_begins 139 = .ok (.iastore, 1) := dk_79 (dk_at dksX9_begins_5 21 rfl rfl)
theorem dX9_begins_140 : decode cX9_begins 140 = .ok (.return_, 1) := dk_177 (dk_at dksX9_begins_5 22 rfl rfl)
abbrev cX9_hand0 : ByteArray := prog_20_method_36_code
def yX9_hand0 : MethodName := ⟨RX9, "hand0", "(I)I"⟩
def dkwX9_hand0_0 : List UInt8 := [16, 42, 16, 14, 26, 104, 96, 172]
abbrev dktX9_hand0_0 : List UInt8 := dkwX9_hand0_0 ++ []
theorem dksX9_hand0_0 : cX9_hand0.data.toList.drop 0 = dktX9_hand0_0 := by decide +kernel
theorem dX9_hand0_0 : decode cX9_hand0 0 = .ok (.bipush 42, 2) := dk_16 42 (dk_at dksX9_hand0_0 0 rfl rfl)
theorem dX9_hand0_2 : decode cX9_hand0 2 = .ok (.bipush 14, 2) := dk_16 14 (dk_at dksX9_hand0_0 2 rfl rfl)
theorem dX9_hand0_4 : decode cX9_hand0 4 = .ok (.iload_n 0, 1) := dk_26 (dk_at dksX9_hand0_0 4 rfl rfl)
theorem dX9_hand0_5 : decode cX9_hand0 5 = .ok (.imul, 1) := dk_104 (dk_at dksX9_hand0_0 5 rfl rfl)
theorem dX9_hand0_6 : decode cX9_hand0 6 = .ok (.iadd, 1) := dk_96 (dk_at dksX9_hand0_0 6 rfl rfl)
theorem dX9_hand0_7 : decode cX9_hand0 7 = .ok (.ireturn, 1) := dk_172 (dk_at dksX9_hand0_0 7 rfl rfl)
abbrev cX9_newBase : ByteArray := prog_20_method_41_code
def yX9_newBase : MethodName := ⟨RX9, "newBase", "(II)I"⟩
def dkwX9_newBase_1 : List UInt8 := [79, 42, 180, 0, 80, 29, 184, 1, 26, 16, 8, 96, 28, 79, 29, 172]
abbrev dktX9_newBase_1 : List UInt8 := dkwX9_newBase_1 ++ []
def dkwX9_newBase_0 : List UInt8 := [42, 3, 16, 254, 16, 254, 16, 254, 182, 1, 29, 62, 42, 180, 0, 80, 29, 184, 1, 26, 16, 7, 96, 27]
abbrev dktX9_newBase_0 : List UInt8 := dkwX9_newBase_0 ++ dktX9_newBase_1
theorem dksX9_newBase_0 : cX9_newBase.data.toList.drop 0 = dktX9_newBase_0 := by decide +kernel
theorem dksX9_newBase_1 : cX9_newBase.data.toList.drop 24 = dktX9_newBase_1 := dk_seg dksX9_newBase_0 24 rfl rfl
theorem dX9_newBase_0 : decode cX9_newBase 0 = .ok (.aload_n 0, 1) := dk_42 (dk_at dksX9_newBase_0 0 rfl rfl)
theorem dX9_newBase_1 : decode cX9_newBase 1 = .ok (.iconst 0, 1) := dk_3 (dk_at dksX9_newBase_0 1 rfl rfl)
theorem dX9_newBase_2 : decode cX9_newBase 2 = .ok (.bipush (-2), 2) := dk_16 254 (dk_at dksX9_newBase_0 2 rfl rfl)
theorem dX9_newBase_4 : decode cX9_newBase 4 = .ok (.bipush (-2), 2) := dk_16 254 (dk_at dksX9_newBase_0 4 rfl rfl)
theorem dX9_newBase_6 : decode cX9_newBase 6 = .ok (.bipush (-2), 2) := dk_16 254 (dk_at dksX9_newBase_0 6 rfl rfl)
theorem dX9_newBase_8 : decode cX9_newBase 8 = .ok (.invokevirtual 285, 3) := dk_182 1 29 (dk_at dksX9_newBase_0 8 rfl rfl)
theorem dX9_newBase_11 : decode cX9_newBase 11 = .ok (.istore_n 3, 1) := dk_62 (dk_at dksX9_newBase_0 11 rfl rfl)
theorem dX9_newBase_12 : decode cX9_newBase 12 = .ok (.aload_n 0, 1) := dk_42 (dk_at dksX9_newBase_0 12 rfl rfl)
theorem dX9_newBase_13 : decode cX9_newBase 13 = .ok (.getfield 80, 3) := dk_180 0 80 (dk_at dksX9_newBase_0 13 rfl rfl)
theorem dX9_newBase_16 : decode cX9_newBase 16 = .ok (.iload_n 3, 1) := dk_29 (dk_at dksX9_newBase_0 16 rfl rfl)
theorem dX9_newBase_17 : decode cX9_newBase 17 = .ok (.invokestatic 282, 3) := dk_184 1 26 (dk_at dksX9_newBase_0 17 rfl rfl)
theorem dX9_newBase_20 : decode cX9_newBase 20 = .ok (.bipush 7, 2) := dk_16 7 (dk_at dksX9_newBase_0 20 rfl rfl)
theorem dX9_newBase_22 : decode cX9_newBase 22 = .ok (.iadd, 1) := dk_96 (dk_at dksX9_newBase_0 22 rfl rfl)
theorem dX9_newBase_23 : decode cX9_newBase 23 = .ok (.iload_n 1, 1) := dk_27 (dk_at dksX9_newBase_0 23 rfl rfl)
theorem dX9_newBase_24 : decode cX9_newBase 24 = .ok (.iastore, 1) := dk_79 (dk_at dksX9_newBase_1 0 rfl rfl)
theorem dX9_newBase_25 : decode cX9_newBase 25 = .ok (.aload_n 0, 1) := dk_42 (dk_at dksX9_newBase_1 1 rfl rfl)
theorem dX9_newBase_26 : decode cX9_newBase 26 = .ok (.getfield 80, 3) := dk_180 0 80 (dk_at dksX9_newBase_1 2 rfl rfl)
theorem dX9_newBase_29 : decode cX9_newBase 29 = .ok (.iload_n 3, 1) := dk_29 (dk_at dksX9_newBase_1 5 rfl rfl)
theorem dX9_newBase_30 : decode cX9_newBase 30 = .ok (.invokestatic 282, 3) := dk_184 1 26 (dk_at dksX9_newBase_1 6 rfl rfl)
theorem dX9_newBase_33 : decode cX9_newBase 33 = .ok (.bipush 8, 2) := dk_16 8 (dk_at dksX9_newBase_1 9 rfl rfl)
theorem dX9_newBase_35 : decode cX9_newBase 35 = .ok (.iadd, 1) := dk_96 (dk_at dksX9_newBase_1 11 rfl rfl)
theorem dX9_newBase_36 : decode cX9_newBase 36 = .ok (.iload_n 2, 1) := dk_28 (dk_at dksX9_newBase_1 12 rfl rfl)
theorem dX9_newBase_37 : decode cX9_newBase 37 = .ok (.iastore, 1) := dk_79 (dk_at dksX9_newBase_1 13 rfl rfl)
theorem dX9_newBase_38 : decode cX9_newBase 38 = .ok (.iload_n 3, 1) := dk_29 (dk_at dksX9_newBase_1 14 rfl rfl)
theorem dX9_newBase_39 : decode cX9_newBase 39 = .ok (.ireturn, 1) := dk_172 (dk_at dksX9_newBase_1 15 rfl rfl)
abbrev cX9_newRecord : ByteArray := prog_20_method_40_code
def yX9_newRecord : MethodName := ⟨RX9, "newRecord", "(IIII)I"⟩
def dkwX9_newRecord_5 : List UInt8 := [21, 6, 16, 9, 96, 16, 254, 79, 42, 180, 0, 80, 3, 92, 46, 4, 96, 79, 21, 5, 172]
abbrev dktX9_newRecord_5 : List UInt8 := dkwX9_newRecord_5 ++ []
def dkwX9_newRecord_4 : List UInt8 := [21, 6, 16, 7, 96, 3, 79, 42, 180, 0, 80, 21, 6, 16, 8, 96, 16, 254, 79, 42, 180, 0, 80]
abbrev dktX9_newRecord_4 : List UInt8 := dkwX9_newRecord_4 ++ dktX9_newRecord_5
def dkwX9_newRecord_3 : List UInt8 := [180, 0, 80, 21, 6, 8, 96, 3, 79, 42, 180, 0, 80, 21, 6, 16, 6, 96, 3, 79, 42, 180, 0, 80]
abbrev dktX9_newRecord_3 : List UInt8 := dkwX9_newRecord_3 ++ dktX9_newRecord_4
def dkwX9_newRecord_2 : List UInt8 := [180, 0, 80, 21, 6, 6, 96, 21, 4, 79, 42, 180, 0, 80, 21, 6, 7, 96, 16, 254, 79, 42]
abbrev dktX9_newRecord_2 : List UInt8 := dkwX9_newRecord_2 ++ dktX9_newRecord_3
def dkwX9_newRecord_1 : List UInt8 := [79, 42, 180, 0, 80, 21, 6, 4, 96, 28, 79, 42, 180, 0, 80, 21, 6, 5, 96, 29, 79, 42]
abbrev dktX9_newRecord_1 : List UInt8 := dkwX9_newRecord_1 ++ dktX9_newRecord_2
def dkwX9_newRecord_0 : List UInt8 := [42, 180, 0, 80, 3, 46, 54, 5, 21, 5, 184, 1, 26, 54, 6, 42, 180, 0, 80, 21, 6, 3, 96, 27]
abbrev dktX9_newRecord_0 : List UInt8 := dkwX9_newRecord_0 ++ dktX9_newRecord_1
theorem dksX9_newRecord_0 : cX9_newRecord.data.toList.drop 0 = dktX9_newRecord_0 := by decide +kernel
theorem dksX9_newRecord_1 : cX9_newRecord.data.toList.drop 24 = dktX9_newRecord_1 := dk_seg dksX9_newRecord_0 24 rfl rfl
theorem dksX9_newRecord_2 : cX9_newRecord.data.toList.drop 46 = dktX9_newRecord_2 := dk_seg dksX9_newRecord_1 22 rfl rfl
theorem dksX9_newRecord_3 : cX9_newRecord.data.toList.drop 68 = dktX9_newRecord_3 := dk_seg dksX9_newRecord_2 22 rfl rfl
theorem dksX9_newRecord_4 : cX9_newRecord.data.toList.drop 92 = dktX9_newRecord_4 := dk_seg dksX9_newRecord_3 24 rfl rfl
theorem dksX9_newRecord_5 : cX9_newRecord.data.toList.drop 115 = dktX9_newRecord_5 := dk_seg dksX9_newRecord_4 23 rfl rfl
theorem dX9_newRecord_0 : decode cX9_newRecord 0 = .ok (.aload_n 0, 1) := dk_42 (dk_at dksX9_newRecord_0 0 rfl rfl)
theorem dX9_newRecord_1 : decode cX9_newRecord 1 = .ok (.getfield 80, 3) := dk_180 0 80 (dk_at dksX9_newRecord_0 1 rfl rfl)
theorem dX9_newRecord_4 : decode cX9_newRecord 4 = .ok (.iconst 0, 1) := dk_3 (dk_at dksX9_newRecord_0 4 rfl rfl)
theorem dX9_newRecord_5 : decode cX9_newRecord 5 = .ok (.iaload, 1) := dk_46 (dk_at dksX9_newRecord_0 5 rfl rfl)
theorem dX9_newRecord_6 : decode cX9_newRecord 6 = .ok (.istore 5, 2) := dk_54 5 (dk_at dksX9_newRecord_0 6 rfl rfl)
theorem dX9_newRecord_8 : decode cX9_newRecord 8 = .ok (.iload 5, 2) := dk_21 5 (dk_at dksX9_newRecord_0 8 rfl rfl)
theorem dX9_newRecord_10 : decode cX9_newRecord 10 = .ok (.invokestatic 282, 3) := dk_184 1 26 (dk_at dksX9_newRecord_0 10 rfl rfl)
theorem dX9_newRecord_13 : decode cX9_newRecord 13 = .ok (.istore 6, 2) := dk_54 6 (dk_at dksX9_newRecord_0 13 rfl rfl)
theorem dX9_newRecord_15 : decode cX9_newRecord 15 = .ok (.aload_n 0, 1) := dk_42 (dk_at dksX9_newRecord_0 15 rfl rfl)
theorem dX9_newRecord_16 : decode cX9_newRecord 16 = .ok (.getfield 80, 3) := dk_180 0 80 (dk_at dksX9_newRecord_0 16 rfl rfl)
theorem dX9_newRecord_19 : decode cX9_newRecord 19 = .ok (.iload 6, 2) := dk_21 6 (dk_at dksX9_newRecord_0 19 rfl rfl)
theorem dX9_newRecord_21 : decode cX9_newRecord 21 = .ok (.iconst 0, 1) := dk_3 (dk_at dksX9_newRecord_0 21 rfl rfl)
theorem dX9_newRecord_22 : decode cX9_newRecord 22 = .ok (.iadd, 1) := dk_96 (dk_at dksX9_newRecord_0 22 rfl rfl)
theorem dX9_newRecord_23 : decode cX9_newRecord 23 = .ok (.iload_n 1, 1) := dk_27 (dk_at dksX9_newRecord_0 23 rfl rfl)
theorem dX9_newRecord_24 : decode cX9_newRecord 24 = .ok (.iastore, 1) := dk_79 (dk_at dksX9_newRecord_1 0 rfl rfl)
theorem dX9_newRecord_25 : decode cX9_newRecord 25 = .ok (.aload_n 0, 1) := dk_42 (dk_at dksX9_newRecord_1 1 rfl rfl)
theorem dX9_newRecord_26 : decode cX9_newRecord 26 = .ok (.getfield 80, 3) := dk_180 0 80 (dk_at dksX9_newRecord_1 2 rfl rfl)
theorem dX9_newRecord_29 : decode cX9_newRecord 29 = .ok (.iload 6, 2) := dk_21 6 (dk_at dksX9_newRecord_1 5 rfl rfl)
theorem dX9_newRecord_31 : decode cX9_newRecord 31 = .ok (.iconst 1, 1) := dk_4 (dk_at dksX9_newRecord_1 7 rfl rfl)
theorem dX9_newRecord_32 : decode cX9_newRecord 32 = .ok (.iadd, 1) := dk_96 (dk_at dksX9_newRecord_1 8 rfl rfl)
theorem dX9_newRecord_33 : decode cX9_newRecord 33 = .ok (.iload_n 2, 1) := dk_28 (dk_at dksX9_newRecord_1 9 rfl rfl)
theorem dX9_newRecord_34 : decode cX9_newRecord 34 = .ok (.iastore, 1) := dk_79 (dk_at dksX9_newRecord_1 10 rfl rfl)
theorem dX9_newRecord_35 : decode cX9_newRecord 35 = .ok (.aload_n 0, 1) := dk_42 (dk_at dksX9_newRecord_1 11 rfl rfl)
theorem dX9_newRecord_36 : decode cX9_newRecord 36 = .ok (.getfield 80, 3) := dk_180 0 80 (dk_at dksX9_newRecord_1 12 rfl rfl)
theorem dX9_newRecord_39 : decode cX9_newRecord 39 = .ok (.iload 6, 2) := dk_21 6 (dk_at dksX9_newRecord_1 15 rfl rfl)
theorem dX9_newRecord_41 : decode cX9_newRecord 41 = .ok (.iconst 2, 1) := dk_5 (dk_at dksX9_newRecord_1 17 rfl rfl)
theorem dX9_newRecord_42 : decode cX9_newRecord 42 = .ok (.iadd, 1) := dk_96 (dk_at dksX9_newRecord_1 18 rfl rfl)
theorem dX9_newRecord_43 : decode cX9_newRecord 43 = .ok (.iload_n 3, 1) := dk_29 (dk_at dksX9_newRecord_1 19 rfl rfl)
theorem dX9_newRecord_44 : decode cX9_newRecord 44 = .ok (.iastore, 1) := dk_79 (dk_at dksX9_newRecord_1 20 rfl rfl)
theorem dX9_newRecord_45 : decode cX9_newRecord 45 = .ok (.aload_n 0, 1) := dk_42 (dk_at dksX9_newRecord_1 21 rfl rfl)
theorem dX9_newRecord_46 : decode cX9_newRecord 46 = .ok (.getfield 80, 3) := dk_180 0 80 (dk_at dksX9_newRecord_2 0 rfl rfl)
theorem dX9_newRecord_49 : decode cX9_newRecord 49 = .ok (.iload 6, 2) := dk_21 6 (dk_at dksX9_newRecord_2 3 rfl rfl)
theorem dX9_newRecord_51 : decode cX9_newRecord 51 = .ok (.iconst 3, 1) := dk_6 (dk_at dksX9_newRecord_2 5 rfl rfl)
theorem dX9_newRecord_52 : decode cX9_newRecord 52 = .ok (.iadd, 1) := dk_96 (dk_at dksX9_newRecord_2 6 rfl rfl)
theorem dX9_newRecord_53 : decode cX9_newRecord 53 = .ok (.iload 4, 2) := dk_21 4 (dk_at dksX9_newRecord_2 7 rfl rfl)
theorem dX9_newRecord_55 : decode cX9_newRecord 55 = .ok (.iastore, 1) := dk_79 (dk_at dksX9_newRecord_2 9 rfl rfl)
theorem dX9_newRecord_56 : decode cX9_newRecord 56 = .ok (.aload_n 0, 1) := dk_42 (dk_at dksX9_newRecord_2 10 rfl rfl)
theorem dX9_newRecord_57 : decode cX9_newRecord 57 = .ok (.getfield 80, 3) := dk_180 0 80 (dk_at dksX9_newRecord_2 11 rfl rfl)
theorem dX9_newRecord_60 : decode cX9_newRecord 60 = .ok (.iload 6, 2) := dk_21 6 (dk_at dksX9_newRecord_2 14 rfl rfl)
theorem dX9_newRecord_62 : decode cX9_newRecord 62 = .ok (.iconst 4, 1) := dk_7 (dk_at dksX9_newRecord_2 16 rfl rfl)
theorem dX9_newRecord_63 : decode cX9_newRecord 63 = .ok (.iadd, 1) := dk_96 (dk_at dksX9_newRecord_2 17 rfl rfl)
theorem dX9_newRecord_64 : decode cX9_newRecord 64 = .ok (.bipush (-2), 2) := dk_16 254 (dk_at dksX9_newRecord_2 18 rfl rfl)
theorem dX9_newRecord_66 : decode cX9_newRecord 66 = .ok (.iastore, 1) := dk_79 (dk_at dksX9_newRecord_2 20 rfl rfl)
theorem dX9_newRecord_67 : decode cX9_newRecord 67 = .ok (.aload_n 0, 1) := dk_42 (dk_at dksX9_newRecord_2 21 rfl rfl)
theorem dX9_newRecord_68 : decode cX9_newRecord 68 = .ok (.getfield 80, 3) := dk_180 0 80 (dk_at dksX9_newRecord_3 0 rfl rfl)
theorem dX9_newRecord_71 : decode cX9_newRecord 71 = .ok (.iload 6, 2) := dk_21 6 (dk_at dksX9_newRecord_3 3 rfl rfl)
theorem dX9_newRecord_73 : decode cX9_newRecord 73 = .ok (.iconst 5, 1) := dk_8 (dk_at dksX9_newRecord_3 5 rfl rfl)
theorem dX9_newRecord_74 : decode cX9_newRecord 74 = .ok (.iadd, 1) := dk_96 (dk_at dksX9_newRecord_3 6 rfl rfl)
theorem dX9_newRecord_75 : decode cX9_newRecord 75 = .ok (.iconst 0, 1) := dk_3 (dk_at dksX9_newRecord_3 7 rfl rfl)
theorem dX9_newRecord_76 : decode cX9_newRecord 76 = .ok (.iastore, 1) := dk_79 (dk_at dksX9_newRecord_3 8 rfl rfl)
theorem dX9_newRecord_77 : decode cX9_newRecord 77 = .ok (.aload_n 0, 1) := dk_42 (dk_at dksX9_newRecord_3 9 rfl rfl)
theorem dX9_newRecord_78 : decode cX9_newRecord 78 = .ok (.getfield 80, 3) := dk_180 0 80 (dk_at dksX9_newRecord_3 10 rfl rfl)
theorem dX9_newRecord_81 : decode cX9_newRecord 81 = .ok (.iload 6, 2) := dk_21 6 (dk_at dksX9_newRecord_3 13 rfl rfl)
theorem dX9_newRecord_83 : decode cX9_newRecord 83 = .ok (.bipush 6, 2) := dk_16 6 (dk_at dksX9_newRecord_3 15 rfl rfl)
theorem dX9_newRecord_85 : decode cX9_newRecord 85 = .ok (.iadd, 1) := dk_96 (dk_at dksX9_newRecord_3 17 rfl rfl)
theorem dX9_newRecord_86 : decode cX9_newRecord 86 = .ok (.iconst 0, 1) := dk_3 (dk_at dksX9_newRecord_3 18 rfl rfl)
theorem dX9_newRecord_87 : decode cX9_newRecord 87 = .ok (.iastore, 1) := dk_79 (dk_at dksX9_newRecord_3 19 rfl rfl)
theorem dX9_newRecord_88 : decode cX9_newRecord 88 = .ok (.aload_n 0, 1) := dk_42 (dk_at dksX9_newRecord_3 20 rfl rfl)
theorem dX9_newRecord_89 : decode cX9_newRecord 89 = .ok (.getfield 80, 3) := dk_180 0 80 (dk_at dksX9_newRecord_3 21 rfl rfl)
theorem dX9_newRecord_92 : decode cX9_newRecord 92 = .ok (.iload 6, 2) := dk_21 6 (dk_at dksX9_newRecord_4 0 rfl rfl)
theorem dX9_newRecord_94 : decode cX9_newRecord 94 = .ok (.bipush 7, 2) := dk_16 7 (dk_at dksX9_newRecord_4 2 rfl rfl)
theorem dX9_newRecord_96 : decode cX9_newRecord 96 = .ok (.iadd, 1) := dk_96 (dk_at dksX9_newRecord_4 4 rfl rfl)
theorem dX9_newRecord_97 : decode cX9_newRecord 97 = .ok (.iconst 0, 1) := dk_3 (dk_at dksX9_newRecord_4 5 rfl rfl)
theorem dX9_newRecord_98 : decode cX9_newRecord 98 = .ok (.iastore, 1) := dk_79 (dk_at dksX9_newRecord_4 6 rfl rfl)
theorem dX9_newRecord_99 : decode cX9_newRecord 99 = .ok (.aload_n 0, 1) := dk_42 (dk_at dksX9_newRecord_4 7 rfl rfl)
theorem dX9_newRecord_100 : decode cX9_newRecord 100 = .ok (.getfield 80, 3) := dk_180 0 80 (dk_at dksX9_newRecord_4 8 rfl rfl)
theorem dX9_newRecord_103 : decode cX9_newRecord 103 = .ok (.iload 6, 2) := dk_21 6 (dk_at dksX9_newRecord_4 11 rfl rfl)
theorem dX9_newRecord_105 : decode cX9_newRecord 105 = .ok (.bipush 8, 2) := dk_16 8 (dk_at dksX9_newRecord_4 13 rfl rfl)
theorem dX9_newRecord_107 : decode cX9_newRecord 107 = .ok (.iadd, 1) := dk_96 (dk_at dksX9_newRecord_4 15 rfl rfl)
theorem dX9_newRecord_108 : decode cX9_newRecord 108 = .ok (.bipush (-2), 2) := dk_16 254 (dk_at dksX9_newRecord_4 16 rfl rfl)
theorem dX9_newRecord_110 : decode cX9_newRecord 110 = .ok (.iastore, 1) := dk_79 (dk_at dksX9_newRecord_4 18 rfl rfl)
theorem dX9_newRecord_111 : decode cX9_newRecord 111 = .ok (.aload_n 0, 1) := dk_42 (dk_at dksX9_newRecord_4 19 rfl rfl)
theorem dX9_newRecord_112 : decode cX9_newRecord 112 = .ok (.getfield 80, 3) := dk_180 0 80 (dk_at dksX9_newRecord_4 20 rfl rfl)
theorem dX9_newRecord_115 : decode cX9_newRecord 115 = .ok (.iload 6, 2) := dk_21 6 (dk_at dksX9_newRecord_5 0 rfl rfl)
theorem dX9_newRecord_117 : decode cX9_newRecord 117 = .ok (.bipush 9, 2) := dk_16 9 (dk_at dksX9_newRecord_5 2 rfl rfl)
theorem dX9_newRecord_119 : decode cX9_newRecord 119 = .ok (.iadd, 1) := dk_96 (dk_at dksX9_newRecord_5 4 rfl rfl)
theorem dX9_newRecord_120 : decode cX9_newRecord 120 = .ok (.bipush (-2), 2) := dk_16 254 (dk_at dksX9_newRecord_5 5 rfl rfl)
theorem dX9_newRecord_122 : decode cX9_newRecord 122 = .ok (.iastore, 1) := dk_79 (dk_at dksX9_newRecord_5 7 rfl rfl)
theorem dX9_newRecord_123 : decode cX9_newRecord 123 = .ok (.aload_n 0, 1) := dk_42 (dk_at dksX9_newRecord_5 8 rfl rfl)
theorem dX9_newRecord_124 : decode cX9_newRecord 124 = .ok (.getfield 80, 3) := dk_180 0 80 (dk_at dksX9_newRecord_5 9 rfl rfl)
theorem dX9_newRecord_127 : decode cX9_newRecord 127 = .ok (.iconst 0, 1) := dk_3 (dk_at dksX9_newRecord_5 12 rfl rfl)
theorem dX9_newRecord_128 : decode cX9_newRecord 128 = .ok (.dup2, 1) := dk_92 (dk_at dksX9_newRecord_5 13 rfl rfl)
theorem dX9_newRecord_129 : decode cX9_newRecord 129 = .ok (.iaload, 1) := dk_46 (dk_at dksX9_newRecord_5 14 rfl rfl)
theorem dX9_newRecord_130 : decode cX9_newRecord 130 = .ok (.iconst 1, 1) := dk_4 (dk_at dksX9_newRecord_5 15 rfl rfl)
theorem dX9_newRecord_131 : decode cX9_newRecord 131 = .ok (.iadd, 1) := dk_96 (dk_at dksX9_newRecord_5 16 rfl rfl)
theorem dX9_newRecord_132 : decode cX9_newRecord 132 = .ok (.iastore, 1) := dk_79 (dk_at dksX9_newRecord_5 17 rfl rfl)
theorem dX9_newRecord_133 : decode cX9_newRecord 133 = .ok (.iload 5, 2) := dk_21 5 (dk_at dksX9_newRecord_5 18 rfl rfl)
theorem dX9_newRecord_135 : decode cX9_newRecord 135 = .ok (.ireturn, 1) := dk_172 (dk_at dksX9_newRecord_5 20 rfl rfl)
abbrev cX9_record0 : ByteArray := prog_20_method_37_code
def yX9_record0 : MethodName := ⟨RX9, "record0", "(I)I"⟩
def dkwX9_record0_0 : List UInt8 := [16, 100, 16, 10, 26, 104, 96, 172]
abbrev dktX9_record0_0 : List UInt8 := dkwX9_record0_0 ++ []
theorem dksX9_record0_0 : cX9_record0.data.toList.drop 0 = dktX9_record0_0 := by decide +kernel
theorem dX9_record0_0 : decode cX9_record0 0 = .ok (.bipush 100, 2) := dk_16 100 (dk_at dksX9_record0_0 0 rfl rfl)
theorem dX9_record0_2 : decode cX9_record0 2 = .ok (.bipush 10, 2) := dk_16 10 (dk_at dksX9_record0_0 2 rfl rfl)
theorem dX9_record0_4 : decode cX9_record0 4 = .ok (.iload_n 0, 1) := dk_26 (dk_at dksX9_record0_0 4 rfl rfl)
theorem dX9_record0_5 : decode cX9_record0 5 = .ok (.imul, 1) := dk_104 (dk_at dksX9_record0_0 5 rfl rfl)
theorem dX9_record0_6 : decode cX9_record0 6 = .ok (.iadd, 1) := dk_96 (dk_at dksX9_record0_0 6 rfl rfl)
theorem dX9_record0_7 : decode cX9_record0 7 = .ok (.ireturn, 1) := dk_172 (dk_at dksX9_record0_0 7 rfl rfl)
abbrev cX9_adds : ByteArray := prog_20_method_42_code
def yX9_adds : MethodName := ⟨RX9, "adds", "(III)V"⟩
def dkwX9_adds_2 : List UInt8 := [96, 92, 46, 4, 96, 79, 177]
abbrev dktX9_adds_2 : List UInt8 := dkwX9_adds_2 ++ []
def dkwX9_adds_1 : List UInt8 := [21, 4, 28, 79, 42, 180, 0, 80, 21, 4, 4, 96, 29, 79, 42, 180, 0, 80, 27, 184, 1, 26, 16, 6]
abbrev dktX9_adds_1 : List UInt8 := dkwX9_adds_1 ++ dktX9_adds_2
def dkwX9_adds_0 : List UInt8 := [17, 55, 20, 16, 88, 27, 104, 96, 5, 42, 27, 16, 6, 182, 1, 32, 104, 96, 54, 4, 42, 180, 0, 80]
abbrev dktX9_adds_0 : List UInt8 := dkwX9_adds_0 ++ dktX9_adds_1
theorem dksX9_adds_0 : cX9_adds.data.toList.drop 0 = dktX9_adds_0 := by decide +kernel
theorem dksX9_adds_1 : cX9_adds.data.toList.drop 24 = dktX9_adds_1 := dk_seg dksX9_adds_0 24 rfl rfl
theorem dksX9_adds_2 : cX9_adds.data.toList.drop 48 = dktX9_adds_2 := dk_seg dksX9_adds_1 24 rfl rfl
theorem dX9_adds_0 : decode cX9_adds 0 = .ok (.sipush 14100, 3) := dk_17 55 20 (dk_at dksX9_adds_0 0 rfl rfl)
theorem dX9_adds_3 : decode cX9_adds 3 = .ok (.bipush 88, 2) := dk_16 88 (dk_at dksX9_adds_0 3 rfl rfl)
theorem dX9_adds_5 : decode cX9_adds 5 = .ok (.iload_n 1, 1) := dk_27 (dk_at dksX9_adds_0 5 rfl rfl)
theorem dX9_adds_6 : decode cX9_adds 6 = .ok (.imul, 1) := dk_104 (dk_at dksX9_adds_0 6 rfl rfl)
theorem dX9_adds_7 : decode cX9_adds 7 = .ok (.iadd, 1) := dk_96 (dk_at dksX9_adds_0 7 rfl rfl)
theorem dX9_adds_8 : decode cX9_adds 8 = .ok (.iconst 2, 1) := dk_5 (dk_at dksX9_adds_0 8 rfl rfl)
theorem dX9_adds_9 : decode cX9_adds 9 = .ok (.aload_n 0, 1) := dk_42 (dk_at dksX9_adds_0 9 rfl rfl)
theorem dX9_adds_10 : decode cX9_adds 10 = .ok (.iload_n 1, 1) := dk_27 (dk_at dksX9_adds_0 10 rfl rfl)
theorem dX9_adds_11 : decode cX9_adds 11 = .ok (.bipush 6, 2) := dk_16 6 (dk_at dksX9_adds_0 11 rfl rfl)
theorem dX9_adds_13 : decode cX9_adds 13 = .ok (.invokevirtual 288, 3) := dk_182 1 32 (dk_at dksX9_adds_0 13 rfl rfl)
theorem dX9_adds_16 : decode cX9_adds 16 = .ok (.imul, 1) := dk_104 (dk_at dksX9_adds_0 16 rfl rfl)
theorem dX9_adds_17 : decode cX9_adds 17 = .ok (.iadd, 1) := dk_96 (dk_at dksX9_adds_0 17 rfl rfl)
theorem dX9_adds_18 : decode cX9_adds 18 = .ok (.istore 4, 2) := dk_54 4 (dk_at dksX9_adds_0 18 rfl rfl)
theorem dX9_adds_20 : decode cX9_adds 20 = .ok (.aload_n 0, 1) := dk_42 (dk_at dksX9_adds_0 20 rfl rfl)
theorem dX9_adds_21 : decode cX9_adds 21 = .ok (.getfield 80, 3) := dk_180 0 80 (dk_at dksX9_adds_0 21 rfl rfl)
theorem dX9_adds_24 : decode cX9_adds 24 = .ok (.iload 4, 2) := dk_21 4 (dk_at dksX9_adds_1 0 rfl rfl)
theorem dX9_adds_26 : decode cX9_adds 26 = .ok (.iload_n 2, 1) := dk_28 (dk_at dksX9_adds_1 2 rfl rfl)
theorem dX9_adds_27 : decode cX9_adds 27 = .ok (.iastore, 1) := dk_79 (dk_at dksX9_adds_1 3 rfl rfl)
theorem dX9_adds_28 : decode cX9_adds 28 = .ok (.aload_n 0, 1) := dk_42 (dk_at dksX9_adds_1 4 rfl rfl)
theorem dX9_adds_29 : decode cX9_adds 29 = .ok (.getfield 80, 3) := dk_180 0 80 (dk_at dksX9_adds_1 5 rfl rfl)
theorem dX9_adds_32 : decode cX9_adds 32 = .ok (.iload 4, 2) := dk_21 4 (dk_at dksX9_adds_1 8 rfl rfl)
theorem dX9_adds_34 : decode cX9_adds 34 = .ok (.iconst 1, 1) := dk_4 (dk_at dksX9_adds_1 10 rfl rfl)
theorem dX9_adds_35 : decode cX9_adds 35 = .ok (.iadd, 1) := dk_96 (dk_at dksX9_adds_1 11 rfl rfl)
theorem dX9_adds_36 : decode cX9_adds 36 = .ok (.iload_n 3, 1) := dk_29 (dk_at dksX9_adds_1 12 rfl rfl)
theorem dX9_adds_37 : decode cX9_adds 37 = .ok (.iastore, 1) := dk_79 (dk_at dksX9_adds_1 13 rfl rfl)
theorem dX9_adds_38 : decode cX9_adds 38 = .ok (.aload_n 0, 1) := dk_42 (dk_at dksX9_adds_1 14 rfl rfl)
theorem dX9_adds_39 : decode cX9_adds 39 = .ok (.getfield 80, 3) := dk_180 0 80 (dk_at dksX9_adds_1 15 rfl rfl)
theorem dX9_adds_42 : decode cX9_adds 42 = .ok (.iload_n 1, 1) := dk_27 (dk_at dksX9_adds_1 18 rfl rfl)
theorem dX9_adds_43 : decode cX9_adds 43 = .ok (.invokestatic 282, 3) := dk_184 1 26 (dk_at dksX9_adds_1 19 rfl rfl)
theorem dX9_adds_46 : decode cX9_adds 46 = .ok (.bipush 6, 2) := dk_16 6 (dk_at dksX9_adds_1 22 rfl rfl)
theorem dX9_adds_48 : decode cX9_adds 48 = .ok (.iadd, 1) := dk_96 (dk_at dksX9_adds_2 0 rfl rfl)
theorem dX9_adds_49 : decode cX9_adds 49 = .ok (.dup2, 1) := dk_92 (dk_at dksX9_adds_2 1 rfl rfl)
theorem dX9_adds_50 : decode cX9_adds 50 = .ok (.iaload, 1) := dk_46 (dk_at dksX9_adds_2 2 rfl rfl)
theorem dX9_adds_51 : decode cX9_adds 51 = .ok (.iconst 1, 1) := dk_4 (dk_at dksX9_adds_2 3 rfl rfl)
theorem dX9_adds_52 : decode cX9_adds 52 = .ok (.iadd, 1) := dk_96 (dk_at dksX9_adds_2 4 rfl rfl)
theorem dX9_adds_53 : decode cX9_adds 53 = .ok (.iastore, 1) := dk_79 (dk_at dksX9_adds_2 5 rfl rfl)
theorem dX9_adds_54 : decode cX9_adds 54 = .ok (.return_, 1) := dk_177 (dk_at dksX9_adds_2 6 rfl rfl)
abbrev cX9_ofRecord : ByteArray := prog_20_method_38_code
def yX9_ofRecord : MethodName := ⟨RX9, "ofRecord", "(II)I"⟩
def dkwX9_ofRecord_0 : List UInt8 := [42, 180, 0, 80, 16, 100, 16, 10, 27, 104, 96, 28, 96, 46, 172]
abbrev dktX9_ofRecord_0 : List UInt8 := dkwX9_ofRecord_0 ++ []
theorem dksX9_ofRecord_0 : cX9_ofRecord.data.toList.drop 0 = dktX9_ofRecord_0 := by decide +kernel
theorem dX9_ofRecord_0 : decode cX9_ofRecord 0 = .ok (.aload_n 0, 1) := dk_42 (dk_at dksX9_ofRecord_0 0 rfl rfl)
theorem dX9_ofRecord_1 : decode cX9_ofRecord 1 = .ok (.getfield 80, 3) := dk_180 0 80 (dk_at dksX9_ofRecord_0 1 rfl rfl)
theorem dX9_ofRecord_4 : decode cX9_ofRecord 4 = .ok (.bipush 100, 2) := dk_16 100 (dk_at dksX9_ofRecord_0 4 rfl rfl)
theorem dX9_ofRecord_6 : decode cX9_ofRecord 6 = .ok (.bipush 10, 2) := dk_16 10 (dk_at dksX9_ofRecord_0 6 rfl rfl)
theorem dX9_ofRecord_8 : decode cX9_ofRecord 8 = .ok (.iload_n 1, 1) := dk_27 (dk_at dksX9_ofRecord_0 8 rfl rfl)
theorem dX9_ofRecord_9 : decode cX9_ofRecord 9 = .ok (.imul, 1) := dk_104 (dk_at dksX9_ofRecord_0 9 rfl rfl)
theorem dX9_ofRecord_10 : decode cX9_ofRecord 10 = .ok (.iadd, 1) := dk_96 (dk_at dksX9_ofRecord_0 10 rfl rfl)
theorem dX9_ofRecord_11 : decode cX9_ofRecord 11 = .ok (.iload_n 2, 1) := dk_28 (dk_at dksX9_ofRecord_0 11 rfl rfl)
theorem dX9_ofRecord_12 : decode cX9_ofRecord 12 = .ok (.iadd, 1) := dk_96 (dk_at dksX9_ofRecord_0 12 rfl rfl)
theorem dX9_ofRecord_13 : decode cX9_ofRecord 13 = .ok (.iaload, 1) := dk_46 (dk_at dksX9_ofRecord_0 13 rfl rfl)
theorem dX9_ofRecord_14 : decode cX9_ofRecord 14 = .ok (.ireturn, 1) := dk_172 (dk_at dksX9_ofRecord_0 14 rfl rfl)
abbrev cX9_feed : ByteArray := prog_20_method_3_code
def yX9_feed : MethodName := ⟨RX9, "feed", "(IIIII)I"⟩
def dkwX9_feed_2 : List UInt8 := [172]
abbrev dktX9_feed_2 : List UInt8 := dkwX9_feed_2 ++ []
def dkwX9_feed_1 : List UInt8 := [182, 0, 132, 42, 29, 182, 0, 132, 42, 21, 4, 182, 0, 132, 42, 21, 5, 182, 0, 132, 42, 180, 0, 129]
abbrev dktX9_feed_1 : List UInt8 := dkwX9_feed_1 ++ dktX9_feed_2
def dkwX9_feed_0 : List UInt8 := [42, 180, 0, 129, 16, 20, 96, 17, 7, 208, 164, 0, 5, 2, 172, 42, 27, 182, 0, 132, 42, 28]
abbrev dktX9_feed_0 : List UInt8 := dkwX9_feed_0 ++ dktX9_feed_1
theorem dksX9_feed_0 : cX9_feed.data.toList.drop 0 = dktX9_feed_0 := by decide +kernel
theorem dksX9_feed_1 : cX9_feed.data.toList.drop 22 = dktX9_feed_1 := dk_seg dksX9_feed_0 22 rfl rfl
theorem dksX9_feed_2 : cX9_feed.data.toList.drop 46 = dktX9_feed_2 := dk_seg dksX9_feed_1 24 rfl rfl
theorem dX9_feed_0 : decode cX9_feed 0 = .ok (.aload_n 0, 1) := dk_42 (dk_at dksX9_feed_0 0 rfl rfl)
theorem dX9_feed_1 : decode cX9_feed 1 = .ok (.getfield 129, 3) := dk_180 0 129 (dk_at dksX9_feed_0 1 rfl rfl)
theorem dX9_feed_4 : decode cX9_feed 4 = .ok (.bipush 20, 2) := dk_16 20 (dk_at dksX9_feed_0 4 rfl rfl)
theorem dX9_feed_6 : decode cX9_feed 6 = .ok (.iadd, 1) := dk_96 (dk_at dksX9_feed_0 6 rfl rfl)
theorem dX9_feed_7 : decode cX9_feed 7 = .ok (.sipush 2000, 3) := dk_17 7 208 (dk_at dksX9_feed_0 7 rfl rfl)
theorem dX9_feed_10 : decode cX9_feed 10 = .ok (.if_icmp .le 5, 3) := dk_164 0 5 (dk_at dksX9_feed_0 10 rfl rfl)
theorem dX9_feed_13 : decode cX9_feed 13 = .ok (.iconst (-1), 1) := dk_2 (dk_at dksX9_feed_0 13 rfl rfl)
theorem dX9_feed_14 : decode cX9_feed 14 = .ok (.ireturn, 1) := dk_172 (dk_at dksX9_feed_0 14 rfl rfl)
theorem dX9_feed_15 : decode cX9_feed 15 = .ok (.aload_n 0, 1) := dk_42 (dk_at dksX9_feed_0 15 rfl rfl)
theorem dX9_feed_16 : decode cX9_feed 16 = .ok (.iload_n 1, 1) := dk_27 (dk_at dksX9_feed_0 16 rfl rfl)
theorem dX9_feed_17 : decode cX9_feed 17 = .ok (.invokevirtual 132, 3) := dk_182 0 132 (dk_at dksX9_feed_0 17 rfl rfl)
theorem dX9_feed_20 : decode cX9_feed 20 = .ok (.aload_n 0, 1) := dk_42 (dk_at dksX9_feed_0 20 rfl rfl)
theorem dX9_feed_21 : decode cX9_feed 21 = .ok (.iload_n 2, 1) := dk_28 (dk_at dksX9_feed_0 21 rfl rfl)
theorem dX9_feed_22 : decode cX9_feed 22 = .ok (.invokevirtual 132, 3) := dk_182 0 132 (dk_at dksX9_feed_1 0 rfl rfl)
theorem dX9_feed_25 : decode cX9_feed 25 = .ok (.aload_n 0, 1) := dk_42 (dk_at dksX9_feed_1 3 rfl rfl)
theorem dX9_feed_26 : decode cX9_feed 26 = .ok (.iload_n 3, 1) := dk_29 (dk_at dksX9_feed_1 4 rfl rfl)
theorem dX9_feed_27 : decode cX9_feed 27 = .ok (.invokevirtual 132, 3) := dk_182 0 132 (dk_at dksX9_feed_1 5 rfl rfl)
theorem dX9_feed_30 : decode cX9_feed 30 = .ok (.aload_n 0, 1) := dk_42 (dk_at dksX9_feed_1 8 rfl rfl)
theorem dX9_feed_31 : decode cX9_feed 31 = .ok (.iload 4, 2) := dk_21 4 (dk_at dksX9_feed_1 9 rfl rfl)
theorem dX9_feed_33 : decode cX9_feed 33 = .ok (.invokevirtual 132, 3) := dk_182 0 132 (dk_at dksX9_feed_1 11 rfl rfl)
theorem dX9_feed_36 : decode cX9_feed 36 = .ok (.aload_n 0, 1) := dk_42 (dk_at dksX9_feed_1 14 rfl rfl)
theorem dX9_feed_37 : decode cX9_feed 37 = .ok (.iload 5, 2) := dk_21 5 (dk_at dksX9_feed_1 15 rfl rfl)
theorem dX9_feed_39 : decode cX9_feed 39 = .ok (.invokevirtual 132, 3) := dk_182 0 132 (dk_at dksX9_feed_1 17 rfl rfl)
theorem dX9_feed_42 : decode cX9_feed 42 = .ok (.aload_n 0, 1) := dk_42 (dk_at dksX9_feed_1 20 rfl rfl)
theorem dX9_feed_43 : decode cX9_feed 43 = .ok (.getfield 129, 3) := dk_180 0 129 (dk_at dksX9_feed_1 21 rfl rfl)
theorem dX9_feed_46 : decode cX9_feed 46 = .ok (.ireturn, 1) := dk_172 (dk_at dksX9_feed_2 0 rfl rfl)
abbrev cX9_lays : ByteArray := prog_20_method_4_code
def yX9_lays : MethodName := ⟨RX9, "lays", "(I)V"⟩
def dkwX9_lays_1 : List UInt8 := [180, 0, 129, 4, 96, 181, 0, 129, 132, 2, 248, 167, 255, 226, 177]
abbrev dktX9_lays_1 : List UInt8 := dkwX9_lays_1 ++ []
def dkwX9_lays_0 : List UInt8 := [16, 24, 61, 28, 155, 0, 32, 42, 180, 0, 13, 42, 180, 0, 129, 27, 28, 122, 145, 84, 42, 89]
abbrev dktX9_lays_0 : List UInt8 := dkwX9_lays_0 ++ dktX9_lays_1
theorem dksX9_lays_0 : cX9_lays.data.toList.drop 0 = dktX9_lays_0 := by decide +kernel
theorem dksX9_lays_1 : cX9_lays.data.toList.drop 22 = dktX9_lays_1 := dk_seg dksX9_lays_0 22 rfl rfl
theorem dX9_lays_0 : decode cX9_lays 0 = .ok (.bipush 24, 2) := dk_16 24 (dk_at dksX9_lays_0 0 rfl rfl)
theorem dX9_lays_2 : decode cX9_lays 2 = .ok (.istore_n 2, 1) := dk_61 (dk_at dksX9_lays_0 2 rfl rfl)
theorem dX9_lays_3 : decode cX9_lays 3 = .ok (.iload_n 2, 1) := dk_28 (dk_at dksX9_lays_0 3 rfl rfl)
theorem dX9_lays_4 : decode cX9_lays 4 = .ok (.ifCond .lt 32, 3) := dk_155 0 32 (dk_at dksX9_lays_0 4 rfl rfl)
theorem dX9_lays_7 : decode cX9_lays 7 = .ok (.aload_n 0, 1) := dk_42 (dk_at dksX9_lays_0 7 rfl rfl)
theorem dX9_lays_8 : decode cX9_lays 8 = .ok (.getfield 13, 3) := dk_180 0 13 (dk_at dksX9_lays_0 8 rfl rfl)
theorem dX9_lays_11 : decode cX9_lays 11 = .ok (.aload_n 0, 1) := dk_42 (dk_at dksX9_lays_0 11 rfl rfl)
theorem dX9_lays_12 : decode cX9_lays 12 = .ok (.getfield 129, 3) := dk_180 0 129 (dk_at dksX9_lays_0 12 rfl rfl)
theorem dX9_lays_15 : decode cX9_lays 15 = .ok (.iload_n 1, 1) := dk_27 (dk_at dksX9_lays_0 15 rfl rfl)
theorem dX9_lays_16 : decode cX9_lays 16 = .ok (.iload_n 2, 1) := dk_28 (dk_at dksX9_lays_0 16 rfl rfl)
theorem dX9_lays_17 : decode cX9_lays 17 = .ok (.ishr, 1) := dk_122 (dk_at dksX9_lays_0 17 rfl rfl)
theorem dX9_lays_18 : decode cX9_lays 18 = .ok (.i2b, 1) := dk_145 (dk_at dksX9_lays_0 18 rfl rfl)
theorem dX9_lays_19 : decode cX9_lays 19 = .ok (.bastore, 1) := dk_84 (dk_at dksX9_lays_0 19 rfl rfl)
theorem dX9_lays_20 : decode cX9_lays 20 = .ok (.aload_n 0, 1) := dk_42 (dk_at dksX9_lays_0 20 rfl rfl)
theorem dX9_lays_21 : decode cX9_lays 21 = .ok (.dup, 1) := dk_89 (dk_at dksX9_lays_0 21 rfl rfl)
theorem dX9_lays_22 : decode cX9_lays 22 = .ok (.getfield 129, 3) := dk_180 0 129 (dk_at dksX9_lays_1 0 rfl rfl)
theorem dX9_lays_25 : decode cX9_lays 25 = .ok (.iconst 1, 1) := dk_4 (dk_at dksX9_lays_1 3 rfl rfl)
theorem dX9_lays_26 : decode cX9_lays 26 = .ok (.iadd, 1) := dk_96 (dk_at dksX9_lays_1 4 rfl rfl)
theorem dX9_lays_27 : decode cX9_lays 27 = .ok (.putfield 129, 3) := dk_181 0 129 (dk_at dksX9_lays_1 5 rfl rfl)
theorem dX9_lays_30 : decode cX9_lays 30 = .ok (.iinc 2 (-8), 3) := dk_132 2 248 (dk_at dksX9_lays_1 8 rfl rfl)
theorem dX9_lays_33 : decode cX9_lays 33 = .ok (.goto (-30), 3) := dk_167 255 226 (dk_at dksX9_lays_1 11 rfl rfl)
theorem dX9_lays_36 : decode cX9_lays 36 = .ok (.return_, 1) := dk_177 (dk_at dksX9_lays_1 14 rfl rfl)
abbrev cX9_back : ByteArray := prog_20_method_5_code
def yX9_back : MethodName := ⟨RX9, "back", "(I)I"⟩
def dkwX9_back_1 : List UInt8 := [42, 180, 0, 129, 172]
abbrev dktX9_back_1 : List UInt8 := dkwX9_back_1 ++ []
def dkwX9_back_0 : List UInt8 := [27, 155, 0, 11, 27, 42, 180, 0, 129, 164, 0, 5, 2, 172, 42, 89, 180, 0, 129, 27, 100, 181, 0, 129]
abbrev dktX9_back_0 : List UInt8 := dkwX9_back_0 ++ dktX9_back_1
theorem dksX9_back_0 : cX9_back.data.toList.drop 0 = dktX9_back_0 := by decide +kernel
theorem dksX9_back_1 : cX9_back.data.toList.drop 24 = dktX9_back_1 := dk_seg dksX9_back_0 24 rfl rfl
theorem dX9_back_0 : decode cX9_back 0 = .ok (.iload_n 1, 1) := dk_27 (dk_at dksX9_back_0 0 rfl rfl)
theorem dX9_back_1 : decode cX9_back 1 = .ok (.ifCond .lt 11, 3) := dk_155 0 11 (dk_at dksX9_back_0 1 rfl rfl)
theorem dX9_back_4 : decode cX9_back 4 = .ok (.iload_n 1, 1) := dk_27 (dk_at dksX9_back_0 4 rfl rfl)
theorem dX9_back_5 : decode cX9_back 5 = .ok (.aload_n 0, 1) := dk_42 (dk_at dksX9_back_0 5 rfl rfl)
theorem dX9_back_6 : decode cX9_back 6 = .ok (.getfield 129, 3) := dk_180 0 129 (dk_at dksX9_back_0 6 rfl rfl)
theorem dX9_back_9 : decode cX9_back 9 = .ok (.if_icmp .le 5, 3) := dk_164 0 5 (dk_at dksX9_back_0 9 rfl rfl)
theorem dX9_back_12 : decode cX9_back 12 = .ok (.iconst (-1), 1) := dk_2 (dk_at dksX9_back_0 12 rfl rfl)
theorem dX9_back_13 : decode cX9_back 13 = .ok (.ireturn, 1) := dk_172 (dk_at dksX9_back_0 13 rfl rfl)
theorem dX9_back_14 : decode cX9_back 14 = .ok (.aload_n 0, 1) := dk_42 (dk_at dksX9_back_0 14 rfl rfl)
theorem dX9_back_15 : decode cX9_back 15 = .ok (.dup, 1) := dk_89 (dk_at dksX9_back_0 15 rfl rfl)
theorem dX9_back_16 : decode cX9_back 16 = .ok (.getfield 129, 3) := dk_180 0 129 (dk_at dksX9_back_0 16 rfl rfl)
theorem dX9_back_19 : decode cX9_back 19 = .ok (.iload_n 1, 1) := dk_27 (dk_at dksX9_back_0 19 rfl rfl)
theorem dX9_back_20 : decode cX9_back 20 = .ok (.isub, 1) := dk_100 (dk_at dksX9_back_0 20 rfl rfl)
theorem dX9_back_21 : decode cX9_back 21 = .ok (.putfield 129, 3) := dk_181 0 129 (dk_at dksX9_back_0 21 rfl rfl)
theorem dX9_back_24 : decode cX9_back 24 = .ok (.aload_n 0, 1) := dk_42 (dk_at dksX9_back_1 0 rfl rfl)
theorem dX9_back_25 : decode cX9_back 25 = .ok (.getfield 129, 3) := dk_180 0 129 (dk_at dksX9_back_1 1 rfl rfl)
theorem dX9_back_28 : decode cX9_back 28 = .ok (.ireturn, 1) := dk_172 (dk_at dksX9_back_1 4 rfl rfl)
abbrev cX9_read : ByteArray := prog_20_method_19_code
def yX9_read : MethodName := ⟨RX9, "read", "()I"⟩
def dkwX9_read_10 : List UInt8 := [132, 4, 1, 167, 255, 239, 42, 182, 0, 213, 3, 172]
abbrev dktX9_read_10 : List UInt8 := dkwX9_read_10 ++ []
def dkwX9_read_9 : List UInt8 := [42, 27, 28, 29, 182, 0, 125, 3, 54, 4, 21, 4, 6, 162, 0, 17, 42, 180, 0, 113, 21, 4, 3, 84]
abbrev dktX9_read_9 : List UInt8 := dkwX9_read_9 ++ dktX9_read_10
def dkwX9_read_8 : List UInt8 := [42, 180, 0, 167, 158, 0, 8, 42, 180, 0, 167, 172, 42, 180, 0, 176, 158, 0, 8, 42, 180, 0, 176, 172]
abbrev dktX9_read_8 : List UInt8 := dkwX9_read_8 ++ dktX9_read_9
def dkwX9_read_7 : List UInt8 := [180, 0, 173, 167, 0, 18, 42, 180, 0, 176, 158, 0, 10, 42, 180, 0, 179, 167, 0, 4, 2, 181, 0, 37]
abbrev dktX9_read_7 : List UInt8 := dkwX9_read_7 ++ dktX9_read_8
def dkwX9_read_6 : List UInt8 := [154, 0, 15, 42, 180, 0, 200, 158, 0, 8, 42, 4, 182, 0, 182, 42, 42, 180, 0, 167, 158, 0, 10, 42]
abbrev dktX9_read_6 : List UInt8 := dkwX9_read_6 ++ dktX9_read_7
def dkwX9_read_5 : List UInt8 := [154, 0, 18, 42, 3, 182, 0, 185, 154, 0, 10, 42, 182, 0, 210, 167, 255, 237, 42, 180, 0, 167]
abbrev dktX9_read_5 : List UInt8 := dkwX9_read_5 ++ dktX9_read_6
def dkwX9_read_4 : List UInt8 := [16, 12, 16, 6, 182, 0, 206, 61, 42, 16, 22, 3, 6, 5, 182, 0, 206, 62, 42, 180, 0, 167]
abbrev dktX9_read_4 : List UInt8 := dkwX9_read_4 ++ dktX9_read_5
def dkwX9_read_3 : List UInt8 := [3, 181, 0, 200, 42, 3, 181, 0, 203, 42, 16, 20, 4, 16, 8, 6, 182, 0, 206, 60, 42, 16, 21, 7]
abbrev dktX9_read_3 : List UInt8 := dkwX9_read_3 ++ dktX9_read_4
def dkwX9_read_2 : List UInt8 := [181, 0, 170, 42, 3, 181, 0, 194, 42, 3, 181, 0, 167, 42, 3, 181, 0, 176, 42, 3, 181, 0, 197, 42]
abbrev dktX9_read_2 : List UInt8 := dkwX9_read_2 ++ dktX9_read_3
def dkwX9_read_1 : List UInt8 := [180, 0, 13, 27, 51, 84, 132, 1, 1, 167, 255, 233, 42, 3, 181, 0, 129, 42, 182, 0, 191, 42, 3]
abbrev dktX9_read_1 : List UInt8 := dkwX9_read_1 ++ dktX9_read_2
def dkwX9_read_0 : List UInt8 := [42, 42, 180, 0, 129, 181, 0, 136, 3, 60, 27, 42, 180, 0, 136, 162, 0, 21, 42, 180, 0, 17, 27, 42]
abbrev dktX9_read_0 : List UInt8 := dkwX9_read_0 ++ dktX9_read_1
theorem dksX9_read_0 : cX9_read.data.toList.drop 0 = dktX9_read_0 := by decide +kernel
theorem dksX9_read_1 : cX9_read.data.toList.drop 24 = dktX9_read_1 := dk_seg dksX9_read_0 24 rfl rfl
theorem dksX9_read_2 : cX9_read.data.toList.drop 47 = dktX9_read_2 := dk_seg dksX9_read_1 23 rfl rfl
theorem dksX9_read_3 : cX9_read.data.toList.drop 71 = dktX9_read_3 := dk_seg dksX9_read_2 24 rfl rfl
theorem dksX9_read_4 : cX9_read.data.toList.drop 95 = dktX9_read_4 := dk_seg dksX9_read_3 24 rfl rfl
theorem dksX9_read_5 : cX9_read.data.toList.drop 117 = dktX9_read_5 := dk_seg dksX9_read_4 22 rfl rfl
theorem dksX9_read_6 : cX9_read.data.toList.drop 139 = dktX9_read_6 := dk_seg dksX9_read_5 22 rfl rfl
theorem dksX9_read_7 : cX9_read.data.toList.drop 163 = dktX9_read_7 := dk_seg dksX9_read_6 24 rfl rfl
theorem dksX9_read_8 : cX9_read.data.toList.drop 187 = dktX9_read_8 := dk_seg dksX9_read_7 24 rfl rfl
theorem dksX9_read_9 : cX9_read.data.toList.drop 211 = dktX9_read_9 := dk_seg dksX9_read_8 24 rfl rfl
theorem dksX9_read_10 : cX9_read.data.toList.drop 235 = dktX9_read_10 := dk_seg dksX9_read_9 24 rfl rfl
theorem dX9_read_0 : decode cX9_read 0 = .ok (.aload_n 0, 1) := dk_42 (dk_at dksX9_read_0 0 rfl rfl)
theorem dX9_read_1 : decode cX9_read 1 = .ok (.aload_n 0, 1) := dk_42 (dk_at dksX9_read_0 1 rfl rfl)
theorem dX9_read_2 : decode cX9_read 2 = .ok (.getfield 129, 3) := dk_180 0 129 (dk_at dksX9_read_0 2 rfl rfl)
theorem dX9_read_5 : decode cX9_read 5 = .ok (.putfield 136, 3) := dk_181 0 136 (dk_at dksX9_read_0 5 rfl rfl)
theorem dX9_read_8 : decode cX9_read 8 = .ok (.iconst 0, 1) := dk_3 (dk_at dksX9_read_0 8 rfl rfl)
theorem dX9_read_9 : decode cX9_read 9 = .ok (.istore_n 1, 1) := dk_60 (dk_at dksX9_read_0 9 rfl rfl)
theorem dX9_read_10 : decode cX9_read 10 = .ok (.iload_n 1, 1) := dk_27 (dk_at dksX9_read_0 10 rfl rfl)
theorem dX9_read_11 : decode cX9_read 11 = .ok (.aload_n 0, 1) := dk_42 (dk_at dksX9_read_0 11 rfl rfl)
theorem dX9_read_12 : decode cX9_read 12 = .ok (.getfield 136, 3) := dk_180 0 136 (dk_at dksX9_read_0 12 rfl rfl)
theorem dX9_read_15 : decode cX9_read 15 = .ok (.if_icmp .ge 21, 3) := dk_162 0 21 (dk_at dksX9_read_0 15 rfl rfl)
theorem dX9_read_18 : decode cX9_read 18 = .ok (.aload_n 0, 1) := dk_42 (dk_at dksX9_read_0 18 rfl rfl)
theorem dX9_read_19 : decode cX9_read 19 = .ok (.getfield 17, 3) := dk_180 0 17 (dk_at dksX9_read_0 19 rfl rfl)
theorem dX9_read_22 : decode cX9_read 22 = .ok (.iload_n 1, 1) := dk_27 (dk_at dksX9_read_0 22 rfl rfl)
theorem dX9_read_23 : decode cX9_read 23 = .ok (.aload_n 0, 1) := dk_42 (dk_at dksX9_read_0 23 rfl rfl)
theorem dX9_read_24 : decode cX9_read 24 = .ok (.getfield 13, 3) := dk_180 0 13 (dk_at dksX9_read_1 0 rfl rfl)
theorem dX9_read_27 : decode cX9_read 27 = .ok (.iload_n 1, 1) := dk_27 (dk_at dksX9_read_1 3 rfl rfl)
theorem dX9_read_28 : decode cX9_read 28 = .ok (.baload, 1) := dk_51 (dk_at dksX9_read_1 4 rfl rfl)
theorem dX9_read_29 : decode cX9_read 29 = .ok (.bastore, 1) := dk_84 (dk_at dksX9_read_1 5 rfl rfl)
theorem dX9_read_30 : decode cX9_read 30 = .ok (.iinc 1 1, 3) := dk_132 1 1 (dk_at dksX9_read_1 6 rfl rfl)
theorem dX9_read_33 : decode cX9_read 33 = .ok (.goto (-23), 3) := dk_167 255 233 (dk_at dksX9_read_1 9 rfl rfl)
theorem dX9_read_36 : decode cX9_read 36 = .ok (.aload_n 0, 1) := dk_42 (dk_at dksX9_read_1 12 rfl rfl)
theorem dX9_read_37 : decode cX9_read 37 = .ok (.iconst 0, 1) := dk_3 (dk_at dksX9_read_1 13 rfl rfl)
theorem dX9_read_38 : decode cX9_read 38 = .ok (.putfield 129, 3) := dk_181 0 129 (dk_at dksX9_read_1 14 rfl rfl)
theorem dX9_read_41 : decode cX9_read 41 = .ok (.aload_n 0, 1) := dk_42 (dk_at dksX9_read_1 17 rfl rfl)
theorem dX9_read_42 : decode cX9_read 42 = .ok (.invokevirtual 191, 3) := dk_182 0 191 (dk_at dksX9_read_1 18 rfl rfl)
theorem dX9_read_45 : decode cX9_read 45 = .ok (.aload_n 0, 1) := dk_42 (dk_at dksX9_read_1 21 rfl rfl)
theorem dX9_read_46 : decode cX9_read 46 = .ok (.iconst 0, 1) := dk_3 (dk_at dksX9_read_1 22 rfl rfl)
theorem dX9_read_47 : decode cX9_read 47 = .ok (.putfield 170, 3) := dk_181 0 170 (dk_at dksX9_read_2 0 rfl rfl)
theorem dX9_read_50 : decode cX9_read 50 = .ok (.aload_n 0, 1) := dk_42 (dk_at dksX9_read_2 3 rfl rfl)
theorem dX9_read_51 : decode cX9_read 51 = .ok (.iconst 0, 1) := dk_3 (dk_at dksX9_read_2 4 rfl rfl)
theorem dX9_read_52 : decode cX9_read 52 = .ok (.putfield 194, 3) := dk_181 0 194 (dk_at dksX9_read_2 5 rfl rfl)
theorem dX9_read_55 : decode cX9_read 55 = .ok (.aload_n 0, 1) := dk_42 (dk_at dksX9_read_2 8 rfl rfl)
theorem dX9_read_56 : decode cX9_read 56 = .ok (.iconst 0, 1) := dk_3 (dk_at dksX9_read_2 9 rfl rfl)
theorem dX9_read_57 : decode cX9_read 57 = .ok (.putfield 167, 3) := dk_181 0 167 (dk_at dksX9_read_2 10 rfl rfl)
theorem dX9_read_60 : decode cX9_read 60 = .ok (.aload_n 0, 1) := dk_42 (dk_at dksX9_read_2 13 rfl rfl)
theorem dX9_read_61 : decode cX9_read 61 = .ok (.iconst 0, 1) := dk_3 (dk_at dksX9_read_2 14 rfl rfl)
theorem dX9_read_62 : decode cX9_read 62 = .ok (.putfield 176, 3) := dk_181 0 176 (dk_at dksX9_read_2 15 rfl rfl)
theorem dX9_read_65 : decode cX9_read 65 = .ok (.aload_n 0, 1) := dk_42 (dk_at dksX9_read_2 18 rfl rfl)
theorem dX9_read_66 : decode cX9_read 66 = .ok (.iconst 0, 1) := dk_3 (dk_at dksX9_read_2 19 rfl rfl)
theorem dX9_read_67 : decode cX9_read 67 = .ok (.putfield 197, 3) := dk_181 0 197 (dk_at dksX9_read_2 20 rfl rfl)
theorem dX9_read_70 : decode cX9_read 70 = .ok (.aload_n 0, 1) := dk_42 (dk_at dksX9_read_2 23 rfl rfl)
theorem dX9_read_71 : decode cX9_read 71 = .ok (.iconst 0, 1) := dk_3 (dk_at dksX9_read_3 0 rfl rfl)
theorem dX9_read_72 : decode cX9_read 72 = .ok (.putfield 200, 3) := dk_181 0 200 (dk_at dksX9_read_3 1 rfl rfl)
theorem dX9_read_75 : decode cX9_read 75 = .ok (.aload_n 0, 1) := dk_42 (dk_at dksX9_read_3 4 rfl rfl)
theorem dX9_read_76 : decode cX9_read 76 = .ok (.iconst 0, 1) := dk_3 (dk_at dksX9_read_3 5 rfl rfl)
theorem dX9_read_77 : decode cX9_read 77 = .ok (.putfield 203, 3) := dk_181 0 203 (dk_at dksX9_read_3 6 rfl rfl)
theorem dX9_read_80 : decode cX9_read 80 = .ok (.aload_n 0, 1) := dk_42 (dk_at dksX9_read_3 9 rfl rfl)
theorem dX9_read_81 : decode cX9_read 81 = .ok (.bipush 20, 2) := dk_16 20 (dk_at dksX9_read_3 10 rfl rfl)
theorem dX9_read_83 : decode cX9_read 83 = .ok (.iconst 1, 1) := dk_4 (dk_at dksX9_read_3 12 rfl rfl)
theorem dX9_read_84 : decode cX9_read 84 = .ok (.bipush 8, 2) := dk_16 8 (dk_at dksX9_read_3 13 rfl rfl)
theorem dX9_read_86 : decode cX9_read 86 = .ok (.iconst 3, 1) := dk_6 (dk_at dksX9_read_3 15 rfl rfl)
theorem dX9_read_87 : decode cX9_read 87 = .ok (.invokevirtual 206, 3) := dk_182 0 206 (dk_at dksX9_read_3 16 rfl rfl)
theorem dX9_read_90 : decode cX9_read 90 = .ok (.istore_n 1, 1) := dk_60 (dk_at dksX9_read_3 19 rfl rfl)
theorem dX9_read_91 : decode cX9_read 91 = .ok (.aload_n 0, 1) := dk_42 (dk_at dksX9_read_3 20 rfl rfl)
theorem dX9_read_92 : decode cX9_read 92 = .ok (.bipush 21, 2) := dk_16 21 (dk_at dksX9_read_3 21 rfl rfl)
theorem dX9_read_94 : decode cX9_read 94 = .ok (.iconst 4, 1) := dk_7 (dk_at dksX9_read_3 23 rfl rfl)
theorem dX9_read_95 : decode cX9_read 95 = .ok (.bipush 12, 2) := dk_16 12 (dk_at dksX9_read_4 0 rfl rfl)
theorem dX9_read_97 : decode cX9_read 97 = .ok (.bipush 6, 2) := dk_16 6 (dk_at dksX9_read_4 2 rfl rfl)
theorem dX9_read_99 : decode cX9_read 99 = .ok (.invokevirtual 206, 3) := dk_182 0 206 (dk_at dksX9_read_4 4 rfl rfl)
theorem dX9_read_102 : decode cX9_read 102 = .ok (.istore_n 2, 1) := dk_61 (dk_at dksX9_read_4 7 rfl rfl)
theorem dX9_read_103 : decode cX9_read 103 = .ok (.aload_n 0, 1) := dk_42 (dk_at dksX9_read_4 8 rfl rfl)
theorem dX9_read_104 : decode cX9_read 104 = .ok (.bipush 22, 2) := dk_16 22 (dk_at dksX9_read_4 9 rfl rfl)
theorem dX9_read_106 : decode cX9_read 106 = .ok (.iconst 0, 1) := dk_3 (dk_at dksX9_read_4 11 rfl rfl)
theorem dX9_read_107 : decode cX9_read 107 = .ok (.iconst 3, 1) := dk_6 (dk_at dksX9_read_4 12 rfl rfl)
theorem dX9_read_108 : decode cX9_read 108 = .ok (.iconst 2, 1) := dk_5 (dk_at dksX9_read_4 13 rfl rfl)
theorem dX9_read_109 : decode cX9_read 109 = .ok (.invokevirtual 206, 3) := dk_182 0 206 (dk_at dksX9_read_4 14 rfl rfl)
theorem dX9_read_112 : decode cX9_read 112 = .ok (.istore_n 3, 1) := dk_62 (dk_at dksX9_read_4 17 rfl rfl)
theorem dX9_read_113 : decode cX9_read 113 = .ok (.aload_n 0, 1) := dk_42 (dk_at dksX9_read_4 18 rfl rfl)
theorem dX9_read_114 : decode cX9_read 114 = .ok (.getfield 167, 3) := dk_180 0 167 (dk_at dksX9_read_4 19 rfl rfl)
theorem dX9_read_117 : decode cX9_read 117 = .ok (.ifCond .ne 18, 3) := dk_154 0 18 (dk_at dksX9_read_5 0 rfl rfl)
theorem dX9_read_120 : decode cX9_read 120 = .ok (.aload_n 0, 1) := dk_42 (dk_at dksX9_read_5 3 rfl rfl)
theorem dX9_read_121 : decode cX9_read 121 = .ok (.iconst 0, 1) := dk_3 (dk_at dksX9_read_5 4 rfl rfl)
theorem dX9_read_122 : decode cX9_read 122 = .ok (.invokevirtual 185, 3) := dk_182 0 185 (dk_at dksX9_read_5 5 rfl rfl)
theorem dX9_read_125 : decode cX9_read 125 = .ok (.ifCond .ne 10, 3) := dk_154 0 10 (dk_at dksX9_read_5 8 rfl rfl)
theorem dX9_read_128 : decode cX9_read 128 = .ok (.aload_n 0, 1) := dk_42 (dk_at dksX9_read_5 11 rfl rfl)
theorem dX9_read_129 : decode cX9_read 129 = .ok (.invokevirtual 210, 3) := dk_182 0 210 (dk_at dksX9_read_5 12 rfl rfl)
theorem dX9_read_132 : decode cX9_read 132 = .ok (.goto (-19), 3) := dk_167 255 237 (dk_at dksX9_read_5 15 rfl rfl)
theorem dX9_read_135 : decode cX9_read 135 = .ok (.aload_n 0, 1) := dk_42 (dk_at dksX9_read_5 18 rfl rfl)
theorem dX9_read_136 : decode cX9_read 136 = .ok (.getfield 167, 3) := dk_180 0 167 (dk_at dksX9_read_5 19 rfl rfl)
theorem dX9_read_139 : decode cX9_read 139 = .ok (.ifCond .ne 15, 3) := dk_154 0 15 (dk_at dksX9_read_6 0 rfl rfl)
theorem dX9_read_142 : decode cX9_read 142 = .ok (.aload_n 0, 1) := dk_42 (dk_at dksX9_read_6 3 rfl rfl)
theorem dX9_read_143 : decode cX9_read 143 = .ok (.getfield 200, 3) := dk_180 0 200 (dk_at dksX9_read_6 4 rfl rfl)
theorem dX9_read_146 : decode cX9_read 146 = .ok (.ifCond .le 8, 3) := dk_158 0 8 (dk_at dksX9_read_6 7 rfl rfl)
theorem dX9_read_149 : decode cX9_read 149 = .ok (.aload_n 0, 1) := dk_42 (dk_at dksX9_read_6 10 rfl rfl)
theorem dX9_read_150 : decode cX9_read 150 = .ok (.iconst 1, 1) := dk_4 (dk_at dksX9_read_6 11 rfl rfl)
theorem dX9_read_151 : decode cX9_read 151 = .ok (.invokevirtual 182, 3) := dk_182 0 182 (dk_at dksX9_read_6 12 rfl rfl)
theorem dX9_read_154 : decode cX9_read 154 = .ok (.aload_n 0, 1) := dk_42 (dk_at dksX9_read_6 15 rfl rfl)
theorem dX9_read_155 : decode cX9_read 155 = .ok (.aload_n 0, 1) := dk_42 (dk_at dksX9_read_6 16 rfl rfl)
theorem dX9_read_156 : decode cX9_read 156 = .ok (.getfield 167, 3) := dk_180 0 167 (dk_at dksX9_read_6 17 rfl rfl)
theorem dX9_read_159 : decode cX9_read 159 = .ok (.ifCond .le 10, 3) := dk_158 0 10 (dk_at dksX9_read_6 20 rfl rfl)
theorem dX9_read_162 : decode cX9_read 162 = .ok (.aload_n 0, 1) := dk_42 (dk_at dksX9_read_6 23 rfl rfl)
theorem dX9_read_163 : decode cX9_read 163 = .ok (.getfield 173, 3) := dk_180 0 173 (dk_at dksX9_read_7 0 rfl rfl)
theorem dX9_read_166 : decode cX9_read 166 = .ok (.goto 18, 3) := dk_167 0 18 (dk_at dksX9_read_7 3 rfl rfl)
theorem dX9_read_169 : decode cX9_read 169 = .ok (.aload_n 0, 1) := dk_42 (dk_at dksX9_read_7 6 rfl rfl)
theorem dX9_read_170 : decode cX9_read 170 = .ok (.getfield 176, 3) := dk_180 0 176 (dk_at dksX9_read_7 7 rfl rfl)
theorem dX9_read_173 : decode cX9_read 173 = .ok (.ifCond .le 10, 3) := dk_158 0 10 (dk_at dksX9_read_7 10 rfl rfl)
theorem dX9_read_176 : decode cX9_read 176 = .ok (.aload_n 0, 1) := dk_42 (dk_at dksX9_read_7 13 rfl rfl)
theorem dX9_read_177 : decode cX9_read 177 = .ok (.getfield 179, 3) := dk_180 0 179 (dk_at dksX9_read_7 14 rfl rfl)
theorem dX9_read_180 : decode cX9_read 180 = .ok (.goto 4, 3) := dk_167 0 4 (dk_at dksX9_read_7 17 rfl rfl)
theorem dX9_read_183 : decode cX9_read 183 = .ok (.iconst (-1), 1) := dk_2 (dk_at dksX9_read_7 20 rfl rfl)
theorem dX9_read_184 : decode cX9_read 184 = .ok (.putfield 37, 3) := dk_181 0 37 (dk_at dksX9_read_7 21 rfl rfl)
theorem dX9_read_187 : decode cX9_read 187 = .ok (.aload_n 0, 1) := dk_42 (dk_at dksX9_read_8 0 rfl rfl)
theorem dX9_read_188 : decode cX9_read 188 = .ok (.getfield 167, 3) := dk_180 0 167 (dk_at dksX9_read_8 1 rfl rfl)
theorem dX9_read_191 : decode cX9_read 191 = .ok (.ifCond .le 8, 3) := dk_158 0 8 (dk_at dksX9_read_8 4 rfl rfl)
theorem dX9_read_194 : decode cX9_read 194 = .ok (.aload_n 0, 1) := dk_42 (dk_at dksX9_read_8 7 rfl rfl)
theorem dX9_read_195 : decode cX9_read 195 = .ok (.getfield 167, 3) := dk_180 0 167 (dk_at dksX9_read_8 8 rfl rfl)
theorem dX9_read_198 : decode cX9_read 198 = .ok (.ireturn, 1) := dk_172 (dk_at dksX9_read_8 11 rfl rfl)
theorem dX9_read_199 : decode cX9_read 199 = .ok (.aload_n 0, 1) := dk_42 (dk_at dksX9_read_8 12 rfl rfl)
theorem dX9_read_200 : decode cX9_read 200 = .ok (.getfield 176, 3) := dk_180 0 176 (dk_at dksX9_read_8 13 rfl rfl)
theorem dX9_read_203 : decode cX9_read 203 = .ok (.ifCond .le 8, 3) := dk_158 0 8 (dk_at dksX9_read_8 16 rfl rfl)
theorem dX9_read_206 : decode cX9_read 206 = .ok (.aload_n 0, 1) := dk_42 (dk_at dksX9_read_8 19 rfl rfl)
theorem dX9_read_207 : decode cX9_read 207 = .ok (.getfield 176, 3) := dk_180 0 176 (dk_at dksX9_read_8 20 rfl rfl)
theorem dX9_read_210 : decode cX9_read 210 = .ok (.ireturn, 1) := dk_172 (dk_at dksX9_read_8 23 rfl rfl)
theorem dX9_read_211 : decode cX9_read 211 = .ok (.aload_n 0, 1) := dk_42 (dk_at dksX9_read_9 0 rfl rfl)
theorem dX9_read_212 : decode cX9_read 212 = .ok (.iload_n 1, 1) := dk_27 (dk_at dksX9_read_9 1 rfl rfl)
theorem dX9_read_213 : decode cX9_read 213 = .ok (.iload_n 2, 1) := dk_28 (dk_at dksX9_read_9 2 rfl rfl)
theorem dX9_read_214 : decode cX9_read 214 = .ok (.iload_n 3, 1) := dk_29 (dk_at dksX9_read_9 3 rfl rfl)
theorem dX9_read_215 : decode cX9_read 215 = .ok (.invokevirtual 125, 3) := dk_182 0 125 (dk_at dksX9_read_9 4 rfl rfl)
theorem dX9_read_218 : decode cX9_read 218 = .ok (.iconst 0, 1) := dk_3 (dk_at dksX9_read_9 7 rfl rfl)
theorem dX9_read_219 : decode cX9_read 219 = .ok (.istore 4, 2) := dk_54 4 (dk_at dksX9_read_9 8 rfl rfl)
theorem dX9_read_221 : decode cX9_read 221 = .ok (.iload 4, 2) := dk_21 4 (dk_at dksX9_read_9 10 rfl rfl)
theorem dX9_read_223 : decode cX9_read 223 = .ok (.iconst 3, 1) := dk_6 (dk_at dksX9_read_9 12 rfl rfl)
theorem dX9_read_224 : decode cX9_read 224 = .ok (.if_icmp .ge 17, 3) := dk_162 0 17 (dk_at dksX9_read_9 13 rfl rfl)
theorem dX9_read_227 : decode cX9_read 227 = .ok (.aload_n 0, 1) := dk_42 (dk_at dksX9_read_9 16 rfl rfl)
theorem dX9_read_228 : decode cX9_read 228 = .ok (.getfield 113, 3) := dk_180 0 113 (dk_at dksX9_read_9 17 rfl rfl)
theorem dX9_read_231 : decode cX9_read 231 = .ok (.iload 4, 2) := dk_21 4 (dk_at dksX9_read_9 20 rfl rfl)
theorem dX9_read_233 : decode cX9_read 233 = .ok (.iconst 0, 1) := dk_3 (dk_at dksX9_read_9 22 rfl rfl)
theorem dX9_read_234 : decode cX9_read 234 = .ok (.bastore, 1) := dk_84 (dk_at dksX9_read_9 23 rfl rfl)
theorem dX9_read_235 : decode cX9_read 235 = .ok (.iinc 4 1, 3) := dk_132 4 1 (dk_at dksX9_read_10 0 rfl rfl)
theorem dX9_read_238 : decode cX9_read 238 = .ok (.goto (-17), 3) := dk_167 255 239 (dk_at dksX9_read_10 3 rfl rfl)
theorem dX9_read_241 : decode cX9_read 241 = .ok (.aload_n 0, 1) := dk_42 (dk_at dksX9_read_10 6 rfl rfl)
theorem dX9_read_242 : decode cX9_read 242 = .ok (.invokevirtual 213, 3) := dk_182 0 213 (dk_at dksX9_read_10 7 rfl rfl)
theorem dX9_read_245 : decode cX9_read 245 = .ok (.iconst 0, 1) := dk_3 (dk_at dksX9_read_10 10 rfl rfl)
theorem dX9_read_246 : decode cX9_read 246 = .ok (.ireturn, 1) := dk_172 (dk_at dksX9_read_10 11 rfl rfl)
abbrev cX9_cutsUp : ByteArray := prog_20_method_12_code
def yX9_cutsUp : MethodName := ⟨RX9, "cutsUp", "()V"⟩
def dkwX9_cutsUp_12 : List UInt8 := [4, 96, 182, 0, 148, 182, 0, 163, 96, 60, 167, 254, 228, 177]
abbrev dktX9_cutsUp_12 : List UInt8 := dkwX9_cutsUp_12 ++ []
def dkwX9_cutsUp_11 : List UInt8 := [167, 0, 4, 5, 27, 21, 4, 9, 182, 0, 152, 27, 29, 96, 60, 167, 0, 19, 27, 42, 27, 28, 42, 27]
abbrev dktX9_cutsUp_11 : List UInt8 := dkwX9_cutsUp_11 ++ dktX9_cutsUp_12
def dkwX9_cutsUp_10 : List UInt8 := [96, 182, 0, 148, 96, 16, 48, 100, 54, 4, 132, 3, 1, 167, 255, 217, 42, 29, 7, 164, 0, 7, 6]
abbrev dktX9_cutsUp_10 : List UInt8 := dkwX9_cutsUp_10 ++ dktX9_cutsUp_11
def dkwX9_cutsUp_9 : List UInt8 := [29, 96, 182, 0, 148, 184, 0, 160, 153, 0, 32, 29, 7, 162, 0, 21, 16, 10, 21, 4, 104, 42, 27, 29]
abbrev dktX9_cutsUp_9 : List UInt8 := dkwX9_cutsUp_9 ++ dktX9_cutsUp_10
def dkwX9_cutsUp_8 : List UInt8 := [182, 0, 152, 27, 29, 96, 60, 167, 0, 98, 28, 184, 0, 160, 153, 0, 75, 3, 62, 3, 54, 4, 42, 27]
abbrev dktX9_cutsUp_8 : List UInt8 := dkwX9_cutsUp_8 ++ dktX9_cutsUp_9
def dkwX9_cutsUp_7 : List UInt8 := [154, 0, 10, 16, 20, 21, 7, 96, 54, 6, 132, 7, 1, 167, 255, 226, 42, 21, 6, 27, 3, 22, 4]
abbrev dktX9_cutsUp_7 : List UInt8 := dkwX9_cutsUp_7 ++ dktX9_cutsUp_8
def dkwX9_cutsUp_6 : List UInt8 := [163, 0, 39, 3, 54, 7, 21, 7, 16, 18, 162, 0, 29, 42, 180, 0, 34, 21, 7, 47, 22, 4, 148]
abbrev dktX9_cutsUp_6 : List UInt8 := dkwX9_cutsUp_6 ++ dktX9_cutsUp_7
def dkwX9_cutsUp_5 : List UInt8 := [55, 4, 132, 3, 1, 167, 255, 220, 29, 16, 8, 164, 0, 7, 6, 167, 0, 4, 4, 54, 6, 29, 16, 8]
abbrev dktX9_cutsUp_5 : List UInt8 := dkwX9_cutsUp_5 ++ dktX9_cutsUp_6
def dkwX9_cutsUp_4 : List UInt8 := [184, 0, 156, 153, 0, 29, 29, 16, 8, 162, 0, 17, 22, 4, 42, 27, 29, 96, 182, 0, 148, 184, 0, 141]
abbrev dktX9_cutsUp_4 : List UInt8 := dkwX9_cutsUp_4 ++ dktX9_cutsUp_5
def dkwX9_cutsUp_3 : List UInt8 := [167, 0, 221, 28, 184, 0, 156, 153, 0, 119, 3, 62, 9, 55, 4, 42, 27, 29, 96, 182, 0, 148]
abbrev dktX9_cutsUp_3 : List UInt8 := dkwX9_cutsUp_3 ++ dktX9_cutsUp_4
def dkwX9_cutsUp_2 : List UInt8 := [159, 0, 21, 28, 16, 10, 159, 0, 15, 28, 16, 13, 159, 0, 9, 28, 16, 32, 160, 0, 9, 132, 1, 1]
abbrev dktX9_cutsUp_2 : List UInt8 := dkwX9_cutsUp_2 ++ dktX9_cutsUp_3
def dkwX9_cutsUp_1 : List UInt8 := [42, 180, 0, 136, 161, 0, 15, 42, 3, 42, 180, 0, 136, 3, 9, 182, 0, 152, 177, 28, 16, 9]
abbrev dktX9_cutsUp_1 : List UInt8 := dkwX9_cutsUp_1 ++ dktX9_cutsUp_2
def dkwX9_cutsUp_0 : List UInt8 := [42, 3, 181, 0, 145, 3, 60, 42, 180, 0, 145, 17, 1, 144, 163, 1, 24, 42, 27, 182, 0, 148, 61, 27]
abbrev dktX9_cutsUp_0 : List UInt8 := dkwX9_cutsUp_0 ++ dktX9_cutsUp_1
theorem dksX9_cutsUp_0 : cX9_cutsUp.data.toList.drop 0 = dktX9_cutsUp_0 := by decide +kernel
theorem dksX9_cutsUp_1 : cX9_cutsUp.data.toList.drop 24 = dktX9_cutsUp_1 := dk_seg dksX9_cutsUp_0 24 rfl rfl
theorem dksX9_cutsUp_2 : cX9_cutsUp.data.toList.drop 46 = dktX9_cutsUp_2 := dk_seg dksX9_cutsUp_1 22 rfl rfl
theorem dksX9_cutsUp_3 : cX9_cutsUp.data.toList.drop 70 = dktX9_cutsUp_3 := dk_seg dksX9_cutsUp_2 24 rfl rfl
theorem dksX9_cutsUp_4 : cX9_cutsUp.data.toList.drop 92 = dktX9_cutsUp_4 := dk_seg dksX9_cutsUp_3 22 rfl rfl
theorem dksX9_cutsUp_5 : cX9_cutsUp.data.toList.drop 116 = dktX9_cutsUp_5 := dk_seg dksX9_cutsUp_4 24 rfl rfl
theorem dksX9_cutsUp_6 : cX9_cutsUp.data.toList.drop 140 = dktX9_cutsUp_6 := dk_seg dksX9_cutsUp_5 24 rfl rfl
theorem dksX9_cutsUp_7 : cX9_cutsUp.data.toList.drop 163 = dktX9_cutsUp_7 := dk_seg dksX9_cutsUp_6 23 rfl rfl
theorem dksX9_cutsUp_8 : cX9_cutsUp.data.toList.drop 186 = dktX9_cutsUp_8 := dk_seg dksX9_cutsUp_7 23 rfl rfl
theorem dksX9_cutsUp_9 : cX9_cutsUp.data.toList.drop 210 = dktX9_cutsUp_9 := dk_seg dksX9_cutsUp_8 24 rfl rfl
theorem dksX9_cutsUp_10 : cX9_cutsUp.data.toList.drop 234 = dktX9_cutsUp_10 := dk_seg dksX9_cutsUp_9 24 rfl rfl
theorem dksX9_cutsUp_11 : cX9_cutsUp.data.toList.drop 257 = dktX9_cutsUp_11 := dk_seg dksX9_cutsUp_10 23 rfl rfl
theorem dksX9_cutsUp_12 : cX9_cutsUp.data.toList.drop 281 = dktX9_cutsUp_12 := dk_seg dksX9_cutsUp_11 24 rfl rfl
theorem dX9_cutsUp_0 : decode cX9_cutsUp 0 = .ok (.aload_n 0, 1) := dk_42 (dk_at dksX9_cutsUp_0 0 rfl rfl)
theorem dX9_cutsUp_1 : decode cX9_cutsUp 1 = .ok (.iconst 0, 1) := dk_3 (dk_at dksX9_cutsUp_0 1 rfl rfl)
theorem dX9_cutsUp_2 : decode cX9_cutsUp 2 = .ok (.putfield 145, 3) := dk_181 0 145 (dk_at dksX9_cutsUp_0 2 rfl rfl)
theorem dX9_cutsUp_5 : decode cX9_cutsUp 5 = .ok (.iconst 0, 1) := dk_3 (dk_at dksX9_cutsUp_0 5 rfl rfl)
theorem dX9_cutsUp_6 : decode cX9_cutsUp 6 = .ok (.istore_n 1, 1) := dk_60 (dk_at dksX9_cutsUp_0 6 rfl rfl)
theorem dX9_cutsUp_7 : decode cX9_cutsUp 7 = .ok (.aload_n 0, 1) := dk_42 (dk_at dksX9_cutsUp_0 7 rfl rfl)
theorem dX9_cutsUp_8 : decode cX9_cutsUp 8 = .ok (.getfield 145, 3) := dk_180 0 145 (dk_at dksX9_cutsUp_0 8 rfl rfl)
theorem dX9_cutsUp_11 : decode cX9_cutsUp 11 = .ok (.sipush 400, 3) := dk_17 1 144 (dk_at dksX9_cutsUp_0 11 rfl rfl)
theorem dX9_cutsUp_14 : decode cX9_cutsUp 14 = .ok (.if_icmp .gt 280, 3) := dk_163 1 24 (dk_at dksX9_cutsUp_0 14 rfl rfl)
theorem dX9_cutsUp_17 : decode cX9_cutsUp 17 = .ok (.aload_n 0, 1) := dk_42 (dk_at dksX9_cutsUp_0 17 rfl rfl)
theorem dX9_cutsUp_18 : decode cX9_cutsUp 18 = .ok (.iload_n 1, 1) := dk_27 (dk_at dksX9_cutsUp_0 18 rfl rfl)
theorem dX9_cutsUp_19 : decode cX9_cutsUp 19 = .ok (.invokevirtual 148, 3) := dk_182 0 148 (dk_at dksX9_cutsUp_0 19 rfl rfl)
theorem dX9_cutsUp_22 : decode cX9_cutsUp 22 = .ok (.istore_n 2, 1) := dk_61 (dk_at dksX9_cutsUp_0 22 rfl rfl)
theorem dX9_cutsUp_23 : decode cX9_cutsUp 23 = .ok (.iload_n 1, 1) := dk_27 (dk_at dksX9_cutsUp_0 23 rfl rfl)
theorem dX9_cutsUp_24 : decode cX9_cutsUp 24 = .ok (.aload_n 0, 1) := dk_42 (dk_at dksX9_cutsUp_1 0 rfl rfl)
theorem dX9_cutsUp_25 : decode cX9_cutsUp 25 = .ok (.getfield 136, 3) := dk_180 0 136 (dk_at dksX9_cutsUp_1 1 rfl rfl)
theorem dX9_cutsUp_28 : decode cX9_cutsUp 28 = .ok (.if_icmp .lt 15, 3) := dk_161 0 15 (dk_at dksX9_cutsUp_1 4 rfl rfl)
theorem dX9_cutsUp_31 : decode cX9_cutsUp 31 = .ok (.aload_n 0, 1) := dk_42 (dk_at dksX9_cutsUp_1 7 rfl rfl)
theorem dX9_cutsUp_32 : decode cX9_cutsUp 32 = .ok (.iconst 0, 1) := dk_3 (dk_at dksX9_cutsUp_1 8 rfl rfl)
theorem dX9_cutsUp_33 : decode cX9_cutsUp 33 = .ok (.aload_n 0, 1) := dk_42 (dk_at dksX9_cutsUp_1 9 rfl rfl)
theorem dX9_cutsUp_34 : decode cX9_cutsUp 34 = .ok (.getfield 136, 3) := dk_180 0 136 (dk_at dksX9_cutsUp_1 10 rfl rfl)
theorem dX9_cutsUp_37 : decode cX9_cutsUp 37 = .ok (.iconst 0, 1) := dk_3 (dk_at dksX9_cutsUp_1 13 rfl rfl)
theorem dX9_cutsUp_38 : decode cX9_cutsUp 38 = .ok (.lconst 0, 1) := dk_9 (dk_at dksX9_cutsUp_1 14 rfl rfl)
theorem dX9_cutsUp_39 : decode cX9_cutsUp 39 = .ok (.invokevirtual 152, 3) := dk_182 0 152 (dk_at dksX9_cutsUp_1 15 rfl rfl)
theorem dX9_cutsUp_42 : decode cX9_cutsUp 42 = .ok (.return_, 1) := dk_177 (dk_at dksX9_cutsUp_1 18 rfl rfl)
theorem dX9_cutsUp_43 : decode cX9_cutsUp 43 = .ok (.iload_n 2, 1) := dk_28 (dk_at dksX9_cutsUp_1 19 rfl rfl)
theorem dX9_cutsUp_44 : decode cX9_cutsUp 44 = .ok (.bipush 9, 2) := dk_16 9 (dk_at dksX9_cutsUp_1 20 rfl rfl)
theorem dX9_cutsUp_46 : decode cX9_cutsUp 46 = .ok (.if_icmp .eq 21, 3) := dk_159 0 21 (dk_at dksX9_cutsUp_2 0 rfl rfl)
theorem dX9_cutsUp_49 : decode cX9_cutsUp 49 = .ok (.iload_n 2, 1) := dk_28 (dk_at dksX9_cutsUp_2 3 rfl rfl)
theorem dX9_cutsUp_50 : decode cX9_cutsUp 50 = .ok (.bipush 10, 2) := dk_16 10 (dk_at dksX9_cutsUp_2 4 rfl rfl)
theorem dX9_cutsUp_52 : decode cX9_cutsUp 52 = .ok (.if_icmp .eq 15, 3) := dk_159 0 15 (dk_at dksX9_cutsUp_2 6 rfl rfl)
theorem dX9_cutsUp_55 : decode cX9_cutsUp 55 = .ok (.iload_n 2, 1) := dk_28 (dk_at dksX9_cutsUp_2 9 rfl rfl)
theorem dX9_cutsUp_56 : decode cX9_cutsUp 56 = .ok (.bipush 13, 2) := dk_16 13 (dk_at dksX9_cutsUp_2 10 rfl rfl)
theorem dX9_cutsUp_58 : decode cX9_cutsUp 58 = .ok (.if_icmp .eq 9, 3) := dk_159 0 9 (dk_at dksX9_cutsUp_2 12 rfl rfl)
theorem dX9_cutsUp_61 : decode cX9_cutsUp 61 = .ok (.iload_n 2, 1) := dk_28 (dk_at dksX9_cutsUp_2 15 rfl rfl)
theorem dX9_cutsUp_62 : decode cX9_cutsUp 62 = .ok (.bipush 32, 2) := dk_16 32 (dk_at dksX9_cutsUp_2 16 rfl rfl)
theorem dX9_cutsUp_64 : decode cX9_cutsUp 64 = .ok (.if_icmp .ne 9, 3) := dk_160 0 9 (dk_at dksX9_cutsUp_2 18 rfl rfl)
theorem dX9_cutsUp_67 : decode cX9_cutsUp 67 = .ok (.iinc 1 1, 3) := dk_132 1 1 (dk_at dksX9_cutsUp_2 21 rfl rfl)
theorem dX9_cutsUp_70 : decode cX9_cutsUp 70 = .ok (.goto 221, 3) := dk_167 0 221 (dk_at dksX9_cutsUp_3 0 rfl rfl)
theorem dX9_cutsUp_73 : decode cX9_cutsUp 73 = .ok (.iload_n 2, 1) := dk_28 (dk_at dksX9_cutsUp_3 3 rfl rfl)
theorem dX9_cutsUp_74 : decode cX9_cutsUp 74 = .ok (.invokestatic 156, 3) := dk_184 0 156 (dk_at dksX9_cutsUp_3 4 rfl rfl)
theorem dX9_cutsUp_77 : decode cX9_cutsUp 77 = .ok (.ifCond .eq 119, 3) := dk_153 0 119 (dk_at dksX9_cutsUp_3 7 rfl rfl)
theorem dX9_cutsUp_80 : decode cX9_cutsUp 80 = .ok (.iconst 0, 1) := dk_3 (dk_at dksX9_cutsUp_3 10 rfl rfl)
theorem dX9_cutsUp_81 : decode cX9_cutsUp 81 = .ok (.istore_n 3, 1) := dk_62 (dk_at dksX9_cutsUp_3 11 rfl rfl)
theorem dX9_cutsUp_82 : decode cX9_cutsUp 82 = .ok (.lconst 0, 1) := dk_9 (dk_at dksX9_cutsUp_3 12 rfl rfl)
theorem dX9_cutsUp_83 : decode cX9_cutsUp 83 = .ok (.lstore 4, 2) := dk_55 4 (dk_at dksX9_cutsUp_3 13 rfl rfl)
theorem dX9_cutsUp_85 : decode cX9_cutsUp 85 = .ok (.aload_n 0, 1) := dk_42 (dk_at dksX9_cutsUp_3 15 rfl rfl)
theorem dX9_cutsUp_86 : decode cX9_cutsUp 86 = .ok (.iload_n 1, 1) := dk_27 (dk_at dksX9_cutsUp_3 16 rfl rfl)
theorem dX9_cutsUp_87 : decode cX9_cutsUp 87 = .ok (.iload_n 3, 1) := dk_29 (dk_at dksX9_cutsUp_3 17 rfl rfl)
theorem dX9_cutsUp_88 : decode cX9_cutsUp 88 = .ok (.iadd, 1) := dk_96 (dk_at dksX9_cutsUp_3 18 rfl rfl)
theorem dX9_cutsUp_89 : decode cX9_cutsUp 89 = .ok (.invokevirtual 148, 3) := dk_182 0 148 (dk_at dksX9_cutsUp_3 19 rfl rfl)
theorem dX9_cutsUp_92 : decode cX9_cutsUp 92 = .ok (.invokestatic 156, 3) := dk_184 0 156 (dk_at dksX9_cutsUp_4 0 rfl rfl)
theorem dX9_cutsUp_95 : decode cX9_cutsUp 95 = .ok (.ifCond .eq 29, 3) := dk_153 0 29 (dk_at dksX9_cutsUp_4 3 rfl rfl)
theorem dX9_cutsUp_98 : decode cX9_cutsUp 98 = .ok (.iload_n 3, 1) := dk_29 (dk_at dksX9_cutsUp_4 6 rfl rfl)
theorem dX9_cutsUp_99 : decode cX9_cutsUp 99 = .ok (.bipush 8, 2) := dk_16 8 (dk_at dksX9_cutsUp_4 7 rfl rfl)
theorem dX9_cutsUp_101 : decode cX9_cutsUp 101 = .ok (.if_icmp .ge 17, 3) := dk_162 0 17 (dk_at dksX9_cutsUp_4 9 rfl rfl)
theorem dX9_cutsUp_104 : decode cX9_cutsUp 104 = .ok (.lload 4, 2) := dk_22 4 (dk_at dksX9_cutsUp_4 12 rfl rfl)
theorem dX9_cutsUp_106 : decode cX9_cutsUp 106 = .ok (.aload_n 0, 1) := dk_42 (dk_at dksX9_cutsUp_4 14 rfl rfl)
theorem dX9_cutsUp_107 : decode cX9_cutsUp 107 = .ok (.iload_n 1, 1) := dk_27 (dk_at dksX9_cutsUp_4 15 rfl rfl)
theorem dX9_cutsUp_108 : decode cX9_cutsUp 108 = .ok (.iload_n 3, 1) := dk_29 (dk_at dksX9_cutsUp_4 16 rfl rfl)
theorem dX9_cutsUp_109 : decode cX9_cutsUp 109 = .ok (.iadd, 1) := dk_96 (dk_at dksX9_cutsUp_4 17 rfl rfl)
theorem dX9_cutsUp_110 : decode cX9_cutsUp 110 = .ok (.invokevirtual 148, 3) := dk_182 0 148 (dk_at dksX9_cutsUp_4 18 rfl rfl)
theorem dX9_cutsUp_113 : decode cX9_cutsUp 113 = .ok (.invokestatic 141, 3) := dk_184 0 141 (dk_at dksX9_cutsUp_4 21 rfl rfl)
theorem dX9_cutsUp_116 : decode cX9_cutsUp 116 = .ok (.lstore 4, 2) := dk_55 4 (dk_at dksX9_cutsUp_5 0 rfl rfl)
theorem dX9_cutsUp_118 : decode cX9_cutsUp 118 = .ok (.iinc 3 1, 3) := dk_132 3 1 (dk_at dksX9_cutsUp_5 2 rfl rfl)
theorem dX9_cutsUp_121 : decode cX9_cutsUp 121 = .ok (.goto (-36), 3) := dk_167 255 220 (dk_at dksX9_cutsUp_5 5 rfl rfl)
theorem dX9_cutsUp_124 : decode cX9_cutsUp 124 = .ok (.iload_n 3, 1) := dk_29 (dk_at dksX9_cutsUp_5 8 rfl rfl)
theorem dX9_cutsUp_125 : decode cX9_cutsUp 125 = .ok (.bipush 8, 2) := dk_16 8 (dk_at dksX9_cutsUp_5 9 rfl rfl)
theorem dX9_cutsUp_127 : decode cX9_cutsUp 127 = .ok (.if_icmp .le 7, 3) := dk_164 0 7 (dk_at dksX9_cutsUp_5 11 rfl rfl)
theorem dX9_cutsUp_130 : decode cX9_cutsUp 130 = .ok (.iconst 3, 1) := dk_6 (dk_at dksX9_cutsUp_5 14 rfl rfl)
theorem dX9_cutsUp_131 : decode cX9_cutsUp 131 = .ok (.goto 4, 3) := dk_167 0 4 (dk_at dksX9_cutsUp_5 15 rfl rfl)
theorem dX9_cutsUp_134 : decode cX9_cutsUp 134 = .ok (.iconst 1, 1) := dk_4 (dk_at dksX9_cutsUp_5 18 rfl rfl)
theorem dX9_cutsUp_135 : decode cX9_cutsUp 135 = .ok (.istore 6, 2) := dk_54 6 (dk_at dksX9_cutsUp_5 19 rfl rfl)
theorem dX9_cutsUp_137 : decode cX9_cutsUp 137 = .ok (.iload_n 3, 1) := dk_29 (dk_at dksX9_cutsUp_5 21 rfl rfl)
theorem dX9_cutsUp_138 : decode cX9_cutsUp 138 = .ok (.bipush 8, 2) := dk_16 8 (dk_at dksX9_cutsUp_5 22 rfl rfl)
theorem dX9_cutsUp_140 : decode cX9_cutsUp 140 = .ok (.if_icmp .gt 39, 3) := dk_163 0 39 (dk_at dksX9_cutsUp_6 0 rfl rfl)
theorem dX9_cutsUp_143 : decode cX9_cutsUp 143 = .ok (.iconst 0, 1) := dk_3 (dk_at dksX9_cutsUp_6 3 rfl rfl)
theorem dX9_cutsUp_144 : decode cX9_cutsUp 144 = .ok (.istore 7, 2) := dk_54 7 (dk_at dksX9_cutsUp_6 4 rfl rfl)
theorem dX9_cutsUp_146 : decode cX9_cutsUp 146 = .ok (.iload 7, 2) := dk_21 7 (dk_at dksX9_cutsUp_6 6 rfl rfl)
theorem dX9_cutsUp_148 : decode cX9_cutsUp 148 = .ok (.bipush 18, 2) := dk_16 18 (dk_at dksX9_cutsUp_6 8 rfl rfl)
theorem dX9_cutsUp_150 : decode cX9_cutsUp 150 = .ok (.if_icmp .ge 29, 3) := dk_162 0 29 (dk_at dksX9_cutsUp_6 10 rfl rfl)
theorem dX9_cutsUp_153 : decode cX9_cutsUp 153 = .ok (.aload_n 0, 1) := dk_42 (dk_at dksX9_cutsUp_6 13 rfl rfl)
theorem dX9_cutsUp_154 : decode cX9_cutsUp 154 = .ok (.getfield 34, 3) := dk_180 0 34 (dk_at dksX9_cutsUp_6 14 rfl rfl)
theorem dX9_cutsUp_157 : decode cX9_cutsUp 157 = .ok (.iload 7, 2) := dk_21 7 (dk_at dksX9_cutsUp_6 17 rfl rfl)
theorem dX9_cutsUp_159 : decode cX9_cutsUp 159 = .ok (.laload, 1) := dk_47 (dk_at dksX9_cutsUp_6 19 rfl rfl)
theorem dX9_cutsUp_160 : decode cX9_cutsUp 160 = .ok (.lload 4, 2) := dk_22 4 (dk_at dksX9_cutsUp_6 20 rfl rfl)
theorem dX9_cutsUp_162 : decode cX9_cutsUp 162 = .ok (.lcmp, 1) := dk_148 (dk_at dksX9_cutsUp_6 22 rfl rfl)
theorem dX9_cutsUp_163 : decode cX9_cutsUp 163 = .ok (.ifCond .ne 10, 3) := dk_154 0 10 (dk_at dksX9_cutsUp_7 0 rfl rfl)
theorem dX9_cutsUp_166 : decode cX9_cutsUp 166 = .ok (.bipush 20, 2) := dk_16 20 (dk_at dksX9_cutsUp_7 3 rfl rfl)
theorem dX9_cutsUp_168 : decode cX9_cutsUp 168 = .ok (.iload 7, 2) := dk_21 7 (dk_at dksX9_cutsUp_7 5 rfl rfl)
theorem dX9_cutsUp_170 : decode cX9_cutsUp 170 = .ok (.iadd, 1) := dk_96 (dk_at dksX9_cutsUp_7 7 rfl rfl)
theorem dX9_cutsUp_171 : decode cX9_cutsUp 171 = .ok (.istore 6, 2) := dk_54 6 (dk_at dksX9_cutsUp_7 8 rfl rfl)
theorem dX9_cutsUp_173 : decode cX9_cutsUp 173 = .ok (.iinc 7 1, 3) := dk_132 7 1 (dk_at dksX9_cutsUp_7 10 rfl rfl)
theorem dX9_cutsUp_176 : decode cX9_cutsUp 176 = .ok (.goto (-30), 3) := dk_167 255 226 (dk_at dksX9_cutsUp_7 13 rfl rfl)
theorem dX9_cutsUp_179 : decode cX9_cutsUp 179 = .ok (.aload_n 0, 1) := dk_42 (dk_at dksX9_cutsUp_7 16 rfl rfl)
theorem dX9_cutsUp_180 : decode cX9_cutsUp 180 = .ok (.iload 6, 2) := dk_21 6 (dk_at dksX9_cutsUp_7 17 rfl rfl)
theorem dX9_cutsUp_182 : decode cX9_cutsUp 182 = .ok (.iload_n 1, 1) := dk_27 (dk_at dksX9_cutsUp_7 19 rfl rfl)
theorem dX9_cutsUp_183 : decode cX9_cutsUp 183 = .ok (.iconst 0, 1) := dk_3 (dk_at dksX9_cutsUp_7 20 rfl rfl)
theorem dX9_cutsUp_184 : decode cX9_cutsUp 184 = .ok (.lload 4, 2) := dk_22 4 (dk_at dksX9_cutsUp_7 21 rfl rfl)
theorem dX9_cutsUp_186 : decode cX9_cutsUp 186 = .ok (.invokevirtual 152, 3) := dk_182 0 152 (dk_at dksX9_cutsUp_8 0 rfl rfl)
theorem dX9_cutsUp_189 : decode cX9_cutsUp 189 = .ok (.iload_n 1, 1) := dk_27 (dk_at dksX9_cutsUp_8 3 rfl rfl)
theorem dX9_cutsUp_190 : decode cX9_cutsUp 190 = .ok (.iload_n 3, 1) := dk_29 (dk_at dksX9_cutsUp_8 4 rfl rfl)
theorem dX9_cutsUp_191 : decode cX9_cutsUp 191 = .ok (.iadd, 1) := dk_96 (dk_at dksX9_cutsUp_8 5 rfl rfl)
theorem dX9_cutsUp_192 : decode cX9_cutsUp 192 = .ok (.istore_n 1, 1) := dk_60 (dk_at dksX9_cutsUp_8 6 rfl rfl)
theorem dX9_cutsUp_193 : decode cX9_cutsUp 193 = .ok (.goto 98, 3) := dk_167 0 98 (dk_at dksX9_cutsUp_8 7 rfl rfl)
theorem dX9_cutsUp_196 : decode cX9_cutsUp 196 = .ok (.iload_n 2, 1) := dk_28 (dk_at dksX9_cutsUp_8 10 rfl rfl)
theorem dX9_cutsUp_197 : decode cX9_cutsUp 197 = .ok (.invokestatic 160, 3) := dk_184 0 160 (dk_at dksX9_cutsUp_8 11 rfl rfl)
theorem dX9_cutsUp_200 : decode cX9_cutsUp 200 = .ok (.ifCond .eq 75, 3) := dk_153 0 75 (dk_at dksX9_cutsUp_8 14 rfl rfl)
theorem dX9_cutsUp_203 : decode cX9_cutsUp 203 = .ok (.iconst 0, 1) := dk_3 (dk_at dksX9_cutsUp_8 17 rfl rfl)
theorem dX9_cutsUp_204 : decode cX9_cutsUp 204 = .ok (.istore_n 3, 1) := dk_62 (dk_at dksX9_cutsUp_8 18 rfl rfl)
theorem dX9_cutsUp_205 : decode cX9_cutsUp 205 = .ok (.iconst 0, 1) := dk_3 (dk_at dksX9_cutsUp_8 19 rfl rfl)
theorem dX9_cutsUp_206 : decode cX9_cutsUp 206 = .ok (.istore 4, 2) := dk_54 4 (dk_at dksX9_cutsUp_8 20 rfl rfl)
theorem dX9_cutsUp_208 : decode cX9_cutsUp 208 = .ok (.aload_n 0, 1) := dk_42 (dk_at dksX9_cutsUp_8 22 rfl rfl)
theorem dX9_cutsUp_209 : decode cX9_cutsUp 209 = .ok (.iload_n 1, 1) := dk_27 (dk_at dksX9_cutsUp_8 23 rfl rfl)
theorem dX9_cutsUp_210 : decode cX9_cutsUp 210 = .ok (.iload_n 3, 1) := dk_29 (dk_at dksX9_cutsUp_9 0 rfl rfl)
theorem dX9_cutsUp_211 : decode cX9_cutsUp 211 = .ok (.iadd, 1) := dk_96 (dk_at dksX9_cutsUp_9 1 rfl rfl)
theorem dX9_cutsUp_212 : decode cX9_cutsUp 212 = .ok (.invokevirtual 148, 3) := dk_182 0 148 (dk_at dksX9_cutsUp_9 2 rfl rfl)
theorem dX9_cutsUp_215 : decode cX9_cutsUp 215 = .ok (.invokestatic 160, 3) := dk_184 0 160 (dk_at dksX9_cutsUp_9 5 rfl rfl)
theorem dX9_cutsUp_218 : decode cX9_cutsUp 218 = .ok (.ifCond .eq 32, 3) := dk_153 0 32 (dk_at dksX9_cutsUp_9 8 rfl rfl)
theorem dX9_cutsUp_221 : decode cX9_cutsUp 221 = .ok (.iload_n 3, 1) := dk_29 (dk_at dksX9_cutsUp_9 11 rfl rfl)
theorem dX9_cutsUp_222 : decode cX9_cutsUp 222 = .ok (.iconst 4, 1) := dk_7 (dk_at dksX9_cutsUp_9 12 rfl rfl)
theorem dX9_cutsUp_223 : decode cX9_cutsUp 223 = .ok (.if_icmp .ge 21, 3) := dk_162 0 21 (dk_at dksX9_cutsUp_9 13 rfl rfl)
theorem dX9_cutsUp_226 : decode cX9_cutsUp 226 = .ok (.bipush 10, 2) := dk_16 10 (dk_at dksX9_cutsUp_9 16 rfl rfl)
theorem dX9_cutsUp_228 : decode cX9_cutsUp 228 = .ok (.iload 4, 2) := dk_21 4 (dk_at dksX9_cutsUp_9 18 rfl rfl)
theorem dX9_cutsUp_230 : decode cX9_cutsUp 230 = .ok (.imul, 1) := dk_104 (dk_at dksX9_cutsUp_9 20 rfl rfl)
theorem dX9_cutsUp_231 : decode cX9_cutsUp 231 = .ok (.aload_n 0, 1) := dk_42 (dk_at dksX9_cutsUp_9 21 rfl rfl)
theorem dX9_cutsUp_232 : decode cX9_cutsUp 232 = .ok (.iload_n 1, 1) := dk_27 (dk_at dksX9_cutsUp_9 22 rfl rfl)
theorem dX9_cutsUp_233 : decode cX9_cutsUp 233 = .ok (.iload_n 3, 1) := dk_29 (dk_at dksX9_cutsUp_9 23 rfl rfl)
theorem dX9_cutsUp_234 : decode cX9_cutsUp 234 = .ok (.iadd, 1) := dk_96 (dk_at dksX9_cutsUp_10 0 rfl rfl)
theorem dX9_cutsUp_235 : decode cX9_cutsUp 235 = .ok (.invokevirtual 148, 3) := dk_182 0 148 (dk_at dksX9_cutsUp_10 1 rfl rfl)
theorem dX9_cutsUp_238 : decode cX9_cutsUp 238 = .ok (.iadd, 1) := dk_96 (dk_at dksX9_cutsUp_10 4 rfl rfl)
theorem dX9_cutsUp_239 : decode cX9_cutsUp 239 = .ok (.bipush 48, 2) := dk_16 48 (dk_at dksX9_cutsUp_10 5 rfl rfl)
theorem dX9_cutsUp_241 : decode cX9_cutsUp 241 = .ok (.isub, 1) := dk_100 (dk_at dksX9_cutsUp_10 7 rfl rfl)
theorem dX9_cutsUp_242 : decode cX9_cutsUp 242 = .ok (.istore 4, 2) := dk_54 4 (dk_at dksX9_cutsUp_10 8 rfl rfl)
theorem dX9_cutsUp_244 : decode cX9_cutsUp 244 = .ok (.iinc 3 1, 3) := dk_132 3 1 (dk_at dksX9_cutsUp_10 10 rfl rfl)
theorem dX9_cutsUp_247 : decode cX9_cutsUp 247 = .ok (.goto (-39), 3) := dk_167 255 217 (dk_at dksX9_cutsUp_10 13 rfl rfl)
theorem dX9_cutsUp_250 : decode cX9_cutsUp 250 = .ok (.aload_n 0, 1) := dk_42 (dk_at dksX9_cutsUp_10 16 rfl rfl)
theorem dX9_cutsUp_251 : decode cX9_cutsUp 251 = .ok (.iload_n 3, 1) := dk_29 (dk_at dksX9_cutsUp_10 17 rfl rfl)
theorem dX9_cutsUp_252 : decode cX9_cutsUp 252 = .ok (.iconst 4, 1) := dk_7 (dk_at dksX9_cutsUp_10 18 rfl rfl)
theorem dX9_cutsUp_253 : decode cX9_cutsUp 253 = .ok (.if_icmp .le 7, 3) := dk_164 0 7 (dk_at dksX9_cutsUp_10 19 rfl rfl)
theorem dX9_cutsUp_256 : decode cX9_cutsUp 256 = .ok (.iconst 3, 1) := dk_6 (dk_at dksX9_cutsUp_10 22 rfl rfl)
theorem dX9_cutsUp_257 : decode cX9_cutsUp 257 = .ok (.goto 4, 3) := dk_167 0 4 (dk_at dksX9_cutsUp_11 0 rfl rfl)
theorem dX9_cutsUp_260 : decode cX9_cutsUp 260 = .ok (.iconst 2, 1) := dk_5 (dk_at dksX9_cutsUp_11 3 rfl rfl)
theorem dX9_cutsUp_261 : decode cX9_cutsUp 261 = .ok (.iload_n 1, 1) := dk_27 (dk_at dksX9_cutsUp_11 4 rfl rfl)
theorem dX9_cutsUp_262 : decode cX9_cutsUp 262 = .ok (.iload 4, 2) := dk_21 4 (dk_at dksX9_cutsUp_11 5 rfl rfl)
theorem dX9_cutsUp_264 : decode cX9_cutsUp 264 = .ok (.lconst 0, 1) := dk_9 (dk_at dksX9_cutsUp_11 7 rfl rfl)
theorem dX9_cutsUp_265 : decode cX9_cutsUp 265 = .ok (.invokevirtual 152, 3) := dk_182 0 152 (dk_at dksX9_cutsUp_11 8 rfl rfl)
theorem dX9_cutsUp_268 : decode cX9_cutsUp 268 = .ok (.iload_n 1, 1) := dk_27 (dk_at dksX9_cutsUp_11 11 rfl rfl)
theorem dX9_cutsUp_269 : decode cX9_cutsUp 269 = .ok (.iload_n 3, 1) := dk_29 (dk_at dksX9_cutsUp_11 12 rfl rfl)
theorem dX9_cutsUp_270 : decode cX9_cutsUp 270 = .ok (.iadd, 1) := dk_96 (dk_at dksX9_cutsUp_11 13 rfl rfl)
theorem dX9_cutsUp_271 : decode cX9_cutsUp 271 = .ok (.istore_n 1, 1) := dk_60 (dk_at dksX9_cutsUp_11 14 rfl rfl)
theorem dX9_cutsUp_272 : decode cX9_cutsUp 272 = .ok (.goto 19, 3) := dk_167 0 19 (dk_at dksX9_cutsUp_11 15 rfl rfl)
theorem dX9_cutsUp_275 : decode cX9_cutsUp 275 = .ok (.iload_n 1, 1) := dk_27 (dk_at dksX9_cutsUp_11 18 rfl rfl)
theorem dX9_cutsUp_276 : decode cX9_cutsUp 276 = .ok (.aload_n 0, 1) := dk_42 (dk_at dksX9_cutsUp_11 19 rfl rfl)
theorem dX9_cutsUp_277 : decode cX9_cutsUp 277 = .ok (.iload_n 1, 1) := dk_27 (dk_at dksX9_cutsUp_11 20 rfl rfl)
theorem dX9_cutsUp_278 : decode cX9_cutsUp 278 = .ok (.iload_n 2, 1) := dk_28 (dk_at dksX9_cutsUp_11 21 rfl rfl)
theorem dX9_cutsUp_279 : decode cX9_cutsUp 279 = .ok (.aload_n 0, 1) := dk_42 (dk_at dksX9_cutsUp_11 22 rfl rfl)
theorem dX9_cutsUp_280 : decode cX9_cutsUp 280 = .ok (.iload_n 1, 1) := dk_27 (dk_at dksX9_cutsUp_11 23 rfl rfl)
theorem dX9_cutsUp_281 : decode cX9_cutsUp 281 = .ok (.iconst 1, 1) := dk_4 (dk_at dksX9_cutsUp_12 0 rfl rfl)
theorem dX9_cutsUp_282 : decode cX9_cutsUp 282 = .ok (.iadd, 1) := dk_96 (dk_at dksX9_cutsUp_12 1 rfl rfl)
theorem dX9_cutsUp_283 : decode cX9_cutsUp 283 = .ok (.invokevirtual 148, 3) := dk_182 0 148 (dk_at dksX9_cutsUp_12 2 rfl rfl)
theorem dX9_cutsUp_286 : decode cX9_cutsUp 286 = .ok (.invokevirtual 163, 3) := dk_182 0 163 (dk_at dksX9_cutsUp_12 5 rfl rfl)
theorem dX9_cutsUp_289 : decode cX9_cutsUp 289 = .ok (.iadd, 1) := dk_96 (dk_at dksX9_cutsUp_12 8 rfl rfl)
theorem dX9_cutsUp_290 : decode cX9_cutsUp 290 = .ok (.istore_n 1, 1) := dk_60 (dk_at dksX9_cutsUp_12 9 rfl rfl)
theorem dX9_cutsUp_291 : decode cX9_cutsUp 291 = .ok (.goto (-284), 3) := dk_167 254 228 (dk_at dksX9_cutsUp_12 10 rfl rfl)
theorem dX9_cutsUp_294 : decode cX9_cutsUp 294 = .ok (.return_, 1) := dk_177 (dk_at dksX9_cutsUp_12 13 rfl rfl)
abbrev cX9_byteAt : ByteArray := prog_20_method_6_code
def yX9_byteAt : MethodName := ⟨RX9, "byteAt", "(I)I"⟩
def dkwX9_byteAt_0 : List UInt8 := [27, 42, 180, 0, 136, 162, 0, 16, 42, 180, 0, 17, 27, 51, 17, 0, 255, 126, 167, 0, 4, 3, 172]
abbrev dktX9_byteAt_0 : List UInt8 := dkwX9_byteAt_0 ++ []
theorem dksX9_byteAt_0 : cX9_byteAt.data.toList.drop 0 = dktX9_byteAt_0 := by decide +kernel
theorem dX9_byteAt_0 : decode cX9_byteAt 0 = .ok (.iload_n 1, 1) := dk_27 (dk_at dksX9_byteAt_0 0 rfl rfl)
theorem dX9_byteAt_1 : decode cX9_byteAt 1 = .ok (.aload_n 0, 1) := dk_42 (dk_at dksX9_byteAt_0 1 rfl rfl)
theorem dX9_byteAt_2 : decode cX9_byteAt 2 = .ok (.getfield 136, 3) := dk_180 0 136 (dk_at dksX9_byteAt_0 2 rfl rfl)
theorem dX9_byteAt_5 : decode cX9_byteAt 5 = .ok (.if_icmp .ge 16, 3) := dk_162 0 16 (dk_at dksX9_byteAt_0 5 rfl rfl)
theorem dX9_byteAt_8 : decode cX9_byteAt 8 = .ok (.aload_n 0, 1) := dk_42 (dk_at dksX9_byteAt_0 8 rfl rfl)
theorem dX9_byteAt_9 : decode cX9_byteAt 9 = .ok (.getfield 17, 3) := dk_180 0 17 (dk_at dksX9_byteAt_0 9 rfl rfl)
theorem dX9_byteAt_12 : decode cX9_byteAt 12 = .ok (.iload_n 1, 1) := dk_27 (dk_at dksX9_byteAt_0 12 rfl rfl)
theorem dX9_byteAt_13 : decode cX9_byteAt 13 = .ok (.baload, 1) := dk_51 (dk_at dksX9_byteAt_0 13 rfl rfl)
theorem dX9_byteAt_14 : decode cX9_byteAt 14 = .ok (.sipush 255, 3) := dk_17 0 255 (dk_at dksX9_byteAt_0 14 rfl rfl)
theorem dX9_byteAt_17 : decode cX9_byteAt 17 = .ok (.iand, 1) := dk_126 (dk_at dksX9_byteAt_0 17 rfl rfl)
theorem dX9_byteAt_18 : decode cX9_byteAt 18 = .ok (.goto 4, 3) := dk_167 0 4 (dk_at dksX9_byteAt_0 18 rfl rfl)
theorem dX9_byteAt_21 : decode cX9_byteAt 21 = .ok (.iconst 0, 1) := dk_3 (dk_at dksX9_byteAt_0 21 rfl rfl)
theorem dX9_byteAt_22 : decode cX9_byteAt 22 = .ok (.ireturn, 1) := dk_172 (dk_at dksX9_byteAt_0 22 rfl rfl)
abbrev cX9_token : ByteArray := prog_20_method_11_code
def yX9_token : MethodName := ⟨RX9, "token", "(IIIJ)V"⟩
def dkwX9_token_2 : List UInt8 := [181, 0, 145, 177]
abbrev dktX9_token_2 : List UInt8 := dkwX9_token_2 ++ []
def dkwX9_token_1 : List UInt8 := [42, 180, 0, 145, 29, 79, 42, 180, 0, 30, 42, 180, 0, 145, 22, 4, 80, 42, 89, 180, 0, 145, 4, 96]
abbrev dktX9_token_1 : List UInt8 := dkwX9_token_1 ++ dktX9_token_2
def dkwX9_token_0 : List UInt8 := [42, 180, 0, 20, 42, 180, 0, 145, 27, 79, 42, 180, 0, 24, 42, 180, 0, 145, 28, 79, 42, 180, 0, 27]
abbrev dktX9_token_0 : List UInt8 := dkwX9_token_0 ++ dktX9_token_1
theorem dksX9_token_0 : cX9_token.data.toList.drop 0 = dktX9_token_0 := by decide +kernel
theorem dksX9_token_1 : cX9_token.data.toList.drop 24 = dktX9_token_1 := dk_seg dksX9_token_0 24 rfl rfl
theorem dksX9_token_2 : cX9_token.data.toList.drop 48 = dktX9_token_2 := dk_seg dksX9_token_1 24 rfl rfl
theorem dX9_token_0 : decode cX9_token 0 = .ok (.aload_n 0, 1) := dk_42 (dk_at dksX9_token_0 0 rfl rfl)
theorem dX9_token_1 : decode cX9_token 1 = .ok (.getfield 20, 3) := dk_180 0 20 (dk_at dksX9_token_0 1 rfl rfl)
theorem dX9_token_4 : decode cX9_token 4 = .ok (.aload_n 0, 1) := dk_42 (dk_at dksX9_token_0 4 rfl rfl)
theorem dX9_token_5 : decode cX9_token 5 = .ok (.getfield 145, 3) := dk_180 0 145 (dk_at dksX9_token_0 5 rfl rfl)
theorem dX9_token_8 : decode cX9_token 8 = .ok (.iload_n 1, 1) := dk_27 (dk_at dksX9_token_0 8 rfl rfl)
theorem dX9_token_9 : decode cX9_token 9 = .ok (.iastore, 1) := dk_79 (dk_at dksX9_token_0 9 rfl rfl)
theorem dX9_token_10 : decode cX9_token 10 = .ok (.aload_n 0, 1) := dk_42 (dk_at dksX9_token_0 10 rfl rfl)
theorem dX9_token_11 : decode cX9_token 11 = .ok (.getfield 24, 3) := dk_180 0 24 (dk_at dksX9_token_0 11 rfl rfl)
theorem dX9_token_14 : decode cX9_token 14 = .ok (.aload_n 0, 1) := dk_42 (dk_at dksX9_token_0 14 rfl rfl)
theorem dX9_token_15 : decode cX9_token 15 = .ok (.getfield 145, 3) := dk_180 0 145 (dk_at dksX9_token_0 15 rfl rfl)
theorem dX9_token_18 : decode cX9_token 18 = .ok (.iload_n 2, 1) := dk_28 (dk_at dksX9_token_0 18 rfl rfl)
theorem dX9_token_19 : decode cX9_token 19 = .ok (.iastore, 1) := dk_79 (dk_at dksX9_token_0 19 rfl rfl)
theorem dX9_token_20 : decode cX9_token 20 = .ok (.aload_n 0, 1) := dk_42 (dk_at dksX9_token_0 20 rfl rfl)
theorem dX9_token_21 : decode cX9_token 21 = .ok (.getfield 27, 3) := dk_180 0 27 (dk_at dksX9_token_0 21 rfl rfl)
theorem dX9_token_24 : decode cX9_token 24 = .ok (.aload_n 0, 1) := dk_42 (dk_at dksX9_token_1 0 rfl rfl)
theorem dX9_token_25 : decode cX9_token 25 = .ok (.getfield 145, 3) := dk_180 0 145 (dk_at dksX9_token_1 1 rfl rfl)
theorem dX9_token_28 : decode cX9_token 28 = .ok (.iload_n 3, 1) := dk_29 (dk_at dksX9_token_1 4 rfl rfl)
theorem dX9_token_29 : decode cX9_token 29 = .ok (.iastore, 1) := dk_79 (dk_at dksX9_token_1 5 rfl rfl)
theorem dX9_token_30 : decode cX9_token 30 = .ok (.aload_n 0, 1) := dk_42 (dk_at dksX9_token_1 6 rfl rfl)
theorem dX9_token_31 : decode cX9_token 31 = .ok (.getfield 30, 3) := dk_180 0 30 (dk_at dksX9_token_1 7 rfl rfl)
theorem dX9_token_34 : decode cX9_token 34 = .ok (.aload_n 0, 1) := dk_42 (dk_at dksX9_token_1 10 rfl rfl)
theorem dX9_token_35 : decode cX9_token 35 = .ok (.getfield 145, 3) := dk_180 0 145 (dk_at dksX9_token_1 11 rfl rfl)
theorem dX9_token_38 : decode cX9_token 38 = .ok (.lload 4, 2) := dk_22 4 (dk_at dksX9_token_1 14 rfl rfl)
theorem dX9_token_40 : decode cX9_token 40 = .ok (.lastore, 1) := dk_80 (dk_at dksX9_token_1 16 rfl rfl)
theorem dX9_token_41 : decode cX9_token 41 = .ok (.aload_n 0, 1) := dk_42 (dk_at dksX9_token_1 17 rfl rfl)
theorem dX9_token_42 : decode cX9_token 42 = .ok (.dup, 1) := dk_89 (dk_at dksX9_token_1 18 rfl rfl)
theorem dX9_token_43 : decode cX9_token 43 = .ok (.getfield 145, 3) := dk_180 0 145 (dk_at dksX9_token_1 19 rfl rfl)
theorem dX9_token_46 : decode cX9_token 46 = .ok (.iconst 1, 1) := dk_4 (dk_at dksX9_token_1 22 rfl rfl)
theorem dX9_token_47 : decode cX9_token 47 = .ok (.iadd, 1) := dk_96 (dk_at dksX9_token_1 23 rfl rfl)
theorem dX9_token_48 : decode cX9_token 48 = .ok (.putfield 145, 3) := dk_181 0 145 (dk_at dksX9_token_2 0 rfl rfl)
theorem dX9_token_51 : decode cX9_token 51 = .ok (.return_, 1) := dk_177 (dk_at dksX9_token_2 3 rfl rfl)
abbrev cX9_isLetter : ByteArray := prog_20_method_8_code
def yX9_isLetter : MethodName := ⟨RX9, "isLetter", "(I)Z"⟩
def dkwX9_isLetter_0 : List UInt8 := [26, 16, 97, 161, 0, 13, 26, 16, 122, 163, 0, 7, 4, 167, 0, 4, 3, 172]
abbrev dktX9_isLetter_0 : List UInt8 := dkwX9_isLetter_0 ++ []
theorem dksX9_isLetter_0 : cX9_isLetter.data.toList.drop 0 = dktX9_isLetter_0 := by decide +kernel
theorem dX9_isLetter_0 : decode cX9_isLetter 0 = .ok (.iload_n 0, 1) := dk_26 (dk_at dksX9_isLetter_0 0 rfl rfl)
theorem dX9_isLetter_1 : decode cX9_isLetter 1 = .ok (.bipush 97, 2) := dk_16 97 (dk_at dksX9_isLetter_0 1 rfl rfl)
theorem dX9_isLetter_3 : decode cX9_isLetter 3 = .ok (.if_icmp .lt 13, 3) := dk_161 0 13 (dk_at dksX9_isLetter_0 3 rfl rfl)
theorem dX9_isLetter_6 : decode cX9_isLetter 6 = .ok (.iload_n 0, 1) := dk_26 (dk_at dksX9_isLetter_0 6 rfl rfl)
theorem dX9_isLetter_7 : decode cX9_isLetter 7 = .ok (.bipush 122, 2) := dk_16 122 (dk_at dksX9_isLetter_0 7 rfl rfl)
theorem dX9_isLetter_9 : decode cX9_isLetter 9 = .ok (.if_icmp .gt 7, 3) := dk_163 0 7 (dk_at dksX9_isLetter_0 9 rfl rfl)
theorem dX9_isLetter_12 : decode cX9_isLetter 12 = .ok (.iconst 1, 1) := dk_4 (dk_at dksX9_isLetter_0 12 rfl rfl)
theorem dX9_isLetter_13 : decode cX9_isLetter 13 = .ok (.goto 4, 3) := dk_167 0 4 (dk_at dksX9_isLetter_0 13 rfl rfl)
theorem dX9_isLetter_16 : decode cX9_isLetter 16 = .ok (.iconst 0, 1) := dk_3 (dk_at dksX9_isLetter_0 16 rfl rfl)
theorem dX9_isLetter_17 : decode cX9_isLetter 17 = .ok (.ireturn, 1) := dk_172 (dk_at dksX9_isLetter_0 17 rfl rfl)
abbrev cX9_isDigit : ByteArray := prog_20_method_7_code
def yX9_isDigit : MethodName := ⟨RX9, "isDigit", "(I)Z"⟩
def dkwX9_isDigit_0 : List UInt8 := [26, 16, 48, 161, 0, 13, 26, 16, 57, 163, 0, 7, 4, 167, 0, 4, 3, 172]
abbrev dktX9_isDigit_0 : List UInt8 := dkwX9_isDigit_0 ++ []
theorem dksX9_isDigit_0 : cX9_isDigit.data.toList.drop 0 = dktX9_isDigit_0 := by decide +kernel
theorem dX9_isDigit_0 : decode cX9_isDigit 0 = .ok (.iload_n 0, 1) := dk_26 (dk_at dksX9_isDigit_0 0 rfl rfl)
theorem dX9_isDigit_1 : decode cX9_isDigit 1 = .ok (.bipush 48, 2) := dk_16 48 (dk_at dksX9_isDigit_0 1 rfl rfl)
theorem dX9_isDigit_3 : decode cX9_isDigit 3 = .ok (.if_icmp .lt 13, 3) := dk_161 0 13 (dk_at dksX9_isDigit_0 3 rfl rfl)
theorem dX9_isDigit_6 : decode cX9_isDigit 6 = .ok (.iload_n 0, 1) := dk_26 (dk_at dksX9_isDigit_0 6 rfl rfl)
theorem dX9_isDigit_7 : decode cX9_isDigit 7 = .ok (.bipush 57, 2) := dk_16 57 (dk_at dksX9_isDigit_0 7 rfl rfl)
theorem dX9_isDigit_9 : decode cX9_isDigit 9 = .ok (.if_icmp .gt 7, 3) := dk_163 0 7 (dk_at dksX9_isDigit_0 9 rfl rfl)
theorem dX9_isDigit_12 : decode cX9_isDigit 12 = .ok (.iconst 1, 1) := dk_4 (dk_at dksX9_isDigit_0 12 rfl rfl)
theorem dX9_isDigit_13 : decode cX9_isDigit 13 = .ok (.goto 4, 3) := dk_167 0 4 (dk_at dksX9_isDigit_0 13 rfl rfl)
theorem dX9_isDigit_16 : decode cX9_isDigit 16 = .ok (.iconst 0, 1) := dk_3 (dk_at dksX9_isDigit_0 16 rfl rfl)
theorem dX9_isDigit_17 : decode cX9_isDigit 17 = .ok (.ireturn, 1) := dk_172 (dk_at dksX9_isDigit_0 17 rfl rfl)
abbrev cX9_sign : ByteArray := prog_20_method_13_code
def yX9_sign : MethodName := ⟨RX9, "sign", "(III)I"⟩
def dkwX9_sign_4 : List UInt8 := [172]
abbrev dktX9_sign_4 : List UInt8 := dkwX9_sign_4 ++ []
def dkwX9_sign_3 : List UInt8 := [16, 15, 54, 4, 28, 16, 37, 160, 0, 7, 16, 16, 54, 4, 42, 21, 4, 27, 3, 9, 182, 0, 152, 4]
abbrev dktX9_sign_3 : List UInt8 := dkwX9_sign_3 ++ dktX9_sign_4
def dkwX9_sign_2 : List UInt8 := [160, 0, 7, 16, 9, 54, 4, 28, 16, 42, 160, 0, 7, 16, 10, 54, 4, 28, 16, 47, 160, 0, 7]
abbrev dktX9_sign_2 : List UInt8 := dkwX9_sign_2 ++ dktX9_sign_3
def dkwX9_sign_1 : List UInt8 := [160, 0, 8, 16, 7, 167, 0, 4, 6, 54, 4, 28, 16, 43, 160, 0, 7, 16, 8, 54, 4, 28, 16, 45]
abbrev dktX9_sign_1 : List UInt8 := dkwX9_sign_1 ++ dktX9_sign_2
def dkwX9_sign_0 : List UInt8 := [28, 16, 59, 160, 0, 7, 7, 167, 0, 26, 28, 16, 40, 160, 0, 8, 16, 6, 167, 0, 15, 28, 16, 41]
abbrev dktX9_sign_0 : List UInt8 := dkwX9_sign_0 ++ dktX9_sign_1
theorem dksX9_sign_0 : cX9_sign.data.toList.drop 0 = dktX9_sign_0 := by decide +kernel
theorem dksX9_sign_1 : cX9_sign.data.toList.drop 24 = dktX9_sign_1 := dk_seg dksX9_sign_0 24 rfl rfl
theorem dksX9_sign_2 : cX9_sign.data.toList.drop 48 = dktX9_sign_2 := dk_seg dksX9_sign_1 24 rfl rfl
theorem dksX9_sign_3 : cX9_sign.data.toList.drop 71 = dktX9_sign_3 := dk_seg dksX9_sign_2 23 rfl rfl
theorem dksX9_sign_4 : cX9_sign.data.toList.drop 95 = dktX9_sign_4 := dk_seg dksX9_sign_3 24 rfl rfl
theorem dX9_sign_0 : decode cX9_sign 0 = .ok (.iload_n 2, 1) := dk_28 (dk_at dksX9_sign_0 0 rfl rfl)
theorem dX9_sign_1 : decode cX9_sign 1 = .ok (.bipush 59, 2) := dk_16 59 (dk_at dksX9_sign_0 1 rfl rfl)
theorem dX9_sign_3 : decode cX9_sign 3 = .ok (.if_icmp .ne 7, 3) := dk_160 0 7 (dk_at dksX9_sign_0 3 rfl rfl)
theorem dX9_sign_6 : decode cX9_sign 6 = .ok (.iconst 4, 1) := dk_7 (dk_at dksX9_sign_0 6 rfl rfl)
theorem dX9_sign_7 : decode cX9_sign 7 = .ok (.goto 26, 3) := dk_167 0 26 (dk_at dksX9_sign_0 7 rfl rfl)
theorem dX9_sign_10 : decode cX9_sign 10 = .ok (.iload_n 2, 1) := dk_28 (dk_at dksX9_sign_0 10 rfl rfl)
theorem dX9_sign_11 : decode cX9_sign 11 = .ok (.bipush 40, 2) := dk_16 40 (dk_at dksX9_sign_0 11 rfl rfl)
theorem dX9_sign_13 : decode cX9_sign 13 = .ok (.if_icmp .ne 8, 3) := dk_160 0 8 (dk_at dksX9_sign_0 13 rfl rfl)
theorem dX9_sign_16 : decode cX9_sign 16 = .ok (.bipush 6, 2) := dk_16 6 (dk_at dksX9_sign_0 16 rfl rfl)
theorem dX9_sign_18 : decode cX9_sign 18 = .ok (.goto 15, 3) := dk_167 0 15 (dk_at dksX9_sign_0 18 rfl rfl)
theorem dX9_sign_21 : decode cX9_sign 21 = .ok (.iload_n 2, 1) := dk_28 (dk_at dksX9_sign_0 21 rfl rfl)
theorem dX9_sign_22 : decode cX9_sign 22 = .ok (.bipush 41, 2) := dk_16 41 (dk_at dksX9_sign_0 22 rfl rfl)
theorem dX9_sign_24 : decode cX9_sign 24 = .ok (.if_icmp .ne 8, 3) := dk_160 0 8 (dk_at dksX9_sign_1 0 rfl rfl)
theorem dX9_sign_27 : decode cX9_sign 27 = .ok (.bipush 7, 2) := dk_16 7 (dk_at dksX9_sign_1 3 rfl rfl)
theorem dX9_sign_29 : decode cX9_sign 29 = .ok (.goto 4, 3) := dk_167 0 4 (dk_at dksX9_sign_1 5 rfl rfl)
theorem dX9_sign_32 : decode cX9_sign 32 = .ok (.iconst 3, 1) := dk_6 (dk_at dksX9_sign_1 8 rfl rfl)
theorem dX9_sign_33 : decode cX9_sign 33 = .ok (.istore 4, 2) := dk_54 4 (dk_at dksX9_sign_1 9 rfl rfl)
theorem dX9_sign_35 : decode cX9_sign 35 = .ok (.iload_n 2, 1) := dk_28 (dk_at dksX9_sign_1 11 rfl rfl)
theorem dX9_sign_36 : decode cX9_sign 36 = .ok (.bipush 43, 2) := dk_16 43 (dk_at dksX9_sign_1 12 rfl rfl)
theorem dX9_sign_38 : decode cX9_sign 38 = .ok (.if_icmp .ne 7, 3) := dk_160 0 7 (dk_at dksX9_sign_1 14 rfl rfl)
theorem dX9_sign_41 : decode cX9_sign 41 = .ok (.bipush 8, 2) := dk_16 8 (dk_at dksX9_sign_1 17 rfl rfl)
theorem dX9_sign_43 : decode cX9_sign 43 = .ok (.istore 4, 2) := dk_54 4 (dk_at dksX9_sign_1 19 rfl rfl)
theorem dX9_sign_45 : decode cX9_sign 45 = .ok (.iload_n 2, 1) := dk_28 (dk_at dksX9_sign_1 21 rfl rfl)
theorem dX9_sign_46 : decode cX9_sign 46 = .ok (.bipush 45, 2) := dk_16 45 (dk_at dksX9_sign_1 22 rfl rfl)
theorem dX9_sign_48 : decode cX9_sign 48 = .ok (.if_icmp .ne 7, 3) := dk_160 0 7 (dk_at dksX9_sign_2 0 rfl rfl)
theorem dX9_sign_51 : decode cX9_sign 51 = .ok (.bipush 9, 2) := dk_16 9 (dk_at dksX9_sign_2 3 rfl rfl)
theorem dX9_sign_53 : decode cX9_sign 53 = .ok (.istore 4, 2) := dk_54 4 (dk_at dksX9_sign_2 5 rfl rfl)
theorem dX9_sign_55 : decode cX9_sign 55 = .ok (.iload_n 2, 1) := dk_28 (dk_at dksX9_sign_2 7 rfl rfl)
theorem dX9_sign_56 : decode cX9_sign 56 = .ok (.bipush 42, 2) := dk_16 42 (dk_at dksX9_sign_2 8 rfl rfl)
theorem dX9_sign_58 : decode cX9_sign 58 = .ok (.if_icmp .ne 7, 3) := dk_160 0 7 (dk_at dksX9_sign_2 10 rfl rfl)
theorem dX9_sign_61 : decode cX9_sign 61 = .ok (.bipush 10, 2) := dk_16 10 (dk_at dksX9_sign_2 13 rfl rfl)
theorem dX9_sign_63 : decode cX9_sign 63 = .ok (.istore 4, 2) := dk_54 4 (dk_at dksX9_sign_2 15 rfl rfl)
theorem dX9_sign_65 : decode cX9_sign 65 = .ok (.iload_n 2, 1) := dk_28 (dk_at dksX9_sign_2 17 rfl rfl)
theorem dX9_sign_66 : decode cX9_sign 66 = .ok (.bipush 47, 2) := dk_16 47 (dk_at dksX9_sign_2 18 rfl rfl)
theorem dX9_sign_68 : decode cX9_sign 68 = .ok (.if_icmp .ne 7, 3) := dk_160 0 7 (dk_at dksX9_sign_2 20 rfl rfl)
theorem dX9_sign_71 : decode cX9_sign 71 = .ok (.bipush 15, 2) := dk_16 15 (dk_at dksX9_sign_3 0 rfl rfl)
theorem dX9_sign_73 : decode cX9_sign 73 = .ok (.istore 4, 2) := dk_54 4 (dk_at dksX9_sign_3 2 rfl rfl)
theorem dX9_sign_75 : decode cX9_sign 75 = .ok (.iload_n 2, 1) := dk_28 (dk_at dksX9_sign_3 4 rfl rfl)
theorem dX9_sign_76 : decode cX9_sign 76 = .ok (.bipush 37, 2) := dk_16 37 (dk_at dksX9_sign_3 5 rfl rfl)
theorem dX9_sign_78 : decode cX9_sign 78 = .ok (.if_icmp .ne 7, 3) := dk_160 0 7 (dk_at dksX9_sign_3 7 rfl rfl)
theorem dX9_sign_81 : decode cX9_sign 81 = .ok (.bipush 16, 2) := dk_16 16 (dk_at dksX9_sign_3 10 rfl rfl)
theorem dX9_sign_83 : decode cX9_sign 83 = .ok (.istore 4, 2) := dk_54 4 (dk_at dksX9_sign_3 12 rfl rfl)
theorem dX9_sign_85 : decode cX9_sign 85 = .ok (.aload_n 0, 1) := dk_42 (dk_at dksX9_sign_3 14 rfl rfl)
theorem dX9_sign_86 : decode cX9_sign 86 = .ok (.iload 4, 2) := dk_21 4 (dk_at dksX9_sign_3 15 rfl rfl)
theorem dX9_sign_88 : decode cX9_sign 88 = .ok (.iload_n 1, 1) := dk_27 (dk_at dksX9_sign_3 17 rfl rfl)
theorem dX9_sign_89 : decode cX9_sign 89 = .ok (.iconst 0, 1) := dk_3 (dk_at dksX9_sign_3 18 rfl rfl)
theorem dX9_sign_90 : decode cX9_sign 90 = .ok (.lconst 0, 1) := dk_9 (dk_at dksX9_sign_3 19 rfl rfl)
theorem dX9_sign_91 : decode cX9_sign 91 = .ok (.invokevirtual 152, 3) := dk_182 0 152 (dk_at dksX9_sign_3 20 rfl rfl)
theorem dX9_sign_94 : decode cX9_sign 94 = .ok (.iconst 1, 1) := dk_4 (dk_at dksX9_sign_3 23 rfl rfl)
theorem dX9_sign_95 : decode cX9_sign 95 = .ok (.ireturn, 1) := dk_172 (dk_at dksX9_sign_4 0 rfl rfl)
abbrev cX9_toldOr : ByteArray := prog_20_method_22_code
def yX9_toldOr : MethodName := ⟨RX9, "toldOr", "(IIII)I"⟩
def dkwX9_toldOr_1 : List UInt8 := [7, 182, 0, 224, 21, 5, 172]
abbrev dktX9_toldOr_1 : List UInt8 := dkwX9_toldOr_1 ++ []
def dkwX9_toldOr_0 : List UInt8 := [42, 27, 182, 0, 185, 154, 0, 6, 21, 4, 172, 42, 182, 0, 188, 42, 28, 29, 182, 0, 220, 54, 5, 42]
abbrev dktX9_toldOr_0 : List UInt8 := dkwX9_toldOr_0 ++ dktX9_toldOr_1
theorem dksX9_toldOr_0 : cX9_toldOr.data.toList.drop 0 = dktX9_toldOr_0 := by decide +kernel
theorem dksX9_toldOr_1 : cX9_toldOr.data.toList.drop 24 = dktX9_toldOr_1 := dk_seg dksX9_toldOr_0 24 rfl rfl
theorem dX9_toldOr_0 : decode cX9_toldOr 0 = .ok (.aload_n 0, 1) := dk_42 (dk_at dksX9_toldOr_0 0 rfl rfl)
theorem dX9_toldOr_1 : decode cX9_toldOr 1 = .ok (.iload_n 1, 1) := dk_27 (dk_at dksX9_toldOr_0 1 rfl rfl)
theorem dX9_toldOr_2 : decode cX9_toldOr 2 = .ok (.invokevirtual 185, 3) := dk_182 0 185 (dk_at dksX9_toldOr_0 2 rfl rfl)
theorem dX9_toldOr_5 : decode cX9_toldOr 5 = .ok (.ifCond .ne 6, 3) := dk_154 0 6 (dk_at dksX9_toldOr_0 5 rfl rfl)
theorem dX9_toldOr_8 : decode cX9_toldOr 8 = .ok (.iload 4, 2) := dk_21 4 (dk_at dksX9_toldOr_0 8 rfl rfl)
theorem dX9_toldOr_10 : decode cX9_toldOr 10 = .ok (.ireturn, 1) := dk_172 (dk_at dksX9_toldOr_0 10 rfl rfl)
theorem dX9_toldOr_11 : decode cX9_toldOr 11 = .ok (.aload_n 0, 1) := dk_42 (dk_at dksX9_toldOr_0 11 rfl rfl)
theorem dX9_toldOr_12 : decode cX9_toldOr 12 = .ok (.invokevirtual 188, 3) := dk_182 0 188 (dk_at dksX9_toldOr_0 12 rfl rfl)
theorem dX9_toldOr_15 : decode cX9_toldOr 15 = .ok (.aload_n 0, 1) := dk_42 (dk_at dksX9_toldOr_0 15 rfl rfl)
theorem dX9_toldOr_16 : decode cX9_toldOr 16 = .ok (.iload_n 2, 1) := dk_28 (dk_at dksX9_toldOr_0 16 rfl rfl)
theorem dX9_toldOr_17 : decode cX9_toldOr 17 = .ok (.iload_n 3, 1) := dk_29 (dk_at dksX9_toldOr_0 17 rfl rfl)
theorem dX9_toldOr_18 : decode cX9_toldOr 18 = .ok (.invokevirtual 220, 3) := dk_182 0 220 (dk_at dksX9_toldOr_0 18 rfl rfl)
theorem dX9_toldOr_21 : decode cX9_toldOr 21 = .ok (.istore 5, 2) := dk_54 5 (dk_at dksX9_toldOr_0 21 rfl rfl)
theorem dX9_toldOr_23 : decode cX9_toldOr 23 = .ok (.aload_n 0, 1) := dk_42 (dk_at dksX9_toldOr_0 23 rfl rfl)
theorem dX9_toldOr_24 : decode cX9_toldOr 24 = .ok (.iconst 4, 1) := dk_7 (dk_at dksX9_toldOr_1 0 rfl rfl)
theorem dX9_toldOr_25 : decode cX9_toldOr 25 = .ok (.invokevirtual 224, 3) := dk_182 0 224 (dk_at dksX9_toldOr_1 1 rfl rfl)
theorem dX9_toldOr_28 : decode cX9_toldOr 28 = .ok (.iload 5, 2) := dk_21 5 (dk_at dksX9_toldOr_1 4 rfl rfl)
theorem dX9_toldOr_30 : decode cX9_toldOr 30 = .ok (.ireturn, 1) := dk_172 (dk_at dksX9_toldOr_1 6 rfl rfl)
abbrev cX9_is : ByteArray := prog_20_method_14_code
def yX9_is : MethodName := ⟨RX9, "is", "(I)Z"⟩
def dkwX9_is_1 : List UInt8 := [3, 172]
abbrev dktX9_is_1 : List UInt8 := dkwX9_is_1 ++ []
def dkwX9_is_0 : List UInt8 := [42, 180, 0, 167, 154, 0, 20, 42, 180, 0, 20, 42, 180, 0, 170, 46, 27, 160, 0, 7, 4, 167, 0, 4]
abbrev dktX9_is_0 : List UInt8 := dkwX9_is_0 ++ dktX9_is_1
theorem dksX9_is_0 : cX9_is.data.toList.drop 0 = dktX9_is_0 := by decide +kernel
theorem dksX9_is_1 : cX9_is.data.toList.drop 24 = dktX9_is_1 := dk_seg dksX9_is_0 24 rfl rfl
theorem dX9_is_0 : decode cX9_is 0 = .ok (.aload_n 0, 1) := dk_42 (dk_at dksX9_is_0 0 rfl rfl)
theorem dX9_is_1 : decode cX9_is 1 = .ok (.getfield 167, 3) := dk_180 0 167 (dk_at dksX9_is_0 1 rfl rfl)
theorem dX9_is_4 : decode cX9_is 4 = .ok (.ifCond .ne 20, 3) := dk_154 0 20 (dk_at dksX9_is_0 4 rfl rfl)
theorem dX9_is_7 : decode cX9_is 7 = .ok (.aload_n 0, 1) := dk_42 (dk_at dksX9_is_0 7 rfl rfl)
theorem dX9_is_8 : decode cX9_is 8 = .ok (.getfield 20, 3) := dk_180 0 20 (dk_at dksX9_is_0 8 rfl rfl)
theorem dX9_is_11 : decode cX9_is 11 = .ok (.aload_n 0, 1) := dk_42 (dk_at dksX9_is_0 11 rfl rfl)
theorem dX9_is_12 : decode cX9_is 12 = .ok (.getfield 170, 3) := dk_180 0 170 (dk_at dksX9_is_0 12 rfl rfl)
theorem dX9_is_15 : decode cX9_is 15 = .ok (.iaload, 1) := dk_46 (dk_at dksX9_is_0 15 rfl rfl)
theorem dX9_is_16 : decode cX9_is 16 = .ok (.iload_n 1, 1) := dk_27 (dk_at dksX9_is_0 16 rfl rfl)
theorem dX9_is_17 : decode cX9_is 17 = .ok (.if_icmp .ne 7, 3) := dk_160 0 7 (dk_at dksX9_is_0 17 rfl rfl)
theorem dX9_is_20 : decode cX9_is 20 = .ok (.iconst 1, 1) := dk_4 (dk_at dksX9_is_0 20 rfl rfl)
theorem dX9_is_21 : decode cX9_is 21 = .ok (.goto 4, 3) := dk_167 0 4 (dk_at dksX9_is_0 21 rfl rfl)
theorem dX9_is_24 : decode cX9_is 24 = .ok (.iconst 0, 1) := dk_3 (dk_at dksX9_is_1 0 rfl rfl)
theorem dX9_is_25 : decode cX9_is 25 = .ok (.ireturn, 1) := dk_172 (dk_at dksX9_is_1 1 rfl rfl)
abbrev cX9_goesOn : ByteArray := prog_20_method_17_code
def yX9_goesOn : MethodName := ⟨RX9, "goesOn", "()V"⟩
def dkwX9_goesOn_1 : List UInt8 := [96, 181, 0, 170, 177]
abbrev dktX9_goesOn_1 : List UInt8 := dkwX9_goesOn_1 ++ []
def dkwX9_goesOn_0 : List UInt8 := [42, 180, 0, 170, 17, 1, 144, 160, 0, 11, 42, 5, 182, 0, 182, 167, 0, 13, 42, 89, 180, 0, 170, 4]
abbrev dktX9_goesOn_0 : List UInt8 := dkwX9_goesOn_0 ++ dktX9_goesOn_1
theorem dksX9_goesOn_0 : cX9_goesOn.data.toList.drop 0 = dktX9_goesOn_0 := by decide +kernel
theorem dksX9_goesOn_1 : cX9_goesOn.data.toList.drop 24 = dktX9_goesOn_1 := dk_seg dksX9_goesOn_0 24 rfl rfl
theorem dX9_goesOn_0 : decode cX9_goesOn 0 = .ok (.aload_n 0, 1) := dk_42 (dk_at dksX9_goesOn_0 0 rfl rfl)
theorem dX9_goesOn_1 : decode cX9_goesOn 1 = .ok (.getfield 170, 3) := dk_180 0 170 (dk_at dksX9_goesOn_0 1 rfl rfl)
theorem dX9_goesOn_4 : decode cX9_goesOn 4 = .ok (.sipush 400, 3) := dk_17 1 144 (dk_at dksX9_goesOn_0 4 rfl rfl)
theorem dX9_goesOn_7 : decode cX9_goesOn 7 = .ok (.if_icmp .ne 11, 3) := dk_160 0 11 (dk_at dksX9_goesOn_0 7 rfl rfl)
theorem dX9_goesOn_10 : decode cX9_goesOn 10 = .ok (.aload_n 0, 1) := dk_42 (dk_at dksX9_goesOn_0 10 rfl rfl)
theorem dX9_goesOn_11 : decode cX9_goesOn 11 = .ok (.iconst 2, 1) := dk_5 (dk_at dksX9_goesOn_0 11 rfl rfl)
theorem dX9_goesOn_12 : decode cX9_goesOn 12 = .ok (.invokevirtual 182, 3) := dk_182 0 182 (dk_at dksX9_goesOn_0 12 rfl rfl)
theorem dX9_goesOn_15 : decode cX9_goesOn 15 = .ok (.goto 13, 3) := dk_167 0 13 (dk_at dksX9_goesOn_0 15 rfl rfl)
theorem dX9_goesOn_18 : decode cX9_goesOn 18 = .ok (.aload_n 0, 1) := dk_42 (dk_at dksX9_goesOn_0 18 rfl rfl)
theorem dX9_goesOn_19 : decode cX9_goesOn 19 = .ok (.dup, 1) := dk_89 (dk_at dksX9_goesOn_0 19 rfl rfl)
theorem dX9_goesOn_20 : decode cX9_goesOn 20 = .ok (.getfield 170, 3) := dk_180 0 170 (dk_at dksX9_goesOn_0 20 rfl rfl)
theorem dX9_goesOn_23 : decode cX9_goesOn 23 = .ok (.iconst 1, 1) := dk_4 (dk_at dksX9_goesOn_0 23 rfl rfl)
theorem dX9_goesOn_24 : decode cX9_goesOn 24 = .ok (.iadd, 1) := dk_96 (dk_at dksX9_goesOn_1 0 rfl rfl)
theorem dX9_goesOn_25 : decode cX9_goesOn 25 = .ok (.putfield 170, 3) := dk_181 0 170 (dk_at dksX9_goesOn_1 1 rfl rfl)
theorem dX9_goesOn_28 : decode cX9_goesOn 28 = .ok (.return_, 1) := dk_177 (dk_at dksX9_goesOn_1 4 rfl rfl)
abbrev cX9_fail : ByteArray := prog_20_method_15_code
def yX9_fail : MethodName := ⟨RX9, "fail", "(I)V"⟩
def dkwX9_fail_1 : List UInt8 := [181, 0, 173, 177]
abbrev dktX9_fail_1 : List UInt8 := dkwX9_fail_1 ++ []
def dkwX9_fail_0 : List UInt8 := [42, 180, 0, 167, 158, 0, 4, 177, 42, 27, 181, 0, 167, 42, 42, 180, 0, 24, 42, 180, 0, 170, 46]
abbrev dktX9_fail_0 : List UInt8 := dkwX9_fail_0 ++ dktX9_fail_1
theorem dksX9_fail_0 : cX9_fail.data.toList.drop 0 = dktX9_fail_0 := by decide +kernel
theorem dksX9_fail_1 : cX9_fail.data.toList.drop 23 = dktX9_fail_1 := dk_seg dksX9_fail_0 23 rfl rfl
theorem dX9_fail_0 : decode cX9_fail 0 = .ok (.aload_n 0, 1) := dk_42 (dk_at dksX9_fail_0 0 rfl rfl)
theorem dX9_fail_1 : decode cX9_fail 1 = .ok (.getfield 167, 3) := dk_180 0 167 (dk_at dksX9_fail_0 1 rfl rfl)
theorem dX9_fail_4 : decode cX9_fail 4 = .ok (.ifCond .le 4, 3) := dk_158 0 4 (dk_at dksX9_fail_0 4 rfl rfl)
theorem dX9_fail_7 : decode cX9_fail 7 = .ok (.return_, 1) := dk_177 (dk_at dksX9_fail_0 7 rfl rfl)
theorem dX9_fail_8 : decode cX9_fail 8 = .ok (.aload_n 0, 1) := dk_42 (dk_at dksX9_fail_0 8 rfl rfl)
theorem dX9_fail_9 : decode cX9_fail 9 = .ok (.iload_n 1, 1) := dk_27 (dk_at dksX9_fail_0 9 rfl rfl)
theorem dX9_fail_10 : decode cX9_fail 10 = .ok (.putfield 167, 3) := dk_181 0 167 (dk_at dksX9_fail_0 10 rfl rfl)
theorem dX9_fail_13 : decode cX9_fail 13 = .ok (.aload_n 0, 1) := dk_42 (dk_at dksX9_fail_0 13 rfl rfl)
theorem dX9_fail_14 : decode cX9_fail 14 = .ok (.aload_n 0, 1) := dk_42 (dk_at dksX9_fail_0 14 rfl rfl)
theorem dX9_fail_15 : decode cX9_fail 15 = .ok (.getfield 24, 3) := dk_180 0 24 (dk_at dksX9_fail_0 15 rfl rfl)
theorem dX9_fail_18 : decode cX9_fail 18 = .ok (.aload_n 0, 1) := dk_42 (dk_at dksX9_fail_0 18 rfl rfl)
theorem dX9_fail_19 : decode cX9_fail 19 = .ok (.getfield 170, 3) := dk_180 0 170 (dk_at dksX9_fail_0 19 rfl rfl)
theorem dX9_fail_22 : decode cX9_fail 22 = .ok (.iaload, 1) := dk_46 (dk_at dksX9_fail_0 22 rfl rfl)
theorem dX9_fail_23 : decode cX9_fail 23 = .ok (.putfield 173, 3) := dk_181 0 173 (dk_at dksX9_fail_1 0 rfl rfl)
theorem dX9_fail_26 : decode cX9_fail 26 = .ok (.return_, 1) := dk_177 (dk_at dksX9_fail_1 3 rfl rfl)
abbrev cX9_bounded : ByteArray := prog_20_method_21_code
def yX9_bounded : MethodName := ⟨RX9, "bounded", "(II)I"⟩
def dkwX9_bounded_2 : List UInt8 := [180, 0, 170, 182, 0, 216, 42, 182, 0, 188, 29, 172]
abbrev dktX9_bounded_2 : List UInt8 := dkwX9_bounded_2 ++ []
def dkwX9_bounded_1 : List UInt8 := [180, 0, 27, 42, 180, 0, 170, 46, 62, 29, 27, 161, 0, 8, 29, 28, 164, 0, 12, 42, 8, 42]
abbrev dktX9_bounded_1 : List UInt8 := dkwX9_bounded_1 ++ dktX9_bounded_2
def dkwX9_bounded_0 : List UInt8 := [42, 180, 0, 167, 157, 0, 11, 42, 5, 182, 0, 185, 154, 0, 10, 42, 4, 182, 0, 182, 27, 172, 42]
abbrev dktX9_bounded_0 : List UInt8 := dkwX9_bounded_0 ++ dktX9_bounded_1
theorem dksX9_bounded_0 : cX9_bounded.data.toList.drop 0 = dktX9_bounded_0 := by decide +kernel
theorem dksX9_bounded_1 : cX9_bounded.data.toList.drop 23 = dktX9_bounded_1 := dk_seg dksX9_bounded_0 23 rfl rfl
theorem dksX9_bounded_2 : cX9_bounded.data.toList.drop 45 = dktX9_bounded_2 := dk_seg dksX9_bounded_1 22 rfl rfl
theorem dX9_bounded_0 : decode cX9_bounded 0 = .ok (.aload_n 0, 1) := dk_42 (dk_at dksX9_bounded_0 0 rfl rfl)
theorem dX9_bounded_1 : decode cX9_bounded 1 = .ok (.getfield 167, 3) := dk_180 0 167 (dk_at dksX9_bounded_0 1 rfl rfl)
theorem dX9_bounded_4 : decode cX9_bounded 4 = .ok (.ifCond .gt 11, 3) := dk_157 0 11 (dk_at dksX9_bounded_0 4 rfl rfl)
theorem dX9_bounded_7 : decode cX9_bounded 7 = .ok (.aload_n 0, 1) := dk_42 (dk_at dksX9_bounded_0 7 rfl rfl)
theorem dX9_bounded_8 : decode cX9_bounded 8 = .ok (.iconst 2, 1) := dk_5 (dk_at dksX9_bounded_0 8 rfl rfl)
theorem dX9_bounded_9 : decode cX9_bounded 9 = .ok (.invokevirtual 185, 3) := dk_182 0 185 (dk_at dksX9_bounded_0 9 rfl rfl)
theorem dX9_bounded_12 : decode cX9_bounded 12 = .ok (.ifCond .ne 10, 3) := dk_154 0 10 (dk_at dksX9_bounded_0 12 rfl rfl)
theorem dX9_bounded_15 : decode cX9_bounded 15 = .ok (.aload_n 0, 1) := dk_42 (dk_at dksX9_bounded_0 15 rfl rfl)
theorem dX9_bounded_16 : decode cX9_bounded 16 = .ok (.iconst 1, 1) := dk_4 (dk_at dksX9_bounded_0 16 rfl rfl)
theorem dX9_bounded_17 : decode cX9_bounded 17 = .ok (.invokevirtual 182, 3) := dk_182 0 182 (dk_at dksX9_bounded_0 17 rfl rfl)
theorem dX9_bounded_20 : decode cX9_bounded 20 = .ok (.iload_n 1, 1) := dk_27 (dk_at dksX9_bounded_0 20 rfl rfl)
theorem dX9_bounded_21 : decode cX9_bounded 21 = .ok (.ireturn, 1) := dk_172 (dk_at dksX9_bounded_0 21 rfl rfl)
theorem dX9_bounded_22 : decode cX9_bounded 22 = .ok (.aload_n 0, 1) := dk_42 (dk_at dksX9_bounded_0 22 rfl rfl)
theorem dX9_bounded_23 : decode cX9_bounded 23 = .ok (.getfield 27, 3) := dk_180 0 27 (dk_at dksX9_bounded_1 0 rfl rfl)
theorem dX9_bounded_26 : decode cX9_bounded 26 = .ok (.aload_n 0, 1) := dk_42 (dk_at dksX9_bounded_1 3 rfl rfl)
theorem dX9_bounded_27 : decode cX9_bounded 27 = .ok (.getfield 170, 3) := dk_180 0 170 (dk_at dksX9_bounded_1 4 rfl rfl)
theorem dX9_bounded_30 : decode cX9_bounded 30 = .ok (.iaload, 1) := dk_46 (dk_at dksX9_bounded_1 7 rfl rfl)
theorem dX9_bounded_31 : decode cX9_bounded 31 = .ok (.istore_n 3, 1) := dk_62 (dk_at dksX9_bounded_1 8 rfl rfl)
theorem dX9_bounded_32 : decode cX9_bounded 32 = .ok (.iload_n 3, 1) := dk_29 (dk_at dksX9_bounded_1 9 rfl rfl)
theorem dX9_bounded_33 : decode cX9_bounded 33 = .ok (.iload_n 1, 1) := dk_27 (dk_at dksX9_bounded_1 10 rfl rfl)
theorem dX9_bounded_34 : decode cX9_bounded 34 = .ok (.if_icmp .lt 8, 3) := dk_161 0 8 (dk_at dksX9_bounded_1 11 rfl rfl)
theorem dX9_bounded_37 : decode cX9_bounded 37 = .ok (.iload_n 3, 1) := dk_29 (dk_at dksX9_bounded_1 14 rfl rfl)
theorem dX9_bounded_38 : decode cX9_bounded 38 = .ok (.iload_n 2, 1) := dk_28 (dk_at dksX9_bounded_1 15 rfl rfl)
theorem dX9_bounded_39 : decode cX9_bounded 39 = .ok (.if_icmp .le 12, 3) := dk_164 0 12 (dk_at dksX9_bounded_1 16 rfl rfl)
theorem dX9_bounded_42 : decode cX9_bounded 42 = .ok (.aload_n 0, 1) := dk_42 (dk_at dksX9_bounded_1 19 rfl rfl)
theorem dX9_bounded_43 : decode cX9_bounded 43 = .ok (.iconst 5, 1) := dk_8 (dk_at dksX9_bounded_1 20 rfl rfl)
theorem dX9_bounded_44 : decode cX9_bounded 44 = .ok (.aload_n 0, 1) := dk_42 (dk_at dksX9_bounded_1 21 rfl rfl)
theorem dX9_bounded_45 : decode cX9_bounded 45 = .ok (.getfield 170, 3) := dk_180 0 170 (dk_at dksX9_bounded_2 0 rfl rfl)
theorem dX9_bounded_48 : decode cX9_bounded 48 = .ok (.invokevirtual 216, 3) := dk_182 0 216 (dk_at dksX9_bounded_2 3 rfl rfl)
theorem dX9_bounded_51 : decode cX9_bounded 51 = .ok (.aload_n 0, 1) := dk_42 (dk_at dksX9_bounded_2 6 rfl rfl)
theorem dX9_bounded_52 : decode cX9_bounded 52 = .ok (.invokevirtual 188, 3) := dk_182 0 188 (dk_at dksX9_bounded_2 7 rfl rfl)
theorem dX9_bounded_55 : decode cX9_bounded 55 = .ok (.iload_n 3, 1) := dk_29 (dk_at dksX9_bounded_2 10 rfl rfl)
theorem dX9_bounded_56 : decode cX9_bounded 56 = .ok (.ireturn, 1) := dk_172 (dk_at dksX9_bounded_2 11 rfl rfl)
abbrev cX9_wrong : ByteArray := prog_20_method_16_code
def yX9_wrong : MethodName := ⟨RX9, "wrong", "(II)V"⟩
def dkwX9_wrong_2 : List UInt8 := [27, 181, 0, 176, 42, 29, 181, 0, 179, 177]
abbrev dktX9_wrong_2 : List UInt8 := dkwX9_wrong_2 ++ []
def dkwX9_wrong_1 : List UInt8 := [180, 0, 179, 163, 0, 19, 29, 42, 180, 0, 179, 160, 0, 12, 27, 42, 180, 0, 176, 161, 0, 4, 177, 42]
abbrev dktX9_wrong_1 : List UInt8 := dkwX9_wrong_1 ++ dktX9_wrong_2
def dkwX9_wrong_0 : List UInt8 := [42, 180, 0, 24, 28, 46, 62, 42, 180, 0, 167, 157, 0, 34, 42, 180, 0, 176, 153, 0, 28, 29, 42]
abbrev dktX9_wrong_0 : List UInt8 := dkwX9_wrong_0 ++ dktX9_wrong_1
theorem dksX9_wrong_0 : cX9_wrong.data.toList.drop 0 = dktX9_wrong_0 := by decide +kernel
theorem dksX9_wrong_1 : cX9_wrong.data.toList.drop 23 = dktX9_wrong_1 := dk_seg dksX9_wrong_0 23 rfl rfl
theorem dksX9_wrong_2 : cX9_wrong.data.toList.drop 47 = dktX9_wrong_2 := dk_seg dksX9_wrong_1 24 rfl rfl
theorem dX9_wrong_0 : decode cX9_wrong 0 = .ok (.aload_n 0, 1) := dk_42 (dk_at dksX9_wrong_0 0 rfl rfl)
theorem dX9_wrong_1 : decode cX9_wrong 1 = .ok (.getfield 24, 3) := dk_180 0 24 (dk_at dksX9_wrong_0 1 rfl rfl)
theorem dX9_wrong_4 : decode cX9_wrong 4 = .ok (.iload_n 2, 1) := dk_28 (dk_at dksX9_wrong_0 4 rfl rfl)
theorem dX9_wrong_5 : decode cX9_wrong 5 = .ok (.iaload, 1) := dk_46 (dk_at dksX9_wrong_0 5 rfl rfl)
theorem dX9_wrong_6 : decode cX9_wrong 6 = .ok (.istore_n 3, 1) := dk_62 (dk_at dksX9_wrong_0 6 rfl rfl)
theorem dX9_wrong_7 : decode cX9_wrong 7 = .ok (.aload_n 0, 1) := dk_42 (dk_at dksX9_wrong_0 7 rfl rfl)
theorem dX9_wrong_8 : decode cX9_wrong 8 = .ok (.getfield 167, 3) := dk_180 0 167 (dk_at dksX9_wrong_0 8 rfl rfl)
theorem dX9_wrong_11 : decode cX9_wrong 11 = .ok (.ifCond .gt 34, 3) := dk_157 0 34 (dk_at dksX9_wrong_0 11 rfl rfl)
theorem dX9_wrong_14 : decode cX9_wrong 14 = .ok (.aload_n 0, 1) := dk_42 (dk_at dksX9_wrong_0 14 rfl rfl)
theorem dX9_wrong_15 : decode cX9_wrong 15 = .ok (.getfield 176, 3) := dk_180 0 176 (dk_at dksX9_wrong_0 15 rfl rfl)
theorem dX9_wrong_18 : decode cX9_wrong 18 = .ok (.ifCond .eq 28, 3) := dk_153 0 28 (dk_at dksX9_wrong_0 18 rfl rfl)
theorem dX9_wrong_21 : decode cX9_wrong 21 = .ok (.iload_n 3, 1) := dk_29 (dk_at dksX9_wrong_0 21 rfl rfl)
theorem dX9_wrong_22 : decode cX9_wrong 22 = .ok (.aload_n 0, 1) := dk_42 (dk_at dksX9_wrong_0 22 rfl rfl)
theorem dX9_wrong_23 : decode cX9_wrong 23 = .ok (.getfield 179, 3) := dk_180 0 179 (dk_at dksX9_wrong_1 0 rfl rfl)
theorem dX9_wrong_26 : decode cX9_wrong 26 = .ok (.if_icmp .gt 19, 3) := dk_163 0 19 (dk_at dksX9_wrong_1 3 rfl rfl)
theorem dX9_wrong_29 : decode cX9_wrong 29 = .ok (.iload_n 3, 1) := dk_29 (dk_at dksX9_wrong_1 6 rfl rfl)
theorem dX9_wrong_30 : decode cX9_wrong 30 = .ok (.aload_n 0, 1) := dk_42 (dk_at dksX9_wrong_1 7 rfl rfl)
theorem dX9_wrong_31 : decode cX9_wrong 31 = .ok (.getfield 179, 3) := dk_180 0 179 (dk_at dksX9_wrong_1 8 rfl rfl)
theorem dX9_wrong_34 : decode cX9_wrong 34 = .ok (.if_icmp .ne 12, 3) := dk_160 0 12 (dk_at dksX9_wrong_1 11 rfl rfl)
theorem dX9_wrong_37 : decode cX9_wrong 37 = .ok (.iload_n 1, 1) := dk_27 (dk_at dksX9_wrong_1 14 rfl rfl)
theorem dX9_wrong_38 : decode cX9_wrong 38 = .ok (.aload_n 0, 1) := dk_42 (dk_at dksX9_wrong_1 15 rfl rfl)
theorem dX9_wrong_39 : decode cX9_wrong 39 = .ok (.getfield 176, 3) := dk_180 0 176 (dk_at dksX9_wrong_1 16 rfl rfl)
theorem dX9_wrong_42 : decode cX9_wrong 42 = .ok (.if_icmp .lt 4, 3) := dk_161 0 4 (dk_at dksX9_wrong_1 19 rfl rfl)
theorem dX9_wrong_45 : decode cX9_wrong 45 = .ok (.return_, 1) := dk_177 (dk_at dksX9_wrong_1 22 rfl rfl)
theorem dX9_wrong_46 : decode cX9_wrong 46 = .ok (.aload_n 0, 1) := dk_42 (dk_at dksX9_wrong_1 23 rfl rfl)
theorem dX9_wrong_47 : decode cX9_wrong 47 = .ok (.iload_n 1, 1) := dk_27 (dk_at dksX9_wrong_2 0 rfl rfl)
theorem dX9_wrong_48 : decode cX9_wrong 48 = .ok (.putfield 176, 3) := dk_181 0 176 (dk_at dksX9_wrong_2 1 rfl rfl)
theorem dX9_wrong_51 : decode cX9_wrong 51 = .ok (.aload_n 0, 1) := dk_42 (dk_at dksX9_wrong_2 4 rfl rfl)
theorem dX9_wrong_52 : decode cX9_wrong 52 = .ok (.iload_n 3, 1) := dk_29 (dk_at dksX9_wrong_2 5 rfl rfl)
theorem dX9_wrong_53 : decode cX9_wrong 53 = .ok (.putfield 179, 3) := dk_181 0 179 (dk_at dksX9_wrong_2 6 rfl rfl)
theorem dX9_wrong_56 : decode cX9_wrong 56 = .ok (.return_, 1) := dk_177 (dk_at dksX9_wrong_2 9 rfl rfl)
abbrev cX9_must : ByteArray := prog_20_method_18_code
def yX9_must : MethodName := ⟨RX9, "must", "(I)V"⟩
def dkwX9_must_0 : List UInt8 := [42, 27, 182, 0, 185, 153, 0, 10, 42, 182, 0, 188, 167, 0, 8, 42, 4, 182, 0, 182, 177]
abbrev dktX9_must_0 : List UInt8 := dkwX9_must_0 ++ []
theorem dksX9_must_0 : cX9_must.data.toList.drop 0 = dktX9_must_0 := by decide +kernel
theorem dX9_must_0 : decode cX9_must 0 = .ok (.aload_n 0, 1) := dk_42 (dk_at dksX9_must_0 0 rfl rfl)
theorem dX9_must_1 : decode cX9_must 1 = .ok (.iload_n 1, 1) := dk_27 (dk_at dksX9_must_0 1 rfl rfl)
theorem dX9_must_2 : decode cX9_must 2 = .ok (.invokevirtual 185, 3) := dk_182 0 185 (dk_at dksX9_must_0 2 rfl rfl)
theorem dX9_must_5 : decode cX9_must 5 = .ok (.ifCond .eq 10, 3) := dk_153 0 10 (dk_at dksX9_must_0 5 rfl rfl)
theorem dX9_must_8 : decode cX9_must 8 = .ok (.aload_n 0, 1) := dk_42 (dk_at dksX9_must_0 8 rfl rfl)
theorem dX9_must_9 : decode cX9_must 9 = .ok (.invokevirtual 188, 3) := dk_182 0 188 (dk_at dksX9_must_0 9 rfl rfl)
theorem dX9_must_12 : decode cX9_must 12 = .ok (.goto 8, 3) := dk_167 0 8 (dk_at dksX9_must_0 12 rfl rfl)
theorem dX9_must_15 : decode cX9_must 15 = .ok (.aload_n 0, 1) := dk_42 (dk_at dksX9_must_0 15 rfl rfl)
theorem dX9_must_16 : decode cX9_must 16 = .ok (.iconst 1, 1) := dk_4 (dk_at dksX9_must_0 16 rfl rfl)
theorem dX9_must_17 : decode cX9_must 17 = .ok (.invokevirtual 182, 3) := dk_182 0 182 (dk_at dksX9_must_0 17 rfl rfl)
theorem dX9_must_20 : decode cX9_must 20 = .ok (.return_, 1) := dk_177 (dk_at dksX9_must_0 20 rfl rfl)
abbrev cX9_tellOne : ByteArray := prog_20_method_26_code
def yX9_tellOne : MethodName := ⟨RX9, "tellOne", "()V"⟩
def dkwX9_tellOne_12 : List UInt8 := [167, 0, 8, 42, 27, 182, 0, 238, 42, 7, 182, 0, 224, 42, 89, 180, 0, 197, 4, 96, 181, 0, 197, 177]
abbrev dktX9_tellOne_12 : List UInt8 := dkwX9_tellOne_12 ++ []
def dkwX9_tellOne_11 : List UInt8 := [180, 0, 58, 42, 180, 0, 200, 46, 79, 42, 180, 0, 55, 42, 180, 0, 58, 42, 180, 0, 200, 46, 27, 79]
abbrev dktX9_tellOne_11 : List UInt8 := dkwX9_tellOne_11 ++ dktX9_tellOne_12
def dkwX9_tellOne_10 : List UInt8 := [42, 180, 0, 40, 27, 16, 7, 79, 42, 89, 180, 0, 200, 4, 100, 181, 0, 200, 42, 180, 0, 55, 27, 42]
abbrev dktX9_tellOne_10 : List UInt8 := dkwX9_tellOne_10 ++ dktX9_tellOne_11
def dkwX9_tellOne_9 : List UInt8 := [42, 180, 0, 200, 154, 0, 8, 42, 4, 182, 0, 182, 42, 180, 0, 167, 158, 0, 4, 177, 42, 182, 0, 188]
abbrev dktX9_tellOne_9 : List UInt8 := dkwX9_tellOne_9 ++ dktX9_tellOne_10
def dkwX9_tellOne_8 : List UInt8 := [79, 42, 180, 0, 58, 42, 180, 0, 200, 27, 79, 42, 89, 180, 0, 200, 4, 96, 181, 0, 200, 167, 0, 83]
abbrev dktX9_tellOne_8 : List UInt8 := dkwX9_tellOne_8 ++ dktX9_tellOne_9
def dkwX9_tellOne_7 : List UInt8 := [42, 182, 0, 188, 42, 180, 0, 40, 27, 16, 6, 79, 42, 180, 0, 46, 27, 42, 3, 16, 99, 182, 0, 220]
abbrev dktX9_tellOne_7 : List UInt8 := dkwX9_tellOne_7 ++ dktX9_tellOne_8
def dkwX9_tellOne_6 : List UInt8 := [167, 0, 152, 42, 180, 0, 200, 6, 160, 0, 8, 42, 5, 182, 0, 182, 42, 180, 0, 167, 158, 0, 4, 177]
abbrev dktX9_tellOne_6 : List UInt8 := dkwX9_tellOne_6 ++ dktX9_tellOne_7
def dkwX9_tellOne_5 : List UInt8 := [180, 0, 43, 27, 42, 182, 0, 234, 79, 167, 0, 166, 42, 180, 0, 40, 27, 8, 79, 42, 182, 0, 188]
abbrev dktX9_tellOne_5 : List UInt8 := dkwX9_tellOne_5 ++ dktX9_tellOne_6
def dkwX9_tellOne_4 : List UInt8 := [27, 42, 180, 0, 20, 42, 180, 0, 170, 46, 16, 25, 160, 0, 7, 6, 167, 0, 4, 7, 79, 42]
abbrev dktX9_tellOne_4 : List UInt8 := dkwX9_tellOne_4 ++ dktX9_tellOne_5
def dkwX9_tellOne_3 : List UInt8 := [182, 0, 234, 79, 42, 180, 0, 40, 27, 5, 79, 42, 27, 3, 182, 0, 227, 167, 0, 204, 42, 180, 0, 40]
abbrev dktX9_tellOne_3 : List UInt8 := dkwX9_tellOne_3 ++ dktX9_tellOne_4
def dkwX9_tellOne_2 : List UInt8 := [42, 180, 0, 43, 27, 42, 182, 0, 234, 79, 42, 27, 182, 0, 238, 167, 0, 230, 42, 180, 0, 43, 27, 42]
abbrev dktX9_tellOne_2 : List UInt8 := dkwX9_tellOne_2 ++ dktX9_tellOne_3
def dkwX9_tellOne_1 : List UInt8 := [170, 0, 0, 0, 0, 1, 27, 0, 0, 0, 23, 0, 0, 0, 29, 0, 0, 0, 43, 0, 0, 0, 61, 0, 0, 0, 87, 0, 0, 0, 87, 0, 0, 0, 125, 0, 0, 0, 139, 0, 0, 0, 208]
abbrev dktX9_tellOne_1 : List UInt8 := dkwX9_tellOne_1 ++ dktX9_tellOne_2
def dkwX9_tellOne_0 : List UInt8 := [42, 180, 0, 197, 60, 42, 180, 0, 43, 27, 2, 79, 42, 180, 0, 20, 42, 180, 0, 170, 46]
abbrev dktX9_tellOne_0 : List UInt8 := dkwX9_tellOne_0 ++ dktX9_tellOne_1
theorem dksX9_tellOne_0 : cX9_tellOne.data.toList.drop 0 = dktX9_tellOne_0 := by decide +kernel
theorem dksX9_tellOne_1 : cX9_tellOne.data.toList.drop 21 = dktX9_tellOne_1 := dk_seg dksX9_tellOne_0 21 rfl rfl
theorem dksX9_tellOne_2 : cX9_tellOne.data.toList.drop 64 = dktX9_tellOne_2 := dk_seg dksX9_tellOne_1 43 rfl rfl
theorem dksX9_tellOne_3 : cX9_tellOne.data.toList.drop 88 = dktX9_tellOne_3 := dk_seg dksX9_tellOne_2 24 rfl rfl
theorem dksX9_tellOne_4 : cX9_tellOne.data.toList.drop 112 = dktX9_tellOne_4 := dk_seg dksX9_tellOne_3 24 rfl rfl
theorem dksX9_tellOne_5 : cX9_tellOne.data.toList.drop 134 = dktX9_tellOne_5 := dk_seg dksX9_tellOne_4 22 rfl rfl
theorem dksX9_tellOne_6 : cX9_tellOne.data.toList.drop 157 = dktX9_tellOne_6 := dk_seg dksX9_tellOne_5 23 rfl rfl
theorem dksX9_tellOne_7 : cX9_tellOne.data.toList.drop 181 = dktX9_tellOne_7 := dk_seg dksX9_tellOne_6 24 rfl rfl
theorem dksX9_tellOne_8 : cX9_tellOne.data.toList.drop 205 = dktX9_tellOne_8 := dk_seg dksX9_tellOne_7 24 rfl rfl
theorem dksX9_tellOne_9 : cX9_tellOne.data.toList.drop 229 = dktX9_tellOne_9 := dk_seg dksX9_tellOne_8 24 rfl rfl
theorem dksX9_tellOne_10 : cX9_tellOne.data.toList.drop 253 = dktX9_tellOne_10 := dk_seg dksX9_tellOne_9 24 rfl rfl
theorem dksX9_tellOne_11 : cX9_tellOne.data.toList.drop 277 = dktX9_tellOne_11 := dk_seg dksX9_tellOne_10 24 rfl rfl
theorem dksX9_tellOne_12 : cX9_tellOne.data.toList.drop 301 = dktX9_tellOne_12 := dk_seg dksX9_tellOne_11 24 rfl rfl
theorem dX9_tellOne_0 : decode cX9_tellOne 0 = .ok (.aload_n 0, 1) := dk_42 (dk_at dksX9_tellOne_0 0 rfl rfl)
theorem dX9_tellOne_1 : decode cX9_tellOne 1 = .ok (.getfield 197, 3) := dk_180 0 197 (dk_at dksX9_tellOne_0 1 rfl rfl)
theorem dX9_tellOne_4 : decode cX9_tellOne 4 = .ok (.istore_n 1, 1) := dk_60 (dk_at dksX9_tellOne_0 4 rfl rfl)
theorem dX9_tellOne_5 : decode cX9_tellOne 5 = .ok (.aload_n 0, 1) := dk_42 (dk_at dksX9_tellOne_0 5 rfl rfl)
theorem dX9_tellOne_6 : decode cX9_tellOne 6 = .ok (.getfield 43, 3) := dk_180 0 43 (dk_at dksX9_tellOne_0 6 rfl rfl)
theorem dX9_tellOne_9 : decode cX9_tellOne 9 = .ok (.iload_n 1, 1) := dk_27 (dk_at dksX9_tellOne_0 9 rfl rfl)
theorem dX9_tellOne_10 : decode cX9_tellOne 10 = .ok (.iconst (-1), 1) := dk_2 (dk_at dksX9_tellOne_0 10 rfl rfl)
theorem dX9_tellOne_11 : decode cX9_tellOne 11 = .ok (.iastore, 1) := dk_79 (dk_at dksX9_tellOne_0 11 rfl rfl)
theorem dX9_tellOne_12 : decode cX9_tellOne 12 = .ok (.aload_n 0, 1) := dk_42 (dk_at dksX9_tellOne_0 12 rfl rfl)
theorem dX9_tellOne_13 : decode cX9_tellOne 13 = .ok (.getfield 20, 3) := dk_180 0 20 (dk_at dksX9_tellOne_0 13 rfl rfl)
theorem dX9_tellOne_16 : decode cX9_tellOne 16 = .ok (.aload_n 0, 1) := dk_42 (dk_at dksX9_tellOne_0 16 rfl rfl)
theorem dX9_tellOne_17 : decode cX9_tellOne 17 = .ok (.getfield 170, 3) := dk_180 0 170 (dk_at dksX9_tellOne_0 17 rfl rfl)
theorem dX9_tellOne_20 : decode cX9_tellOne 20 = .ok (.iaload, 1) := dk_46 (dk_at dksX9_tellOne_0 20 rfl rfl)
theorem dX9_tellOne_21 : decode cX9_tellOne 21 = .ok (.tableswitch 283 23 29 #[43, 61, 87, 87, 125, 139, 208], 43) := by decide +kernel
theorem dX9_tellOne_64 : decode cX9_tellOne 64 = .ok (.aload_n 0, 1) := dk_42 (dk_at dksX9_tellOne_2 0 rfl rfl)
theorem dX9_tellOne_65 : decode cX9_tellOne 65 = .ok (.getfield 43, 3) := dk_180 0 43 (dk_at dksX9_tellOne_2 1 rfl rfl)
theorem dX9_tellOne_68 : decode cX9_tellOne 68 = .ok (.iload_n 1, 1) := dk_27 (dk_at dksX9_tellOne_2 4 rfl rfl)
theorem dX9_tellOne_69 : decode cX9_tellOne 69 = .ok (.aload_n 0, 1) := dk_42 (dk_at dksX9_tellOne_2 5 rfl rfl)
theorem dX9_tellOne_70 : decode cX9_tellOne 70 = .ok (.invokevirtual 234, 3) := dk_182 0 234 (dk_at dksX9_tellOne_2 6 rfl rfl)
theorem dX9_tellOne_73 : decode cX9_tellOne 73 = .ok (.iastore, 1) := dk_79 (dk_at dksX9_tellOne_2 9 rfl rfl)
theorem dX9_tellOne_74 : decode cX9_tellOne 74 = .ok (.aload_n 0, 1) := dk_42 (dk_at dksX9_tellOne_2 10 rfl rfl)
theorem dX9_tellOne_75 : decode cX9_tellOne 75 = .ok (.iload_n 1, 1) := dk_27 (dk_at dksX9_tellOne_2 11 rfl rfl)
theorem dX9_tellOne_76 : decode cX9_tellOne 76 = .ok (.invokevirtual 238, 3) := dk_182 0 238 (dk_at dksX9_tellOne_2 12 rfl rfl)
theorem dX9_tellOne_79 : decode cX9_tellOne 79 = .ok (.goto 230, 3) := dk_167 0 230 (dk_at dksX9_tellOne_2 15 rfl rfl)
theorem dX9_tellOne_82 : decode cX9_tellOne 82 = .ok (.aload_n 0, 1) := dk_42 (dk_at dksX9_tellOne_2 18 rfl rfl)
theorem dX9_tellOne_83 : decode cX9_tellOne 83 = .ok (.getfield 43, 3) := dk_180 0 43 (dk_at dksX9_tellOne_2 19 rfl rfl)
theorem dX9_tellOne_86 : decode cX9_tellOne 86 = .ok (.iload_n 1, 1) := dk_27 (dk_at dksX9_tellOne_2 22 rfl rfl)
theorem dX9_tellOne_87 : decode cX9_tellOne 87 = .ok (.aload_n 0, 1) := dk_42 (dk_at dksX9_tellOne_2 23 rfl rfl)
theorem dX9_tellOne_88 : decode cX9_tellOne 88 = .ok (.invokevirtual 234, 3) := dk_182 0 234 (dk_at dksX9_tellOne_3 0 rfl rfl)
theorem dX9_tellOne_91 : decode cX9_tellOne 91 = .ok (.iastore, 1) := dk_79 (dk_at dksX9_tellOne_3 3 rfl rfl)
theorem dX9_tellOne_92 : decode cX9_tellOne 92 = .ok (.aload_n 0, 1) := dk_42 (dk_at dksX9_tellOne_3 4 rfl rfl)
theorem dX9_tellOne_93 : decode cX9_tellOne 93 = .ok (.getfield 40, 3) := dk_180 0 40 (dk_at dksX9_tellOne_3 5 rfl rfl)
theorem dX9_tellOne_96 : decode cX9_tellOne 96 = .ok (.iload_n 1, 1) := dk_27 (dk_at dksX9_tellOne_3 8 rfl rfl)
theorem dX9_tellOne_97 : decode cX9_tellOne 97 = .ok (.iconst 2, 1) := dk_5 (dk_at dksX9_tellOne_3 9 rfl rfl)
theorem dX9_tellOne_98 : decode cX9_tellOne 98 = .ok (.iastore, 1) := dk_79 (dk_at dksX9_tellOne_3 10 rfl rfl)
theorem dX9_tellOne_99 : decode cX9_tellOne 99 = .ok (.aload_n 0, 1) := dk_42 (dk_at dksX9_tellOne_3 11 rfl rfl)
theorem dX9_tellOne_100 : decode cX9_tellOne 100 = .ok (.iload_n 1, 1) := dk_27 (dk_at dksX9_tellOne_3 12 rfl rfl)
theorem dX9_tellOne_101 : decode cX9_tellOne 101 = .ok (.iconst 0, 1) := dk_3 (dk_at dksX9_tellOne_3 13 rfl rfl)
theorem dX9_tellOne_102 : decode cX9_tellOne 102 = .ok (.invokevirtual 227, 3) := dk_182 0 227 (dk_at dksX9_tellOne_3 14 rfl rfl)
theorem dX9_tellOne_105 : decode cX9_tellOne 105 = .ok (.goto 204, 3) := dk_167 0 204 (dk_at dksX9_tellOne_3 17 rfl rfl)
theorem dX9_tellOne_108 : decode cX9_tellOne 108 = .ok (.aload_n 0, 1) := dk_42 (dk_at dksX9_tellOne_3 20 rfl rfl)
theorem dX9_tellOne_109 : decode cX9_tellOne 109 = .ok (.getfield 40, 3) := dk_180 0 40 (dk_at dksX9_tellOne_3 21 rfl rfl)
theorem dX9_tellOne_112 : decode cX9_tellOne 112 = .ok (.iload_n 1, 1) := dk_27 (dk_at dksX9_tellOne_4 0 rfl rfl)
theorem dX9_tellOne_113 : decode cX9_tellOne 113 = .ok (.aload_n 0, 1) := dk_42 (dk_at dksX9_tellOne_4 1 rfl rfl)
theorem dX9_tellOne_114 : decode cX9_tellOne 114 = .ok (.getfield 20, 3) := dk_180 0 20 (dk_at dksX9_tellOne_4 2 rfl rfl)
theorem dX9_tellOne_117 : decode cX9_tellOne 117 = .ok (.aload_n 0, 1) := dk_42 (dk_at dksX9_tellOne_4 5 rfl rfl)
theorem dX9_tellOne_118 : decode cX9_tellOne 118 = .ok (.getfield 170, 3) := dk_180 0 170 (dk_at dksX9_tellOne_4 6 rfl rfl)
theorem dX9_tellOne_121 : decode cX9_tellOne 121 = .ok (.iaload, 1) := dk_46 (dk_at dksX9_tellOne_4 9 rfl rfl)
theorem dX9_tellOne_122 : decode cX9_tellOne 122 = .ok (.bipush 25, 2) := dk_16 25 (dk_at dksX9_tellOne_4 10 rfl rfl)
theorem dX9_tellOne_124 : decode cX9_tellOne 124 = .ok (.if_icmp .ne 7, 3) := dk_160 0 7 (dk_at dksX9_tellOne_4 12 rfl rfl)
theorem dX9_tellOne_127 : decode cX9_tellOne 127 = .ok (.iconst 3, 1) := dk_6 (dk_at dksX9_tellOne_4 15 rfl rfl)
theorem dX9_tellOne_128 : decode cX9_tellOne 128 = .ok (.goto 4, 3) := dk_167 0 4 (dk_at dksX9_tellOne_4 16 rfl rfl)
theorem dX9_tellOne_131 : decode cX9_tellOne 131 = .ok (.iconst 4, 1) := dk_7 (dk_at dksX9_tellOne_4 19 rfl rfl)
theorem dX9_tellOne_132 : decode cX9_tellOne 132 = .ok (.iastore, 1) := dk_79 (dk_at dksX9_tellOne_4 20 rfl rfl)
theorem dX9_tellOne_133 : decode cX9_tellOne 133 = .ok (.aload_n 0, 1) := dk_42 (dk_at dksX9_tellOne_4 21 rfl rfl)
theorem dX9_tellOne_134 : decode cX9_tellOne 134 = .ok (.getfield 43, 3) := dk_180 0 43 (dk_at dksX9_tellOne_5 0 rfl rfl)
theorem dX9_tellOne_137 : decode cX9_tellOne 137 = .ok (.iload_n 1, 1) := dk_27 (dk_at dksX9_tellOne_5 3 rfl rfl)
theorem dX9_tellOne_138 : decode cX9_tellOne 138 = .ok (.aload_n 0, 1) := dk_42 (dk_at dksX9_tellOne_5 4 rfl rfl)
theorem dX9_tellOne_139 : decode cX9_tellOne 139 = .ok (.invokevirtual 234, 3) := dk_182 0 234 (dk_at dksX9_tellOne_5 5 rfl rfl)
theorem dX9_tellOne_142 : decode cX9_tellOne 142 = .ok (.iastore, 1) := dk_79 (dk_at dksX9_tellOne_5 8 rfl rfl)
theorem dX9_tellOne_143 : decode cX9_tellOne 143 = .ok (.goto 166, 3) := dk_167 0 166 (dk_at dksX9_tellOne_5 9 rfl rfl)
theorem dX9_tellOne_146 : decode cX9_tellOne 146 = .ok (.aload_n 0, 1) := dk_42 (dk_at dksX9_tellOne_5 12 rfl rfl)
theorem dX9_tellOne_147 : decode cX9_tellOne 147 = .ok (.getfield 40, 3) := dk_180 0 40 (dk_at dksX9_tellOne_5 13 rfl rfl)
theorem dX9_tellOne_150 : decode cX9_tellOne 150 = .ok (.iload_n 1, 1) := dk_27 (dk_at dksX9_tellOne_5 16 rfl rfl)
theorem dX9_tellOne_151 : decode cX9_tellOne 151 = .ok (.iconst 5, 1) := dk_8 (dk_at dksX9_tellOne_5 17 rfl rfl)
theorem dX9_tellOne_152 : decode cX9_tellOne 152 = .ok (.iastore, 1) := dk_79 (dk_at dksX9_tellOne_5 18 rfl rfl)
theorem dX9_tellOne_153 : decode cX9_tellOne 153 = .ok (.aload_n 0, 1) := dk_42 (dk_at dksX9_tellOne_5 19 rfl rfl)
theorem dX9_tellOne_154 : decode cX9_tellOne 154 = .ok (.invokevirtual 188, 3) := dk_182 0 188 (dk_at dksX9_tellOne_5 20 rfl rfl)
theorem dX9_tellOne_157 : decode cX9_tellOne 157 = .ok (.goto 152, 3) := dk_167 0 152 (dk_at dksX9_tellOne_6 0 rfl rfl)
theorem dX9_tellOne_160 : decode cX9_tellOne 160 = .ok (.aload_n 0, 1) := dk_42 (dk_at dksX9_tellOne_6 3 rfl rfl)
theorem dX9_tellOne_161 : decode cX9_tellOne 161 = .ok (.getfield 200, 3) := dk_180 0 200 (dk_at dksX9_tellOne_6 4 rfl rfl)
theorem dX9_tellOne_164 : decode cX9_tellOne 164 = .ok (.iconst 3, 1) := dk_6 (dk_at dksX9_tellOne_6 7 rfl rfl)
theorem dX9_tellOne_165 : decode cX9_tellOne 165 = .ok (.if_icmp .ne 8, 3) := dk_160 0 8 (dk_at dksX9_tellOne_6 8 rfl rfl)
theorem dX9_tellOne_168 : decode cX9_tellOne 168 = .ok (.aload_n 0, 1) := dk_42 (dk_at dksX9_tellOne_6 11 rfl rfl)
theorem dX9_tellOne_169 : decode cX9_tellOne 169 = .ok (.iconst 2, 1) := dk_5 (dk_at dksX9_tellOne_6 12 rfl rfl)
theorem dX9_tellOne_170 : decode cX9_tellOne 170 = .ok (.invokevirtual 182, 3) := dk_182 0 182 (dk_at dksX9_tellOne_6 13 rfl rfl)
theorem dX9_tellOne_173 : decode cX9_tellOne 173 = .ok (.aload_n 0, 1) := dk_42 (dk_at dksX9_tellOne_6 16 rfl rfl)
theorem dX9_tellOne_174 : decode cX9_tellOne 174 = .ok (.getfield 167, 3) := dk_180 0 167 (dk_at dksX9_tellOne_6 17 rfl rfl)
theorem dX9_tellOne_177 : decode cX9_tellOne 177 = .ok (.ifCond .le 4, 3) := dk_158 0 4 (dk_at dksX9_tellOne_6 20 rfl rfl)
theorem dX9_tellOne_180 : decode cX9_tellOne 180 = .ok (.return_, 1) := dk_177 (dk_at dksX9_tellOne_6 23 rfl rfl)
theorem dX9_tellOne_181 : decode cX9_tellOne 181 = .ok (.aload_n 0, 1) := dk_42 (dk_at dksX9_tellOne_7 0 rfl rfl)
theorem dX9_tellOne_182 : decode cX9_tellOne 182 = .ok (.invokevirtual 188, 3) := dk_182 0 188 (dk_at dksX9_tellOne_7 1 rfl rfl)
theorem dX9_tellOne_185 : decode cX9_tellOne 185 = .ok (.aload_n 0, 1) := dk_42 (dk_at dksX9_tellOne_7 4 rfl rfl)
theorem dX9_tellOne_186 : decode cX9_tellOne 186 = .ok (.getfield 40, 3) := dk_180 0 40 (dk_at dksX9_tellOne_7 5 rfl rfl)
theorem dX9_tellOne_189 : decode cX9_tellOne 189 = .ok (.iload_n 1, 1) := dk_27 (dk_at dksX9_tellOne_7 8 rfl rfl)
theorem dX9_tellOne_190 : decode cX9_tellOne 190 = .ok (.bipush 6, 2) := dk_16 6 (dk_at dksX9_tellOne_7 9 rfl rfl)
theorem dX9_tellOne_192 : decode cX9_tellOne 192 = .ok (.iastore, 1) := dk_79 (dk_at dksX9_tellOne_7 11 rfl rfl)
theorem dX9_tellOne_193 : decode cX9_tellOne 193 = .ok (.aload_n 0, 1) := dk_42 (dk_at dksX9_tellOne_7 12 rfl rfl)
theorem dX9_tellOne_194 : decode cX9_tellOne 194 = .ok (.getfield 46, 3) := dk_180 0 46 (dk_at dksX9_tellOne_7 13 rfl rfl)
theorem dX9_tellOne_197 : decode cX9_tellOne 197 = .ok (.iload_n 1, 1) := dk_27 (dk_at dksX9_tellOne_7 16 rfl rfl)
theorem dX9_tellOne_198 : decode cX9_tellOne 198 = .ok (.aload_n 0, 1) := dk_42 (dk_at dksX9_tellOne_7 17 rfl rfl)
theorem dX9_tellOne_199 : decode cX9_tellOne 199 = .ok (.iconst 0, 1) := dk_3 (dk_at dksX9_tellOne_7 18 rfl rfl)
theorem dX9_tellOne_200 : decode cX9_tellOne 200 = .ok (.bipush 99, 2) := dk_16 99 (dk_at dksX9_tellOne_7 19 rfl rfl)
theorem dX9_tellOne_202 : decode cX9_tellOne 202 = .ok (.invokevirtual 220, 3) := dk_182 0 220 (dk_at dksX9_tellOne_7 21 rfl rfl)
theorem dX9_tellOne_205 : decode cX9_tellOne 205 = .ok (.iastore, 1) := dk_79 (dk_at dksX9_tellOne_8 0 rfl rfl)
theorem dX9_tellOne_206 : decode cX9_tellOne 206 = .ok (.aload_n 0, 1) := dk_42 (dk_at dksX9_tellOne_8 1 rfl rfl)
theorem dX9_tellOne_207 : decode cX9_tellOne 207 = .ok (.getfield 58, 3) := dk_180 0 58 (dk_at dksX9_tellOne_8 2 rfl rfl)
theorem dX9_tellOne_210 : decode cX9_tellOne 210 = .ok (.aload_n 0, 1) := dk_42 (dk_at dksX9_tellOne_8 5 rfl rfl)
theorem dX9_tellOne_211 : decode cX9_tellOne 211 = .ok (.getfield 200, 3) := dk_180 0 200 (dk_at dksX9_tellOne_8 6 rfl rfl)
theorem dX9_tellOne_214 : decode cX9_tellOne 214 = .ok (.iload_n 1, 1) := dk_27 (dk_at dksX9_tellOne_8 9 rfl rfl)
theorem dX9_tellOne_215 : decode cX9_tellOne 215 = .ok (.iastore, 1) := dk_79 (dk_at dksX9_tellOne_8 10 rfl rfl)
theorem dX9_tellOne_216 : decode cX9_tellOne 216 = .ok (.aload_n 0, 1) := dk_42 (dk_at dksX9_tellOne_8 11 rfl rfl)
theorem dX9_tellOne_217 : decode cX9_tellOne 217 = .ok (.dup, 1) := dk_89 (dk_at dksX9_tellOne_8 12 rfl rfl)
theorem dX9_tellOne_218 : decode cX9_tellOne 218 = .ok (.getfield 200, 3) := dk_180 0 200 (dk_at dksX9_tellOne_8 13 rfl rfl)
theorem dX9_tellOne_221 : decode cX9_tellOne 221 = .ok (.iconst 1, 1) := dk_4 (dk_at dksX9_tellOne_8 16 rfl rfl)
theorem dX9_tellOne_222 : decode cX9_tellOne 222 = .ok (.iadd, 1) := dk_96 (dk_at dksX9_tellOne_8 17 rfl rfl)
theorem dX9_tellOne_223 : decode cX9_tellOne 223 = .ok (.putfield 200, 3) := dk_181 0 200 (dk_at dksX9_tellOne_8 18 rfl rfl)
theorem dX9_tellOne_226 : decode cX9_tellOne 226 = .ok (.goto 83, 3) := dk_167 0 83 (dk_at dksX9_tellOne_8 21 rfl rfl)
theorem dX9_tellOne_229 : decode cX9_tellOne 229 = .ok (.aload_n 0, 1) := dk_42 (dk_at dksX9_tellOne_9 0 rfl rfl)
theorem dX9_tellOne_230 : decode cX9_tellOne 230 = .ok (.getfield 200, 3) := dk_180 0 200 (dk_at dksX9_tellOne_9 1 rfl rfl)
theorem dX9_tellOne_233 : decode cX9_tellOne 233 = .ok (.ifCond .ne 8, 3) := dk_154 0 8 (dk_at dksX9_tellOne_9 4 rfl rfl)
theorem dX9_tellOne_236 : decode cX9_tellOne 236 = .ok (.aload_n 0, 1) := dk_42 (dk_at dksX9_tellOne_9 7 rfl rfl)
theorem dX9_tellOne_237 : decode cX9_tellOne 237 = .ok (.iconst 1, 1) := dk_4 (dk_at dksX9_tellOne_9 8 rfl rfl)
theorem dX9_tellOne_238 : decode cX9_tellOne 238 = .ok (.invokevirtual 182, 3) := dk_182 0 182 (dk_at dksX9_tellOne_9 9 rfl rfl)
theorem dX9_tellOne_241 : decode cX9_tellOne 241 = .ok (.aload_n 0, 1) := dk_42 (dk_at dksX9_tellOne_9 12 rfl rfl)
theorem dX9_tellOne_242 : decode cX9_tellOne 242 = .ok (.getfield 167, 3) := dk_180 0 167 (dk_at dksX9_tellOne_9 13 rfl rfl)
theorem dX9_tellOne_245 : decode cX9_tellOne 245 = .ok (.ifCond .le 4, 3) := dk_158 0 4 (dk_at dksX9_tellOne_9 16 rfl rfl)
theorem dX9_tellOne_248 : decode cX9_tellOne 248 = .ok (.return_, 1) := dk_177 (dk_at dksX9_tellOne_9 19 rfl rfl)
theorem dX9_tellOne_249 : decode cX9_tellOne 249 = .ok (.aload_n 0, 1) := dk_42 (dk_at dksX9_tellOne_9 20 rfl rfl)
theorem dX9_tellOne_250 : decode cX9_tellOne 250 = .ok (.invokevirtual 188, 3) := dk_182 0 188 (dk_at dksX9_tellOne_9 21 rfl rfl)
theorem dX9_tellOne_253 : decode cX9_tellOne 253 = .ok (.aload_n 0, 1) := dk_42 (dk_at dksX9_tellOne_10 0 rfl rfl)
theorem dX9_tellOne_254 : decode cX9_tellOne 254 = .ok (.getfield 40, 3) := dk_180 0 40 (dk_at dksX9_tellOne_10 1 rfl rfl)
theorem dX9_tellOne_257 : decode cX9_tellOne 257 = .ok (.iload_n 1, 1) := dk_27 (dk_at dksX9_tellOne_10 4 rfl rfl)
theorem dX9_tellOne_258 : decode cX9_tellOne 258 = .ok (.bipush 7, 2) := dk_16 7 (dk_at dksX9_tellOne_10 5 rfl rfl)
theorem dX9_tellOne_260 : decode cX9_tellOne 260 = .ok (.iastore, 1) := dk_79 (dk_at dksX9_tellOne_10 7 rfl rfl)
theorem dX9_tellOne_261 : decode cX9_tellOne 261 = .ok (.aload_n 0, 1) := dk_42 (dk_at dksX9_tellOne_10 8 rfl rfl)
theorem dX9_tellOne_262 : decode cX9_tellOne 262 = .ok (.dup, 1) := dk_89 (dk_at dksX9_tellOne_10 9 rfl rfl)
theorem dX9_tellOne_263 : decode cX9_tellOne 263 = .ok (.getfield 200, 3) := dk_180 0 200 (dk_at dksX9_tellOne_10 10 rfl rfl)
theorem dX9_tellOne_266 : decode cX9_tellOne 266 = .ok (.iconst 1, 1) := dk_4 (dk_at dksX9_tellOne_10 13 rfl rfl)
theorem dX9_tellOne_267 : decode cX9_tellOne 267 = .ok (.isub, 1) := dk_100 (dk_at dksX9_tellOne_10 14 rfl rfl)
theorem dX9_tellOne_268 : decode cX9_tellOne 268 = .ok (.putfield 200, 3) := dk_181 0 200 (dk_at dksX9_tellOne_10 15 rfl rfl)
theorem dX9_tellOne_271 : decode cX9_tellOne 271 = .ok (.aload_n 0, 1) := dk_42 (dk_at dksX9_tellOne_10 18 rfl rfl)
theorem dX9_tellOne_272 : decode cX9_tellOne 272 = .ok (.getfield 55, 3) := dk_180 0 55 (dk_at dksX9_tellOne_10 19 rfl rfl)
theorem dX9_tellOne_275 : decode cX9_tellOne 275 = .ok (.iload_n 1, 1) := dk_27 (dk_at dksX9_tellOne_10 22 rfl rfl)
theorem dX9_tellOne_276 : decode cX9_tellOne 276 = .ok (.aload_n 0, 1) := dk_42 (dk_at dksX9_tellOne_10 23 rfl rfl)
theorem dX9_tellOne_277 : decode cX9_tellOne 277 = .ok (.getfield 58, 3) := dk_180 0 58 (dk_at dksX9_tellOne_11 0 rfl rfl)
theorem dX9_tellOne_280 : decode cX9_tellOne 280 = .ok (.aload_n 0, 1) := dk_42 (dk_at dksX9_tellOne_11 3 rfl rfl)
theorem dX9_tellOne_281 : decode cX9_tellOne 281 = .ok (.getfield 200, 3) := dk_180 0 200 (dk_at dksX9_tellOne_11 4 rfl rfl)
theorem dX9_tellOne_284 : decode cX9_tellOne 284 = .ok (.iaload, 1) := dk_46 (dk_at dksX9_tellOne_11 7 rfl rfl)
theorem dX9_tellOne_285 : decode cX9_tellOne 285 = .ok (.iastore, 1) := dk_79 (dk_at dksX9_tellOne_11 8 rfl rfl)
theorem dX9_tellOne_286 : decode cX9_tellOne 286 = .ok (.aload_n 0, 1) := dk_42 (dk_at dksX9_tellOne_11 9 rfl rfl)
theorem dX9_tellOne_287 : decode cX9_tellOne 287 = .ok (.getfield 55, 3) := dk_180 0 55 (dk_at dksX9_tellOne_11 10 rfl rfl)
theorem dX9_tellOne_290 : decode cX9_tellOne 290 = .ok (.aload_n 0, 1) := dk_42 (dk_at dksX9_tellOne_11 13 rfl rfl)
theorem dX9_tellOne_291 : decode cX9_tellOne 291 = .ok (.getfield 58, 3) := dk_180 0 58 (dk_at dksX9_tellOne_11 14 rfl rfl)
theorem dX9_tellOne_294 : decode cX9_tellOne 294 = .ok (.aload_n 0, 1) := dk_42 (dk_at dksX9_tellOne_11 17 rfl rfl)
theorem dX9_tellOne_295 : decode cX9_tellOne 295 = .ok (.getfield 200, 3) := dk_180 0 200 (dk_at dksX9_tellOne_11 18 rfl rfl)
theorem dX9_tellOne_298 : decode cX9_tellOne 298 = .ok (.iaload, 1) := dk_46 (dk_at dksX9_tellOne_11 21 rfl rfl)
theorem dX9_tellOne_299 : decode cX9_tellOne 299 = .ok (.iload_n 1, 1) := dk_27 (dk_at dksX9_tellOne_11 22 rfl rfl)
theorem dX9_tellOne_300 : decode cX9_tellOne 300 = .ok (.iastore, 1) := dk_79 (dk_at dksX9_tellOne_11 23 rfl rfl)
theorem dX9_tellOne_301 : decode cX9_tellOne 301 = .ok (.goto 8, 3) := dk_167 0 8 (dk_at dksX9_tellOne_12 0 rfl rfl)
theorem dX9_tellOne_304 : decode cX9_tellOne 304 = .ok (.aload_n 0, 1) := dk_42 (dk_at dksX9_tellOne_12 3 rfl rfl)
theorem dX9_tellOne_305 : decode cX9_tellOne 305 = .ok (.iload_n 1, 1) := dk_27 (dk_at dksX9_tellOne_12 4 rfl rfl)
theorem dX9_tellOne_306 : decode cX9_tellOne 306 = .ok (.invokevirtual 238, 3) := dk_182 0 238 (dk_at dksX9_tellOne_12 5 rfl rfl)
theorem dX9_tellOne_309 : decode cX9_tellOne 309 = .ok (.aload_n 0, 1) := dk_42 (dk_at dksX9_tellOne_12 8 rfl rfl)
theorem dX9_tellOne_310 : decode cX9_tellOne 310 = .ok (.iconst 4, 1) := dk_7 (dk_at dksX9_tellOne_12 9 rfl rfl)
theorem dX9_tellOne_311 : decode cX9_tellOne 311 = .ok (.invokevirtual 224, 3) := dk_182 0 224 (dk_at dksX9_tellOne_12 10 rfl rfl)
theorem dX9_tellOne_314 : decode cX9_tellOne 314 = .ok (.aload_n 0, 1) := dk_42 (dk_at dksX9_tellOne_12 13 rfl rfl)
theorem dX9_tellOne_315 : decode cX9_tellOne 315 = .ok (.dup, 1) := dk_89 (dk_at dksX9_tellOne_12 14 rfl rfl)
theorem dX9_tellOne_316 : decode cX9_tellOne 316 = .ok (.getfield 197, 3) := dk_180 0 197 (dk_at dksX9_tellOne_12 15 rfl rfl)
theorem dX9_tellOne_319 : decode cX9_tellOne 319 = .ok (.iconst 1, 1) := dk_4 (dk_at dksX9_tellOne_12 18 rfl rfl)
theorem dX9_tellOne_320 : decode cX9_tellOne 320 = .ok (.iadd, 1) := dk_96 (dk_at dksX9_tellOne_12 19 rfl rfl)
theorem dX9_tellOne_321 : decode cX9_tellOne 321 = .ok (.putfield 197, 3) := dk_181 0 197 (dk_at dksX9_tellOne_12 20 rfl rfl)
theorem dX9_tellOne_324 : decode cX9_tellOne 324 = .ok (.return_, 1) := dk_177 (dk_at dksX9_tellOne_12 23 rfl rfl)
abbrev cX9_handTold : ByteArray := prog_20_method_25_code
def yX9_handTold : MethodName := ⟨RX9, "handTold", "()I"⟩
def dkwX9_handTold_0 : List UInt8 := [42, 182, 0, 188, 42, 3, 6, 182, 0, 220, 172]
abbrev dktX9_handTold_0 : List UInt8 := dkwX9_handTold_0 ++ []
theorem dksX9_handTold_0 : cX9_handTold.data.toList.drop 0 = dktX9_handTold_0 := by decide +kernel
theorem dX9_handTold_0 : decode cX9_handTold 0 = .ok (.aload_n 0, 1) := dk_42 (dk_at dksX9_handTold_0 0 rfl rfl)
theorem dX9_handTold_1 : decode cX9_handTold 1 = .ok (.invokevirtual 188, 3) := dk_182 0 188 (dk_at dksX9_handTold_0 1 rfl rfl)
theorem dX9_handTold_4 : decode cX9_handTold 4 = .ok (.aload_n 0, 1) := dk_42 (dk_at dksX9_handTold_0 4 rfl rfl)
theorem dX9_handTold_5 : decode cX9_handTold 5 = .ok (.iconst 0, 1) := dk_3 (dk_at dksX9_handTold_0 5 rfl rfl)
theorem dX9_handTold_6 : decode cX9_handTold 6 = .ok (.iconst 3, 1) := dk_6 (dk_at dksX9_handTold_0 6 rfl rfl)
theorem dX9_handTold_7 : decode cX9_handTold 7 = .ok (.invokevirtual 220, 3) := dk_182 0 220 (dk_at dksX9_handTold_0 7 rfl rfl)
theorem dX9_handTold_10 : decode cX9_handTold 10 = .ok (.ireturn, 1) := dk_172 (dk_at dksX9_handTold_0 10 rfl rfl)
abbrev cX9_actTold : ByteArray := prog_20_method_23_code
def yX9_actTold : MethodName := ⟨RX9, "actTold", "(I)V"⟩
def dkwX9_actTold_2 : List UInt8 := [3, 167, 0, 4, 4, 79, 42, 27, 28, 182, 0, 227, 177]
abbrev dktX9_actTold_2 : List UInt8 := dkwX9_actTold_2 ++ []
def dkwX9_actTold_1 : List UInt8 := [182, 0, 182, 42, 180, 0, 167, 158, 0, 4, 177, 42, 182, 0, 188, 42, 180, 0, 40, 27, 28, 153, 0, 7]
abbrev dktX9_actTold_1 : List UInt8 := dkwX9_actTold_1 ++ dktX9_actTold_2
def dkwX9_actTold_0 : List UInt8 := [42, 16, 30, 182, 0, 185, 61, 28, 154, 0, 17, 42, 16, 31, 182, 0, 185, 154, 0, 8, 42, 4]
abbrev dktX9_actTold_0 : List UInt8 := dkwX9_actTold_0 ++ dktX9_actTold_1
theorem dksX9_actTold_0 : cX9_actTold.data.toList.drop 0 = dktX9_actTold_0 := by decide +kernel
theorem dksX9_actTold_1 : cX9_actTold.data.toList.drop 22 = dktX9_actTold_1 := dk_seg dksX9_actTold_0 22 rfl rfl
theorem dksX9_actTold_2 : cX9_actTold.data.toList.drop 46 = dktX9_actTold_2 := dk_seg dksX9_actTold_1 24 rfl rfl
theorem dX9_actTold_0 : decode cX9_actTold 0 = .ok (.aload_n 0, 1) := dk_42 (dk_at dksX9_actTold_0 0 rfl rfl)
theorem dX9_actTold_1 : decode cX9_actTold 1 = .ok (.bipush 30, 2) := dk_16 30 (dk_at dksX9_actTold_0 1 rfl rfl)
theorem dX9_actTold_3 : decode cX9_actTold 3 = .ok (.invokevirtual 185, 3) := dk_182 0 185 (dk_at dksX9_actTold_0 3 rfl rfl)
theorem dX9_actTold_6 : decode cX9_actTold 6 = .ok (.istore_n 2, 1) := dk_61 (dk_at dksX9_actTold_0 6 rfl rfl)
theorem dX9_actTold_7 : decode cX9_actTold 7 = .ok (.iload_n 2, 1) := dk_28 (dk_at dksX9_actTold_0 7 rfl rfl)
theorem dX9_actTold_8 : decode cX9_actTold 8 = .ok (.ifCond .ne 17, 3) := dk_154 0 17 (dk_at dksX9_actTold_0 8 rfl rfl)
theorem dX9_actTold_11 : decode cX9_actTold 11 = .ok (.aload_n 0, 1) := dk_42 (dk_at dksX9_actTold_0 11 rfl rfl)
theorem dX9_actTold_12 : decode cX9_actTold 12 = .ok (.bipush 31, 2) := dk_16 31 (dk_at dksX9_actTold_0 12 rfl rfl)
theorem dX9_actTold_14 : decode cX9_actTold 14 = .ok (.invokevirtual 185, 3) := dk_182 0 185 (dk_at dksX9_actTold_0 14 rfl rfl)
theorem dX9_actTold_17 : decode cX9_actTold 17 = .ok (.ifCond .ne 8, 3) := dk_154 0 8 (dk_at dksX9_actTold_0 17 rfl rfl)
theorem dX9_actTold_20 : decode cX9_actTold 20 = .ok (.aload_n 0, 1) := dk_42 (dk_at dksX9_actTold_0 20 rfl rfl)
theorem dX9_actTold_21 : decode cX9_actTold 21 = .ok (.iconst 1, 1) := dk_4 (dk_at dksX9_actTold_0 21 rfl rfl)
theorem dX9_actTold_22 : decode cX9_actTold 22 = .ok (.invokevirtual 182, 3) := dk_182 0 182 (dk_at dksX9_actTold_1 0 rfl rfl)
theorem dX9_actTold_25 : decode cX9_actTold 25 = .ok (.aload_n 0, 1) := dk_42 (dk_at dksX9_actTold_1 3 rfl rfl)
theorem dX9_actTold_26 : decode cX9_actTold 26 = .ok (.getfield 167, 3) := dk_180 0 167 (dk_at dksX9_actTold_1 4 rfl rfl)
theorem dX9_actTold_29 : decode cX9_actTold 29 = .ok (.ifCond .le 4, 3) := dk_158 0 4 (dk_at dksX9_actTold_1 7 rfl rfl)
theorem dX9_actTold_32 : decode cX9_actTold 32 = .ok (.return_, 1) := dk_177 (dk_at dksX9_actTold_1 10 rfl rfl)
theorem dX9_actTold_33 : decode cX9_actTold 33 = .ok (.aload_n 0, 1) := dk_42 (dk_at dksX9_actTold_1 11 rfl rfl)
theorem dX9_actTold_34 : decode cX9_actTold 34 = .ok (.invokevirtual 188, 3) := dk_182 0 188 (dk_at dksX9_actTold_1 12 rfl rfl)
theorem dX9_actTold_37 : decode cX9_actTold 37 = .ok (.aload_n 0, 1) := dk_42 (dk_at dksX9_actTold_1 15 rfl rfl)
theorem dX9_actTold_38 : decode cX9_actTold 38 = .ok (.getfield 40, 3) := dk_180 0 40 (dk_at dksX9_actTold_1 16 rfl rfl)
theorem dX9_actTold_41 : decode cX9_actTold 41 = .ok (.iload_n 1, 1) := dk_27 (dk_at dksX9_actTold_1 19 rfl rfl)
theorem dX9_actTold_42 : decode cX9_actTold 42 = .ok (.iload_n 2, 1) := dk_28 (dk_at dksX9_actTold_1 20 rfl rfl)
theorem dX9_actTold_43 : decode cX9_actTold 43 = .ok (.ifCond .eq 7, 3) := dk_153 0 7 (dk_at dksX9_actTold_1 21 rfl rfl)
theorem dX9_actTold_46 : decode cX9_actTold 46 = .ok (.iconst 0, 1) := dk_3 (dk_at dksX9_actTold_2 0 rfl rfl)
theorem dX9_actTold_47 : decode cX9_actTold 47 = .ok (.goto 4, 3) := dk_167 0 4 (dk_at dksX9_actTold_2 1 rfl rfl)
theorem dX9_actTold_50 : decode cX9_actTold 50 = .ok (.iconst 1, 1) := dk_4 (dk_at dksX9_actTold_2 4 rfl rfl)
theorem dX9_actTold_51 : decode cX9_actTold 51 = .ok (.iastore, 1) := dk_79 (dk_at dksX9_actTold_2 5 rfl rfl)
theorem dX9_actTold_52 : decode cX9_actTold 52 = .ok (.aload_n 0, 1) := dk_42 (dk_at dksX9_actTold_2 6 rfl rfl)
theorem dX9_actTold_53 : decode cX9_actTold 53 = .ok (.iload_n 1, 1) := dk_27 (dk_at dksX9_actTold_2 7 rfl rfl)
theorem dX9_actTold_54 : decode cX9_actTold 54 = .ok (.iload_n 2, 1) := dk_28 (dk_at dksX9_actTold_2 8 rfl rfl)
theorem dX9_actTold_55 : decode cX9_actTold 55 = .ok (.invokevirtual 227, 3) := dk_182 0 227 (dk_at dksX9_actTold_2 9 rfl rfl)
theorem dX9_actTold_58 : decode cX9_actTold 58 = .ok (.return_, 1) := dk_177 (dk_at dksX9_actTold_2 12 rfl rfl)
abbrev cX9_termsTold : ByteArray := prog_20_method_24_code
def yX9_termsTold : MethodName := ⟨RX9, "termsTold", "(IZ)V"⟩
def dkwX9_termsTold_2 : List UInt8 := [42, 180, 0, 52, 27, 42, 180, 0, 203, 79, 177]
abbrev dktX9_termsTold_2 : List UInt8 := dkwX9_termsTold_2 ++ []
def dkwX9_termsTold_1 : List UInt8 := [180, 0, 49, 27, 42, 180, 0, 203, 79, 42, 180, 0, 167, 154, 0, 11, 28, 153, 0, 7, 42, 182, 0, 231]
abbrev dktX9_termsTold_1 : List UInt8 := dkwX9_termsTold_1 ++ dktX9_termsTold_2
def dkwX9_termsTold_0 : List UInt8 := [42, 180, 0, 46, 27, 42, 180, 0, 203, 79, 42, 180, 0, 167, 154, 0, 7, 42, 182, 0, 231, 42]
abbrev dktX9_termsTold_0 : List UInt8 := dkwX9_termsTold_0 ++ dktX9_termsTold_1
theorem dksX9_termsTold_0 : cX9_termsTold.data.toList.drop 0 = dktX9_termsTold_0 := by decide +kernel
theorem dksX9_termsTold_1 : cX9_termsTold.data.toList.drop 22 = dktX9_termsTold_1 := dk_seg dksX9_termsTold_0 22 rfl rfl
theorem dksX9_termsTold_2 : cX9_termsTold.data.toList.drop 46 = dktX9_termsTold_2 := dk_seg dksX9_termsTold_1 24 rfl rfl
theorem dX9_termsTold_0 : decode cX9_termsTold 0 = .ok (.aload_n 0, 1) := dk_42 (dk_at dksX9_termsTold_0 0 rfl rfl)
theorem dX9_termsTold_1 : decode cX9_termsTold 1 = .ok (.getfield 46, 3) := dk_180 0 46 (dk_at dksX9_termsTold_0 1 rfl rfl)
theorem dX9_termsTold_4 : decode cX9_termsTold 4 = .ok (.iload_n 1, 1) := dk_27 (dk_at dksX9_termsTold_0 4 rfl rfl)
theorem dX9_termsTold_5 : decode cX9_termsTold 5 = .ok (.aload_n 0, 1) := dk_42 (dk_at dksX9_termsTold_0 5 rfl rfl)
theorem dX9_termsTold_6 : decode cX9_termsTold 6 = .ok (.getfield 203, 3) := dk_180 0 203 (dk_at dksX9_termsTold_0 6 rfl rfl)
theorem dX9_termsTold_9 : decode cX9_termsTold 9 = .ok (.iastore, 1) := dk_79 (dk_at dksX9_termsTold_0 9 rfl rfl)
theorem dX9_termsTold_10 : decode cX9_termsTold 10 = .ok (.aload_n 0, 1) := dk_42 (dk_at dksX9_termsTold_0 10 rfl rfl)
theorem dX9_termsTold_11 : decode cX9_termsTold 11 = .ok (.getfield 167, 3) := dk_180 0 167 (dk_at dksX9_termsTold_0 11 rfl rfl)
theorem dX9_termsTold_14 : decode cX9_termsTold 14 = .ok (.ifCond .ne 7, 3) := dk_154 0 7 (dk_at dksX9_termsTold_0 14 rfl rfl)
theorem dX9_termsTold_17 : decode cX9_termsTold 17 = .ok (.aload_n 0, 1) := dk_42 (dk_at dksX9_termsTold_0 17 rfl rfl)
theorem dX9_termsTold_18 : decode cX9_termsTold 18 = .ok (.invokevirtual 231, 3) := dk_182 0 231 (dk_at dksX9_termsTold_0 18 rfl rfl)
theorem dX9_termsTold_21 : decode cX9_termsTold 21 = .ok (.aload_n 0, 1) := dk_42 (dk_at dksX9_termsTold_0 21 rfl rfl)
theorem dX9_termsTold_22 : decode cX9_termsTold 22 = .ok (.getfield 49, 3) := dk_180 0 49 (dk_at dksX9_termsTold_1 0 rfl rfl)
theorem dX9_termsTold_25 : decode cX9_termsTold 25 = .ok (.iload_n 1, 1) := dk_27 (dk_at dksX9_termsTold_1 3 rfl rfl)
theorem dX9_termsTold_26 : decode cX9_termsTold 26 = .ok (.aload_n 0, 1) := dk_42 (dk_at dksX9_termsTold_1 4 rfl rfl)
theorem dX9_termsTold_27 : decode cX9_termsTold 27 = .ok (.getfield 203, 3) := dk_180 0 203 (dk_at dksX9_termsTold_1 5 rfl rfl)
theorem dX9_termsTold_30 : decode cX9_termsTold 30 = .ok (.iastore, 1) := dk_79 (dk_at dksX9_termsTold_1 8 rfl rfl)
theorem dX9_termsTold_31 : decode cX9_termsTold 31 = .ok (.aload_n 0, 1) := dk_42 (dk_at dksX9_termsTold_1 9 rfl rfl)
theorem dX9_termsTold_32 : decode cX9_termsTold 32 = .ok (.getfield 167, 3) := dk_180 0 167 (dk_at dksX9_termsTold_1 10 rfl rfl)
theorem dX9_termsTold_35 : decode cX9_termsTold 35 = .ok (.ifCond .ne 11, 3) := dk_154 0 11 (dk_at dksX9_termsTold_1 13 rfl rfl)
theorem dX9_termsTold_38 : decode cX9_termsTold 38 = .ok (.iload_n 2, 1) := dk_28 (dk_at dksX9_termsTold_1 16 rfl rfl)
theorem dX9_termsTold_39 : decode cX9_termsTold 39 = .ok (.ifCond .eq 7, 3) := dk_153 0 7 (dk_at dksX9_termsTold_1 17 rfl rfl)
theorem dX9_termsTold_42 : decode cX9_termsTold 42 = .ok (.aload_n 0, 1) := dk_42 (dk_at dksX9_termsTold_1 20 rfl rfl)
theorem dX9_termsTold_43 : decode cX9_termsTold 43 = .ok (.invokevirtual 231, 3) := dk_182 0 231 (dk_at dksX9_termsTold_1 21 rfl rfl)
theorem dX9_termsTold_46 : decode cX9_termsTold 46 = .ok (.aload_n 0, 1) := dk_42 (dk_at dksX9_termsTold_2 0 rfl rfl)
theorem dX9_termsTold_47 : decode cX9_termsTold 47 = .ok (.getfield 52, 3) := dk_180 0 52 (dk_at dksX9_termsTold_2 1 rfl rfl)
theorem dX9_termsTold_50 : decode cX9_termsTold 50 = .ok (.iload_n 1, 1) := dk_27 (dk_at dksX9_termsTold_2 4 rfl rfl)
theorem dX9_termsTold_51 : decode cX9_termsTold 51 = .ok (.aload_n 0, 1) := dk_42 (dk_at dksX9_termsTold_2 5 rfl rfl)
theorem dX9_termsTold_52 : decode cX9_termsTold 52 = .ok (.getfield 203, 3) := dk_180 0 203 (dk_at dksX9_termsTold_2 6 rfl rfl)
theorem dX9_termsTold_55 : decode cX9_termsTold 55 = .ok (.iastore, 1) := dk_79 (dk_at dksX9_termsTold_2 9 rfl rfl)
theorem dX9_termsTold_56 : decode cX9_termsTold 56 = .ok (.return_, 1) := dk_177 (dk_at dksX9_termsTold_2 10 rfl rfl)
abbrev cX9_expression : ByteArray := prog_20_method_29_code
def yX9_expression : MethodName := ⟨RX9, "expression", "()V"⟩
def dkwX9_expression_12 : List UInt8 := [182, 0, 188, 167, 254, 237, 177]
abbrev dktX9_expression_12 : List UInt8 := dkwX9_expression_12 ++ []
def dkwX9_expression_11 : List UInt8 := [180, 0, 241, 42, 180, 0, 20, 42, 180, 0, 170, 46, 79, 42, 89, 180, 0, 241, 4, 96, 181, 0, 241, 42]
abbrev dktX9_expression_11 : List UInt8 := dkwX9_expression_11 ++ dktX9_expression_12
def dkwX9_expression_10 : List UInt8 := [42, 16, 16, 182, 0, 185, 153, 0, 7, 4, 167, 0, 4, 3, 182, 0, 250, 42, 180, 0, 67, 42]
abbrev dktX9_expression_10 : List UInt8 := dkwX9_expression_10 ++ dktX9_expression_11
def dkwX9_expression_9 : List UInt8 := [3, 182, 0, 250, 177, 42, 42, 16, 10, 182, 0, 185, 154, 0, 21, 42, 16, 15, 182, 0, 185, 154, 0, 12]
abbrev dktX9_expression_9 : List UInt8 := dkwX9_expression_9 ++ dktX9_expression_10
def dkwX9_expression_8 : List UInt8 := [4, 167, 0, 4, 3, 61, 28, 154, 0, 22, 42, 180, 0, 194, 27, 164, 0, 8, 42, 4, 182, 0, 182, 42]
abbrev dktX9_expression_8 : List UInt8 := dkwX9_expression_8 ++ dktX9_expression_9
def dkwX9_expression_7 : List UInt8 := [182, 0, 185, 154, 0, 21, 42, 16, 15, 182, 0, 185, 154, 0, 12, 42, 16, 16, 182, 0, 185, 153, 0, 7]
abbrev dktX9_expression_7 : List UInt8 := dkwX9_expression_7 ++ dktX9_expression_8
def dkwX9_expression_6 : List UInt8 := [167, 255, 210, 42, 16, 8, 182, 0, 185, 154, 0, 39, 42, 16, 9, 182, 0, 185, 154, 0, 30, 42, 16, 10]
abbrev dktX9_expression_6 : List UInt8 := dkwX9_expression_6 ++ dktX9_expression_7
def dkwX9_expression_5 : List UInt8 := [180, 0, 241, 4, 100, 181, 0, 241, 42, 89, 180, 0, 194, 4, 100, 181, 0, 194, 42, 182, 0, 188]
abbrev dktX9_expression_5 : List UInt8 := dkwX9_expression_5 ++ dktX9_expression_6
def dkwX9_expression_4 : List UInt8 := [42, 16, 7, 182, 0, 185, 153, 0, 43, 42, 180, 0, 194, 27, 164, 0, 35, 42, 3, 182, 0, 250, 42, 89]
abbrev dktX9_expression_4 : List UInt8 := dkwX9_expression_4 ++ dktX9_expression_5
def dkwX9_expression_3 : List UInt8 := [89, 180, 0, 241, 4, 96, 181, 0, 241, 167, 255, 198, 42, 182, 0, 247, 42, 180, 0, 167, 158, 0, 4, 177]
abbrev dktX9_expression_3 : List UInt8 := dkwX9_expression_3 ++ dktX9_expression_4
def dkwX9_expression_2 : List UInt8 := [180, 0, 194, 4, 96, 181, 0, 194, 42, 182, 0, 188, 42, 180, 0, 67, 42, 180, 0, 241, 16, 6, 79, 42]
abbrev dktX9_expression_2 : List UInt8 := dkwX9_expression_2 ++ dktX9_expression_3
def dkwX9_expression_1 : List UInt8 := [16, 6, 182, 0, 185, 153, 0, 55, 42, 180, 0, 194, 16, 6, 160, 0, 8, 42, 5, 182, 0, 182, 42, 89]
abbrev dktX9_expression_1 : List UInt8 := dkwX9_expression_1 ++ dktX9_expression_2
def dkwX9_expression_0 : List UInt8 := [42, 3, 181, 0, 241, 42, 180, 0, 194, 60, 4, 61, 28, 153, 1, 21, 42, 180, 0, 167, 154, 1, 14, 42]
abbrev dktX9_expression_0 : List UInt8 := dkwX9_expression_0 ++ dktX9_expression_1
theorem dksX9_expression_0 : cX9_expression.data.toList.drop 0 = dktX9_expression_0 := by decide +kernel
theorem dksX9_expression_1 : cX9_expression.data.toList.drop 24 = dktX9_expression_1 := dk_seg dksX9_expression_0 24 rfl rfl
theorem dksX9_expression_2 : cX9_expression.data.toList.drop 48 = dktX9_expression_2 := dk_seg dksX9_expression_1 24 rfl rfl
theorem dksX9_expression_3 : cX9_expression.data.toList.drop 72 = dktX9_expression_3 := dk_seg dksX9_expression_2 24 rfl rfl
theorem dksX9_expression_4 : cX9_expression.data.toList.drop 96 = dktX9_expression_4 := dk_seg dksX9_expression_3 24 rfl rfl
theorem dksX9_expression_5 : cX9_expression.data.toList.drop 120 = dktX9_expression_5 := dk_seg dksX9_expression_4 24 rfl rfl
theorem dksX9_expression_6 : cX9_expression.data.toList.drop 142 = dktX9_expression_6 := dk_seg dksX9_expression_5 22 rfl rfl
theorem dksX9_expression_7 : cX9_expression.data.toList.drop 166 = dktX9_expression_7 := dk_seg dksX9_expression_6 24 rfl rfl
theorem dksX9_expression_8 : cX9_expression.data.toList.drop 190 = dktX9_expression_8 := dk_seg dksX9_expression_7 24 rfl rfl
theorem dksX9_expression_9 : cX9_expression.data.toList.drop 214 = dktX9_expression_9 := dk_seg dksX9_expression_8 24 rfl rfl
theorem dksX9_expression_10 : cX9_expression.data.toList.drop 238 = dktX9_expression_10 := dk_seg dksX9_expression_9 24 rfl rfl
theorem dksX9_expression_11 : cX9_expression.data.toList.drop 260 = dktX9_expression_11 := dk_seg dksX9_expression_10 22 rfl rfl
theorem dksX9_expression_12 : cX9_expression.data.toList.drop 284 = dktX9_expression_12 := dk_seg dksX9_expression_11 24 rfl rfl
theorem dX9_expression_0 : decode cX9_expression 0 = .ok (.aload_n 0, 1) := dk_42 (dk_at dksX9_expression_0 0 rfl rfl)
theorem dX9_expression_1 : decode cX9_expression 1 = .ok (.iconst 0, 1) := dk_3 (dk_at dksX9_expression_0 1 rfl rfl)
theorem dX9_expression_2 : decode cX9_expression 2 = .ok (.putfield 241, 3) := dk_181 0 241 (dk_at dksX9_expression_0 2 rfl rfl)
theorem dX9_expression_5 : decode cX9_expression 5 = .ok (.aload_n 0, 1) := dk_42 (dk_at dksX9_expression_0 5 rfl rfl)
theorem dX9_expression_6 : decode cX9_expression 6 = .ok (.getfield 194, 3) := dk_180 0 194 (dk_at dksX9_expression_0 6 rfl rfl)
theorem dX9_expression_9 : decode cX9_expression 9 = .ok (.istore_n 1, 1) := dk_60 (dk_at dksX9_expression_0 9 rfl rfl)
theorem dX9_expression_10 : decode cX9_expression 10 = .ok (.iconst 1, 1) := dk_4 (dk_at dksX9_expression_0 10 rfl rfl)
theorem dX9_expression_11 : decode cX9_expression 11 = .ok (.istore_n 2, 1) := dk_61 (dk_at dksX9_expression_0 11 rfl rfl)
theorem dX9_expression_12 : decode cX9_expression 12 = .ok (.iload_n 2, 1) := dk_28 (dk_at dksX9_expression_0 12 rfl rfl)
theorem dX9_expression_13 : decode cX9_expression 13 = .ok (.ifCond .eq 277, 3) := dk_153 1 21 (dk_at dksX9_expression_0 13 rfl rfl)
theorem dX9_expression_16 : decode cX9_expression 16 = .ok (.aload_n 0, 1) := dk_42 (dk_at dksX9_expression_0 16 rfl rfl)
theorem dX9_expression_17 : decode cX9_expression 17 = .ok (.getfield 167, 3) := dk_180 0 167 (dk_at dksX9_expression_0 17 rfl rfl)
theorem dX9_expression_20 : decode cX9_expression 20 = .ok (.ifCond .ne 270, 3) := dk_154 1 14 (dk_at dksX9_expression_0 20 rfl rfl)
theorem dX9_expression_23 : decode cX9_expression 23 = .ok (.aload_n 0, 1) := dk_42 (dk_at dksX9_expression_0 23 rfl rfl)
theorem dX9_expression_24 : decode cX9_expression 24 = .ok (.bipush 6, 2) := dk_16 6 (dk_at dksX9_expression_1 0 rfl rfl)
theorem dX9_expression_26 : decode cX9_expression 26 = .ok (.invokevirtual 185, 3) := dk_182 0 185 (dk_at dksX9_expression_1 2 rfl rfl)
theorem dX9_expression_29 : decode cX9_expression 29 = .ok (.ifCond .eq 55, 3) := dk_153 0 55 (dk_at dksX9_expression_1 5 rfl rfl)
theorem dX9_expression_32 : decode cX9_expression 32 = .ok (.aload_n 0, 1) := dk_42 (dk_at dksX9_expression_1 8 rfl rfl)
theorem dX9_expression_33 : decode cX9_expression 33 = .ok (.getfield 194, 3) := dk_180 0 194 (dk_at dksX9_expression_1 9 rfl rfl)
theorem dX9_expression_36 : decode cX9_expression 36 = .ok (.bipush 6, 2) := dk_16 6 (dk_at dksX9_expression_1 12 rfl rfl)
theorem dX9_expression_38 : decode cX9_expression 38 = .ok (.if_icmp .ne 8, 3) := dk_160 0 8 (dk_at dksX9_expression_1 14 rfl rfl)
theorem dX9_expression_41 : decode cX9_expression 41 = .ok (.aload_n 0, 1) := dk_42 (dk_at dksX9_expression_1 17 rfl rfl)
theorem dX9_expression_42 : decode cX9_expression 42 = .ok (.iconst 2, 1) := dk_5 (dk_at dksX9_expression_1 18 rfl rfl)
theorem dX9_expression_43 : decode cX9_expression 43 = .ok (.invokevirtual 182, 3) := dk_182 0 182 (dk_at dksX9_expression_1 19 rfl rfl)
theorem dX9_expression_46 : decode cX9_expression 46 = .ok (.aload_n 0, 1) := dk_42 (dk_at dksX9_expression_1 22 rfl rfl)
theorem dX9_expression_47 : decode cX9_expression 47 = .ok (.dup, 1) := dk_89 (dk_at dksX9_expression_1 23 rfl rfl)
theorem dX9_expression_48 : decode cX9_expression 48 = .ok (.getfield 194, 3) := dk_180 0 194 (dk_at dksX9_expression_2 0 rfl rfl)
theorem dX9_expression_51 : decode cX9_expression 51 = .ok (.iconst 1, 1) := dk_4 (dk_at dksX9_expression_2 3 rfl rfl)
theorem dX9_expression_52 : decode cX9_expression 52 = .ok (.iadd, 1) := dk_96 (dk_at dksX9_expression_2 4 rfl rfl)
theorem dX9_expression_53 : decode cX9_expression 53 = .ok (.putfield 194, 3) := dk_181 0 194 (dk_at dksX9_expression_2 5 rfl rfl)
theorem dX9_expression_56 : decode cX9_expression 56 = .ok (.aload_n 0, 1) := dk_42 (dk_at dksX9_expression_2 8 rfl rfl)
theorem dX9_expression_57 : decode cX9_expression 57 = .ok (.invokevirtual 188, 3) := dk_182 0 188 (dk_at dksX9_expression_2 9 rfl rfl)
theorem dX9_expression_60 : decode cX9_expression 60 = .ok (.aload_n 0, 1) := dk_42 (dk_at dksX9_expression_2 12 rfl rfl)
theorem dX9_expression_61 : decode cX9_expression 61 = .ok (.getfield 67, 3) := dk_180 0 67 (dk_at dksX9_expression_2 13 rfl rfl)
theorem dX9_expression_64 : decode cX9_expression 64 = .ok (.aload_n 0, 1) := dk_42 (dk_at dksX9_expression_2 16 rfl rfl)
theorem dX9_expression_65 : decode cX9_expression 65 = .ok (.getfield 241, 3) := dk_180 0 241 (dk_at dksX9_expression_2 17 rfl rfl)
theorem dX9_expression_68 : decode cX9_expression 68 = .ok (.bipush 6, 2) := dk_16 6 (dk_at dksX9_expression_2 20 rfl rfl)
theorem dX9_expression_70 : decode cX9_expression 70 = .ok (.iastore, 1) := dk_79 (dk_at dksX9_expression_2 22 rfl rfl)
theorem dX9_expression_71 : decode cX9_expression 71 = .ok (.aload_n 0, 1) := dk_42 (dk_at dksX9_expression_2 23 rfl rfl)
theorem dX9_expression_72 : decode cX9_expression 72 = .ok (.dup, 1) := dk_89 (dk_at dksX9_expression_3 0 rfl rfl)
theorem dX9_expression_73 : decode cX9_expression 73 = .ok (.getfield 241, 3) := dk_180 0 241 (dk_at dksX9_expression_3 1 rfl rfl)
theorem dX9_expression_76 : decode cX9_expression 76 = .ok (.iconst 1, 1) := dk_4 (dk_at dksX9_expression_3 4 rfl rfl)
theorem dX9_expression_77 : decode cX9_expression 77 = .ok (.iadd, 1) := dk_96 (dk_at dksX9_expression_3 5 rfl rfl)
theorem dX9_expression_78 : decode cX9_expression 78 = .ok (.putfield 241, 3) := dk_181 0 241 (dk_at dksX9_expression_3 6 rfl rfl)
theorem dX9_expression_81 : decode cX9_expression 81 = .ok (.goto (-58), 3) := dk_167 255 198 (dk_at dksX9_expression_3 9 rfl rfl)
theorem dX9_expression_84 : decode cX9_expression 84 = .ok (.aload_n 0, 1) := dk_42 (dk_at dksX9_expression_3 12 rfl rfl)
theorem dX9_expression_85 : decode cX9_expression 85 = .ok (.invokevirtual 247, 3) := dk_182 0 247 (dk_at dksX9_expression_3 13 rfl rfl)
theorem dX9_expression_88 : decode cX9_expression 88 = .ok (.aload_n 0, 1) := dk_42 (dk_at dksX9_expression_3 16 rfl rfl)
theorem dX9_expression_89 : decode cX9_expression 89 = .ok (.getfield 167, 3) := dk_180 0 167 (dk_at dksX9_expression_3 17 rfl rfl)
theorem dX9_expression_92 : decode cX9_expression 92 = .ok (.ifCond .le 4, 3) := dk_158 0 4 (dk_at dksX9_expression_3 20 rfl rfl)
theorem dX9_expression_95 : decode cX9_expression 95 = .ok (.return_, 1) := dk_177 (dk_at dksX9_expression_3 23 rfl rfl)
theorem dX9_expression_96 : decode cX9_expression 96 = .ok (.aload_n 0, 1) := dk_42 (dk_at dksX9_expression_4 0 rfl rfl)
theorem dX9_expression_97 : decode cX9_expression 97 = .ok (.bipush 7, 2) := dk_16 7 (dk_at dksX9_expression_4 1 rfl rfl)
theorem dX9_expression_99 : decode cX9_expression 99 = .ok (.invokevirtual 185, 3) := dk_182 0 185 (dk_at dksX9_expression_4 3 rfl rfl)
theorem dX9_expression_102 : decode cX9_expression 102 = .ok (.ifCond .eq 43, 3) := dk_153 0 43 (dk_at dksX9_expression_4 6 rfl rfl)
theorem dX9_expression_105 : decode cX9_expression 105 = .ok (.aload_n 0, 1) := dk_42 (dk_at dksX9_expression_4 9 rfl rfl)
theorem dX9_expression_106 : decode cX9_expression 106 = .ok (.getfield 194, 3) := dk_180 0 194 (dk_at dksX9_expression_4 10 rfl rfl)
theorem dX9_expression_109 : decode cX9_expression 109 = .ok (.iload_n 1, 1) := dk_27 (dk_at dksX9_expression_4 13 rfl rfl)
theorem dX9_expression_110 : decode cX9_expression 110 = .ok (.if_icmp .le 35, 3) := dk_164 0 35 (dk_at dksX9_expression_4 14 rfl rfl)
theorem dX9_expression_113 : decode cX9_expression 113 = .ok (.aload_n 0, 1) := dk_42 (dk_at dksX9_expression_4 17 rfl rfl)
theorem dX9_expression_114 : decode cX9_expression 114 = .ok (.iconst 0, 1) := dk_3 (dk_at dksX9_expression_4 18 rfl rfl)
theorem dX9_expression_115 : decode cX9_expression 115 = .ok (.invokevirtual 250, 3) := dk_182 0 250 (dk_at dksX9_expression_4 19 rfl rfl)
theorem dX9_expression_118 : decode cX9_expression 118 = .ok (.aload_n 0, 1) := dk_42 (dk_at dksX9_expression_4 22 rfl rfl)
theorem dX9_expression_119 : decode cX9_expression 119 = .ok (.dup, 1) := dk_89 (dk_at dksX9_expression_4 23 rfl rfl)
theorem dX9_expression_120 : decode cX9_expression 120 = .ok (.getfield 241, 3) := dk_180 0 241 (dk_at dksX9_expression_5 0 rfl rfl)
theorem dX9_expression_123 : decode cX9_expression 123 = .ok (.iconst 1, 1) := dk_4 (dk_at dksX9_expression_5 3 rfl rfl)
theorem dX9_expression_124 : decode cX9_expression 124 = .ok (.isub, 1) := dk_100 (dk_at dksX9_expression_5 4 rfl rfl)
theorem dX9_expression_125 : decode cX9_expression 125 = .ok (.putfield 241, 3) := dk_181 0 241 (dk_at dksX9_expression_5 5 rfl rfl)
theorem dX9_expression_128 : decode cX9_expression 128 = .ok (.aload_n 0, 1) := dk_42 (dk_at dksX9_expression_5 8 rfl rfl)
theorem dX9_expression_129 : decode cX9_expression 129 = .ok (.dup, 1) := dk_89 (dk_at dksX9_expression_5 9 rfl rfl)
theorem dX9_expression_130 : decode cX9_expression 130 = .ok (.getfield 194, 3) := dk_180 0 194 (dk_at dksX9_expression_5 10 rfl rfl)
theorem dX9_expression_133 : decode cX9_expression 133 = .ok (.iconst 1, 1) := dk_4 (dk_at dksX9_expression_5 13 rfl rfl)
theorem dX9_expression_134 : decode cX9_expression 134 = .ok (.isub, 1) := dk_100 (dk_at dksX9_expression_5 14 rfl rfl)
theorem dX9_expression_135 : decode cX9_expression 135 = .ok (.putfield 194, 3) := dk_181 0 194 (dk_at dksX9_expression_5 15 rfl rfl)
theorem dX9_expression_138 : decode cX9_expression 138 = .ok (.aload_n 0, 1) := dk_42 (dk_at dksX9_expression_5 18 rfl rfl)
theorem dX9_expression_139 : decode cX9_expression 139 = .ok (.invokevirtual 188, 3) := dk_182 0 188 (dk_at dksX9_expression_5 19 rfl rfl)
theorem dX9_expression_142 : decode cX9_expression 142 = .ok (.goto (-46), 3) := dk_167 255 210 (dk_at dksX9_expression_6 0 rfl rfl)
theorem dX9_expression_145 : decode cX9_expression 145 = .ok (.aload_n 0, 1) := dk_42 (dk_at dksX9_expression_6 3 rfl rfl)
theorem dX9_expression_146 : decode cX9_expression 146 = .ok (.bipush 8, 2) := dk_16 8 (dk_at dksX9_expression_6 4 rfl rfl)
theorem dX9_expression_148 : decode cX9_expression 148 = .ok (.invokevirtual 185, 3) := dk_182 0 185 (dk_at dksX9_expression_6 6 rfl rfl)
theorem dX9_expression_151 : decode cX9_expression 151 = .ok (.ifCond .ne 39, 3) := dk_154 0 39 (dk_at dksX9_expression_6 9 rfl rfl)
theorem dX9_expression_154 : decode cX9_expression 154 = .ok (.aload_n 0, 1) := dk_42 (dk_at dksX9_expression_6 12 rfl rfl)
theorem dX9_expression_155 : decode cX9_expression 155 = .ok (.bipush 9, 2) := dk_16 9 (dk_at dksX9_expression_6 13 rfl rfl)
theorem dX9_expression_157 : decode cX9_expression 157 = .ok (.invokevirtual 185, 3) := dk_182 0 185 (dk_at dksX9_expression_6 15 rfl rfl)
theorem dX9_expression_160 : decode cX9_expression 160 = .ok (.ifCond .ne 30, 3) := dk_154 0 30 (dk_at dksX9_expression_6 18 rfl rfl)
theorem dX9_expression_163 : decode cX9_expression 163 = .ok (.aload_n 0, 1) := dk_42 (dk_at dksX9_expression_6 21 rfl rfl)
theorem dX9_expression_164 : decode cX9_expression 164 = .ok (.bipush 10, 2) := dk_16 10 (dk_at dksX9_expression_6 22 rfl rfl)
theorem dX9_expression_166 : decode cX9_expression 166 = .ok (.invokevirtual 185, 3) := dk_182 0 185 (dk_at dksX9_expression_7 0 rfl rfl)
theorem dX9_expression_169 : decode cX9_expression 169 = .ok (.ifCond .ne 21, 3) := dk_154 0 21 (dk_at dksX9_expression_7 3 rfl rfl)
theorem dX9_expression_172 : decode cX9_expression 172 = .ok (.aload_n 0, 1) := dk_42 (dk_at dksX9_expression_7 6 rfl rfl)
theorem dX9_expression_173 : decode cX9_expression 173 = .ok (.bipush 15, 2) := dk_16 15 (dk_at dksX9_expression_7 7 rfl rfl)
theorem dX9_expression_175 : decode cX9_expression 175 = .ok (.invokevirtual 185, 3) := dk_182 0 185 (dk_at dksX9_expression_7 9 rfl rfl)
theorem dX9_expression_178 : decode cX9_expression 178 = .ok (.ifCond .ne 12, 3) := dk_154 0 12 (dk_at dksX9_expression_7 12 rfl rfl)
theorem dX9_expression_181 : decode cX9_expression 181 = .ok (.aload_n 0, 1) := dk_42 (dk_at dksX9_expression_7 15 rfl rfl)
theorem dX9_expression_182 : decode cX9_expression 182 = .ok (.bipush 16, 2) := dk_16 16 (dk_at dksX9_expression_7 16 rfl rfl)
theorem dX9_expression_184 : decode cX9_expression 184 = .ok (.invokevirtual 185, 3) := dk_182 0 185 (dk_at dksX9_expression_7 18 rfl rfl)
theorem dX9_expression_187 : decode cX9_expression 187 = .ok (.ifCond .eq 7, 3) := dk_153 0 7 (dk_at dksX9_expression_7 21 rfl rfl)
theorem dX9_expression_190 : decode cX9_expression 190 = .ok (.iconst 1, 1) := dk_4 (dk_at dksX9_expression_8 0 rfl rfl)
theorem dX9_expression_191 : decode cX9_expression 191 = .ok (.goto 4, 3) := dk_167 0 4 (dk_at dksX9_expression_8 1 rfl rfl)
theorem dX9_expression_194 : decode cX9_expression 194 = .ok (.iconst 0, 1) := dk_3 (dk_at dksX9_expression_8 4 rfl rfl)
theorem dX9_expression_195 : decode cX9_expression 195 = .ok (.istore_n 2, 1) := dk_61 (dk_at dksX9_expression_8 5 rfl rfl)
theorem dX9_expression_196 : decode cX9_expression 196 = .ok (.iload_n 2, 1) := dk_28 (dk_at dksX9_expression_8 6 rfl rfl)
theorem dX9_expression_197 : decode cX9_expression 197 = .ok (.ifCond .ne 22, 3) := dk_154 0 22 (dk_at dksX9_expression_8 7 rfl rfl)
theorem dX9_expression_200 : decode cX9_expression 200 = .ok (.aload_n 0, 1) := dk_42 (dk_at dksX9_expression_8 10 rfl rfl)
theorem dX9_expression_201 : decode cX9_expression 201 = .ok (.getfield 194, 3) := dk_180 0 194 (dk_at dksX9_expression_8 11 rfl rfl)
theorem dX9_expression_204 : decode cX9_expression 204 = .ok (.iload_n 1, 1) := dk_27 (dk_at dksX9_expression_8 14 rfl rfl)
theorem dX9_expression_205 : decode cX9_expression 205 = .ok (.if_icmp .le 8, 3) := dk_164 0 8 (dk_at dksX9_expression_8 15 rfl rfl)
theorem dX9_expression_208 : decode cX9_expression 208 = .ok (.aload_n 0, 1) := dk_42 (dk_at dksX9_expression_8 18 rfl rfl)
theorem dX9_expression_209 : decode cX9_expression 209 = .ok (.iconst 1, 1) := dk_4 (dk_at dksX9_expression_8 19 rfl rfl)
theorem dX9_expression_210 : decode cX9_expression 210 = .ok (.invokevirtual 182, 3) := dk_182 0 182 (dk_at dksX9_expression_8 20 rfl rfl)
theorem dX9_expression_213 : decode cX9_expression 213 = .ok (.aload_n 0, 1) := dk_42 (dk_at dksX9_expression_8 23 rfl rfl)
theorem dX9_expression_214 : decode cX9_expression 214 = .ok (.iconst 0, 1) := dk_3 (dk_at dksX9_expression_9 0 rfl rfl)
theorem dX9_expression_215 : decode cX9_expression 215 = .ok (.invokevirtual 250, 3) := dk_182 0 250 (dk_at dksX9_expression_9 1 rfl rfl)
theorem dX9_expression_218 : decode cX9_expression 218 = .ok (.return_, 1) := dk_177 (dk_at dksX9_expression_9 4 rfl rfl)
theorem dX9_expression_219 : decode cX9_expression 219 = .ok (.aload_n 0, 1) := dk_42 (dk_at dksX9_expression_9 5 rfl rfl)
theorem dX9_expression_220 : decode cX9_expression 220 = .ok (.aload_n 0, 1) := dk_42 (dk_at dksX9_expression_9 6 rfl rfl)
theorem dX9_expression_221 : decode cX9_expression 221 = .ok (.bipush 10, 2) := dk_16 10 (dk_at dksX9_expression_9 7 rfl rfl)
theorem dX9_expression_223 : decode cX9_expression 223 = .ok (.invokevirtual 185, 3) := dk_182 0 185 (dk_at dksX9_expression_9 9 rfl rfl)
theorem dX9_expression_226 : decode cX9_expression 226 = .ok (.ifCond .ne 21, 3) := dk_154 0 21 (dk_at dksX9_expression_9 12 rfl rfl)
theorem dX9_expression_229 : decode cX9_expression 229 = .ok (.aload_n 0, 1) := dk_42 (dk_at dksX9_expression_9 15 rfl rfl)
theorem dX9_expression_230 : decode cX9_expression 230 = .ok (.bipush 15, 2) := dk_16 15 (dk_at dksX9_expression_9 16 rfl rfl)
theorem dX9_expression_232 : decode cX9_expression 232 = .ok (.invokevirtual 185, 3) := dk_182 0 185 (dk_at dksX9_expression_9 18 rfl rfl)
theorem dX9_expression_235 : decode cX9_expression 235 = .ok (.ifCond .ne 12, 3) := dk_154 0 12 (dk_at dksX9_expression_9 21 rfl rfl)
theorem dX9_expression_238 : decode cX9_expression 238 = .ok (.aload_n 0, 1) := dk_42 (dk_at dksX9_expression_10 0 rfl rfl)
theorem dX9_expression_239 : decode cX9_expression 239 = .ok (.bipush 16, 2) := dk_16 16 (dk_at dksX9_expression_10 1 rfl rfl)
theorem dX9_expression_241 : decode cX9_expression 241 = .ok (.invokevirtual 185, 3) := dk_182 0 185 (dk_at dksX9_expression_10 3 rfl rfl)
theorem dX9_expression_244 : decode cX9_expression 244 = .ok (.ifCond .eq 7, 3) := dk_153 0 7 (dk_at dksX9_expression_10 6 rfl rfl)
theorem dX9_expression_247 : decode cX9_expression 247 = .ok (.iconst 1, 1) := dk_4 (dk_at dksX9_expression_10 9 rfl rfl)
theorem dX9_expression_248 : decode cX9_expression 248 = .ok (.goto 4, 3) := dk_167 0 4 (dk_at dksX9_expression_10 10 rfl rfl)
theorem dX9_expression_251 : decode cX9_expression 251 = .ok (.iconst 0, 1) := dk_3 (dk_at dksX9_expression_10 13 rfl rfl)
theorem dX9_expression_252 : decode cX9_expression 252 = .ok (.invokevirtual 250, 3) := dk_182 0 250 (dk_at dksX9_expression_10 14 rfl rfl)
theorem dX9_expression_255 : decode cX9_expression 255 = .ok (.aload_n 0, 1) := dk_42 (dk_at dksX9_expression_10 17 rfl rfl)
theorem dX9_expression_256 : decode cX9_expression 256 = .ok (.getfield 67, 3) := dk_180 0 67 (dk_at dksX9_expression_10 18 rfl rfl)
theorem dX9_expression_259 : decode cX9_expression 259 = .ok (.aload_n 0, 1) := dk_42 (dk_at dksX9_expression_10 21 rfl rfl)
theorem dX9_expression_260 : decode cX9_expression 260 = .ok (.getfield 241, 3) := dk_180 0 241 (dk_at dksX9_expression_11 0 rfl rfl)
theorem dX9_expression_263 : decode cX9_expression 263 = .ok (.aload_n 0, 1) := dk_42 (dk_at dksX9_expression_11 3 rfl rfl)
theorem dX9_expression_264 : decode cX9_expression 264 = .ok (.getfield 20, 3) := dk_180 0 20 (dk_at dksX9_expression_11 4 rfl rfl)
theorem dX9_expression_267 : decode cX9_expression 267 = .ok (.aload_n 0, 1) := dk_42 (dk_at dksX9_expression_11 7 rfl rfl)
theorem dX9_expression_268 : decode cX9_expression 268 = .ok (.getfield 170, 3) := dk_180 0 170 (dk_at dksX9_expression_11 8 rfl rfl)
theorem dX9_expression_271 : decode cX9_expression 271 = .ok (.iaload, 1) := dk_46 (dk_at dksX9_expression_11 11 rfl rfl)
theorem dX9_expression_272 : decode cX9_expression 272 = .ok (.iastore, 1) := dk_79 (dk_at dksX9_expression_11 12 rfl rfl)
theorem dX9_expression_273 : decode cX9_expression 273 = .ok (.aload_n 0, 1) := dk_42 (dk_at dksX9_expression_11 13 rfl rfl)
theorem dX9_expression_274 : decode cX9_expression 274 = .ok (.dup, 1) := dk_89 (dk_at dksX9_expression_11 14 rfl rfl)
theorem dX9_expression_275 : decode cX9_expression 275 = .ok (.getfield 241, 3) := dk_180 0 241 (dk_at dksX9_expression_11 15 rfl rfl)
theorem dX9_expression_278 : decode cX9_expression 278 = .ok (.iconst 1, 1) := dk_4 (dk_at dksX9_expression_11 18 rfl rfl)
theorem dX9_expression_279 : decode cX9_expression 279 = .ok (.iadd, 1) := dk_96 (dk_at dksX9_expression_11 19 rfl rfl)
theorem dX9_expression_280 : decode cX9_expression 280 = .ok (.putfield 241, 3) := dk_181 0 241 (dk_at dksX9_expression_11 20 rfl rfl)
theorem dX9_expression_283 : decode cX9_expression 283 = .ok (.aload_n 0, 1) := dk_42 (dk_at dksX9_expression_11 23 rfl rfl)
theorem dX9_expression_284 : decode cX9_expression 284 = .ok (.invokevirtual 188, 3) := dk_182 0 188 (dk_at dksX9_expression_12 0 rfl rfl)
theorem dX9_expression_287 : decode cX9_expression 287 = .ok (.goto (-275), 3) := dk_167 254 237 (dk_at dksX9_expression_12 3 rfl rfl)
theorem dX9_expression_290 : decode cX9_expression 290 = .ok (.return_, 1) := dk_177 (dk_at dksX9_expression_12 6 rfl rfl)
abbrev cX9_unit : ByteArray := prog_20_method_30_code
def yX9_unit : MethodName := ⟨RX9, "unit", "()V"⟩
def dkwX9_unit_3 : List UInt8 := [180, 0, 170, 46, 16, 32, 100, 182, 0, 244, 42, 182, 0, 188, 167, 0, 8, 42, 4, 182, 0, 182, 177]
abbrev dktX9_unit_3 : List UInt8 := dkwX9_unit_3 ++ []
def dkwX9_unit_2 : List UInt8 := [161, 0, 41, 42, 180, 0, 20, 42, 180, 0, 170, 46, 16, 37, 163, 0, 27, 42, 4, 42, 180, 0, 20, 42]
abbrev dktX9_unit_2 : List UInt8 := dkwX9_unit_2 ++ dktX9_unit_3
def dkwX9_unit_1 : List UInt8 := [182, 0, 188, 167, 0, 67, 42, 180, 0, 167, 154, 0, 55, 42, 180, 0, 20, 42, 180, 0, 170, 46, 16, 32]
abbrev dktX9_unit_1 : List UInt8 := dkwX9_unit_1 ++ dktX9_unit_2
def dkwX9_unit_0 : List UInt8 := [42, 5, 182, 0, 185, 153, 0, 24, 42, 3, 42, 180, 0, 27, 42, 180, 0, 170, 46, 182, 0, 244, 42]
abbrev dktX9_unit_0 : List UInt8 := dkwX9_unit_0 ++ dktX9_unit_1
theorem dksX9_unit_0 : cX9_unit.data.toList.drop 0 = dktX9_unit_0 := by decide +kernel
theorem dksX9_unit_1 : cX9_unit.data.toList.drop 23 = dktX9_unit_1 := dk_seg dksX9_unit_0 23 rfl rfl
theorem dksX9_unit_2 : cX9_unit.data.toList.drop 47 = dktX9_unit_2 := dk_seg dksX9_unit_1 24 rfl rfl
theorem dksX9_unit_3 : cX9_unit.data.toList.drop 71 = dktX9_unit_3 := dk_seg dksX9_unit_2 24 rfl rfl
theorem dX9_unit_0 : decode cX9_unit 0 = .ok (.aload_n 0, 1) := dk_42 (dk_at dksX9_unit_0 0 rfl rfl)
theorem dX9_unit_1 : decode cX9_unit 1 = .ok (.iconst 2, 1) := dk_5 (dk_at dksX9_unit_0 1 rfl rfl)
theorem dX9_unit_2 : decode cX9_unit 2 = .ok (.invokevirtual 185, 3) := dk_182 0 185 (dk_at dksX9_unit_0 2 rfl rfl)
theorem dX9_unit_5 : decode cX9_unit 5 = .ok (.ifCond .eq 24, 3) := dk_153 0 24 (dk_at dksX9_unit_0 5 rfl rfl)
theorem dX9_unit_8 : decode cX9_unit 8 = .ok (.aload_n 0, 1) := dk_42 (dk_at dksX9_unit_0 8 rfl rfl)
theorem dX9_unit_9 : decode cX9_unit 9 = .ok (.iconst 0, 1) := dk_3 (dk_at dksX9_unit_0 9 rfl rfl)
theorem dX9_unit_10 : decode cX9_unit 10 = .ok (.aload_n 0, 1) := dk_42 (dk_at dksX9_unit_0 10 rfl rfl)
theorem dX9_unit_11 : decode cX9_unit 11 = .ok (.getfield 27, 3) := dk_180 0 27 (dk_at dksX9_unit_0 11 rfl rfl)
theorem dX9_unit_14 : decode cX9_unit 14 = .ok (.aload_n 0, 1) := dk_42 (dk_at dksX9_unit_0 14 rfl rfl)
theorem dX9_unit_15 : decode cX9_unit 15 = .ok (.getfield 170, 3) := dk_180 0 170 (dk_at dksX9_unit_0 15 rfl rfl)
theorem dX9_unit_18 : decode cX9_unit 18 = .ok (.iaload, 1) := dk_46 (dk_at dksX9_unit_0 18 rfl rfl)
theorem dX9_unit_19 : decode cX9_unit 19 = .ok (.invokevirtual 244, 3) := dk_182 0 244 (dk_at dksX9_unit_0 19 rfl rfl)
theorem dX9_unit_22 : decode cX9_unit 22 = .ok (.aload_n 0, 1) := dk_42 (dk_at dksX9_unit_0 22 rfl rfl)
theorem dX9_unit_23 : decode cX9_unit 23 = .ok (.invokevirtual 188, 3) := dk_182 0 188 (dk_at dksX9_unit_1 0 rfl rfl)
theorem dX9_unit_26 : decode cX9_unit 26 = .ok (.goto 67, 3) := dk_167 0 67 (dk_at dksX9_unit_1 3 rfl rfl)
theorem dX9_unit_29 : decode cX9_unit 29 = .ok (.aload_n 0, 1) := dk_42 (dk_at dksX9_unit_1 6 rfl rfl)
theorem dX9_unit_30 : decode cX9_unit 30 = .ok (.getfield 167, 3) := dk_180 0 167 (dk_at dksX9_unit_1 7 rfl rfl)
theorem dX9_unit_33 : decode cX9_unit 33 = .ok (.ifCond .ne 55, 3) := dk_154 0 55 (dk_at dksX9_unit_1 10 rfl rfl)
theorem dX9_unit_36 : decode cX9_unit 36 = .ok (.aload_n 0, 1) := dk_42 (dk_at dksX9_unit_1 13 rfl rfl)
theorem dX9_unit_37 : decode cX9_unit 37 = .ok (.getfield 20, 3) := dk_180 0 20 (dk_at dksX9_unit_1 14 rfl rfl)
theorem dX9_unit_40 : decode cX9_unit 40 = .ok (.aload_n 0, 1) := dk_42 (dk_at dksX9_unit_1 17 rfl rfl)
theorem dX9_unit_41 : decode cX9_unit 41 = .ok (.getfield 170, 3) := dk_180 0 170 (dk_at dksX9_unit_1 18 rfl rfl)
theorem dX9_unit_44 : decode cX9_unit 44 = .ok (.iaload, 1) := dk_46 (dk_at dksX9_unit_1 21 rfl rfl)
theorem dX9_unit_45 : decode cX9_unit 45 = .ok (.bipush 32, 2) := dk_16 32 (dk_at dksX9_unit_1 22 rfl rfl)
theorem dX9_unit_47 : decode cX9_unit 47 = .ok (.if_icmp .lt 41, 3) := dk_161 0 41 (dk_at dksX9_unit_2 0 rfl rfl)
theorem dX9_unit_50 : decode cX9_unit 50 = .ok (.aload_n 0, 1) := dk_42 (dk_at dksX9_unit_2 3 rfl rfl)
theorem dX9_unit_51 : decode cX9_unit 51 = .ok (.getfield 20, 3) := dk_180 0 20 (dk_at dksX9_unit_2 4 rfl rfl)
theorem dX9_unit_54 : decode cX9_unit 54 = .ok (.aload_n 0, 1) := dk_42 (dk_at dksX9_unit_2 7 rfl rfl)
theorem dX9_unit_55 : decode cX9_unit 55 = .ok (.getfield 170, 3) := dk_180 0 170 (dk_at dksX9_unit_2 8 rfl rfl)
theorem dX9_unit_58 : decode cX9_unit 58 = .ok (.iaload, 1) := dk_46 (dk_at dksX9_unit_2 11 rfl rfl)
theorem dX9_unit_59 : decode cX9_unit 59 = .ok (.bipush 37, 2) := dk_16 37 (dk_at dksX9_unit_2 12 rfl rfl)
theorem dX9_unit_61 : decode cX9_unit 61 = .ok (.if_icmp .gt 27, 3) := dk_163 0 27 (dk_at dksX9_unit_2 14 rfl rfl)
theorem dX9_unit_64 : decode cX9_unit 64 = .ok (.aload_n 0, 1) := dk_42 (dk_at dksX9_unit_2 17 rfl rfl)
theorem dX9_unit_65 : decode cX9_unit 65 = .ok (.iconst 1, 1) := dk_4 (dk_at dksX9_unit_2 18 rfl rfl)
theorem dX9_unit_66 : decode cX9_unit 66 = .ok (.aload_n 0, 1) := dk_42 (dk_at dksX9_unit_2 19 rfl rfl)
theorem dX9_unit_67 : decode cX9_unit 67 = .ok (.getfield 20, 3) := dk_180 0 20 (dk_at dksX9_unit_2 20 rfl rfl)
theorem dX9_unit_70 : decode cX9_unit 70 = .ok (.aload_n 0, 1) := dk_42 (dk_at dksX9_unit_2 23 rfl rfl)
theorem dX9_unit_71 : decode cX9_unit 71 = .ok (.getfield 170, 3) := dk_180 0 170 (dk_at dksX9_unit_3 0 rfl rfl)
theorem dX9_unit_74 : decode cX9_unit 74 = .ok (.iaload, 1) := dk_46 (dk_at dksX9_unit_3 3 rfl rfl)
theorem dX9_unit_75 : decode cX9_unit 75 = .ok (.bipush 32, 2) := dk_16 32 (dk_at dksX9_unit_3 4 rfl rfl)
theorem dX9_unit_77 : decode cX9_unit 77 = .ok (.isub, 1) := dk_100 (dk_at dksX9_unit_3 6 rfl rfl)
theorem dX9_unit_78 : decode cX9_unit 78 = .ok (.invokevirtual 244, 3) := dk_182 0 244 (dk_at dksX9_unit_3 7 rfl rfl)
theorem dX9_unit_81 : decode cX9_unit 81 = .ok (.aload_n 0, 1) := dk_42 (dk_at dksX9_unit_3 10 rfl rfl)
theorem dX9_unit_82 : decode cX9_unit 82 = .ok (.invokevirtual 188, 3) := dk_182 0 188 (dk_at dksX9_unit_3 11 rfl rfl)
theorem dX9_unit_85 : decode cX9_unit 85 = .ok (.goto 8, 3) := dk_167 0 8 (dk_at dksX9_unit_3 14 rfl rfl)
theorem dX9_unit_88 : decode cX9_unit 88 = .ok (.aload_n 0, 1) := dk_42 (dk_at dksX9_unit_3 17 rfl rfl)
theorem dX9_unit_89 : decode cX9_unit 89 = .ok (.iconst 1, 1) := dk_4 (dk_at dksX9_unit_3 18 rfl rfl)
theorem dX9_unit_90 : decode cX9_unit 90 = .ok (.invokevirtual 182, 3) := dk_182 0 182 (dk_at dksX9_unit_3 19 rfl rfl)
theorem dX9_unit_93 : decode cX9_unit 93 = .ok (.return_, 1) := dk_177 (dk_at dksX9_unit_3 22 rfl rfl)
abbrev cX9_emit : ByteArray := prog_20_method_27_code
def yX9_emit : MethodName := ⟨RX9, "emit", "(II)V"⟩
def dkwX9_emit_1 : List UInt8 := [180, 0, 203, 4, 96, 181, 0, 203, 177]
abbrev dktX9_emit_1 : List UInt8 := dkwX9_emit_1 ++ []
def dkwX9_emit_0 : List UInt8 := [42, 180, 0, 61, 42, 180, 0, 203, 27, 79, 42, 180, 0, 64, 42, 180, 0, 203, 28, 79, 42, 89]
abbrev dktX9_emit_0 : List UInt8 := dkwX9_emit_0 ++ dktX9_emit_1
theorem dksX9_emit_0 : cX9_emit.data.toList.drop 0 = dktX9_emit_0 := by decide +kernel
theorem dksX9_emit_1 : cX9_emit.data.toList.drop 22 = dktX9_emit_1 := dk_seg dksX9_emit_0 22 rfl rfl
theorem dX9_emit_0 : decode cX9_emit 0 = .ok (.aload_n 0, 1) := dk_42 (dk_at dksX9_emit_0 0 rfl rfl)
theorem dX9_emit_1 : decode cX9_emit 1 = .ok (.getfield 61, 3) := dk_180 0 61 (dk_at dksX9_emit_0 1 rfl rfl)
theorem dX9_emit_4 : decode cX9_emit 4 = .ok (.aload_n 0, 1) := dk_42 (dk_at dksX9_emit_0 4 rfl rfl)
theorem dX9_emit_5 : decode cX9_emit 5 = .ok (.getfield 203, 3) := dk_180 0 203 (dk_at dksX9_emit_0 5 rfl rfl)
theorem dX9_emit_8 : decode cX9_emit 8 = .ok (.iload_n 1, 1) := dk_27 (dk_at dksX9_emit_0 8 rfl rfl)
theorem dX9_emit_9 : decode cX9_emit 9 = .ok (.iastore, 1) := dk_79 (dk_at dksX9_emit_0 9 rfl rfl)
theorem dX9_emit_10 : decode cX9_emit 10 = .ok (.aload_n 0, 1) := dk_42 (dk_at dksX9_emit_0 10 rfl rfl)
theorem dX9_emit_11 : decode cX9_emit 11 = .ok (.getfield 64, 3) := dk_180 0 64 (dk_at dksX9_emit_0 11 rfl rfl)
theorem dX9_emit_14 : decode cX9_emit 14 = .ok (.aload_n 0, 1) := dk_42 (dk_at dksX9_emit_0 14 rfl rfl)
theorem dX9_emit_15 : decode cX9_emit 15 = .ok (.getfield 203, 3) := dk_180 0 203 (dk_at dksX9_emit_0 15 rfl rfl)
theorem dX9_emit_18 : decode cX9_emit 18 = .ok (.iload_n 2, 1) := dk_28 (dk_at dksX9_emit_0 18 rfl rfl)
theorem dX9_emit_19 : decode cX9_emit 19 = .ok (.iastore, 1) := dk_79 (dk_at dksX9_emit_0 19 rfl rfl)
theorem dX9_emit_20 : decode cX9_emit 20 = .ok (.aload_n 0, 1) := dk_42 (dk_at dksX9_emit_0 20 rfl rfl)
theorem dX9_emit_21 : decode cX9_emit 21 = .ok (.dup, 1) := dk_89 (dk_at dksX9_emit_0 21 rfl rfl)
theorem dX9_emit_22 : decode cX9_emit 22 = .ok (.getfield 203, 3) := dk_180 0 203 (dk_at dksX9_emit_1 0 rfl rfl)
theorem dX9_emit_25 : decode cX9_emit 25 = .ok (.iconst 1, 1) := dk_4 (dk_at dksX9_emit_1 3 rfl rfl)
theorem dX9_emit_26 : decode cX9_emit 26 = .ok (.iadd, 1) := dk_96 (dk_at dksX9_emit_1 4 rfl rfl)
theorem dX9_emit_27 : decode cX9_emit 27 = .ok (.putfield 203, 3) := dk_181 0 203 (dk_at dksX9_emit_1 5 rfl rfl)
theorem dX9_emit_30 : decode cX9_emit 30 = .ok (.return_, 1) := dk_177 (dk_at dksX9_emit_1 8 rfl rfl)
abbrev cX9_comesOut : ByteArray := prog_20_method_28_code
def yX9_comesOut : MethodName := ⟨RX9, "comesOut", "(Z)V"⟩
def dkwX9_comesOut_4 : List UInt8 := [167, 0, 5, 16, 6, 3, 182, 0, 244, 167, 255, 157, 177]
abbrev dktX9_comesOut_4 : List UInt8 := dkwX9_comesOut_4 ++ []
def dkwX9_comesOut_3 : List UInt8 := [160, 0, 7, 6, 167, 0, 25, 28, 16, 10, 160, 0, 7, 7, 167, 0, 15, 28, 16, 15, 160, 0, 7, 8]
abbrev dktX9_comesOut_3 : List UInt8 := dkwX9_comesOut_3 ++ dktX9_comesOut_4
def dkwX9_comesOut_2 : List UInt8 := [180, 0, 241, 4, 100, 181, 0, 241, 42, 28, 16, 8, 160, 0, 7, 5, 167, 0, 35, 28, 16, 9]
abbrev dktX9_comesOut_2 : List UInt8 := dkwX9_comesOut_2 ++ dktX9_comesOut_3
def dkwX9_comesOut_1 : List UInt8 := [159, 0, 19, 27, 153, 0, 16, 28, 16, 8, 159, 0, 9, 28, 16, 9, 160, 0, 4, 177, 42, 89]
abbrev dktX9_comesOut_1 : List UInt8 := dkwX9_comesOut_1 ++ dktX9_comesOut_2
def dkwX9_comesOut_0 : List UInt8 := [42, 180, 0, 241, 158, 0, 98, 42, 180, 0, 67, 42, 180, 0, 241, 4, 100, 46, 61, 28, 16, 6]
abbrev dktX9_comesOut_0 : List UInt8 := dkwX9_comesOut_0 ++ dktX9_comesOut_1
theorem dksX9_comesOut_0 : cX9_comesOut.data.toList.drop 0 = dktX9_comesOut_0 := by decide +kernel
theorem dksX9_comesOut_1 : cX9_comesOut.data.toList.drop 22 = dktX9_comesOut_1 := dk_seg dksX9_comesOut_0 22 rfl rfl
theorem dksX9_comesOut_2 : cX9_comesOut.data.toList.drop 44 = dktX9_comesOut_2 := dk_seg dksX9_comesOut_1 22 rfl rfl
theorem dksX9_comesOut_3 : cX9_comesOut.data.toList.drop 66 = dktX9_comesOut_3 := dk_seg dksX9_comesOut_2 22 rfl rfl
theorem dksX9_comesOut_4 : cX9_comesOut.data.toList.drop 90 = dktX9_comesOut_4 := dk_seg dksX9_comesOut_3 24 rfl rfl
theorem dX9_comesOut_0 : decode cX9_comesOut 0 = .ok (.aload_n 0, 1) := dk_42 (dk_at dksX9_comesOut_0 0 rfl rfl)
theorem dX9_comesOut_1 : decode cX9_comesOut 1 = .ok (.getfield 241, 3) := dk_180 0 241 (dk_at dksX9_comesOut_0 1 rfl rfl)
theorem dX9_comesOut_4 : decode cX9_comesOut 4 = .ok (.ifCond .le 98, 3) := dk_158 0 98 (dk_at dksX9_comesOut_0 4 rfl rfl)
theorem dX9_comesOut_7 : decode cX9_comesOut 7 = .ok (.aload_n 0, 1) := dk_42 (dk_at dksX9_comesOut_0 7 rfl rfl)
theorem dX9_comesOut_8 : decode cX9_comesOut 8 = .ok (.getfield 67, 3) := dk_180 0 67 (dk_at dksX9_comesOut_0 8 rfl rfl)
theorem dX9_comesOut_11 : decode cX9_comesOut 11 = .ok (.aload_n 0, 1) := dk_42 (dk_at dksX9_comesOut_0 11 rfl rfl)
theorem dX9_comesOut_12 : decode cX9_comesOut 12 = .ok (.getfield 241, 3) := dk_180 0 241 (dk_at dksX9_comesOut_0 12 rfl rfl)
theorem dX9_comesOut_15 : decode cX9_comesOut 15 = .ok (.iconst 1, 1) := dk_4 (dk_at dksX9_comesOut_0 15 rfl rfl)
theorem dX9_comesOut_16 : decode cX9_comesOut 16 = .ok (.isub, 1) := dk_100 (dk_at dksX9_comesOut_0 16 rfl rfl)
theorem dX9_comesOut_17 : decode cX9_comesOut 17 = .ok (.iaload, 1) := dk_46 (dk_at dksX9_comesOut_0 17 rfl rfl)
theorem dX9_comesOut_18 : decode cX9_comesOut 18 = .ok (.istore_n 2, 1) := dk_61 (dk_at dksX9_comesOut_0 18 rfl rfl)
theorem dX9_comesOut_19 : decode cX9_comesOut 19 = .ok (.iload_n 2, 1) := dk_28 (dk_at dksX9_comesOut_0 19 rfl rfl)
theorem dX9_comesOut_20 : decode cX9_comesOut 20 = .ok (.bipush 6, 2) := dk_16 6 (dk_at dksX9_comesOut_0 20 rfl rfl)
theorem dX9_comesOut_22 : decode cX9_comesOut 22 = .ok (.if_icmp .eq 19, 3) := dk_159 0 19 (dk_at dksX9_comesOut_1 0 rfl rfl)
theorem dX9_comesOut_25 : decode cX9_comesOut 25 = .ok (.iload_n 1, 1) := dk_27 (dk_at dksX9_comesOut_1 3 rfl rfl)
theorem dX9_comesOut_26 : decode cX9_comesOut 26 = .ok (.ifCond .eq 16, 3) := dk_153 0 16 (dk_at dksX9_comesOut_1 4 rfl rfl)
theorem dX9_comesOut_29 : decode cX9_comesOut 29 = .ok (.iload_n 2, 1) := dk_28 (dk_at dksX9_comesOut_1 7 rfl rfl)
theorem dX9_comesOut_30 : decode cX9_comesOut 30 = .ok (.bipush 8, 2) := dk_16 8 (dk_at dksX9_comesOut_1 8 rfl rfl)
theorem dX9_comesOut_32 : decode cX9_comesOut 32 = .ok (.if_icmp .eq 9, 3) := dk_159 0 9 (dk_at dksX9_comesOut_1 10 rfl rfl)
theorem dX9_comesOut_35 : decode cX9_comesOut 35 = .ok (.iload_n 2, 1) := dk_28 (dk_at dksX9_comesOut_1 13 rfl rfl)
theorem dX9_comesOut_36 : decode cX9_comesOut 36 = .ok (.bipush 9, 2) := dk_16 9 (dk_at dksX9_comesOut_1 14 rfl rfl)
theorem dX9_comesOut_38 : decode cX9_comesOut 38 = .ok (.if_icmp .ne 4, 3) := dk_160 0 4 (dk_at dksX9_comesOut_1 16 rfl rfl)
theorem dX9_comesOut_41 : decode cX9_comesOut 41 = .ok (.return_, 1) := dk_177 (dk_at dksX9_comesOut_1 19 rfl rfl)
theorem dX9_comesOut_42 : decode cX9_comesOut 42 = .ok (.aload_n 0, 1) := dk_42 (dk_at dksX9_comesOut_1 20 rfl rfl)
theorem dX9_comesOut_43 : decode cX9_comesOut 43 = .ok (.dup, 1) := dk_89 (dk_at dksX9_comesOut_1 21 rfl rfl)
theorem dX9_comesOut_44 : decode cX9_comesOut 44 = .ok (.getfield 241, 3) := dk_180 0 241 (dk_at dksX9_comesOut_2 0 rfl rfl)
theorem dX9_comesOut_47 : decode cX9_comesOut 47 = .ok (.iconst 1, 1) := dk_4 (dk_at dksX9_comesOut_2 3 rfl rfl)
theorem dX9_comesOut_48 : decode cX9_comesOut 48 = .ok (.isub, 1) := dk_100 (dk_at dksX9_comesOut_2 4 rfl rfl)
theorem dX9_comesOut_49 : decode cX9_comesOut 49 = .ok (.putfield 241, 3) := dk_181 0 241 (dk_at dksX9_comesOut_2 5 rfl rfl)
theorem dX9_comesOut_52 : decode cX9_comesOut 52 = .ok (.aload_n 0, 1) := dk_42 (dk_at dksX9_comesOut_2 8 rfl rfl)
theorem dX9_comesOut_53 : decode cX9_comesOut 53 = .ok (.iload_n 2, 1) := dk_28 (dk_at dksX9_comesOut_2 9 rfl rfl)
theorem dX9_comesOut_54 : decode cX9_comesOut 54 = .ok (.bipush 8, 2) := dk_16 8 (dk_at dksX9_comesOut_2 10 rfl rfl)
theorem dX9_comesOut_56 : decode cX9_comesOut 56 = .ok (.if_icmp .ne 7, 3) := dk_160 0 7 (dk_at dksX9_comesOut_2 12 rfl rfl)
theorem dX9_comesOut_59 : decode cX9_comesOut 59 = .ok (.iconst 2, 1) := dk_5 (dk_at dksX9_comesOut_2 15 rfl rfl)
theorem dX9_comesOut_60 : decode cX9_comesOut 60 = .ok (.goto 35, 3) := dk_167 0 35 (dk_at dksX9_comesOut_2 16 rfl rfl)
theorem dX9_comesOut_63 : decode cX9_comesOut 63 = .ok (.iload_n 2, 1) := dk_28 (dk_at dksX9_comesOut_2 19 rfl rfl)
theorem dX9_comesOut_64 : decode cX9_comesOut 64 = .ok (.bipush 9, 2) := dk_16 9 (dk_at dksX9_comesOut_2 20 rfl rfl)
theorem dX9_comesOut_66 : decode cX9_comesOut 66 = .ok (.if_icmp .ne 7, 3) := dk_160 0 7 (dk_at dksX9_comesOut_3 0 rfl rfl)
theorem dX9_comesOut_69 : decode cX9_comesOut 69 = .ok (.iconst 3, 1) := dk_6 (dk_at dksX9_comesOut_3 3 rfl rfl)
theorem dX9_comesOut_70 : decode cX9_comesOut 70 = .ok (.goto 25, 3) := dk_167 0 25 (dk_at dksX9_comesOut_3 4 rfl rfl)
theorem dX9_comesOut_73 : decode cX9_comesOut 73 = .ok (.iload_n 2, 1) := dk_28 (dk_at dksX9_comesOut_3 7 rfl rfl)
theorem dX9_comesOut_74 : decode cX9_comesOut 74 = .ok (.bipush 10, 2) := dk_16 10 (dk_at dksX9_comesOut_3 8 rfl rfl)
theorem dX9_comesOut_76 : decode cX9_comesOut 76 = .ok (.if_icmp .ne 7, 3) := dk_160 0 7 (dk_at dksX9_comesOut_3 10 rfl rfl)
theorem dX9_comesOut_79 : decode cX9_comesOut 79 = .ok (.iconst 4, 1) := dk_7 (dk_at dksX9_comesOut_3 13 rfl rfl)
theorem dX9_comesOut_80 : decode cX9_comesOut 80 = .ok (.goto 15, 3) := dk_167 0 15 (dk_at dksX9_comesOut_3 14 rfl rfl)
theorem dX9_comesOut_83 : decode cX9_comesOut 83 = .ok (.iload_n 2, 1) := dk_28 (dk_at dksX9_comesOut_3 17 rfl rfl)
theorem dX9_comesOut_84 : decode cX9_comesOut 84 = .ok (.bipush 15, 2) := dk_16 15 (dk_at dksX9_comesOut_3 18 rfl rfl)
theorem dX9_comesOut_86 : decode cX9_comesOut 86 = .ok (.if_icmp .ne 7, 3) := dk_160 0 7 (dk_at dksX9_comesOut_3 20 rfl rfl)
theorem dX9_comesOut_89 : decode cX9_comesOut 89 = .ok (.iconst 5, 1) := dk_8 (dk_at dksX9_comesOut_3 23 rfl rfl)
theorem dX9_comesOut_90 : decode cX9_comesOut 90 = .ok (.goto 5, 3) := dk_167 0 5 (dk_at dksX9_comesOut_4 0 rfl rfl)
theorem dX9_comesOut_93 : decode cX9_comesOut 93 = .ok (.bipush 6, 2) := dk_16 6 (dk_at dksX9_comesOut_4 3 rfl rfl)
theorem dX9_comesOut_95 : decode cX9_comesOut 95 = .ok (.iconst 0, 1) := dk_3 (dk_at dksX9_comesOut_4 5 rfl rfl)
theorem dX9_comesOut_96 : decode cX9_comesOut 96 = .ok (.invokevirtual 244, 3) := dk_182 0 244 (dk_at dksX9_comesOut_4 6 rfl rfl)
theorem dX9_comesOut_99 : decode cX9_comesOut 99 = .ok (.goto (-99), 3) := dk_167 255 157 (dk_at dksX9_comesOut_4 9 rfl rfl)
theorem dX9_comesOut_102 : decode cX9_comesOut 102 = .ok (.return_, 1) := dk_177 (dk_at dksX9_comesOut_4 12 rfl rfl)
abbrev cX9_runs : ByteArray := prog_20_method_32_code
def yX9_runs : MethodName := ⟨RX9, "runs", "()V"⟩
def dkwX9_runs_10 : List UInt8 := [160, 0, 8, 42, 182, 1, 7, 87, 132, 1, 1, 167, 255, 17, 177]
abbrev dktX9_runs_10 : List UInt8 := dkwX9_runs_10 ++ []
def dkwX9_runs_9 : List UInt8 := [182, 1, 1, 21, 4, 7, 160, 0, 14, 42, 42, 180, 0, 43, 27, 46, 182, 1, 4, 87, 21, 4, 8]
abbrev dktX9_runs_9 : List UInt8 := dkwX9_runs_9 ++ dktX9_runs_10
def dkwX9_runs_8 : List UInt8 := [6, 162, 0, 10, 42, 27, 29, 182, 0, 254, 62, 21, 4, 6, 160, 0, 13, 42, 42, 180, 0, 43, 27, 46]
abbrev dktX9_runs_8 : List UInt8 := dkwX9_runs_8 ++ dktX9_runs_9
def dkwX9_runs_7 : List UInt8 := [180, 0, 70, 4, 28, 4, 164, 0, 14, 42, 180, 0, 76, 28, 5, 100, 46, 167, 0, 4, 3, 79, 21, 4]
abbrev dktX9_runs_7 : List UInt8 := dkwX9_runs_7 ++ dktX9_runs_8
def dkwX9_runs_6 : List UInt8 := [79, 42, 180, 0, 70, 3, 28, 158, 0, 14, 42, 180, 0, 76, 28, 4, 100, 46, 167, 0, 4, 3, 79, 42]
abbrev dktX9_runs_6 : List UInt8 := dkwX9_runs_6 ++ dktX9_runs_7
def dkwX9_runs_5 : List UInt8 := [180, 0, 55, 27, 46, 60, 167, 0, 121, 132, 2, 255, 167, 0, 115, 42, 180, 0, 80, 7, 92, 46, 4, 96]
abbrev dktX9_runs_5 : List UInt8 := dkwX9_runs_5 ++ dktX9_runs_6
def dkwX9_runs_4 : List UInt8 := [180, 0, 76, 28, 4, 100, 46, 42, 180, 0, 46, 42, 180, 0, 55, 27, 46, 46, 162, 0, 13, 42]
abbrev dktX9_runs_4 : List UInt8 := dkwX9_runs_4 ++ dktX9_runs_5
def dkwX9_runs_3 : List UInt8 := [167, 0, 172, 21, 4, 16, 7, 160, 0, 53, 42, 180, 0, 76, 28, 4, 100, 92, 46, 4, 96, 79, 42]
abbrev dktX9_runs_3 : List UInt8 := dkwX9_runs_3 ++ dktX9_runs_4
def dkwX9_runs_2 : List UInt8 := [154, 0, 13, 42, 180, 0, 55, 27, 46, 60, 167, 0, 185, 42, 180, 0, 76, 28, 3, 79, 132, 2, 1]
abbrev dktX9_runs_2 : List UInt8 := dkwX9_runs_2 ++ dktX9_runs_3
def dkwX9_runs_1 : List UInt8 := [162, 0, 225, 42, 180, 0, 40, 27, 46, 54, 4, 21, 4, 16, 6, 160, 0, 35, 42, 180, 0, 46, 27, 46]
abbrev dktX9_runs_1 : List UInt8 := dkwX9_runs_1 ++ dktX9_runs_2
def dkwX9_runs_0 : List UInt8 := [3, 60, 3, 61, 3, 62, 27, 42, 180, 0, 197, 162, 0, 237, 42, 180, 0, 80, 7, 46, 17, 1, 144]
abbrev dktX9_runs_0 : List UInt8 := dkwX9_runs_0 ++ dktX9_runs_1
theorem dksX9_runs_0 : cX9_runs.data.toList.drop 0 = dktX9_runs_0 := by decide +kernel
theorem dksX9_runs_1 : cX9_runs.data.toList.drop 23 = dktX9_runs_1 := dk_seg dksX9_runs_0 23 rfl rfl
theorem dksX9_runs_2 : cX9_runs.data.toList.drop 47 = dktX9_runs_2 := dk_seg dksX9_runs_1 24 rfl rfl
theorem dksX9_runs_3 : cX9_runs.data.toList.drop 70 = dktX9_runs_3 := dk_seg dksX9_runs_2 23 rfl rfl
theorem dksX9_runs_4 : cX9_runs.data.toList.drop 93 = dktX9_runs_4 := dk_seg dksX9_runs_3 23 rfl rfl
theorem dksX9_runs_5 : cX9_runs.data.toList.drop 115 = dktX9_runs_5 := dk_seg dksX9_runs_4 22 rfl rfl
theorem dksX9_runs_6 : cX9_runs.data.toList.drop 139 = dktX9_runs_6 := dk_seg dksX9_runs_5 24 rfl rfl
theorem dksX9_runs_7 : cX9_runs.data.toList.drop 163 = dktX9_runs_7 := dk_seg dksX9_runs_6 24 rfl rfl
theorem dksX9_runs_8 : cX9_runs.data.toList.drop 187 = dktX9_runs_8 := dk_seg dksX9_runs_7 24 rfl rfl
theorem dksX9_runs_9 : cX9_runs.data.toList.drop 211 = dktX9_runs_9 := dk_seg dksX9_runs_8 24 rfl rfl
theorem dksX9_runs_10 : cX9_runs.data.toList.drop 234 = dktX9_runs_10 := dk_seg dksX9_runs_9 23 rfl rfl
theorem dX9_runs_0 : decode cX9_runs 0 = .ok (.iconst 0, 1) := dk_3 (dk_at dksX9_runs_0 0 rfl rfl)
theorem dX9_runs_1 : decode cX9_runs 1 = .ok (.istore_n 1, 1) := dk_60 (dk_at dksX9_runs_0 1 rfl rfl)
theorem dX9_runs_2 : decode cX9_runs 2 = .ok (.iconst 0, 1) := dk_3 (dk_at dksX9_runs_0 2 rfl rfl)
theorem dX9_runs_3 : decode cX9_runs 3 = .ok (.istore_n 2, 1) := dk_61 (dk_at dksX9_runs_0 3 rfl rfl)
theorem dX9_runs_4 : decode cX9_runs 4 = .ok (.iconst 0, 1) := dk_3 (dk_at dksX9_runs_0 4 rfl rfl)
theorem dX9_runs_5 : decode cX9_runs 5 = .ok (.istore_n 3, 1) := dk_62 (dk_at dksX9_runs_0 5 rfl rfl)
theorem dX9_runs_6 : decode cX9_runs 6 = .ok (.iload_n 1, 1) := dk_27 (dk_at dksX9_runs_0 6 rfl rfl)
theorem dX9_runs_7 : decode cX9_runs 7 = .ok (.aload_n 0, 1) := dk_42 (dk_at dksX9_runs_0 7 rfl rfl)
theorem dX9_runs_8 : decode cX9_runs 8 = .ok (.getfield 197, 3) := dk_180 0 197 (dk_at dksX9_runs_0 8 rfl rfl)
theorem dX9_runs_11 : decode cX9_runs 11 = .ok (.if_icmp .ge 237, 3) := dk_162 0 237 (dk_at dksX9_runs_0 11 rfl rfl)
theorem dX9_runs_14 : decode cX9_runs 14 = .ok (.aload_n 0, 1) := dk_42 (dk_at dksX9_runs_0 14 rfl rfl)
theorem dX9_runs_15 : decode cX9_runs 15 = .ok (.getfield 80, 3) := dk_180 0 80 (dk_at dksX9_runs_0 15 rfl rfl)
theorem dX9_runs_18 : decode cX9_runs 18 = .ok (.iconst 4, 1) := dk_7 (dk_at dksX9_runs_0 18 rfl rfl)
theorem dX9_runs_19 : decode cX9_runs 19 = .ok (.iaload, 1) := dk_46 (dk_at dksX9_runs_0 19 rfl rfl)
theorem dX9_runs_20 : decode cX9_runs 20 = .ok (.sipush 400, 3) := dk_17 1 144 (dk_at dksX9_runs_0 20 rfl rfl)
theorem dX9_runs_23 : decode cX9_runs 23 = .ok (.if_icmp .ge 225, 3) := dk_162 0 225 (dk_at dksX9_runs_1 0 rfl rfl)
theorem dX9_runs_26 : decode cX9_runs 26 = .ok (.aload_n 0, 1) := dk_42 (dk_at dksX9_runs_1 3 rfl rfl)
theorem dX9_runs_27 : decode cX9_runs 27 = .ok (.getfield 40, 3) := dk_180 0 40 (dk_at dksX9_runs_1 4 rfl rfl)
theorem dX9_runs_30 : decode cX9_runs 30 = .ok (.iload_n 1, 1) := dk_27 (dk_at dksX9_runs_1 7 rfl rfl)
theorem dX9_runs_31 : decode cX9_runs 31 = .ok (.iaload, 1) := dk_46 (dk_at dksX9_runs_1 8 rfl rfl)
theorem dX9_runs_32 : decode cX9_runs 32 = .ok (.istore 4, 2) := dk_54 4 (dk_at dksX9_runs_1 9 rfl rfl)
theorem dX9_runs_34 : decode cX9_runs 34 = .ok (.iload 4, 2) := dk_21 4 (dk_at dksX9_runs_1 11 rfl rfl)
theorem dX9_runs_36 : decode cX9_runs 36 = .ok (.bipush 6, 2) := dk_16 6 (dk_at dksX9_runs_1 13 rfl rfl)
theorem dX9_runs_38 : decode cX9_runs 38 = .ok (.if_icmp .ne 35, 3) := dk_160 0 35 (dk_at dksX9_runs_1 15 rfl rfl)
theorem dX9_runs_41 : decode cX9_runs 41 = .ok (.aload_n 0, 1) := dk_42 (dk_at dksX9_runs_1 18 rfl rfl)
theorem dX9_runs_42 : decode cX9_runs 42 = .ok (.getfield 46, 3) := dk_180 0 46 (dk_at dksX9_runs_1 19 rfl rfl)
theorem dX9_runs_45 : decode cX9_runs 45 = .ok (.iload_n 1, 1) := dk_27 (dk_at dksX9_runs_1 22 rfl rfl)
theorem dX9_runs_46 : decode cX9_runs 46 = .ok (.iaload, 1) := dk_46 (dk_at dksX9_runs_1 23 rfl rfl)
theorem dX9_runs_47 : decode cX9_runs 47 = .ok (.ifCond .ne 13, 3) := dk_154 0 13 (dk_at dksX9_runs_2 0 rfl rfl)
theorem dX9_runs_50 : decode cX9_runs 50 = .ok (.aload_n 0, 1) := dk_42 (dk_at dksX9_runs_2 3 rfl rfl)
theorem dX9_runs_51 : decode cX9_runs 51 = .ok (.getfield 55, 3) := dk_180 0 55 (dk_at dksX9_runs_2 4 rfl rfl)
theorem dX9_runs_54 : decode cX9_runs 54 = .ok (.iload_n 1, 1) := dk_27 (dk_at dksX9_runs_2 7 rfl rfl)
theorem dX9_runs_55 : decode cX9_runs 55 = .ok (.iaload, 1) := dk_46 (dk_at dksX9_runs_2 8 rfl rfl)
theorem dX9_runs_56 : decode cX9_runs 56 = .ok (.istore_n 1, 1) := dk_60 (dk_at dksX9_runs_2 9 rfl rfl)
theorem dX9_runs_57 : decode cX9_runs 57 = .ok (.goto 185, 3) := dk_167 0 185 (dk_at dksX9_runs_2 10 rfl rfl)
theorem dX9_runs_60 : decode cX9_runs 60 = .ok (.aload_n 0, 1) := dk_42 (dk_at dksX9_runs_2 13 rfl rfl)
theorem dX9_runs_61 : decode cX9_runs 61 = .ok (.getfield 76, 3) := dk_180 0 76 (dk_at dksX9_runs_2 14 rfl rfl)
theorem dX9_runs_64 : decode cX9_runs 64 = .ok (.iload_n 2, 1) := dk_28 (dk_at dksX9_runs_2 17 rfl rfl)
theorem dX9_runs_65 : decode cX9_runs 65 = .ok (.iconst 0, 1) := dk_3 (dk_at dksX9_runs_2 18 rfl rfl)
theorem dX9_runs_66 : decode cX9_runs 66 = .ok (.iastore, 1) := dk_79 (dk_at dksX9_runs_2 19 rfl rfl)
theorem dX9_runs_67 : decode cX9_runs 67 = .ok (.iinc 2 1, 3) := dk_132 2 1 (dk_at dksX9_runs_2 20 rfl rfl)
theorem dX9_runs_70 : decode cX9_runs 70 = .ok (.goto 172, 3) := dk_167 0 172 (dk_at dksX9_runs_3 0 rfl rfl)
theorem dX9_runs_73 : decode cX9_runs 73 = .ok (.iload 4, 2) := dk_21 4 (dk_at dksX9_runs_3 3 rfl rfl)
theorem dX9_runs_75 : decode cX9_runs 75 = .ok (.bipush 7, 2) := dk_16 7 (dk_at dksX9_runs_3 5 rfl rfl)
theorem dX9_runs_77 : decode cX9_runs 77 = .ok (.if_icmp .ne 53, 3) := dk_160 0 53 (dk_at dksX9_runs_3 7 rfl rfl)
theorem dX9_runs_80 : decode cX9_runs 80 = .ok (.aload_n 0, 1) := dk_42 (dk_at dksX9_runs_3 10 rfl rfl)
theorem dX9_runs_81 : decode cX9_runs 81 = .ok (.getfield 76, 3) := dk_180 0 76 (dk_at dksX9_runs_3 11 rfl rfl)
theorem dX9_runs_84 : decode cX9_runs 84 = .ok (.iload_n 2, 1) := dk_28 (dk_at dksX9_runs_3 14 rfl rfl)
theorem dX9_runs_85 : decode cX9_runs 85 = .ok (.iconst 1, 1) := dk_4 (dk_at dksX9_runs_3 15 rfl rfl)
theorem dX9_runs_86 : decode cX9_runs 86 = .ok (.isub, 1) := dk_100 (dk_at dksX9_runs_3 16 rfl rfl)
theorem dX9_runs_87 : decode cX9_runs 87 = .ok (.dup2, 1) := dk_92 (dk_at dksX9_runs_3 17 rfl rfl)
theorem dX9_runs_88 : decode cX9_runs 88 = .ok (.iaload, 1) := dk_46 (dk_at dksX9_runs_3 18 rfl rfl)
theorem dX9_runs_89 : decode cX9_runs 89 = .ok (.iconst 1, 1) := dk_4 (dk_at dksX9_runs_3 19 rfl rfl)
theorem dX9_runs_90 : decode cX9_runs 90 = .ok (.iadd, 1) := dk_96 (dk_at dksX9_runs_3 20 rfl rfl)
theorem dX9_runs_91 : decode cX9_runs 91 = .ok (.iastore, 1) := dk_79 (dk_at dksX9_runs_3 21 rfl rfl)
theorem dX9_runs_92 : decode cX9_runs 92 = .ok (.aload_n 0, 1) := dk_42 (dk_at dksX9_runs_3 22 rfl rfl)
theorem dX9_runs_93 : decode cX9_runs 93 = .ok (.getfield 76, 3) := dk_180 0 76 (dk_at dksX9_runs_4 0 rfl rfl)
theorem dX9_runs_96 : decode cX9_runs 96 = .ok (.iload_n 2, 1) := dk_28 (dk_at dksX9_runs_4 3 rfl rfl)
theorem dX9_runs_97 : decode cX9_runs 97 = .ok (.iconst 1, 1) := dk_4 (dk_at dksX9_runs_4 4 rfl rfl)
theorem dX9_runs_98 : decode cX9_runs 98 = .ok (.isub, 1) := dk_100 (dk_at dksX9_runs_4 5 rfl rfl)
theorem dX9_runs_99 : decode cX9_runs 99 = .ok (.iaload, 1) := dk_46 (dk_at dksX9_runs_4 6 rfl rfl)
theorem dX9_runs_100 : decode cX9_runs 100 = .ok (.aload_n 0, 1) := dk_42 (dk_at dksX9_runs_4 7 rfl rfl)
theorem dX9_runs_101 : decode cX9_runs 101 = .ok (.getfield 46, 3) := dk_180 0 46 (dk_at dksX9_runs_4 8 rfl rfl)
theorem dX9_runs_104 : decode cX9_runs 104 = .ok (.aload_n 0, 1) := dk_42 (dk_at dksX9_runs_4 11 rfl rfl)
theorem dX9_runs_105 : decode cX9_runs 105 = .ok (.getfield 55, 3) := dk_180 0 55 (dk_at dksX9_runs_4 12 rfl rfl)
theorem dX9_runs_108 : decode cX9_runs 108 = .ok (.iload_n 1, 1) := dk_27 (dk_at dksX9_runs_4 15 rfl rfl)
theorem dX9_runs_109 : decode cX9_runs 109 = .ok (.iaload, 1) := dk_46 (dk_at dksX9_runs_4 16 rfl rfl)
theorem dX9_runs_110 : decode cX9_runs 110 = .ok (.iaload, 1) := dk_46 (dk_at dksX9_runs_4 17 rfl rfl)
theorem dX9_runs_111 : decode cX9_runs 111 = .ok (.if_icmp .ge 13, 3) := dk_162 0 13 (dk_at dksX9_runs_4 18 rfl rfl)
theorem dX9_runs_114 : decode cX9_runs 114 = .ok (.aload_n 0, 1) := dk_42 (dk_at dksX9_runs_4 21 rfl rfl)
theorem dX9_runs_115 : decode cX9_runs 115 = .ok (.getfield 55, 3) := dk_180 0 55 (dk_at dksX9_runs_5 0 rfl rfl)
theorem dX9_runs_118 : decode cX9_runs 118 = .ok (.iload_n 1, 1) := dk_27 (dk_at dksX9_runs_5 3 rfl rfl)
theorem dX9_runs_119 : decode cX9_runs 119 = .ok (.iaload, 1) := dk_46 (dk_at dksX9_runs_5 4 rfl rfl)
theorem dX9_runs_120 : decode cX9_runs 120 = .ok (.istore_n 1, 1) := dk_60 (dk_at dksX9_runs_5 5 rfl rfl)
theorem dX9_runs_121 : decode cX9_runs 121 = .ok (.goto 121, 3) := dk_167 0 121 (dk_at dksX9_runs_5 6 rfl rfl)
theorem dX9_runs_124 : decode cX9_runs 124 = .ok (.iinc 2 (-1), 3) := dk_132 2 255 (dk_at dksX9_runs_5 9 rfl rfl)
theorem dX9_runs_127 : decode cX9_runs 127 = .ok (.goto 115, 3) := dk_167 0 115 (dk_at dksX9_runs_5 12 rfl rfl)
theorem dX9_runs_130 : decode cX9_runs 130 = .ok (.aload_n 0, 1) := dk_42 (dk_at dksX9_runs_5 15 rfl rfl)
theorem dX9_runs_131 : decode cX9_runs 131 = .ok (.getfield 80, 3) := dk_180 0 80 (dk_at dksX9_runs_5 16 rfl rfl)
theorem dX9_runs_134 : decode cX9_runs 134 = .ok (.iconst 4, 1) := dk_7 (dk_at dksX9_runs_5 19 rfl rfl)
theorem dX9_runs_135 : decode cX9_runs 135 = .ok (.dup2, 1) := dk_92 (dk_at dksX9_runs_5 20 rfl rfl)
theorem dX9_runs_136 : decode cX9_runs 136 = .ok (.iaload, 1) := dk_46 (dk_at dksX9_runs_5 21 rfl rfl)
theorem dX9_runs_137 : decode cX9_runs 137 = .ok (.iconst 1, 1) := dk_4 (dk_at dksX9_runs_5 22 rfl rfl)
theorem dX9_runs_138 : decode cX9_runs 138 = .ok (.iadd, 1) := dk_96 (dk_at dksX9_runs_5 23 rfl rfl)
theorem dX9_runs_139 : decode cX9_runs 139 = .ok (.iastore, 1) := dk_79 (dk_at dksX9_runs_6 0 rfl rfl)
theorem dX9_runs_140 : decode cX9_runs 140 = .ok (.aload_n 0, 1) := dk_42 (dk_at dksX9_runs_6 1 rfl rfl)
theorem dX9_runs_141 : decode cX9_runs 141 = .ok (.getfield 70, 3) := dk_180 0 70 (dk_at dksX9_runs_6 2 rfl rfl)
theorem dX9_runs_144 : decode cX9_runs 144 = .ok (.iconst 0, 1) := dk_3 (dk_at dksX9_runs_6 5 rfl rfl)
theorem dX9_runs_145 : decode cX9_runs 145 = .ok (.iload_n 2, 1) := dk_28 (dk_at dksX9_runs_6 6 rfl rfl)
theorem dX9_runs_146 : decode cX9_runs 146 = .ok (.ifCond .le 14, 3) := dk_158 0 14 (dk_at dksX9_runs_6 7 rfl rfl)
theorem dX9_runs_149 : decode cX9_runs 149 = .ok (.aload_n 0, 1) := dk_42 (dk_at dksX9_runs_6 10 rfl rfl)
theorem dX9_runs_150 : decode cX9_runs 150 = .ok (.getfield 76, 3) := dk_180 0 76 (dk_at dksX9_runs_6 11 rfl rfl)
theorem dX9_runs_153 : decode cX9_runs 153 = .ok (.iload_n 2, 1) := dk_28 (dk_at dksX9_runs_6 14 rfl rfl)
theorem dX9_runs_154 : decode cX9_runs 154 = .ok (.iconst 1, 1) := dk_4 (dk_at dksX9_runs_6 15 rfl rfl)
theorem dX9_runs_155 : decode cX9_runs 155 = .ok (.isub, 1) := dk_100 (dk_at dksX9_runs_6 16 rfl rfl)
theorem dX9_runs_156 : decode cX9_runs 156 = .ok (.iaload, 1) := dk_46 (dk_at dksX9_runs_6 17 rfl rfl)
theorem dX9_runs_157 : decode cX9_runs 157 = .ok (.goto 4, 3) := dk_167 0 4 (dk_at dksX9_runs_6 18 rfl rfl)
theorem dX9_runs_160 : decode cX9_runs 160 = .ok (.iconst 0, 1) := dk_3 (dk_at dksX9_runs_6 21 rfl rfl)
theorem dX9_runs_161 : decode cX9_runs 161 = .ok (.iastore, 1) := dk_79 (dk_at dksX9_runs_6 22 rfl rfl)
theorem dX9_runs_162 : decode cX9_runs 162 = .ok (.aload_n 0, 1) := dk_42 (dk_at dksX9_runs_6 23 rfl rfl)
theorem dX9_runs_163 : decode cX9_runs 163 = .ok (.getfield 70, 3) := dk_180 0 70 (dk_at dksX9_runs_7 0 rfl rfl)
theorem dX9_runs_166 : decode cX9_runs 166 = .ok (.iconst 1, 1) := dk_4 (dk_at dksX9_runs_7 3 rfl rfl)
theorem dX9_runs_167 : decode cX9_runs 167 = .ok (.iload_n 2, 1) := dk_28 (dk_at dksX9_runs_7 4 rfl rfl)
theorem dX9_runs_168 : decode cX9_runs 168 = .ok (.iconst 1, 1) := dk_4 (dk_at dksX9_runs_7 5 rfl rfl)
theorem dX9_runs_169 : decode cX9_runs 169 = .ok (.if_icmp .le 14, 3) := dk_164 0 14 (dk_at dksX9_runs_7 6 rfl rfl)
theorem dX9_runs_172 : decode cX9_runs 172 = .ok (.aload_n 0, 1) := dk_42 (dk_at dksX9_runs_7 9 rfl rfl)
theorem dX9_runs_173 : decode cX9_runs 173 = .ok (.getfield 76, 3) := dk_180 0 76 (dk_at dksX9_runs_7 10 rfl rfl)
theorem dX9_runs_176 : decode cX9_runs 176 = .ok (.iload_n 2, 1) := dk_28 (dk_at dksX9_runs_7 13 rfl rfl)
theorem dX9_runs_177 : decode cX9_runs 177 = .ok (.iconst 2, 1) := dk_5 (dk_at dksX9_runs_7 14 rfl rfl)
theorem dX9_runs_178 : decode cX9_runs 178 = .ok (.isub, 1) := dk_100 (dk_at dksX9_runs_7 15 rfl rfl)
theorem dX9_runs_179 : decode cX9_runs 179 = .ok (.iaload, 1) := dk_46 (dk_at dksX9_runs_7 16 rfl rfl)
theorem dX9_runs_180 : decode cX9_runs 180 = .ok (.goto 4, 3) := dk_167 0 4 (dk_at dksX9_runs_7 17 rfl rfl)
theorem dX9_runs_183 : decode cX9_runs 183 = .ok (.iconst 0, 1) := dk_3 (dk_at dksX9_runs_7 20 rfl rfl)
theorem dX9_runs_184 : decode cX9_runs 184 = .ok (.iastore, 1) := dk_79 (dk_at dksX9_runs_7 21 rfl rfl)
theorem dX9_runs_185 : decode cX9_runs 185 = .ok (.iload 4, 2) := dk_21 4 (dk_at dksX9_runs_7 22 rfl rfl)
theorem dX9_runs_187 : decode cX9_runs 187 = .ok (.iconst 3, 1) := dk_6 (dk_at dksX9_runs_8 0 rfl rfl)
theorem dX9_runs_188 : decode cX9_runs 188 = .ok (.if_icmp .ge 10, 3) := dk_162 0 10 (dk_at dksX9_runs_8 1 rfl rfl)
theorem dX9_runs_191 : decode cX9_runs 191 = .ok (.aload_n 0, 1) := dk_42 (dk_at dksX9_runs_8 4 rfl rfl)
theorem dX9_runs_192 : decode cX9_runs 192 = .ok (.iload_n 1, 1) := dk_27 (dk_at dksX9_runs_8 5 rfl rfl)
theorem dX9_runs_193 : decode cX9_runs 193 = .ok (.iload_n 3, 1) := dk_29 (dk_at dksX9_runs_8 6 rfl rfl)
theorem dX9_runs_194 : decode cX9_runs 194 = .ok (.invokevirtual 254, 3) := dk_182 0 254 (dk_at dksX9_runs_8 7 rfl rfl)
theorem dX9_runs_197 : decode cX9_runs 197 = .ok (.istore_n 3, 1) := dk_62 (dk_at dksX9_runs_8 10 rfl rfl)
theorem dX9_runs_198 : decode cX9_runs 198 = .ok (.iload 4, 2) := dk_21 4 (dk_at dksX9_runs_8 11 rfl rfl)
theorem dX9_runs_200 : decode cX9_runs 200 = .ok (.iconst 3, 1) := dk_6 (dk_at dksX9_runs_8 13 rfl rfl)
theorem dX9_runs_201 : decode cX9_runs 201 = .ok (.if_icmp .ne 13, 3) := dk_160 0 13 (dk_at dksX9_runs_8 14 rfl rfl)
theorem dX9_runs_204 : decode cX9_runs 204 = .ok (.aload_n 0, 1) := dk_42 (dk_at dksX9_runs_8 17 rfl rfl)
theorem dX9_runs_205 : decode cX9_runs 205 = .ok (.aload_n 0, 1) := dk_42 (dk_at dksX9_runs_8 18 rfl rfl)
theorem dX9_runs_206 : decode cX9_runs 206 = .ok (.getfield 43, 3) := dk_180 0 43 (dk_at dksX9_runs_8 19 rfl rfl)
theorem dX9_runs_209 : decode cX9_runs 209 = .ok (.iload_n 1, 1) := dk_27 (dk_at dksX9_runs_8 22 rfl rfl)
theorem dX9_runs_210 : decode cX9_runs 210 = .ok (.iaload, 1) := dk_46 (dk_at dksX9_runs_8 23 rfl rfl)
theorem dX9_runs_211 : decode cX9_runs 211 = .ok (.invokevirtual 257, 3) := dk_182 1 1 (dk_at dksX9_runs_9 0 rfl rfl)
theorem dX9_runs_214 : decode cX9_runs 214 = .ok (.iload 4, 2) := dk_21 4 (dk_at dksX9_runs_9 3 rfl rfl)
theorem dX9_runs_216 : decode cX9_runs 216 = .ok (.iconst 4, 1) := dk_7 (dk_at dksX9_runs_9 5 rfl rfl)
theorem dX9_runs_217 : decode cX9_runs 217 = .ok (.if_icmp .ne 14, 3) := dk_160 0 14 (dk_at dksX9_runs_9 6 rfl rfl)
theorem dX9_runs_220 : decode cX9_runs 220 = .ok (.aload_n 0, 1) := dk_42 (dk_at dksX9_runs_9 9 rfl rfl)
theorem dX9_runs_221 : decode cX9_runs 221 = .ok (.aload_n 0, 1) := dk_42 (dk_at dksX9_runs_9 10 rfl rfl)
theorem dX9_runs_222 : decode cX9_runs 222 = .ok (.getfield 43, 3) := dk_180 0 43 (dk_at dksX9_runs_9 11 rfl rfl)
theorem dX9_runs_225 : decode cX9_runs 225 = .ok (.iload_n 1, 1) := dk_27 (dk_at dksX9_runs_9 14 rfl rfl)
theorem dX9_runs_226 : decode cX9_runs 226 = .ok (.iaload, 1) := dk_46 (dk_at dksX9_runs_9 15 rfl rfl)
theorem dX9_runs_227 : decode cX9_runs 227 = .ok (.invokevirtual 260, 3) := dk_182 1 4 (dk_at dksX9_runs_9 16 rfl rfl)
theorem dX9_runs_230 : decode cX9_runs 230 = .ok (.pop, 1) := dk_87 (dk_at dksX9_runs_9 19 rfl rfl)
theorem dX9_runs_231 : decode cX9_runs 231 = .ok (.iload 4, 2) := dk_21 4 (dk_at dksX9_runs_9 20 rfl rfl)
theorem dX9_runs_233 : decode cX9_runs 233 = .ok (.iconst 5, 1) := dk_8 (dk_at dksX9_runs_9 22 rfl rfl)
theorem dX9_runs_234 : decode cX9_runs 234 = .ok (.if_icmp .ne 8, 3) := dk_160 0 8 (dk_at dksX9_runs_10 0 rfl rfl)
theorem dX9_runs_237 : decode cX9_runs 237 = .ok (.aload_n 0, 1) := dk_42 (dk_at dksX9_runs_10 3 rfl rfl)
theorem dX9_runs_238 : decode cX9_runs 238 = .ok (.invokevirtual 263, 3) := dk_182 1 7 (dk_at dksX9_runs_10 4 rfl rfl)
theorem dX9_runs_241 : decode cX9_runs 241 = .ok (.pop, 1) := dk_87 (dk_at dksX9_runs_10 7 rfl rfl)
theorem dX9_runs_242 : decode cX9_runs 242 = .ok (.iinc 1 1, 3) := dk_132 1 1 (dk_at dksX9_runs_10 8 rfl rfl)
theorem dX9_runs_245 : decode cX9_runs 245 = .ok (.goto (-239), 3) := dk_167 255 17 (dk_at dksX9_runs_10 11 rfl rfl)
theorem dX9_runs_248 : decode cX9_runs 248 = .ok (.return_, 1) := dk_177 (dk_at dksX9_runs_10 14 rfl rfl)
abbrev cX9_actDone : ByteArray := prog_20_method_33_code
def yX9_actDone : MethodName := ⟨RX9, "actDone", "(II)I"⟩
def dkwX9_actDone_7 : List UInt8 := [29, 167, 0, 4, 28, 172]
abbrev dktX9_actDone_7 : List UInt8 := dkwX9_actDone_7 ++ []
def dkwX9_actDone_6 : List UInt8 := [180, 0, 43, 27, 46, 156, 0, 9, 42, 3, 182, 1, 4, 87, 21, 7, 153, 0, 12, 21, 4, 154, 0, 7]
abbrev dktX9_actDone_6 : List UInt8 := dkwX9_actDone_6 ++ dktX9_actDone_7
def dkwX9_actDone_5 : List UInt8 := [46, 54, 6, 42, 21, 6, 21, 4, 4, 96, 29, 21, 5, 182, 1, 22, 54, 7, 21, 7, 153, 0, 18, 42]
abbrev dktX9_actDone_5 : List UInt8 := dkwX9_actDone_5 ++ dktX9_actDone_6
def dkwX9_actDone_4 : List UInt8 := [167, 0, 4, 3, 54, 5, 42, 180, 0, 43, 27, 46, 156, 0, 7, 3, 167, 0, 9, 42, 180, 0, 43, 27]
abbrev dktX9_actDone_4 : List UInt8 := dkwX9_actDone_4 ++ dktX9_actDone_5
def dkwX9_actDone_3 : List UInt8 := [46, 54, 4, 21, 4, 154, 0, 22, 42, 42, 180, 0, 49, 27, 46, 42, 180, 0, 52, 27, 46, 182, 1, 16]
abbrev dktX9_actDone_3 : List UInt8 := dkwX9_actDone_3 ++ dktX9_actDone_4
def dkwX9_actDone_2 : List UInt8 := [42, 180, 0, 46, 27, 46, 42, 180, 0, 49, 27, 46, 182, 1, 16, 184, 1, 19, 62, 42, 180, 0, 40, 27]
abbrev dktX9_actDone_2 : List UInt8 := dkwX9_actDone_2 ++ dktX9_actDone_3
def dkwX9_actDone_1 : List UInt8 := [180, 0, 70, 7, 42, 180, 0, 80, 3, 46, 79, 42, 180, 0, 70, 8, 42, 180, 0, 80, 6, 46, 79, 42]
abbrev dktX9_actDone_1 : List UInt8 := dkwX9_actDone_1 ++ dktX9_actDone_2
def dkwX9_actDone_0 : List UInt8 := [42, 182, 1, 10, 42, 180, 0, 70, 5, 42, 180, 1, 13, 79, 42, 180, 0, 70, 6, 28, 79, 42]
abbrev dktX9_actDone_0 : List UInt8 := dkwX9_actDone_0 ++ dktX9_actDone_1
theorem dksX9_actDone_0 : cX9_actDone.data.toList.drop 0 = dktX9_actDone_0 := by decide +kernel
theorem dksX9_actDone_1 : cX9_actDone.data.toList.drop 22 = dktX9_actDone_1 := dk_seg dksX9_actDone_0 22 rfl rfl
theorem dksX9_actDone_2 : cX9_actDone.data.toList.drop 46 = dktX9_actDone_2 := dk_seg dksX9_actDone_1 24 rfl rfl
theorem dksX9_actDone_3 : cX9_actDone.data.toList.drop 70 = dktX9_actDone_3 := dk_seg dksX9_actDone_2 24 rfl rfl
theorem dksX9_actDone_4 : cX9_actDone.data.toList.drop 94 = dktX9_actDone_4 := dk_seg dksX9_actDone_3 24 rfl rfl
theorem dksX9_actDone_5 : cX9_actDone.data.toList.drop 118 = dktX9_actDone_5 := dk_seg dksX9_actDone_4 24 rfl rfl
theorem dksX9_actDone_6 : cX9_actDone.data.toList.drop 142 = dktX9_actDone_6 := dk_seg dksX9_actDone_5 24 rfl rfl
theorem dksX9_actDone_7 : cX9_actDone.data.toList.drop 166 = dktX9_actDone_7 := dk_seg dksX9_actDone_6 24 rfl rfl
theorem dX9_actDone_0 : decode cX9_actDone 0 = .ok (.aload_n 0, 1) := dk_42 (dk_at dksX9_actDone_0 0 rfl rfl)
theorem dX9_actDone_1 : decode cX9_actDone 1 = .ok (.invokevirtual 266, 3) := dk_182 1 10 (dk_at dksX9_actDone_0 1 rfl rfl)
theorem dX9_actDone_4 : decode cX9_actDone 4 = .ok (.aload_n 0, 1) := dk_42 (dk_at dksX9_actDone_0 4 rfl rfl)
theorem dX9_actDone_5 : decode cX9_actDone 5 = .ok (.getfield 70, 3) := dk_180 0 70 (dk_at dksX9_actDone_0 5 rfl rfl)
theorem dX9_actDone_8 : decode cX9_actDone 8 = .ok (.iconst 2, 1) := dk_5 (dk_at dksX9_actDone_0 8 rfl rfl)
theorem dX9_actDone_9 : decode cX9_actDone 9 = .ok (.aload_n 0, 1) := dk_42 (dk_at dksX9_actDone_0 9 rfl rfl)
theorem dX9_actDone_10 : decode cX9_actDone 10 = .ok (.getfield 269, 3) := dk_180 1 13 (dk_at dksX9_actDone_0 10 rfl rfl)
theorem dX9_actDone_13 : decode cX9_actDone 13 = .ok (.iastore, 1) := dk_79 (dk_at dksX9_actDone_0 13 rfl rfl)
theorem dX9_actDone_14 : decode cX9_actDone 14 = .ok (.aload_n 0, 1) := dk_42 (dk_at dksX9_actDone_0 14 rfl rfl)
theorem dX9_actDone_15 : decode cX9_actDone 15 = .ok (.getfield 70, 3) := dk_180 0 70 (dk_at dksX9_actDone_0 15 rfl rfl)
theorem dX9_actDone_18 : decode cX9_actDone 18 = .ok (.iconst 3, 1) := dk_6 (dk_at dksX9_actDone_0 18 rfl rfl)
theorem dX9_actDone_19 : decode cX9_actDone 19 = .ok (.iload_n 2, 1) := dk_28 (dk_at dksX9_actDone_0 19 rfl rfl)
theorem dX9_actDone_20 : decode cX9_actDone 20 = .ok (.iastore, 1) := dk_79 (dk_at dksX9_actDone_0 20 rfl rfl)
theorem dX9_actDone_21 : decode cX9_actDone 21 = .ok (.aload_n 0, 1) := dk_42 (dk_at dksX9_actDone_0 21 rfl rfl)
theorem dX9_actDone_22 : decode cX9_actDone 22 = .ok (.getfield 70, 3) := dk_180 0 70 (dk_at dksX9_actDone_1 0 rfl rfl)
theorem dX9_actDone_25 : decode cX9_actDone 25 = .ok (.iconst 4, 1) := dk_7 (dk_at dksX9_actDone_1 3 rfl rfl)
theorem dX9_actDone_26 : decode cX9_actDone 26 = .ok (.aload_n 0, 1) := dk_42 (dk_at dksX9_actDone_1 4 rfl rfl)
theorem dX9_actDone_27 : decode cX9_actDone 27 = .ok (.getfield 80, 3) := dk_180 0 80 (dk_at dksX9_actDone_1 5 rfl rfl)
theorem dX9_actDone_30 : decode cX9_actDone 30 = .ok (.iconst 0, 1) := dk_3 (dk_at dksX9_actDone_1 8 rfl rfl)
theorem dX9_actDone_31 : decode cX9_actDone 31 = .ok (.iaload, 1) := dk_46 (dk_at dksX9_actDone_1 9 rfl rfl)
theorem dX9_actDone_32 : decode cX9_actDone 32 = .ok (.iastore, 1) := dk_79 (dk_at dksX9_actDone_1 10 rfl rfl)
theorem dX9_actDone_33 : decode cX9_actDone 33 = .ok (.aload_n 0, 1) := dk_42 (dk_at dksX9_actDone_1 11 rfl rfl)
theorem dX9_actDone_34 : decode cX9_actDone 34 = .ok (.getfield 70, 3) := dk_180 0 70 (dk_at dksX9_actDone_1 12 rfl rfl)
theorem dX9_actDone_37 : decode cX9_actDone 37 = .ok (.iconst 5, 1) := dk_8 (dk_at dksX9_actDone_1 15 rfl rfl)
theorem dX9_actDone_38 : decode cX9_actDone 38 = .ok (.aload_n 0, 1) := dk_42 (dk_at dksX9_actDone_1 16 rfl rfl)
theorem dX9_actDone_39 : decode cX9_actDone 39 = .ok (.getfield 80, 3) := dk_180 0 80 (dk_at dksX9_actDone_1 17 rfl rfl)
theorem dX9_actDone_42 : decode cX9_actDone 42 = .ok (.iconst 3, 1) := dk_6 (dk_at dksX9_actDone_1 20 rfl rfl)
theorem dX9_actDone_43 : decode cX9_actDone 43 = .ok (.iaload, 1) := dk_46 (dk_at dksX9_actDone_1 21 rfl rfl)
theorem dX9_actDone_44 : decode cX9_actDone 44 = .ok (.iastore, 1) := dk_79 (dk_at dksX9_actDone_1 22 rfl rfl)
theorem dX9_actDone_45 : decode cX9_actDone 45 = .ok (.aload_n 0, 1) := dk_42 (dk_at dksX9_actDone_1 23 rfl rfl)
theorem dX9_actDone_46 : decode cX9_actDone 46 = .ok (.aload_n 0, 1) := dk_42 (dk_at dksX9_actDone_2 0 rfl rfl)
theorem dX9_actDone_47 : decode cX9_actDone 47 = .ok (.getfield 46, 3) := dk_180 0 46 (dk_at dksX9_actDone_2 1 rfl rfl)
theorem dX9_actDone_50 : decode cX9_actDone 50 = .ok (.iload_n 1, 1) := dk_27 (dk_at dksX9_actDone_2 4 rfl rfl)
theorem dX9_actDone_51 : decode cX9_actDone 51 = .ok (.iaload, 1) := dk_46 (dk_at dksX9_actDone_2 5 rfl rfl)
theorem dX9_actDone_52 : decode cX9_actDone 52 = .ok (.aload_n 0, 1) := dk_42 (dk_at dksX9_actDone_2 6 rfl rfl)
theorem dX9_actDone_53 : decode cX9_actDone 53 = .ok (.getfield 49, 3) := dk_180 0 49 (dk_at dksX9_actDone_2 7 rfl rfl)
theorem dX9_actDone_56 : decode cX9_actDone 56 = .ok (.iload_n 1, 1) := dk_27 (dk_at dksX9_actDone_2 10 rfl rfl)
theorem dX9_actDone_57 : decode cX9_actDone 57 = .ok (.iaload, 1) := dk_46 (dk_at dksX9_actDone_2 11 rfl rfl)
theorem dX9_actDone_58 : decode cX9_actDone 58 = .ok (.invokevirtual 272, 3) := dk_182 1 16 (dk_at dksX9_actDone_2 12 rfl rfl)
theorem dX9_actDone_61 : decode cX9_actDone 61 = .ok (.invokestatic 275, 3) := dk_184 1 19 (dk_at dksX9_actDone_2 15 rfl rfl)
theorem dX9_actDone_64 : decode cX9_actDone 64 = .ok (.istore_n 3, 1) := dk_62 (dk_at dksX9_actDone_2 18 rfl rfl)
theorem dX9_actDone_65 : decode cX9_actDone 65 = .ok (.aload_n 0, 1) := dk_42 (dk_at dksX9_actDone_2 19 rfl rfl)
theorem dX9_actDone_66 : decode cX9_actDone 66 = .ok (.getfield 40, 3) := dk_180 0 40 (dk_at dksX9_actDone_2 20 rfl rfl)
theorem dX9_actDone_69 : decode cX9_actDone 69 = .ok (.iload_n 1, 1) := dk_27 (dk_at dksX9_actDone_2 23 rfl rfl)
theorem dX9_actDone_70 : decode cX9_actDone 70 = .ok (.iaload, 1) := dk_46 (dk_at dksX9_actDone_3 0 rfl rfl)
theorem dX9_actDone_71 : decode cX9_actDone 71 = .ok (.istore 4, 2) := dk_54 4 (dk_at dksX9_actDone_3 1 rfl rfl)
theorem dX9_actDone_73 : decode cX9_actDone 73 = .ok (.iload 4, 2) := dk_21 4 (dk_at dksX9_actDone_3 3 rfl rfl)
theorem dX9_actDone_75 : decode cX9_actDone 75 = .ok (.ifCond .ne 22, 3) := dk_154 0 22 (dk_at dksX9_actDone_3 5 rfl rfl)
theorem dX9_actDone_78 : decode cX9_actDone 78 = .ok (.aload_n 0, 1) := dk_42 (dk_at dksX9_actDone_3 8 rfl rfl)
theorem dX9_actDone_79 : decode cX9_actDone 79 = .ok (.aload_n 0, 1) := dk_42 (dk_at dksX9_actDone_3 9 rfl rfl)
theorem dX9_actDone_80 : decode cX9_actDone 80 = .ok (.getfield 49, 3) := dk_180 0 49 (dk_at dksX9_actDone_3 10 rfl rfl)
theorem dX9_actDone_83 : decode cX9_actDone 83 = .ok (.iload_n 1, 1) := dk_27 (dk_at dksX9_actDone_3 13 rfl rfl)
theorem dX9_actDone_84 : decode cX9_actDone 84 = .ok (.iaload, 1) := dk_46 (dk_at dksX9_actDone_3 14 rfl rfl)
theorem dX9_actDone_85 : decode cX9_actDone 85 = .ok (.aload_n 0, 1) := dk_42 (dk_at dksX9_actDone_3 15 rfl rfl)
theorem dX9_actDone_86 : decode cX9_actDone 86 = .ok (.getfield 52, 3) := dk_180 0 52 (dk_at dksX9_actDone_3 16 rfl rfl)
theorem dX9_actDone_89 : decode cX9_actDone 89 = .ok (.iload_n 1, 1) := dk_27 (dk_at dksX9_actDone_3 19 rfl rfl)
theorem dX9_actDone_90 : decode cX9_actDone 90 = .ok (.iaload, 1) := dk_46 (dk_at dksX9_actDone_3 20 rfl rfl)
theorem dX9_actDone_91 : decode cX9_actDone 91 = .ok (.invokevirtual 272, 3) := dk_182 1 16 (dk_at dksX9_actDone_3 21 rfl rfl)
theorem dX9_actDone_94 : decode cX9_actDone 94 = .ok (.goto 4, 3) := dk_167 0 4 (dk_at dksX9_actDone_4 0 rfl rfl)
theorem dX9_actDone_97 : decode cX9_actDone 97 = .ok (.iconst 0, 1) := dk_3 (dk_at dksX9_actDone_4 3 rfl rfl)
theorem dX9_actDone_98 : decode cX9_actDone 98 = .ok (.istore 5, 2) := dk_54 5 (dk_at dksX9_actDone_4 4 rfl rfl)
theorem dX9_actDone_100 : decode cX9_actDone 100 = .ok (.aload_n 0, 1) := dk_42 (dk_at dksX9_actDone_4 6 rfl rfl)
theorem dX9_actDone_101 : decode cX9_actDone 101 = .ok (.getfield 43, 3) := dk_180 0 43 (dk_at dksX9_actDone_4 7 rfl rfl)
theorem dX9_actDone_104 : decode cX9_actDone 104 = .ok (.iload_n 1, 1) := dk_27 (dk_at dksX9_actDone_4 10 rfl rfl)
theorem dX9_actDone_105 : decode cX9_actDone 105 = .ok (.iaload, 1) := dk_46 (dk_at dksX9_actDone_4 11 rfl rfl)
theorem dX9_actDone_106 : decode cX9_actDone 106 = .ok (.ifCond .ge 7, 3) := dk_156 0 7 (dk_at dksX9_actDone_4 12 rfl rfl)
theorem dX9_actDone_109 : decode cX9_actDone 109 = .ok (.iconst 0, 1) := dk_3 (dk_at dksX9_actDone_4 15 rfl rfl)
theorem dX9_actDone_110 : decode cX9_actDone 110 = .ok (.goto 9, 3) := dk_167 0 9 (dk_at dksX9_actDone_4 16 rfl rfl)
theorem dX9_actDone_113 : decode cX9_actDone 113 = .ok (.aload_n 0, 1) := dk_42 (dk_at dksX9_actDone_4 19 rfl rfl)
theorem dX9_actDone_114 : decode cX9_actDone 114 = .ok (.getfield 43, 3) := dk_180 0 43 (dk_at dksX9_actDone_4 20 rfl rfl)
theorem dX9_actDone_117 : decode cX9_actDone 117 = .ok (.iload_n 1, 1) := dk_27 (dk_at dksX9_actDone_4 23 rfl rfl)
theorem dX9_actDone_118 : decode cX9_actDone 118 = .ok (.iaload, 1) := dk_46 (dk_at dksX9_actDone_5 0 rfl rfl)
theorem dX9_actDone_119 : decode cX9_actDone 119 = .ok (.istore 6, 2) := dk_54 6 (dk_at dksX9_actDone_5 1 rfl rfl)
theorem dX9_actDone_121 : decode cX9_actDone 121 = .ok (.aload_n 0, 1) := dk_42 (dk_at dksX9_actDone_5 3 rfl rfl)
theorem dX9_actDone_122 : decode cX9_actDone 122 = .ok (.iload 6, 2) := dk_21 6 (dk_at dksX9_actDone_5 4 rfl rfl)
theorem dX9_actDone_124 : decode cX9_actDone 124 = .ok (.iload 4, 2) := dk_21 4 (dk_at dksX9_actDone_5 6 rfl rfl)
theorem dX9_actDone_126 : decode cX9_actDone 126 = .ok (.iconst 1, 1) := dk_4 (dk_at dksX9_actDone_5 8 rfl rfl)
theorem dX9_actDone_127 : decode cX9_actDone 127 = .ok (.iadd, 1) := dk_96 (dk_at dksX9_actDone_5 9 rfl rfl)
theorem dX9_actDone_128 : decode cX9_actDone 128 = .ok (.iload_n 3, 1) := dk_29 (dk_at dksX9_actDone_5 10 rfl rfl)
theorem dX9_actDone_129 : decode cX9_actDone 129 = .ok (.iload 5, 2) := dk_21 5 (dk_at dksX9_actDone_5 11 rfl rfl)
theorem dX9_actDone_131 : decode cX9_actDone 131 = .ok (.invokevirtual 278, 3) := dk_182 1 22 (dk_at dksX9_actDone_5 13 rfl rfl)
theorem dX9_actDone_134 : decode cX9_actDone 134 = .ok (.istore 7, 2) := dk_54 7 (dk_at dksX9_actDone_5 16 rfl rfl)
theorem dX9_actDone_136 : decode cX9_actDone 136 = .ok (.iload 7, 2) := dk_21 7 (dk_at dksX9_actDone_5 18 rfl rfl)
theorem dX9_actDone_138 : decode cX9_actDone 138 = .ok (.ifCond .eq 18, 3) := dk_153 0 18 (dk_at dksX9_actDone_5 20 rfl rfl)
theorem dX9_actDone_141 : decode cX9_actDone 141 = .ok (.aload_n 0, 1) := dk_42 (dk_at dksX9_actDone_5 23 rfl rfl)
theorem dX9_actDone_142 : decode cX9_actDone 142 = .ok (.getfield 43, 3) := dk_180 0 43 (dk_at dksX9_actDone_6 0 rfl rfl)
theorem dX9_actDone_145 : decode cX9_actDone 145 = .ok (.iload_n 1, 1) := dk_27 (dk_at dksX9_actDone_6 3 rfl rfl)
theorem dX9_actDone_146 : decode cX9_actDone 146 = .ok (.iaload, 1) := dk_46 (dk_at dksX9_actDone_6 4 rfl rfl)
theorem dX9_actDone_147 : decode cX9_actDone 147 = .ok (.ifCond .ge 9, 3) := dk_156 0 9 (dk_at dksX9_actDone_6 5 rfl rfl)
theorem dX9_actDone_150 : decode cX9_actDone 150 = .ok (.aload_n 0, 1) := dk_42 (dk_at dksX9_actDone_6 8 rfl rfl)
theorem dX9_actDone_151 : decode cX9_actDone 151 = .ok (.iconst 0, 1) := dk_3 (dk_at dksX9_actDone_6 9 rfl rfl)
theorem dX9_actDone_152 : decode cX9_actDone 152 = .ok (.invokevirtual 260, 3) := dk_182 1 4 (dk_at dksX9_actDone_6 10 rfl rfl)
theorem dX9_actDone_155 : decode cX9_actDone 155 = .ok (.pop, 1) := dk_87 (dk_at dksX9_actDone_6 13 rfl rfl)
theorem dX9_actDone_156 : decode cX9_actDone 156 = .ok (.iload 7, 2) := dk_21 7 (dk_at dksX9_actDone_6 14 rfl rfl)
theorem dX9_actDone_158 : decode cX9_actDone 158 = .ok (.ifCond .eq 12, 3) := dk_153 0 12 (dk_at dksX9_actDone_6 16 rfl rfl)
theorem dX9_actDone_161 : decode cX9_actDone 161 = .ok (.iload 4, 2) := dk_21 4 (dk_at dksX9_actDone_6 19 rfl rfl)
theorem dX9_actDone_163 : decode cX9_actDone 163 = .ok (.ifCond .ne 7, 3) := dk_154 0 7 (dk_at dksX9_actDone_6 21 rfl rfl)
theorem dX9_actDone_166 : decode cX9_actDone 166 = .ok (.iload_n 3, 1) := dk_29 (dk_at dksX9_actDone_7 0 rfl rfl)
theorem dX9_actDone_167 : decode cX9_actDone 167 = .ok (.goto 4, 3) := dk_167 0 4 (dk_at dksX9_actDone_7 1 rfl rfl)
theorem dX9_actDone_170 : decode cX9_actDone 170 = .ok (.iload_n 2, 1) := dk_28 (dk_at dksX9_actDone_7 4 rfl rfl)
theorem dX9_actDone_171 : decode cX9_actDone 171 = .ok (.ireturn, 1) := dk_172 (dk_at dksX9_actDone_7 5 rfl rfl)
abbrev cX9_fillsAll : ByteArray := prog_20_method_59_code
def yX9_fillsAll : MethodName := ⟨RX9, "fillsAll", "()V"⟩
def dkwX9_fillsAll_3 : List UInt8 := [167, 255, 205, 42, 180, 1, 71, 60, 167, 255, 186, 177]
abbrev dktX9_fillsAll_3 : List UInt8 := dkwX9_fillsAll_3 ++ []
def dkwX9_fillsAll_2 : List UInt8 := [180, 1, 13, 42, 180, 0, 89, 28, 46, 79, 42, 89, 180, 1, 13, 4, 96, 181, 1, 13, 132, 2, 1]
abbrev dktX9_fillsAll_2 : List UInt8 := dkwX9_fillsAll_2 ++ dktX9_fillsAll_3
def dkwX9_fillsAll_1 : List UInt8 := [162, 0, 49, 42, 180, 0, 98, 42, 180, 1, 13, 42, 180, 0, 86, 28, 46, 79, 42, 180, 0, 101, 42]
abbrev dktX9_fillsAll_1 : List UInt8 := dkwX9_fillsAll_1 ++ dktX9_fillsAll_2
def dkwX9_fillsAll_0 : List UInt8 := [4, 60, 42, 3, 181, 1, 13, 27, 155, 0, 72, 42, 27, 182, 1, 83, 3, 61, 28, 42, 180, 1, 53]
abbrev dktX9_fillsAll_0 : List UInt8 := dkwX9_fillsAll_0 ++ dktX9_fillsAll_1
theorem dksX9_fillsAll_0 : cX9_fillsAll.data.toList.drop 0 = dktX9_fillsAll_0 := by decide +kernel
theorem dksX9_fillsAll_1 : cX9_fillsAll.data.toList.drop 23 = dktX9_fillsAll_1 := dk_seg dksX9_fillsAll_0 23 rfl rfl
theorem dksX9_fillsAll_2 : cX9_fillsAll.data.toList.drop 46 = dktX9_fillsAll_2 := dk_seg dksX9_fillsAll_1 23 rfl rfl
theorem dksX9_fillsAll_3 : cX9_fillsAll.data.toList.drop 69 = dktX9_fillsAll_3 := dk_seg dksX9_fillsAll_2 23 rfl rfl
theorem dX9_fillsAll_0 : decode cX9_fillsAll 0 = .ok (.iconst 1, 1) := dk_4 (dk_at dksX9_fillsAll_0 0 rfl rfl)
theorem dX9_fillsAll_1 : decode cX9_fillsAll 1 = .ok (.istore_n 1, 1) := dk_60 (dk_at dksX9_fillsAll_0 1 rfl rfl)
theorem dX9_fillsAll_2 : decode cX9_fillsAll 2 = .ok (.aload_n 0, 1) := dk_42 (dk_at dksX9_fillsAll_0 2 rfl rfl)
theorem dX9_fillsAll_3 : decode cX9_fillsAll 3 = .ok (.iconst 0, 1) := dk_3 (dk_at dksX9_fillsAll_0 3 rfl rfl)
theorem dX9_fillsAll_4 : decode cX9_fillsAll 4 = .ok (.putfield 269, 3) := dk_181 1 13 (dk_at dksX9_fillsAll_0 4 rfl rfl)
theorem dX9_fillsAll_7 : decode cX9_fillsAll 7 = .ok (.iload_n 1, 1) := dk_27 (dk_at dksX9_fillsAll_0 7 rfl rfl)
theorem dX9_fillsAll_8 : decode cX9_fillsAll 8 = .ok (.ifCond .lt 72, 3) := dk_155 0 72 (dk_at dksX9_fillsAll_0 8 rfl rfl)
theorem dX9_fillsAll_11 : decode cX9_fillsAll 11 = .ok (.aload_n 0, 1) := dk_42 (dk_at dksX9_fillsAll_0 11 rfl rfl)
theorem dX9_fillsAll_12 : decode cX9_fillsAll 12 = .ok (.iload_n 1, 1) := dk_27 (dk_at dksX9_fillsAll_0 12 rfl rfl)
theorem dX9_fillsAll_13 : decode cX9_fillsAll 13 = .ok (.invokevirtual 339, 3) := dk_182 1 83 (dk_at dksX9_fillsAll_0 13 rfl rfl)
theorem dX9_fillsAll_16 : decode cX9_fillsAll 16 = .ok (.iconst 0, 1) := dk_3 (dk_at dksX9_fillsAll_0 16 rfl rfl)
theorem dX9_fillsAll_17 : decode cX9_fillsAll 17 = .ok (.istore_n 2, 1) := dk_61 (dk_at dksX9_fillsAll_0 17 rfl rfl)
theorem dX9_fillsAll_18 : decode cX9_fillsAll 18 = .ok (.iload_n 2, 1) := dk_28 (dk_at dksX9_fillsAll_0 18 rfl rfl)
theorem dX9_fillsAll_19 : decode cX9_fillsAll 19 = .ok (.aload_n 0, 1) := dk_42 (dk_at dksX9_fillsAll_0 19 rfl rfl)
theorem dX9_fillsAll_20 : decode cX9_fillsAll 20 = .ok (.getfield 309, 3) := dk_180 1 53 (dk_at dksX9_fillsAll_0 20 rfl rfl)
theorem dX9_fillsAll_23 : decode cX9_fillsAll 23 = .ok (.if_icmp .ge 49, 3) := dk_162 0 49 (dk_at dksX9_fillsAll_1 0 rfl rfl)
theorem dX9_fillsAll_26 : decode cX9_fillsAll 26 = .ok (.aload_n 0, 1) := dk_42 (dk_at dksX9_fillsAll_1 3 rfl rfl)
theorem dX9_fillsAll_27 : decode cX9_fillsAll 27 = .ok (.getfield 98, 3) := dk_180 0 98 (dk_at dksX9_fillsAll_1 4 rfl rfl)
theorem dX9_fillsAll_30 : decode cX9_fillsAll 30 = .ok (.aload_n 0, 1) := dk_42 (dk_at dksX9_fillsAll_1 7 rfl rfl)
theorem dX9_fillsAll_31 : decode cX9_fillsAll 31 = .ok (.getfield 269, 3) := dk_180 1 13 (dk_at dksX9_fillsAll_1 8 rfl rfl)
theorem dX9_fillsAll_34 : decode cX9_fillsAll 34 = .ok (.aload_n 0, 1) := dk_42 (dk_at dksX9_fillsAll_1 11 rfl rfl)
theorem dX9_fillsAll_35 : decode cX9_fillsAll 35 = .ok (.getfield 86, 3) := dk_180 0 86 (dk_at dksX9_fillsAll_1 12 rfl rfl)
theorem dX9_fillsAll_38 : decode cX9_fillsAll 38 = .ok (.iload_n 2, 1) := dk_28 (dk_at dksX9_fillsAll_1 15 rfl rfl)
theorem dX9_fillsAll_39 : decode cX9_fillsAll 39 = .ok (.iaload, 1) := dk_46 (dk_at dksX9_fillsAll_1 16 rfl rfl)
theorem dX9_fillsAll_40 : decode cX9_fillsAll 40 = .ok (.iastore, 1) := dk_79 (dk_at dksX9_fillsAll_1 17 rfl rfl)
theorem dX9_fillsAll_41 : decode cX9_fillsAll 41 = .ok (.aload_n 0, 1) := dk_42 (dk_at dksX9_fillsAll_1 18 rfl rfl)
theorem dX9_fillsAll_42 : decode cX9_fillsAll 42 = .ok (.getfield 101, 3) := dk_180 0 101 (dk_at dksX9_fillsAll_1 19 rfl rfl)
theorem dX9_fillsAll_45 : decode cX9_fillsAll 45 = .ok (.aload_n 0, 1) := dk_42 (dk_at dksX9_fillsAll_1 22 rfl rfl)
theorem dX9_fillsAll_46 : decode cX9_fillsAll 46 = .ok (.getfield 269, 3) := dk_180 1 13 (dk_at dksX9_fillsAll_2 0 rfl rfl)
theorem dX9_fillsAll_49 : decode cX9_fillsAll 49 = .ok (.aload_n 0, 1) := dk_42 (dk_at dksX9_fillsAll_2 3 rfl rfl)
theorem dX9_fillsAll_50 : decode cX9_fillsAll 50 = .ok (.getfield 89, 3) := dk_180 0 89 (dk_at dksX9_fillsAll_2 4 rfl rfl)
theorem dX9_fillsAll_53 : decode cX9_fillsAll 53 = .ok (.iload_n 2, 1) := dk_28 (dk_at dksX9_fillsAll_2 7 rfl rfl)
theorem dX9_fillsAll_54 : decode cX9_fillsAll 54 = .ok (.iaload, 1) := dk_46 (dk_at dksX9_fillsAll_2 8 rfl rfl)
theorem dX9_fillsAll_55 : decode cX9_fillsAll 55 = .ok (.iastore, 1) := dk_79 (dk_at dksX9_fillsAll_2 9 rfl rfl)
theorem dX9_fillsAll_56 : decode cX9_fillsAll 56 = .ok (.aload_n 0, 1) := dk_42 (dk_at dksX9_fillsAll_2 10 rfl rfl)
theorem dX9_fillsAll_57 : decode cX9_fillsAll 57 = .ok (.dup, 1) := dk_89 (dk_at dksX9_fillsAll_2 11 rfl rfl)
theorem dX9_fillsAll_58 : decode cX9_fillsAll 58 = .ok (.getfield 269, 3) := dk_180 1 13 (dk_at dksX9_fillsAll_2 12 rfl rfl)
theorem dX9_fillsAll_61 : decode cX9_fillsAll 61 = .ok (.iconst 1, 1) := dk_4 (dk_at dksX9_fillsAll_2 15 rfl rfl)
theorem dX9_fillsAll_62 : decode cX9_fillsAll 62 = .ok (.iadd, 1) := dk_96 (dk_at dksX9_fillsAll_2 16 rfl rfl)
theorem dX9_fillsAll_63 : decode cX9_fillsAll 63 = .ok (.putfield 269, 3) := dk_181 1 13 (dk_at dksX9_fillsAll_2 17 rfl rfl)
theorem dX9_fillsAll_66 : decode cX9_fillsAll 66 = .ok (.iinc 2 1, 3) := dk_132 2 1 (dk_at dksX9_fillsAll_2 20 rfl rfl)
theorem dX9_fillsAll_69 : decode cX9_fillsAll 69 = .ok (.goto (-51), 3) := dk_167 255 205 (dk_at dksX9_fillsAll_3 0 rfl rfl)
theorem dX9_fillsAll_72 : decode cX9_fillsAll 72 = .ok (.aload_n 0, 1) := dk_42 (dk_at dksX9_fillsAll_3 3 rfl rfl)
theorem dX9_fillsAll_73 : decode cX9_fillsAll 73 = .ok (.getfield 327, 3) := dk_180 1 71 (dk_at dksX9_fillsAll_3 4 rfl rfl)
theorem dX9_fillsAll_76 : decode cX9_fillsAll 76 = .ok (.istore_n 1, 1) := dk_60 (dk_at dksX9_fillsAll_3 7 rfl rfl)
theorem dX9_fillsAll_77 : decode cX9_fillsAll 77 = .ok (.goto (-70), 3) := dk_167 255 186 (dk_at dksX9_fillsAll_3 8 rfl rfl)
theorem dX9_fillsAll_80 : decode cX9_fillsAll 80 = .ok (.return_, 1) := dk_177 (dk_at dksX9_fillsAll_3 11 rfl rfl)
abbrev cX9_fillsHas : ByteArray := prog_20_method_55_code
def yX9_fillsHas : MethodName := ⟨RX9, "fillsHas", "(I)V"⟩
def dkwX9_fillsHas_1 : List UInt8 := [180, 0, 83, 28, 46, 182, 1, 80, 132, 2, 255, 167, 255, 239, 177]
abbrev dktX9_fillsHas_1 : List UInt8 := dkwX9_fillsHas_1 ++ []
def dkwX9_fillsHas_0 : List UInt8 := [42, 27, 182, 1, 50, 42, 3, 181, 1, 53, 42, 180, 1, 47, 4, 100, 61, 28, 155, 0, 19, 42, 42]
abbrev dktX9_fillsHas_0 : List UInt8 := dkwX9_fillsHas_0 ++ dktX9_fillsHas_1
theorem dksX9_fillsHas_0 : cX9_fillsHas.data.toList.drop 0 = dktX9_fillsHas_0 := by decide +kernel
theorem dksX9_fillsHas_1 : cX9_fillsHas.data.toList.drop 23 = dktX9_fillsHas_1 := dk_seg dksX9_fillsHas_0 23 rfl rfl
theorem dX9_fillsHas_0 : decode cX9_fillsHas 0 = .ok (.aload_n 0, 1) := dk_42 (dk_at dksX9_fillsHas_0 0 rfl rfl)
theorem dX9_fillsHas_1 : decode cX9_fillsHas 1 = .ok (.iload_n 1, 1) := dk_27 (dk_at dksX9_fillsHas_0 1 rfl rfl)
theorem dX9_fillsHas_2 : decode cX9_fillsHas 2 = .ok (.invokevirtual 306, 3) := dk_182 1 50 (dk_at dksX9_fillsHas_0 2 rfl rfl)
theorem dX9_fillsHas_5 : decode cX9_fillsHas 5 = .ok (.aload_n 0, 1) := dk_42 (dk_at dksX9_fillsHas_0 5 rfl rfl)
theorem dX9_fillsHas_6 : decode cX9_fillsHas 6 = .ok (.iconst 0, 1) := dk_3 (dk_at dksX9_fillsHas_0 6 rfl rfl)
theorem dX9_fillsHas_7 : decode cX9_fillsHas 7 = .ok (.putfield 309, 3) := dk_181 1 53 (dk_at dksX9_fillsHas_0 7 rfl rfl)
theorem dX9_fillsHas_10 : decode cX9_fillsHas 10 = .ok (.aload_n 0, 1) := dk_42 (dk_at dksX9_fillsHas_0 10 rfl rfl)
theorem dX9_fillsHas_11 : decode cX9_fillsHas 11 = .ok (.getfield 303, 3) := dk_180 1 47 (dk_at dksX9_fillsHas_0 11 rfl rfl)
theorem dX9_fillsHas_14 : decode cX9_fillsHas 14 = .ok (.iconst 1, 1) := dk_4 (dk_at dksX9_fillsHas_0 14 rfl rfl)
theorem dX9_fillsHas_15 : decode cX9_fillsHas 15 = .ok (.isub, 1) := dk_100 (dk_at dksX9_fillsHas_0 15 rfl rfl)
theorem dX9_fillsHas_16 : decode cX9_fillsHas 16 = .ok (.istore_n 2, 1) := dk_61 (dk_at dksX9_fillsHas_0 16 rfl rfl)
theorem dX9_fillsHas_17 : decode cX9_fillsHas 17 = .ok (.iload_n 2, 1) := dk_28 (dk_at dksX9_fillsHas_0 17 rfl rfl)
theorem dX9_fillsHas_18 : decode cX9_fillsHas 18 = .ok (.ifCond .lt 19, 3) := dk_155 0 19 (dk_at dksX9_fillsHas_0 18 rfl rfl)
theorem dX9_fillsHas_21 : decode cX9_fillsHas 21 = .ok (.aload_n 0, 1) := dk_42 (dk_at dksX9_fillsHas_0 21 rfl rfl)
theorem dX9_fillsHas_22 : decode cX9_fillsHas 22 = .ok (.aload_n 0, 1) := dk_42 (dk_at dksX9_fillsHas_0 22 rfl rfl)
theorem dX9_fillsHas_23 : decode cX9_fillsHas 23 = .ok (.getfield 83, 3) := dk_180 0 83 (dk_at dksX9_fillsHas_1 0 rfl rfl)
theorem dX9_fillsHas_26 : decode cX9_fillsHas 26 = .ok (.iload_n 2, 1) := dk_28 (dk_at dksX9_fillsHas_1 3 rfl rfl)
theorem dX9_fillsHas_27 : decode cX9_fillsHas 27 = .ok (.iaload, 1) := dk_46 (dk_at dksX9_fillsHas_1 4 rfl rfl)
theorem dX9_fillsHas_28 : decode cX9_fillsHas 28 = .ok (.invokevirtual 336, 3) := dk_182 1 80 (dk_at dksX9_fillsHas_1 5 rfl rfl)
theorem dX9_fillsHas_31 : decode cX9_fillsHas 31 = .ok (.iinc 2 (-1), 3) := dk_132 2 255 (dk_at dksX9_fillsHas_1 8 rfl rfl)
theorem dX9_fillsHas_34 : decode cX9_fillsHas 34 = .ok (.goto (-17), 3) := dk_167 255 239 (dk_at dksX9_fillsHas_1 11 rfl rfl)
theorem dX9_fillsHas_37 : decode cX9_fillsHas 37 = .ok (.return_, 1) := dk_177 (dk_at dksX9_fillsHas_1 14 rfl rfl)
abbrev cX9_fillsChain : ByteArray := prog_20_method_45_code
def yX9_fillsChain : MethodName := ⟨RX9, "fillsChain", "(I)V"⟩
def dkwX9_fillsChain_1 : List UInt8 := [79, 42, 89, 180, 1, 47, 4, 96, 181, 1, 47, 42, 28, 6, 182, 1, 32, 61, 167, 255, 225, 177]
abbrev dktX9_fillsChain_1 : List UInt8 := dkwX9_fillsChain_1 ++ []
def dkwX9_fillsChain_0 : List UInt8 := [42, 27, 182, 1, 44, 61, 42, 3, 181, 1, 47, 28, 155, 0, 33, 42, 180, 0, 83, 42, 180, 1, 47, 28]
abbrev dktX9_fillsChain_0 : List UInt8 := dkwX9_fillsChain_0 ++ dktX9_fillsChain_1
theorem dksX9_fillsChain_0 : cX9_fillsChain.data.toList.drop 0 = dktX9_fillsChain_0 := by decide +kernel
theorem dksX9_fillsChain_1 : cX9_fillsChain.data.toList.drop 24 = dktX9_fillsChain_1 := dk_seg dksX9_fillsChain_0 24 rfl rfl
theorem dX9_fillsChain_0 : decode cX9_fillsChain 0 = .ok (.aload_n 0, 1) := dk_42 (dk_at dksX9_fillsChain_0 0 rfl rfl)
theorem dX9_fillsChain_1 : decode cX9_fillsChain 1 = .ok (.iload_n 1, 1) := dk_27 (dk_at dksX9_fillsChain_0 1 rfl rfl)
theorem dX9_fillsChain_2 : decode cX9_fillsChain 2 = .ok (.invokevirtual 300, 3) := dk_182 1 44 (dk_at dksX9_fillsChain_0 2 rfl rfl)
theorem dX9_fillsChain_5 : decode cX9_fillsChain 5 = .ok (.istore_n 2, 1) := dk_61 (dk_at dksX9_fillsChain_0 5 rfl rfl)
theorem dX9_fillsChain_6 : decode cX9_fillsChain 6 = .ok (.aload_n 0, 1) := dk_42 (dk_at dksX9_fillsChain_0 6 rfl rfl)
theorem dX9_fillsChain_7 : decode cX9_fillsChain 7 = .ok (.iconst 0, 1) := dk_3 (dk_at dksX9_fillsChain_0 7 rfl rfl)
theorem dX9_fillsChain_8 : decode cX9_fillsChain 8 = .ok (.putfield 303, 3) := dk_181 1 47 (dk_at dksX9_fillsChain_0 8 rfl rfl)
theorem dX9_fillsChain_11 : decode cX9_fillsChain 11 = .ok (.iload_n 2, 1) := dk_28 (dk_at dksX9_fillsChain_0 11 rfl rfl)
theorem dX9_fillsChain_12 : decode cX9_fillsChain 12 = .ok (.ifCond .lt 33, 3) := dk_155 0 33 (dk_at dksX9_fillsChain_0 12 rfl rfl)
theorem dX9_fillsChain_15 : decode cX9_fillsChain 15 = .ok (.aload_n 0, 1) := dk_42 (dk_at dksX9_fillsChain_0 15 rfl rfl)
theorem dX9_fillsChain_16 : decode cX9_fillsChain 16 = .ok (.getfield 83, 3) := dk_180 0 83 (dk_at dksX9_fillsChain_0 16 rfl rfl)
theorem dX9_fillsChain_19 : decode cX9_fillsChain 19 = .ok (.aload_n 0, 1) := dk_42 (dk_at dksX9_fillsChain_0 19 rfl rfl)
theorem dX9_fillsChain_20 : decode cX9_fillsChain 20 = .ok (.getfield 303, 3) := dk_180 1 47 (dk_at dksX9_fillsChain_0 20 rfl rfl)
theorem dX9_fillsChain_23 : decode cX9_fillsChain 23 = .ok (.iload_n 2, 1) := dk_28 (dk_at dksX9_fillsChain_0 23 rfl rfl)
theorem dX9_fillsChain_24 : decode cX9_fillsChain 24 = .ok (.iastore, 1) := dk_79 (dk_at dksX9_fillsChain_1 0 rfl rfl)
theorem dX9_fillsChain_25 : decode cX9_fillsChain 25 = .ok (.aload_n 0, 1) := dk_42 (dk_at dksX9_fillsChain_1 1 rfl rfl)
theorem dX9_fillsChain_26 : decode cX9_fillsChain 26 = .ok (.dup, 1) := dk_89 (dk_at dksX9_fillsChain_1 2 rfl rfl)
theorem dX9_fillsChain_27 : decode cX9_fillsChain 27 = .ok (.getfield 303, 3) := dk_180 1 47 (dk_at dksX9_fillsChain_1 3 rfl rfl)
theorem dX9_fillsChain_30 : decode cX9_fillsChain 30 = .ok (.iconst 1, 1) := dk_4 (dk_at dksX9_fillsChain_1 6 rfl rfl)
theorem dX9_fillsChain_31 : decode cX9_fillsChain 31 = .ok (.iadd, 1) := dk_96 (dk_at dksX9_fillsChain_1 7 rfl rfl)
theorem dX9_fillsChain_32 : decode cX9_fillsChain 32 = .ok (.putfield 303, 3) := dk_181 1 47 (dk_at dksX9_fillsChain_1 8 rfl rfl)
theorem dX9_fillsChain_35 : decode cX9_fillsChain 35 = .ok (.aload_n 0, 1) := dk_42 (dk_at dksX9_fillsChain_1 11 rfl rfl)
theorem dX9_fillsChain_36 : decode cX9_fillsChain 36 = .ok (.iload_n 2, 1) := dk_28 (dk_at dksX9_fillsChain_1 12 rfl rfl)
theorem dX9_fillsChain_37 : decode cX9_fillsChain 37 = .ok (.iconst 3, 1) := dk_6 (dk_at dksX9_fillsChain_1 13 rfl rfl)
theorem dX9_fillsChain_38 : decode cX9_fillsChain 38 = .ok (.invokevirtual 288, 3) := dk_182 1 32 (dk_at dksX9_fillsChain_1 14 rfl rfl)
theorem dX9_fillsChain_41 : decode cX9_fillsChain 41 = .ok (.istore_n 2, 1) := dk_61 (dk_at dksX9_fillsChain_1 17 rfl rfl)
theorem dX9_fillsChain_42 : decode cX9_fillsChain 42 = .ok (.goto (-31), 3) := dk_167 255 225 (dk_at dksX9_fillsChain_1 18 rfl rfl)
theorem dX9_fillsChain_45 : decode cX9_fillsChain 45 = .ok (.return_, 1) := dk_177 (dk_at dksX9_fillsChain_1 21 rfl rfl)
abbrev cX9_topOf : ByteArray := prog_20_method_39_code
def yX9_topOf : MethodName := ⟨RX9, "topOf", "(I)I"⟩
def dkwX9_topOf_0 : List UInt8 := [42, 180, 0, 80, 16, 10, 27, 96, 46, 172]
abbrev dktX9_topOf_0 : List UInt8 := dkwX9_topOf_0 ++ []
theorem dksX9_topOf_0 : cX9_topOf.data.toList.drop 0 = dktX9_topOf_0 := by decide +kernel
theorem dX9_topOf_0 : decode cX9_topOf 0 = .ok (.aload_n 0, 1) := dk_42 (dk_at dksX9_topOf_0 0 rfl rfl)
theorem dX9_topOf_1 : decode cX9_topOf 1 = .ok (.getfield 80, 3) := dk_180 0 80 (dk_at dksX9_topOf_0 1 rfl rfl)
theorem dX9_topOf_4 : decode cX9_topOf 4 = .ok (.bipush 10, 2) := dk_16 10 (dk_at dksX9_topOf_0 4 rfl rfl)
theorem dX9_topOf_6 : decode cX9_topOf 6 = .ok (.iload_n 1, 1) := dk_27 (dk_at dksX9_topOf_0 6 rfl rfl)
theorem dX9_topOf_7 : decode cX9_topOf 7 = .ok (.iadd, 1) := dk_96 (dk_at dksX9_topOf_0 7 rfl rfl)
theorem dX9_topOf_8 : decode cX9_topOf 8 = .ok (.iaload, 1) := dk_46 (dk_at dksX9_topOf_0 8 rfl rfl)
theorem dX9_topOf_9 : decode cX9_topOf 9 = .ok (.ireturn, 1) := dk_172 (dk_at dksX9_topOf_0 9 rfl rfl)
abbrev cX9_applies : ByteArray := prog_20_method_54_code
def yX9_applies : MethodName := ⟨RX9, "applies", "(I)V"⟩
def dkwX9_applies_4 : List UInt8 := [167, 0, 17, 42, 42, 27, 16, 9, 182, 1, 32, 182, 1, 74, 167, 0, 3, 177]
abbrev dktX9_applies_4 : List UInt8 := dkwX9_applies_4 ++ []
def dkwX9_applies_3 : List UInt8 := [167, 0, 39, 42, 42, 28, 182, 1, 56, 181, 1, 53, 42, 28, 181, 1, 68, 42, 29, 181, 1, 71]
abbrev dktX9_applies_3 : List UInt8 := dkwX9_applies_3 ++ dktX9_applies_4
def dkwX9_applies_2 : List UInt8 := [42, 27, 182, 1, 74, 167, 0, 56, 42, 28, 29, 182, 1, 65, 167, 0, 47, 42, 28, 182, 1, 77]
abbrev dktX9_applies_2 : List UInt8 := dkwX9_applies_2 ++ dktX9_applies_3
def dkwX9_applies_1 : List UInt8 := [170, 0, 0, 0, 0, 0, 0, 109, 0, 0, 0, 0, 0, 0, 0, 7, 0, 0, 0, 48, 0, 0, 0, 56, 0, 0, 0, 65, 0, 0, 0, 73, 0, 0, 0, 109, 0, 0, 0, 95, 0, 0, 0, 56, 0, 0, 0, 65]
abbrev dktX9_applies_1 : List UInt8 := dkwX9_applies_1 ++ dktX9_applies_2
def dkwX9_applies_0 : List UInt8 := [42, 27, 4, 182, 1, 32, 61, 42, 27, 5, 182, 1, 32, 62, 42, 27, 3, 182, 1, 32]
abbrev dktX9_applies_0 : List UInt8 := dkwX9_applies_0 ++ dktX9_applies_1
theorem dksX9_applies_0 : cX9_applies.data.toList.drop 0 = dktX9_applies_0 := by decide +kernel
theorem dksX9_applies_1 : cX9_applies.data.toList.drop 20 = dktX9_applies_1 := dk_seg dksX9_applies_0 20 rfl rfl
theorem dksX9_applies_2 : cX9_applies.data.toList.drop 68 = dktX9_applies_2 := dk_seg dksX9_applies_1 48 rfl rfl
theorem dksX9_applies_3 : cX9_applies.data.toList.drop 90 = dktX9_applies_3 := dk_seg dksX9_applies_2 22 rfl rfl
theorem dksX9_applies_4 : cX9_applies.data.toList.drop 112 = dktX9_applies_4 := dk_seg dksX9_applies_3 22 rfl rfl
theorem dX9_applies_0 : decode cX9_applies 0 = .ok (.aload_n 0, 1) := dk_42 (dk_at dksX9_applies_0 0 rfl rfl)
theorem dX9_applies_1 : decode cX9_applies 1 = .ok (.iload_n 1, 1) := dk_27 (dk_at dksX9_applies_0 1 rfl rfl)
theorem dX9_applies_2 : decode cX9_applies 2 = .ok (.iconst 1, 1) := dk_4 (dk_at dksX9_applies_0 2 rfl rfl)
theorem dX9_applies_3 : decode cX9_applies 3 = .ok (.invokevirtual 288, 3) := dk_182 1 32 (dk_at dksX9_applies_0 3 rfl rfl)
theorem dX9_applies_6 : decode cX9_applies 6 = .ok (.istore_n 2, 1) := dk_61 (dk_at dksX9_applies_0 6 rfl rfl)
theorem dX9_applies_7 : decode cX9_applies 7 = .ok (.aload_n 0, 1) := dk_42 (dk_at dksX9_applies_0 7 rfl rfl)
theorem dX9_applies_8 : decode cX9_applies 8 = .ok (.iload_n 1, 1) := dk_27 (dk_at dksX9_applies_0 8 rfl rfl)
theorem dX9_applies_9 : decode cX9_applies 9 = .ok (.iconst 2, 1) := dk_5 (dk_at dksX9_applies_0 9 rfl rfl)
theorem dX9_applies_10 : decode cX9_applies 10 = .ok (.invokevirtual 288, 3) := dk_182 1 32 (dk_at dksX9_applies_0 10 rfl rfl)
theorem dX9_applies_13 : decode cX9_applies 13 = .ok (.istore_n 3, 1) := dk_62 (dk_at dksX9_applies_0 13 rfl rfl)
theorem dX9_applies_14 : decode cX9_applies 14 = .ok (.aload_n 0, 1) := dk_42 (dk_at dksX9_applies_0 14 rfl rfl)
theorem dX9_applies_15 : decode cX9_applies 15 = .ok (.iload_n 1, 1) := dk_27 (dk_at dksX9_applies_0 15 rfl rfl)
theorem dX9_applies_16 : decode cX9_applies 16 = .ok (.iconst 0, 1) := dk_3 (dk_at dksX9_applies_0 16 rfl rfl)
theorem dX9_applies_17 : decode cX9_applies 17 = .ok (.invokevirtual 288, 3) := dk_182 1 32 (dk_at dksX9_applies_0 17 rfl rfl)
theorem dX9_applies_20 : decode cX9_applies 20 = .ok (.tableswitch 109 0 7 #[48, 56, 65, 73, 109, 95, 56, 65], 48) := by decide +kernel
theorem dX9_applies_68 : decode cX9_applies 68 = .ok (.aload_n 0, 1) := dk_42 (dk_at dksX9_applies_2 0 rfl rfl)
theorem dX9_applies_69 : decode cX9_applies 69 = .ok (.iload_n 1, 1) := dk_27 (dk_at dksX9_applies_2 1 rfl rfl)
theorem dX9_applies_70 : decode cX9_applies 70 = .ok (.invokevirtual 330, 3) := dk_182 1 74 (dk_at dksX9_applies_2 2 rfl rfl)
theorem dX9_applies_73 : decode cX9_applies 73 = .ok (.goto 56, 3) := dk_167 0 56 (dk_at dksX9_applies_2 5 rfl rfl)
theorem dX9_applies_76 : decode cX9_applies 76 = .ok (.aload_n 0, 1) := dk_42 (dk_at dksX9_applies_2 8 rfl rfl)
theorem dX9_applies_77 : decode cX9_applies 77 = .ok (.iload_n 2, 1) := dk_28 (dk_at dksX9_applies_2 9 rfl rfl)
theorem dX9_applies_78 : decode cX9_applies 78 = .ok (.iload_n 3, 1) := dk_29 (dk_at dksX9_applies_2 10 rfl rfl)
theorem dX9_applies_79 : decode cX9_applies 79 = .ok (.invokevirtual 321, 3) := dk_182 1 65 (dk_at dksX9_applies_2 11 rfl rfl)
theorem dX9_applies_82 : decode cX9_applies 82 = .ok (.goto 47, 3) := dk_167 0 47 (dk_at dksX9_applies_2 14 rfl rfl)
theorem dX9_applies_85 : decode cX9_applies 85 = .ok (.aload_n 0, 1) := dk_42 (dk_at dksX9_applies_2 17 rfl rfl)
theorem dX9_applies_86 : decode cX9_applies 86 = .ok (.iload_n 2, 1) := dk_28 (dk_at dksX9_applies_2 18 rfl rfl)
theorem dX9_applies_87 : decode cX9_applies 87 = .ok (.invokevirtual 333, 3) := dk_182 1 77 (dk_at dksX9_applies_2 19 rfl rfl)
theorem dX9_applies_90 : decode cX9_applies 90 = .ok (.goto 39, 3) := dk_167 0 39 (dk_at dksX9_applies_3 0 rfl rfl)
theorem dX9_applies_93 : decode cX9_applies 93 = .ok (.aload_n 0, 1) := dk_42 (dk_at dksX9_applies_3 3 rfl rfl)
theorem dX9_applies_94 : decode cX9_applies 94 = .ok (.aload_n 0, 1) := dk_42 (dk_at dksX9_applies_3 4 rfl rfl)
theorem dX9_applies_95 : decode cX9_applies 95 = .ok (.iload_n 2, 1) := dk_28 (dk_at dksX9_applies_3 5 rfl rfl)
theorem dX9_applies_96 : decode cX9_applies 96 = .ok (.invokevirtual 312, 3) := dk_182 1 56 (dk_at dksX9_applies_3 6 rfl rfl)
theorem dX9_applies_99 : decode cX9_applies 99 = .ok (.putfield 309, 3) := dk_181 1 53 (dk_at dksX9_applies_3 9 rfl rfl)
theorem dX9_applies_102 : decode cX9_applies 102 = .ok (.aload_n 0, 1) := dk_42 (dk_at dksX9_applies_3 12 rfl rfl)
theorem dX9_applies_103 : decode cX9_applies 103 = .ok (.iload_n 2, 1) := dk_28 (dk_at dksX9_applies_3 13 rfl rfl)
theorem dX9_applies_104 : decode cX9_applies 104 = .ok (.putfield 324, 3) := dk_181 1 68 (dk_at dksX9_applies_3 14 rfl rfl)
theorem dX9_applies_107 : decode cX9_applies 107 = .ok (.aload_n 0, 1) := dk_42 (dk_at dksX9_applies_3 17 rfl rfl)
theorem dX9_applies_108 : decode cX9_applies 108 = .ok (.iload_n 3, 1) := dk_29 (dk_at dksX9_applies_3 18 rfl rfl)
theorem dX9_applies_109 : decode cX9_applies 109 = .ok (.putfield 327, 3) := dk_181 1 71 (dk_at dksX9_applies_3 19 rfl rfl)
theorem dX9_applies_112 : decode cX9_applies 112 = .ok (.goto 17, 3) := dk_167 0 17 (dk_at dksX9_applies_4 0 rfl rfl)
theorem dX9_applies_115 : decode cX9_applies 115 = .ok (.aload_n 0, 1) := dk_42 (dk_at dksX9_applies_4 3 rfl rfl)
theorem dX9_applies_116 : decode cX9_applies 116 = .ok (.aload_n 0, 1) := dk_42 (dk_at dksX9_applies_4 4 rfl rfl)
theorem dX9_applies_117 : decode cX9_applies 117 = .ok (.iload_n 1, 1) := dk_27 (dk_at dksX9_applies_4 5 rfl rfl)
theorem dX9_applies_118 : decode cX9_applies 118 = .ok (.bipush 9, 2) := dk_16 9 (dk_at dksX9_applies_4 6 rfl rfl)
theorem dX9_applies_120 : decode cX9_applies 120 = .ok (.invokevirtual 288, 3) := dk_182 1 32 (dk_at dksX9_applies_4 8 rfl rfl)
theorem dX9_applies_123 : decode cX9_applies 123 = .ok (.invokevirtual 330, 3) := dk_182 1 74 (dk_at dksX9_applies_4 11 rfl rfl)
theorem dX9_applies_126 : decode cX9_applies 126 = .ok (.goto 3, 3) := dk_167 0 3 (dk_at dksX9_applies_4 14 rfl rfl)
theorem dX9_applies_129 : decode cX9_applies 129 = .ok (.return_, 1) := dk_177 (dk_at dksX9_applies_4 17 rfl rfl)
abbrev cX9_takesIn : ByteArray := prog_20_method_53_code
def yX9_takesIn : MethodName := ⟨RX9, "takesIn", "(I)V"⟩
def dkwX9_takesIn_2 : List UInt8 := [16, 7, 182, 1, 32, 181, 1, 68, 42, 42, 27, 16, 8, 182, 1, 32, 181, 1, 71, 177]
abbrev dktX9_takesIn_2 : List UInt8 := dkwX9_takesIn_2 ++ []
def dkwX9_takesIn_1 : List UInt8 := [42, 180, 0, 80, 27, 28, 184, 1, 62, 4, 96, 46, 182, 1, 65, 132, 2, 1, 167, 255, 216, 42, 42, 27]
abbrev dktX9_takesIn_1 : List UInt8 := dkwX9_takesIn_1 ++ dktX9_takesIn_2
def dkwX9_takesIn_0 : List UInt8 := [3, 61, 28, 42, 27, 16, 6, 182, 1, 32, 162, 0, 35, 42, 42, 180, 0, 80, 27, 28, 184, 1, 62, 46]
abbrev dktX9_takesIn_0 : List UInt8 := dkwX9_takesIn_0 ++ dktX9_takesIn_1
theorem dksX9_takesIn_0 : cX9_takesIn.data.toList.drop 0 = dktX9_takesIn_0 := by decide +kernel
theorem dksX9_takesIn_1 : cX9_takesIn.data.toList.drop 24 = dktX9_takesIn_1 := dk_seg dksX9_takesIn_0 24 rfl rfl
theorem dksX9_takesIn_2 : cX9_takesIn.data.toList.drop 48 = dktX9_takesIn_2 := dk_seg dksX9_takesIn_1 24 rfl rfl
theorem dX9_takesIn_0 : decode cX9_takesIn 0 = .ok (.iconst 0, 1) := dk_3 (dk_at dksX9_takesIn_0 0 rfl rfl)
theorem dX9_takesIn_1 : decode cX9_takesIn 1 = .ok (.istore_n 2, 1) := dk_61 (dk_at dksX9_takesIn_0 1 rfl rfl)
theorem dX9_takesIn_2 : decode cX9_takesIn 2 = .ok (.iload_n 2, 1) := dk_28 (dk_at dksX9_takesIn_0 2 rfl rfl)
theorem dX9_takesIn_3 : decode cX9_takesIn 3 = .ok (.aload_n 0, 1) := dk_42 (dk_at dksX9_takesIn_0 3 rfl rfl)
theorem dX9_takesIn_4 : decode cX9_takesIn 4 = .ok (.iload_n 1, 1) := dk_27 (dk_at dksX9_takesIn_0 4 rfl rfl)
theorem dX9_takesIn_5 : decode cX9_takesIn 5 = .ok (.bipush 6, 2) := dk_16 6 (dk_at dksX9_takesIn_0 5 rfl rfl)
theorem dX9_takesIn_7 : decode cX9_takesIn 7 = .ok (.invokevirtual 288, 3) := dk_182 1 32 (dk_at dksX9_takesIn_0 7 rfl rfl)
theorem dX9_takesIn_10 : decode cX9_takesIn 10 = .ok (.if_icmp .ge 35, 3) := dk_162 0 35 (dk_at dksX9_takesIn_0 10 rfl rfl)
theorem dX9_takesIn_13 : decode cX9_takesIn 13 = .ok (.aload_n 0, 1) := dk_42 (dk_at dksX9_takesIn_0 13 rfl rfl)
theorem dX9_takesIn_14 : decode cX9_takesIn 14 = .ok (.aload_n 0, 1) := dk_42 (dk_at dksX9_takesIn_0 14 rfl rfl)
theorem dX9_takesIn_15 : decode cX9_takesIn 15 = .ok (.getfield 80, 3) := dk_180 0 80 (dk_at dksX9_takesIn_0 15 rfl rfl)
theorem dX9_takesIn_18 : decode cX9_takesIn 18 = .ok (.iload_n 1, 1) := dk_27 (dk_at dksX9_takesIn_0 18 rfl rfl)
theorem dX9_takesIn_19 : decode cX9_takesIn 19 = .ok (.iload_n 2, 1) := dk_28 (dk_at dksX9_takesIn_0 19 rfl rfl)
theorem dX9_takesIn_20 : decode cX9_takesIn 20 = .ok (.invokestatic 318, 3) := dk_184 1 62 (dk_at dksX9_takesIn_0 20 rfl rfl)
theorem dX9_takesIn_23 : decode cX9_takesIn 23 = .ok (.iaload, 1) := dk_46 (dk_at dksX9_takesIn_0 23 rfl rfl)
theorem dX9_takesIn_24 : decode cX9_takesIn 24 = .ok (.aload_n 0, 1) := dk_42 (dk_at dksX9_takesIn_1 0 rfl rfl)
theorem dX9_takesIn_25 : decode cX9_takesIn 25 = .ok (.getfield 80, 3) := dk_180 0 80 (dk_at dksX9_takesIn_1 1 rfl rfl)
theorem dX9_takesIn_28 : decode cX9_takesIn 28 = .ok (.iload_n 1, 1) := dk_27 (dk_at dksX9_takesIn_1 4 rfl rfl)
theorem dX9_takesIn_29 : decode cX9_takesIn 29 = .ok (.iload_n 2, 1) := dk_28 (dk_at dksX9_takesIn_1 5 rfl rfl)
theorem dX9_takesIn_30 : decode cX9_takesIn 30 = .ok (.invokestatic 318, 3) := dk_184 1 62 (dk_at dksX9_takesIn_1 6 rfl rfl)
theorem dX9_takesIn_33 : decode cX9_takesIn 33 = .ok (.iconst 1, 1) := dk_4 (dk_at dksX9_takesIn_1 9 rfl rfl)
theorem dX9_takesIn_34 : decode cX9_takesIn 34 = .ok (.iadd, 1) := dk_96 (dk_at dksX9_takesIn_1 10 rfl rfl)
theorem dX9_takesIn_35 : decode cX9_takesIn 35 = .ok (.iaload, 1) := dk_46 (dk_at dksX9_takesIn_1 11 rfl rfl)
theorem dX9_takesIn_36 : decode cX9_takesIn 36 = .ok (.invokevirtual 321, 3) := dk_182 1 65 (dk_at dksX9_takesIn_1 12 rfl rfl)
theorem dX9_takesIn_39 : decode cX9_takesIn 39 = .ok (.iinc 2 1, 3) := dk_132 2 1 (dk_at dksX9_takesIn_1 15 rfl rfl)
theorem dX9_takesIn_42 : decode cX9_takesIn 42 = .ok (.goto (-40), 3) := dk_167 255 216 (dk_at dksX9_takesIn_1 18 rfl rfl)
theorem dX9_takesIn_45 : decode cX9_takesIn 45 = .ok (.aload_n 0, 1) := dk_42 (dk_at dksX9_takesIn_1 21 rfl rfl)
theorem dX9_takesIn_46 : decode cX9_takesIn 46 = .ok (.aload_n 0, 1) := dk_42 (dk_at dksX9_takesIn_1 22 rfl rfl)
theorem dX9_takesIn_47 : decode cX9_takesIn 47 = .ok (.iload_n 1, 1) := dk_27 (dk_at dksX9_takesIn_1 23 rfl rfl)
theorem dX9_takesIn_48 : decode cX9_takesIn 48 = .ok (.bipush 7, 2) := dk_16 7 (dk_at dksX9_takesIn_2 0 rfl rfl)
theorem dX9_takesIn_50 : decode cX9_takesIn 50 = .ok (.invokevirtual 288, 3) := dk_182 1 32 (dk_at dksX9_takesIn_2 2 rfl rfl)
theorem dX9_takesIn_53 : decode cX9_takesIn 53 = .ok (.putfield 324, 3) := dk_181 1 68 (dk_at dksX9_takesIn_2 5 rfl rfl)
theorem dX9_takesIn_56 : decode cX9_takesIn 56 = .ok (.aload_n 0, 1) := dk_42 (dk_at dksX9_takesIn_2 8 rfl rfl)
theorem dX9_takesIn_57 : decode cX9_takesIn 57 = .ok (.aload_n 0, 1) := dk_42 (dk_at dksX9_takesIn_2 9 rfl rfl)
theorem dX9_takesIn_58 : decode cX9_takesIn 58 = .ok (.iload_n 1, 1) := dk_27 (dk_at dksX9_takesIn_2 10 rfl rfl)
theorem dX9_takesIn_59 : decode cX9_takesIn 59 = .ok (.bipush 8, 2) := dk_16 8 (dk_at dksX9_takesIn_2 11 rfl rfl)
theorem dX9_takesIn_61 : decode cX9_takesIn 61 = .ok (.invokevirtual 288, 3) := dk_182 1 32 (dk_at dksX9_takesIn_2 13 rfl rfl)
theorem dX9_takesIn_64 : decode cX9_takesIn 64 = .ok (.putfield 327, 3) := dk_181 1 71 (dk_at dksX9_takesIn_2 16 rfl rfl)
theorem dX9_takesIn_67 : decode cX9_takesIn 67 = .ok (.return_, 1) := dk_177 (dk_at dksX9_takesIn_2 19 rfl rfl)
abbrev cX9_baseAt : ByteArray := prog_20_method_43_code
def yX9_baseAt : MethodName := ⟨RX9, "baseAt", "(II)I"⟩
def dkwX9_baseAt_0 : List UInt8 := [17, 55, 20, 16, 88, 26, 104, 96, 5, 27, 104, 96, 172]
abbrev dktX9_baseAt_0 : List UInt8 := dkwX9_baseAt_0 ++ []
theorem dksX9_baseAt_0 : cX9_baseAt.data.toList.drop 0 = dktX9_baseAt_0 := by decide +kernel
theorem dX9_baseAt_0 : decode cX9_baseAt 0 = .ok (.sipush 14100, 3) := dk_17 55 20 (dk_at dksX9_baseAt_0 0 rfl rfl)
theorem dX9_baseAt_3 : decode cX9_baseAt 3 = .ok (.bipush 88, 2) := dk_16 88 (dk_at dksX9_baseAt_0 3 rfl rfl)
theorem dX9_baseAt_5 : decode cX9_baseAt 5 = .ok (.iload_n 0, 1) := dk_26 (dk_at dksX9_baseAt_0 5 rfl rfl)
theorem dX9_baseAt_6 : decode cX9_baseAt 6 = .ok (.imul, 1) := dk_104 (dk_at dksX9_baseAt_0 6 rfl rfl)
theorem dX9_baseAt_7 : decode cX9_baseAt 7 = .ok (.iadd, 1) := dk_96 (dk_at dksX9_baseAt_0 7 rfl rfl)
theorem dX9_baseAt_8 : decode cX9_baseAt 8 = .ok (.iconst 2, 1) := dk_5 (dk_at dksX9_baseAt_0 8 rfl rfl)
theorem dX9_baseAt_9 : decode cX9_baseAt 9 = .ok (.iload_n 1, 1) := dk_27 (dk_at dksX9_baseAt_0 9 rfl rfl)
theorem dX9_baseAt_10 : decode cX9_baseAt 10 = .ok (.imul, 1) := dk_104 (dk_at dksX9_baseAt_0 10 rfl rfl)
theorem dX9_baseAt_11 : decode cX9_baseAt 11 = .ok (.iadd, 1) := dk_96 (dk_at dksX9_baseAt_0 11 rfl rfl)
theorem dX9_baseAt_12 : decode cX9_baseAt 12 = .ok (.ireturn, 1) := dk_172 (dk_at dksX9_baseAt_0 12 rfl rfl)
abbrev cX9_setsIn : ByteArray := prog_20_method_51_code
def yX9_setsIn : MethodName := ⟨RX9, "setsIn", "(II)V"⟩
def dkwX9_setsIn_3 : List UInt8 := [96, 181, 1, 53, 42, 180, 0, 86, 29, 27, 79, 42, 180, 0, 89, 29, 28, 79, 177]
abbrev dktX9_setsIn_3 : List UInt8 := dkwX9_setsIn_3 ++ []
def dkwX9_setsIn_2 : List UInt8 := [21, 4, 42, 180, 0, 89, 21, 4, 4, 100, 46, 79, 132, 4, 255, 167, 255, 215, 42, 89, 180, 1, 53, 4]
abbrev dktX9_setsIn_2 : List UInt8 := dkwX9_setsIn_2 ++ dktX9_setsIn_3
def dkwX9_setsIn_1 : List UInt8 := [164, 0, 41, 42, 180, 0, 86, 21, 4, 42, 180, 0, 86, 21, 4, 4, 100, 46, 79, 42, 180, 0, 89]
abbrev dktX9_setsIn_1 : List UInt8 := dkwX9_setsIn_1 ++ dktX9_setsIn_2
def dkwX9_setsIn_0 : List UInt8 := [42, 27, 182, 1, 56, 62, 42, 27, 182, 1, 59, 154, 0, 63, 42, 180, 1, 53, 54, 4, 21, 4, 29]
abbrev dktX9_setsIn_0 : List UInt8 := dkwX9_setsIn_0 ++ dktX9_setsIn_1
theorem dksX9_setsIn_0 : cX9_setsIn.data.toList.drop 0 = dktX9_setsIn_0 := by decide +kernel
theorem dksX9_setsIn_1 : cX9_setsIn.data.toList.drop 23 = dktX9_setsIn_1 := dk_seg dksX9_setsIn_0 23 rfl rfl
theorem dksX9_setsIn_2 : cX9_setsIn.data.toList.drop 46 = dktX9_setsIn_2 := dk_seg dksX9_setsIn_1 23 rfl rfl
theorem dksX9_setsIn_3 : cX9_setsIn.data.toList.drop 70 = dktX9_setsIn_3 := dk_seg dksX9_setsIn_2 24 rfl rfl
theorem dX9_setsIn_0 : decode cX9_setsIn 0 = .ok (.aload_n 0, 1) := dk_42 (dk_at dksX9_setsIn_0 0 rfl rfl)
theorem dX9_setsIn_1 : decode cX9_setsIn 1 = .ok (.iload_n 1, 1) := dk_27 (dk_at dksX9_setsIn_0 1 rfl rfl)
theorem dX9_setsIn_2 : decode cX9_setsIn 2 = .ok (.invokevirtual 312, 3) := dk_182 1 56 (dk_at dksX9_setsIn_0 2 rfl rfl)
theorem dX9_setsIn_5 : decode cX9_setsIn 5 = .ok (.istore_n 3, 1) := dk_62 (dk_at dksX9_setsIn_0 5 rfl rfl)
theorem dX9_setsIn_6 : decode cX9_setsIn 6 = .ok (.aload_n 0, 1) := dk_42 (dk_at dksX9_setsIn_0 6 rfl rfl)
theorem dX9_setsIn_7 : decode cX9_setsIn 7 = .ok (.iload_n 1, 1) := dk_27 (dk_at dksX9_setsIn_0 7 rfl rfl)
theorem dX9_setsIn_8 : decode cX9_setsIn 8 = .ok (.invokevirtual 315, 3) := dk_182 1 59 (dk_at dksX9_setsIn_0 8 rfl rfl)
theorem dX9_setsIn_11 : decode cX9_setsIn 11 = .ok (.ifCond .ne 63, 3) := dk_154 0 63 (dk_at dksX9_setsIn_0 11 rfl rfl)
theorem dX9_setsIn_14 : decode cX9_setsIn 14 = .ok (.aload_n 0, 1) := dk_42 (dk_at dksX9_setsIn_0 14 rfl rfl)
theorem dX9_setsIn_15 : decode cX9_setsIn 15 = .ok (.getfield 309, 3) := dk_180 1 53 (dk_at dksX9_setsIn_0 15 rfl rfl)
theorem dX9_setsIn_18 : decode cX9_setsIn 18 = .ok (.istore 4, 2) := dk_54 4 (dk_at dksX9_setsIn_0 18 rfl rfl)
theorem dX9_setsIn_20 : decode cX9_setsIn 20 = .ok (.iload 4, 2) := dk_21 4 (dk_at dksX9_setsIn_0 20 rfl rfl)
theorem dX9_setsIn_22 : decode cX9_setsIn 22 = .ok (.iload_n 3, 1) := dk_29 (dk_at dksX9_setsIn_0 22 rfl rfl)
theorem dX9_setsIn_23 : decode cX9_setsIn 23 = .ok (.if_icmp .le 41, 3) := dk_164 0 41 (dk_at dksX9_setsIn_1 0 rfl rfl)
theorem dX9_setsIn_26 : decode cX9_setsIn 26 = .ok (.aload_n 0, 1) := dk_42 (dk_at dksX9_setsIn_1 3 rfl rfl)
theorem dX9_setsIn_27 : decode cX9_setsIn 27 = .ok (.getfield 86, 3) := dk_180 0 86 (dk_at dksX9_setsIn_1 4 rfl rfl)
theorem dX9_setsIn_30 : decode cX9_setsIn 30 = .ok (.iload 4, 2) := dk_21 4 (dk_at dksX9_setsIn_1 7 rfl rfl)
theorem dX9_setsIn_32 : decode cX9_setsIn 32 = .ok (.aload_n 0, 1) := dk_42 (dk_at dksX9_setsIn_1 9 rfl rfl)
theorem dX9_setsIn_33 : decode cX9_setsIn 33 = .ok (.getfield 86, 3) := dk_180 0 86 (dk_at dksX9_setsIn_1 10 rfl rfl)
theorem dX9_setsIn_36 : decode cX9_setsIn 36 = .ok (.iload 4, 2) := dk_21 4 (dk_at dksX9_setsIn_1 13 rfl rfl)
theorem dX9_setsIn_38 : decode cX9_setsIn 38 = .ok (.iconst 1, 1) := dk_4 (dk_at dksX9_setsIn_1 15 rfl rfl)
theorem dX9_setsIn_39 : decode cX9_setsIn 39 = .ok (.isub, 1) := dk_100 (dk_at dksX9_setsIn_1 16 rfl rfl)
theorem dX9_setsIn_40 : decode cX9_setsIn 40 = .ok (.iaload, 1) := dk_46 (dk_at dksX9_setsIn_1 17 rfl rfl)
theorem dX9_setsIn_41 : decode cX9_setsIn 41 = .ok (.iastore, 1) := dk_79 (dk_at dksX9_setsIn_1 18 rfl rfl)
theorem dX9_setsIn_42 : decode cX9_setsIn 42 = .ok (.aload_n 0, 1) := dk_42 (dk_at dksX9_setsIn_1 19 rfl rfl)
theorem dX9_setsIn_43 : decode cX9_setsIn 43 = .ok (.getfield 89, 3) := dk_180 0 89 (dk_at dksX9_setsIn_1 20 rfl rfl)
theorem dX9_setsIn_46 : decode cX9_setsIn 46 = .ok (.iload 4, 2) := dk_21 4 (dk_at dksX9_setsIn_2 0 rfl rfl)
theorem dX9_setsIn_48 : decode cX9_setsIn 48 = .ok (.aload_n 0, 1) := dk_42 (dk_at dksX9_setsIn_2 2 rfl rfl)
theorem dX9_setsIn_49 : decode cX9_setsIn 49 = .ok (.getfield 89, 3) := dk_180 0 89 (dk_at dksX9_setsIn_2 3 rfl rfl)
theorem dX9_setsIn_52 : decode cX9_setsIn 52 = .ok (.iload 4, 2) := dk_21 4 (dk_at dksX9_setsIn_2 6 rfl rfl)
theorem dX9_setsIn_54 : decode cX9_setsIn 54 = .ok (.iconst 1, 1) := dk_4 (dk_at dksX9_setsIn_2 8 rfl rfl)
theorem dX9_setsIn_55 : decode cX9_setsIn 55 = .ok (.isub, 1) := dk_100 (dk_at dksX9_setsIn_2 9 rfl rfl)
theorem dX9_setsIn_56 : decode cX9_setsIn 56 = .ok (.iaload, 1) := dk_46 (dk_at dksX9_setsIn_2 10 rfl rfl)
theorem dX9_setsIn_57 : decode cX9_setsIn 57 = .ok (.iastore, 1) := dk_79 (dk_at dksX9_setsIn_2 11 rfl rfl)
theorem dX9_setsIn_58 : decode cX9_setsIn 58 = .ok (.iinc 4 (-1), 3) := dk_132 4 255 (dk_at dksX9_setsIn_2 12 rfl rfl)
theorem dX9_setsIn_61 : decode cX9_setsIn 61 = .ok (.goto (-41), 3) := dk_167 255 215 (dk_at dksX9_setsIn_2 15 rfl rfl)
theorem dX9_setsIn_64 : decode cX9_setsIn 64 = .ok (.aload_n 0, 1) := dk_42 (dk_at dksX9_setsIn_2 18 rfl rfl)
theorem dX9_setsIn_65 : decode cX9_setsIn 65 = .ok (.dup, 1) := dk_89 (dk_at dksX9_setsIn_2 19 rfl rfl)
theorem dX9_setsIn_66 : decode cX9_setsIn 66 = .ok (.getfield 309, 3) := dk_180 1 53 (dk_at dksX9_setsIn_2 20 rfl rfl)
theorem dX9_setsIn_69 : decode cX9_setsIn 69 = .ok (.iconst 1, 1) := dk_4 (dk_at dksX9_setsIn_2 23 rfl rfl)
theorem dX9_setsIn_70 : decode cX9_setsIn 70 = .ok (.iadd, 1) := dk_96 (dk_at dksX9_setsIn_3 0 rfl rfl)
theorem dX9_setsIn_71 : decode cX9_setsIn 71 = .ok (.putfield 309, 3) := dk_181 1 53 (dk_at dksX9_setsIn_3 1 rfl rfl)
theorem dX9_setsIn_74 : decode cX9_setsIn 74 = .ok (.aload_n 0, 1) := dk_42 (dk_at dksX9_setsIn_3 4 rfl rfl)
theorem dX9_setsIn_75 : decode cX9_setsIn 75 = .ok (.getfield 86, 3) := dk_180 0 86 (dk_at dksX9_setsIn_3 5 rfl rfl)
theorem dX9_setsIn_78 : decode cX9_setsIn 78 = .ok (.iload_n 3, 1) := dk_29 (dk_at dksX9_setsIn_3 8 rfl rfl)
theorem dX9_setsIn_79 : decode cX9_setsIn 79 = .ok (.iload_n 1, 1) := dk_27 (dk_at dksX9_setsIn_3 9 rfl rfl)
theorem dX9_setsIn_80 : decode cX9_setsIn 80 = .ok (.iastore, 1) := dk_79 (dk_at dksX9_setsIn_3 10 rfl rfl)
theorem dX9_setsIn_81 : decode cX9_setsIn 81 = .ok (.aload_n 0, 1) := dk_42 (dk_at dksX9_setsIn_3 11 rfl rfl)
theorem dX9_setsIn_82 : decode cX9_setsIn 82 = .ok (.getfield 89, 3) := dk_180 0 89 (dk_at dksX9_setsIn_3 12 rfl rfl)
theorem dX9_setsIn_85 : decode cX9_setsIn 85 = .ok (.iload_n 3, 1) := dk_29 (dk_at dksX9_setsIn_3 15 rfl rfl)
theorem dX9_setsIn_86 : decode cX9_setsIn 86 = .ok (.iload_n 2, 1) := dk_28 (dk_at dksX9_setsIn_3 16 rfl rfl)
theorem dX9_setsIn_87 : decode cX9_setsIn 87 = .ok (.iastore, 1) := dk_79 (dk_at dksX9_setsIn_3 17 rfl rfl)
theorem dX9_setsIn_88 : decode cX9_setsIn 88 = .ok (.return_, 1) := dk_177 (dk_at dksX9_setsIn_3 18 rfl rfl)
abbrev cX9_whereOf : ByteArray := prog_20_method_49_code
def yX9_whereOf : MethodName := ⟨RX9, "whereOf", "(I)I"⟩
def dkwX9_whereOf_1 : List UInt8 := [167, 255, 235, 28, 172]
abbrev dktX9_whereOf_1 : List UInt8 := dkwX9_whereOf_1 ++ []
def dkwX9_whereOf_0 : List UInt8 := [3, 61, 28, 42, 180, 1, 53, 162, 0, 19, 42, 180, 0, 86, 28, 46, 27, 162, 0, 9, 132, 2, 1]
abbrev dktX9_whereOf_0 : List UInt8 := dkwX9_whereOf_0 ++ dktX9_whereOf_1
theorem dksX9_whereOf_0 : cX9_whereOf.data.toList.drop 0 = dktX9_whereOf_0 := by decide +kernel
theorem dksX9_whereOf_1 : cX9_whereOf.data.toList.drop 23 = dktX9_whereOf_1 := dk_seg dksX9_whereOf_0 23 rfl rfl
theorem dX9_whereOf_0 : decode cX9_whereOf 0 = .ok (.iconst 0, 1) := dk_3 (dk_at dksX9_whereOf_0 0 rfl rfl)
theorem dX9_whereOf_1 : decode cX9_whereOf 1 = .ok (.istore_n 2, 1) := dk_61 (dk_at dksX9_whereOf_0 1 rfl rfl)
theorem dX9_whereOf_2 : decode cX9_whereOf 2 = .ok (.iload_n 2, 1) := dk_28 (dk_at dksX9_whereOf_0 2 rfl rfl)
theorem dX9_whereOf_3 : decode cX9_whereOf 3 = .ok (.aload_n 0, 1) := dk_42 (dk_at dksX9_whereOf_0 3 rfl rfl)
theorem dX9_whereOf_4 : decode cX9_whereOf 4 = .ok (.getfield 309, 3) := dk_180 1 53 (dk_at dksX9_whereOf_0 4 rfl rfl)
theorem dX9_whereOf_7 : decode cX9_whereOf 7 = .ok (.if_icmp .ge 19, 3) := dk_162 0 19 (dk_at dksX9_whereOf_0 7 rfl rfl)
theorem dX9_whereOf_10 : decode cX9_whereOf 10 = .ok (.aload_n 0, 1) := dk_42 (dk_at dksX9_whereOf_0 10 rfl rfl)
theorem dX9_whereOf_11 : decode cX9_whereOf 11 = .ok (.getfield 86, 3) := dk_180 0 86 (dk_at dksX9_whereOf_0 11 rfl rfl)
theorem dX9_whereOf_14 : decode cX9_whereOf 14 = .ok (.iload_n 2, 1) := dk_28 (dk_at dksX9_whereOf_0 14 rfl rfl)
theorem dX9_whereOf_15 : decode cX9_whereOf 15 = .ok (.iaload, 1) := dk_46 (dk_at dksX9_whereOf_0 15 rfl rfl)
theorem dX9_whereOf_16 : decode cX9_whereOf 16 = .ok (.iload_n 1, 1) := dk_27 (dk_at dksX9_whereOf_0 16 rfl rfl)
theorem dX9_whereOf_17 : decode cX9_whereOf 17 = .ok (.if_icmp .ge 9, 3) := dk_162 0 9 (dk_at dksX9_whereOf_0 17 rfl rfl)
theorem dX9_whereOf_20 : decode cX9_whereOf 20 = .ok (.iinc 2 1, 3) := dk_132 2 1 (dk_at dksX9_whereOf_0 20 rfl rfl)
theorem dX9_whereOf_23 : decode cX9_whereOf 23 = .ok (.goto (-21), 3) := dk_167 255 235 (dk_at dksX9_whereOf_1 0 rfl rfl)
theorem dX9_whereOf_26 : decode cX9_whereOf 26 = .ok (.iload_n 2, 1) := dk_28 (dk_at dksX9_whereOf_1 3 rfl rfl)
theorem dX9_whereOf_27 : decode cX9_whereOf 27 = .ok (.ireturn, 1) := dk_172 (dk_at dksX9_whereOf_1 4 rfl rfl)
abbrev cX9_isThere : ByteArray := prog_20_method_50_code
def yX9_isThere : MethodName := ⟨RX9, "isThere", "(I)Z"⟩
def dkwX9_isThere_1 : List UInt8 := [4, 167, 0, 4, 3, 172]
abbrev dktX9_isThere_1 : List UInt8 := dkwX9_isThere_1 ++ []
def dkwX9_isThere_0 : List UInt8 := [42, 27, 182, 1, 56, 61, 28, 42, 180, 1, 53, 162, 0, 17, 42, 180, 0, 86, 28, 46, 27, 160, 0, 7]
abbrev dktX9_isThere_0 : List UInt8 := dkwX9_isThere_0 ++ dktX9_isThere_1
theorem dksX9_isThere_0 : cX9_isThere.data.toList.drop 0 = dktX9_isThere_0 := by decide +kernel
theorem dksX9_isThere_1 : cX9_isThere.data.toList.drop 24 = dktX9_isThere_1 := dk_seg dksX9_isThere_0 24 rfl rfl
theorem dX9_isThere_0 : decode cX9_isThere 0 = .ok (.aload_n 0, 1) := dk_42 (dk_at dksX9_isThere_0 0 rfl rfl)
theorem dX9_isThere_1 : decode cX9_isThere 1 = .ok (.iload_n 1, 1) := dk_27 (dk_at dksX9_isThere_0 1 rfl rfl)
theorem dX9_isThere_2 : decode cX9_isThere 2 = .ok (.invokevirtual 312, 3) := dk_182 1 56 (dk_at dksX9_isThere_0 2 rfl rfl)
theorem dX9_isThere_5 : decode cX9_isThere 5 = .ok (.istore_n 2, 1) := dk_61 (dk_at dksX9_isThere_0 5 rfl rfl)
theorem dX9_isThere_6 : decode cX9_isThere 6 = .ok (.iload_n 2, 1) := dk_28 (dk_at dksX9_isThere_0 6 rfl rfl)
theorem dX9_isThere_7 : decode cX9_isThere 7 = .ok (.aload_n 0, 1) := dk_42 (dk_at dksX9_isThere_0 7 rfl rfl)
theorem dX9_isThere_8 : decode cX9_isThere 8 = .ok (.getfield 309, 3) := dk_180 1 53 (dk_at dksX9_isThere_0 8 rfl rfl)
theorem dX9_isThere_11 : decode cX9_isThere 11 = .ok (.if_icmp .ge 17, 3) := dk_162 0 17 (dk_at dksX9_isThere_0 11 rfl rfl)
theorem dX9_isThere_14 : decode cX9_isThere 14 = .ok (.aload_n 0, 1) := dk_42 (dk_at dksX9_isThere_0 14 rfl rfl)
theorem dX9_isThere_15 : decode cX9_isThere 15 = .ok (.getfield 86, 3) := dk_180 0 86 (dk_at dksX9_isThere_0 15 rfl rfl)
theorem dX9_isThere_18 : decode cX9_isThere 18 = .ok (.iload_n 2, 1) := dk_28 (dk_at dksX9_isThere_0 18 rfl rfl)
theorem dX9_isThere_19 : decode cX9_isThere 19 = .ok (.iaload, 1) := dk_46 (dk_at dksX9_isThere_0 19 rfl rfl)
theorem dX9_isThere_20 : decode cX9_isThere 20 = .ok (.iload_n 1, 1) := dk_27 (dk_at dksX9_isThere_0 20 rfl rfl)
theorem dX9_isThere_21 : decode cX9_isThere 21 = .ok (.if_icmp .ne 7, 3) := dk_160 0 7 (dk_at dksX9_isThere_0 21 rfl rfl)
theorem dX9_isThere_24 : decode cX9_isThere 24 = .ok (.iconst 1, 1) := dk_4 (dk_at dksX9_isThere_1 0 rfl rfl)
theorem dX9_isThere_25 : decode cX9_isThere 25 = .ok (.goto 4, 3) := dk_167 0 4 (dk_at dksX9_isThere_1 1 rfl rfl)
theorem dX9_isThere_28 : decode cX9_isThere 28 = .ok (.iconst 0, 1) := dk_3 (dk_at dksX9_isThere_1 4 rfl rfl)
theorem dX9_isThere_29 : decode cX9_isThere 29 = .ok (.ireturn, 1) := dk_172 (dk_at dksX9_isThere_1 5 rfl rfl)
abbrev cX9_takesOut : ByteArray := prog_20_method_52_code
def yX9_takesOut : MethodName := ⟨RX9, "takesOut", "(I)V"⟩
def dkwX9_takesOut_3 : List UInt8 := [177]
abbrev dktX9_takesOut_3 : List UInt8 := dkwX9_takesOut_3 ++ []
def dkwX9_takesOut_2 : List UInt8 := [180, 0, 89, 28, 4, 96, 46, 79, 132, 2, 1, 167, 255, 215, 42, 89, 180, 1, 53, 4, 100, 181, 1, 53]
abbrev dktX9_takesOut_2 : List UInt8 := dkwX9_takesOut_2 ++ dktX9_takesOut_3
def dkwX9_takesOut_1 : List UInt8 := [162, 0, 37, 42, 180, 0, 86, 28, 42, 180, 0, 86, 28, 4, 96, 46, 79, 42, 180, 0, 89, 28, 42]
abbrev dktX9_takesOut_1 : List UInt8 := dkwX9_takesOut_1 ++ dktX9_takesOut_2
def dkwX9_takesOut_0 : List UInt8 := [42, 27, 182, 1, 59, 154, 0, 4, 177, 42, 27, 182, 1, 56, 61, 28, 4, 96, 42, 180, 1, 53]
abbrev dktX9_takesOut_0 : List UInt8 := dkwX9_takesOut_0 ++ dktX9_takesOut_1
theorem dksX9_takesOut_0 : cX9_takesOut.data.toList.drop 0 = dktX9_takesOut_0 := by decide +kernel
theorem dksX9_takesOut_1 : cX9_takesOut.data.toList.drop 22 = dktX9_takesOut_1 := dk_seg dksX9_takesOut_0 22 rfl rfl
theorem dksX9_takesOut_2 : cX9_takesOut.data.toList.drop 45 = dktX9_takesOut_2 := dk_seg dksX9_takesOut_1 23 rfl rfl
theorem dksX9_takesOut_3 : cX9_takesOut.data.toList.drop 69 = dktX9_takesOut_3 := dk_seg dksX9_takesOut_2 24 rfl rfl
theorem dX9_takesOut_0 : decode cX9_takesOut 0 = .ok (.aload_n 0, 1) := dk_42 (dk_at dksX9_takesOut_0 0 rfl rfl)
theorem dX9_takesOut_1 : decode cX9_takesOut 1 = .ok (.iload_n 1, 1) := dk_27 (dk_at dksX9_takesOut_0 1 rfl rfl)
theorem dX9_takesOut_2 : decode cX9_takesOut 2 = .ok (.invokevirtual 315, 3) := dk_182 1 59 (dk_at dksX9_takesOut_0 2 rfl rfl)
theorem dX9_takesOut_5 : decode cX9_takesOut 5 = .ok (.ifCond .ne 4, 3) := dk_154 0 4 (dk_at dksX9_takesOut_0 5 rfl rfl)
theorem dX9_takesOut_8 : decode cX9_takesOut 8 = .ok (.return_, 1) := dk_177 (dk_at dksX9_takesOut_0 8 rfl rfl)
theorem dX9_takesOut_9 : decode cX9_takesOut 9 = .ok (.aload_n 0, 1) := dk_42 (dk_at dksX9_takesOut_0 9 rfl rfl)
theorem dX9_takesOut_10 : decode cX9_takesOut 10 = .ok (.iload_n 1, 1) := dk_27 (dk_at dksX9_takesOut_0 10 rfl rfl)
theorem dX9_takesOut_11 : decode cX9_takesOut 11 = .ok (.invokevirtual 312, 3) := dk_182 1 56 (dk_at dksX9_takesOut_0 11 rfl rfl)
theorem dX9_takesOut_14 : decode cX9_takesOut 14 = .ok (.istore_n 2, 1) := dk_61 (dk_at dksX9_takesOut_0 14 rfl rfl)
theorem dX9_takesOut_15 : decode cX9_takesOut 15 = .ok (.iload_n 2, 1) := dk_28 (dk_at dksX9_takesOut_0 15 rfl rfl)
theorem dX9_takesOut_16 : decode cX9_takesOut 16 = .ok (.iconst 1, 1) := dk_4 (dk_at dksX9_takesOut_0 16 rfl rfl)
theorem dX9_takesOut_17 : decode cX9_takesOut 17 = .ok (.iadd, 1) := dk_96 (dk_at dksX9_takesOut_0 17 rfl rfl)
theorem dX9_takesOut_18 : decode cX9_takesOut 18 = .ok (.aload_n 0, 1) := dk_42 (dk_at dksX9_takesOut_0 18 rfl rfl)
theorem dX9_takesOut_19 : decode cX9_takesOut 19 = .ok (.getfield 309, 3) := dk_180 1 53 (dk_at dksX9_takesOut_0 19 rfl rfl)
theorem dX9_takesOut_22 : decode cX9_takesOut 22 = .ok (.if_icmp .ge 37, 3) := dk_162 0 37 (dk_at dksX9_takesOut_1 0 rfl rfl)
theorem dX9_takesOut_25 : decode cX9_takesOut 25 = .ok (.aload_n 0, 1) := dk_42 (dk_at dksX9_takesOut_1 3 rfl rfl)
theorem dX9_takesOut_26 : decode cX9_takesOut 26 = .ok (.getfield 86, 3) := dk_180 0 86 (dk_at dksX9_takesOut_1 4 rfl rfl)
theorem dX9_takesOut_29 : decode cX9_takesOut 29 = .ok (.iload_n 2, 1) := dk_28 (dk_at dksX9_takesOut_1 7 rfl rfl)
theorem dX9_takesOut_30 : decode cX9_takesOut 30 = .ok (.aload_n 0, 1) := dk_42 (dk_at dksX9_takesOut_1 8 rfl rfl)
theorem dX9_takesOut_31 : decode cX9_takesOut 31 = .ok (.getfield 86, 3) := dk_180 0 86 (dk_at dksX9_takesOut_1 9 rfl rfl)
theorem dX9_takesOut_34 : decode cX9_takesOut 34 = .ok (.iload_n 2, 1) := dk_28 (dk_at dksX9_takesOut_1 12 rfl rfl)
theorem dX9_takesOut_35 : decode cX9_takesOut 35 = .ok (.iconst 1, 1) := dk_4 (dk_at dksX9_takesOut_1 13 rfl rfl)
theorem dX9_takesOut_36 : decode cX9_takesOut 36 = .ok (.iadd, 1) := dk_96 (dk_at dksX9_takesOut_1 14 rfl rfl)
theorem dX9_takesOut_37 : decode cX9_takesOut 37 = .ok (.iaload, 1) := dk_46 (dk_at dksX9_takesOut_1 15 rfl rfl)
theorem dX9_takesOut_38 : decode cX9_takesOut 38 = .ok (.iastore, 1) := dk_79 (dk_at dksX9_takesOut_1 16 rfl rfl)
theorem dX9_takesOut_39 : decode cX9_takesOut 39 = .ok (.aload_n 0, 1) := dk_42 (dk_at dksX9_takesOut_1 17 rfl rfl)
theorem dX9_takesOut_40 : decode cX9_takesOut 40 = .ok (.getfield 89, 3) := dk_180 0 89 (dk_at dksX9_takesOut_1 18 rfl rfl)
theorem dX9_takesOut_43 : decode cX9_takesOut 43 = .ok (.iload_n 2, 1) := dk_28 (dk_at dksX9_takesOut_1 21 rfl rfl)
theorem dX9_takesOut_44 : decode cX9_takesOut 44 = .ok (.aload_n 0, 1) := dk_42 (dk_at dksX9_takesOut_1 22 rfl rfl)
theorem dX9_takesOut_45 : decode cX9_takesOut 45 = .ok (.getfield 89, 3) := dk_180 0 89 (dk_at dksX9_takesOut_2 0 rfl rfl)
theorem dX9_takesOut_48 : decode cX9_takesOut 48 = .ok (.iload_n 2, 1) := dk_28 (dk_at dksX9_takesOut_2 3 rfl rfl)
theorem dX9_takesOut_49 : decode cX9_takesOut 49 = .ok (.iconst 1, 1) := dk_4 (dk_at dksX9_takesOut_2 4 rfl rfl)
theorem dX9_takesOut_50 : decode cX9_takesOut 50 = .ok (.iadd, 1) := dk_96 (dk_at dksX9_takesOut_2 5 rfl rfl)
theorem dX9_takesOut_51 : decode cX9_takesOut 51 = .ok (.iaload, 1) := dk_46 (dk_at dksX9_takesOut_2 6 rfl rfl)
theorem dX9_takesOut_52 : decode cX9_takesOut 52 = .ok (.iastore, 1) := dk_79 (dk_at dksX9_takesOut_2 7 rfl rfl)
theorem dX9_takesOut_53 : decode cX9_takesOut 53 = .ok (.iinc 2 1, 3) := dk_132 2 1 (dk_at dksX9_takesOut_2 8 rfl rfl)
theorem dX9_takesOut_56 : decode cX9_takesOut 56 = .ok (.goto (-41), 3) := dk_167 255 215 (dk_at dksX9_takesOut_2 11 rfl rfl)
theorem dX9_takesOut_59 : decode cX9_takesOut 59 = .ok (.aload_n 0, 1) := dk_42 (dk_at dksX9_takesOut_2 14 rfl rfl)
theorem dX9_takesOut_60 : decode cX9_takesOut 60 = .ok (.dup, 1) := dk_89 (dk_at dksX9_takesOut_2 15 rfl rfl)
theorem dX9_takesOut_61 : decode cX9_takesOut 61 = .ok (.getfield 309, 3) := dk_180 1 53 (dk_at dksX9_takesOut_2 16 rfl rfl)
theorem dX9_takesOut_64 : decode cX9_takesOut 64 = .ok (.iconst 1, 1) := dk_4 (dk_at dksX9_takesOut_2 19 rfl rfl)
theorem dX9_takesOut_65 : decode cX9_takesOut 65 = .ok (.isub, 1) := dk_100 (dk_at dksX9_takesOut_2 20 rfl rfl)
theorem dX9_takesOut_66 : decode cX9_takesOut 66 = .ok (.putfield 309, 3) := dk_181 1 53 (dk_at dksX9_takesOut_2 21 rfl rfl)
theorem dX9_takesOut_69 : decode cX9_takesOut 69 = .ok (.return_, 1) := dk_177 (dk_at dksX9_takesOut_3 0 rfl rfl)
abbrev cX9_termOf : ByteArray := prog_20_method_31_code
def yX9_termOf : MethodName := ⟨RX9, "termOf", "(II)I"⟩
def dkwX9_termOf_7 : List UInt8 := [167, 0, 8, 21, 6, 21, 7, 104, 79, 132, 4, 1, 167, 255, 86, 42, 180, 0, 73, 3, 46, 172]
abbrev dktX9_termOf_7 : List UInt8 := dkwX9_termOf_7 ++ []
def dkwX9_termOf_6 : List UInt8 := [5, 160, 0, 11, 21, 6, 21, 7, 96, 167, 0, 22, 21, 5, 6, 160, 0, 11, 21, 6, 21, 7, 100]
abbrev dktX9_termOf_6 : List UInt8 := dkwX9_termOf_6 ++ dktX9_termOf_7
def dkwX9_termOf_5 : List UInt8 := [21, 7, 108, 167, 0, 8, 21, 6, 21, 7, 112, 79, 167, 0, 44, 42, 180, 0, 73, 29, 4, 100, 21, 5]
abbrev dktX9_termOf_5 : List UInt8 := dkwX9_termOf_5 ++ dktX9_termOf_6
def dkwX9_termOf_4 : List UInt8 := [180, 0, 73, 29, 4, 100, 21, 7, 154, 0, 7, 3, 167, 0, 22, 21, 5, 8, 160, 0, 11, 21, 6]
abbrev dktX9_termOf_4 : List UInt8 := dkwX9_termOf_4 ++ dktX9_termOf_5
def dkwX9_termOf_3 : List UInt8 := [180, 0, 73, 29, 4, 100, 46, 54, 6, 42, 180, 0, 73, 29, 46, 54, 7, 21, 5, 7, 164, 0, 42, 42]
abbrev dktX9_termOf_3 : List UInt8 := dkwX9_termOf_3 ++ dktX9_termOf_4
def dkwX9_termOf_2 : List UInt8 := [180, 0, 70, 42, 180, 0, 64, 21, 4, 46, 46, 79, 132, 3, 1, 167, 0, 110, 132, 3, 255, 42]
abbrev dktX9_termOf_2 : List UInt8 := dkwX9_termOf_2 ++ dktX9_termOf_3
def dkwX9_termOf_1 : List UInt8 := [162, 0, 42, 42, 180, 0, 73, 29, 21, 5, 154, 0, 13, 42, 180, 0, 64, 21, 4, 46, 167, 0, 15, 42]
abbrev dktX9_termOf_1 : List UInt8 := dkwX9_termOf_1 ++ dktX9_termOf_2
def dkwX9_termOf_0 : List UInt8 := [3, 62, 27, 54, 4, 21, 4, 28, 162, 0, 170, 42, 180, 0, 61, 21, 4, 46, 54, 5, 21, 5, 5]
abbrev dktX9_termOf_0 : List UInt8 := dkwX9_termOf_0 ++ dktX9_termOf_1
theorem dksX9_termOf_0 : cX9_termOf.data.toList.drop 0 = dktX9_termOf_0 := by decide +kernel
theorem dksX9_termOf_1 : cX9_termOf.data.toList.drop 23 = dktX9_termOf_1 := dk_seg dksX9_termOf_0 23 rfl rfl
theorem dksX9_termOf_2 : cX9_termOf.data.toList.drop 47 = dktX9_termOf_2 := dk_seg dksX9_termOf_1 24 rfl rfl
theorem dksX9_termOf_3 : cX9_termOf.data.toList.drop 69 = dktX9_termOf_3 := dk_seg dksX9_termOf_2 22 rfl rfl
theorem dksX9_termOf_4 : cX9_termOf.data.toList.drop 93 = dktX9_termOf_4 := dk_seg dksX9_termOf_3 24 rfl rfl
theorem dksX9_termOf_5 : cX9_termOf.data.toList.drop 116 = dktX9_termOf_5 := dk_seg dksX9_termOf_4 23 rfl rfl
theorem dksX9_termOf_6 : cX9_termOf.data.toList.drop 140 = dktX9_termOf_6 := dk_seg dksX9_termOf_5 24 rfl rfl
theorem dksX9_termOf_7 : cX9_termOf.data.toList.drop 163 = dktX9_termOf_7 := dk_seg dksX9_termOf_6 23 rfl rfl
theorem dX9_termOf_0 : decode cX9_termOf 0 = .ok (.iconst 0, 1) := dk_3 (dk_at dksX9_termOf_0 0 rfl rfl)
theorem dX9_termOf_1 : decode cX9_termOf 1 = .ok (.istore_n 3, 1) := dk_62 (dk_at dksX9_termOf_0 1 rfl rfl)
theorem dX9_termOf_2 : decode cX9_termOf 2 = .ok (.iload_n 1, 1) := dk_27 (dk_at dksX9_termOf_0 2 rfl rfl)
theorem dX9_termOf_3 : decode cX9_termOf 3 = .ok (.istore 4, 2) := dk_54 4 (dk_at dksX9_termOf_0 3 rfl rfl)
theorem dX9_termOf_5 : decode cX9_termOf 5 = .ok (.iload 4, 2) := dk_21 4 (dk_at dksX9_termOf_0 5 rfl rfl)
theorem dX9_termOf_7 : decode cX9_termOf 7 = .ok (.iload_n 2, 1) := dk_28 (dk_at dksX9_termOf_0 7 rfl rfl)
theorem dX9_termOf_8 : decode cX9_termOf 8 = .ok (.if_icmp .ge 170, 3) := dk_162 0 170 (dk_at dksX9_termOf_0 8 rfl rfl)
theorem dX9_termOf_11 : decode cX9_termOf 11 = .ok (.aload_n 0, 1) := dk_42 (dk_at dksX9_termOf_0 11 rfl rfl)
theorem dX9_termOf_12 : decode cX9_termOf 12 = .ok (.getfield 61, 3) := dk_180 0 61 (dk_at dksX9_termOf_0 12 rfl rfl)
theorem dX9_termOf_15 : decode cX9_termOf 15 = .ok (.iload 4, 2) := dk_21 4 (dk_at dksX9_termOf_0 15 rfl rfl)
theorem dX9_termOf_17 : decode cX9_termOf 17 = .ok (.iaload, 1) := dk_46 (dk_at dksX9_termOf_0 17 rfl rfl)
theorem dX9_termOf_18 : decode cX9_termOf 18 = .ok (.istore 5, 2) := dk_54 5 (dk_at dksX9_termOf_0 18 rfl rfl)
theorem dX9_termOf_20 : decode cX9_termOf 20 = .ok (.iload 5, 2) := dk_21 5 (dk_at dksX9_termOf_0 20 rfl rfl)
theorem dX9_termOf_22 : decode cX9_termOf 22 = .ok (.iconst 2, 1) := dk_5 (dk_at dksX9_termOf_0 22 rfl rfl)
theorem dX9_termOf_23 : decode cX9_termOf 23 = .ok (.if_icmp .ge 42, 3) := dk_162 0 42 (dk_at dksX9_termOf_1 0 rfl rfl)
theorem dX9_termOf_26 : decode cX9_termOf 26 = .ok (.aload_n 0, 1) := dk_42 (dk_at dksX9_termOf_1 3 rfl rfl)
theorem dX9_termOf_27 : decode cX9_termOf 27 = .ok (.getfield 73, 3) := dk_180 0 73 (dk_at dksX9_termOf_1 4 rfl rfl)
theorem dX9_termOf_30 : decode cX9_termOf 30 = .ok (.iload_n 3, 1) := dk_29 (dk_at dksX9_termOf_1 7 rfl rfl)
theorem dX9_termOf_31 : decode cX9_termOf 31 = .ok (.iload 5, 2) := dk_21 5 (dk_at dksX9_termOf_1 8 rfl rfl)
theorem dX9_termOf_33 : decode cX9_termOf 33 = .ok (.ifCond .ne 13, 3) := dk_154 0 13 (dk_at dksX9_termOf_1 10 rfl rfl)
theorem dX9_termOf_36 : decode cX9_termOf 36 = .ok (.aload_n 0, 1) := dk_42 (dk_at dksX9_termOf_1 13 rfl rfl)
theorem dX9_termOf_37 : decode cX9_termOf 37 = .ok (.getfield 64, 3) := dk_180 0 64 (dk_at dksX9_termOf_1 14 rfl rfl)
theorem dX9_termOf_40 : decode cX9_termOf 40 = .ok (.iload 4, 2) := dk_21 4 (dk_at dksX9_termOf_1 17 rfl rfl)
theorem dX9_termOf_42 : decode cX9_termOf 42 = .ok (.iaload, 1) := dk_46 (dk_at dksX9_termOf_1 19 rfl rfl)
theorem dX9_termOf_43 : decode cX9_termOf 43 = .ok (.goto 15, 3) := dk_167 0 15 (dk_at dksX9_termOf_1 20 rfl rfl)
theorem dX9_termOf_46 : decode cX9_termOf 46 = .ok (.aload_n 0, 1) := dk_42 (dk_at dksX9_termOf_1 23 rfl rfl)
theorem dX9_termOf_47 : decode cX9_termOf 47 = .ok (.getfield 70, 3) := dk_180 0 70 (dk_at dksX9_termOf_2 0 rfl rfl)
theorem dX9_termOf_50 : decode cX9_termOf 50 = .ok (.aload_n 0, 1) := dk_42 (dk_at dksX9_termOf_2 3 rfl rfl)
theorem dX9_termOf_51 : decode cX9_termOf 51 = .ok (.getfield 64, 3) := dk_180 0 64 (dk_at dksX9_termOf_2 4 rfl rfl)
theorem dX9_termOf_54 : decode cX9_termOf 54 = .ok (.iload 4, 2) := dk_21 4 (dk_at dksX9_termOf_2 7 rfl rfl)
theorem dX9_termOf_56 : decode cX9_termOf 56 = .ok (.iaload, 1) := dk_46 (dk_at dksX9_termOf_2 9 rfl rfl)
theorem dX9_termOf_57 : decode cX9_termOf 57 = .ok (.iaload, 1) := dk_46 (dk_at dksX9_termOf_2 10 rfl rfl)
theorem dX9_termOf_58 : decode cX9_termOf 58 = .ok (.iastore, 1) := dk_79 (dk_at dksX9_termOf_2 11 rfl rfl)
theorem dX9_termOf_59 : decode cX9_termOf 59 = .ok (.iinc 3 1, 3) := dk_132 3 1 (dk_at dksX9_termOf_2 12 rfl rfl)
theorem dX9_termOf_62 : decode cX9_termOf 62 = .ok (.goto 110, 3) := dk_167 0 110 (dk_at dksX9_termOf_2 15 rfl rfl)
theorem dX9_termOf_65 : decode cX9_termOf 65 = .ok (.iinc 3 (-1), 3) := dk_132 3 255 (dk_at dksX9_termOf_2 18 rfl rfl)
theorem dX9_termOf_68 : decode cX9_termOf 68 = .ok (.aload_n 0, 1) := dk_42 (dk_at dksX9_termOf_2 21 rfl rfl)
theorem dX9_termOf_69 : decode cX9_termOf 69 = .ok (.getfield 73, 3) := dk_180 0 73 (dk_at dksX9_termOf_3 0 rfl rfl)
theorem dX9_termOf_72 : decode cX9_termOf 72 = .ok (.iload_n 3, 1) := dk_29 (dk_at dksX9_termOf_3 3 rfl rfl)
theorem dX9_termOf_73 : decode cX9_termOf 73 = .ok (.iconst 1, 1) := dk_4 (dk_at dksX9_termOf_3 4 rfl rfl)
theorem dX9_termOf_74 : decode cX9_termOf 74 = .ok (.isub, 1) := dk_100 (dk_at dksX9_termOf_3 5 rfl rfl)
theorem dX9_termOf_75 : decode cX9_termOf 75 = .ok (.iaload, 1) := dk_46 (dk_at dksX9_termOf_3 6 rfl rfl)
theorem dX9_termOf_76 : decode cX9_termOf 76 = .ok (.istore 6, 2) := dk_54 6 (dk_at dksX9_termOf_3 7 rfl rfl)
theorem dX9_termOf_78 : decode cX9_termOf 78 = .ok (.aload_n 0, 1) := dk_42 (dk_at dksX9_termOf_3 9 rfl rfl)
theorem dX9_termOf_79 : decode cX9_termOf 79 = .ok (.getfield 73, 3) := dk_180 0 73 (dk_at dksX9_termOf_3 10 rfl rfl)
theorem dX9_termOf_82 : decode cX9_termOf 82 = .ok (.iload_n 3, 1) := dk_29 (dk_at dksX9_termOf_3 13 rfl rfl)
theorem dX9_termOf_83 : decode cX9_termOf 83 = .ok (.iaload, 1) := dk_46 (dk_at dksX9_termOf_3 14 rfl rfl)
theorem dX9_termOf_84 : decode cX9_termOf 84 = .ok (.istore 7, 2) := dk_54 7 (dk_at dksX9_termOf_3 15 rfl rfl)
theorem dX9_termOf_86 : decode cX9_termOf 86 = .ok (.iload 5, 2) := dk_21 5 (dk_at dksX9_termOf_3 17 rfl rfl)
theorem dX9_termOf_88 : decode cX9_termOf 88 = .ok (.iconst 4, 1) := dk_7 (dk_at dksX9_termOf_3 19 rfl rfl)
theorem dX9_termOf_89 : decode cX9_termOf 89 = .ok (.if_icmp .le 42, 3) := dk_164 0 42 (dk_at dksX9_termOf_3 20 rfl rfl)
theorem dX9_termOf_92 : decode cX9_termOf 92 = .ok (.aload_n 0, 1) := dk_42 (dk_at dksX9_termOf_3 23 rfl rfl)
theorem dX9_termOf_93 : decode cX9_termOf 93 = .ok (.getfield 73, 3) := dk_180 0 73 (dk_at dksX9_termOf_4 0 rfl rfl)
theorem dX9_termOf_96 : decode cX9_termOf 96 = .ok (.iload_n 3, 1) := dk_29 (dk_at dksX9_termOf_4 3 rfl rfl)
theorem dX9_termOf_97 : decode cX9_termOf 97 = .ok (.iconst 1, 1) := dk_4 (dk_at dksX9_termOf_4 4 rfl rfl)
theorem dX9_termOf_98 : decode cX9_termOf 98 = .ok (.isub, 1) := dk_100 (dk_at dksX9_termOf_4 5 rfl rfl)
theorem dX9_termOf_99 : decode cX9_termOf 99 = .ok (.iload 7, 2) := dk_21 7 (dk_at dksX9_termOf_4 6 rfl rfl)
theorem dX9_termOf_101 : decode cX9_termOf 101 = .ok (.ifCond .ne 7, 3) := dk_154 0 7 (dk_at dksX9_termOf_4 8 rfl rfl)
theorem dX9_termOf_104 : decode cX9_termOf 104 = .ok (.iconst 0, 1) := dk_3 (dk_at dksX9_termOf_4 11 rfl rfl)
theorem dX9_termOf_105 : decode cX9_termOf 105 = .ok (.goto 22, 3) := dk_167 0 22 (dk_at dksX9_termOf_4 12 rfl rfl)
theorem dX9_termOf_108 : decode cX9_termOf 108 = .ok (.iload 5, 2) := dk_21 5 (dk_at dksX9_termOf_4 15 rfl rfl)
theorem dX9_termOf_110 : decode cX9_termOf 110 = .ok (.iconst 5, 1) := dk_8 (dk_at dksX9_termOf_4 17 rfl rfl)
theorem dX9_termOf_111 : decode cX9_termOf 111 = .ok (.if_icmp .ne 11, 3) := dk_160 0 11 (dk_at dksX9_termOf_4 18 rfl rfl)
theorem dX9_termOf_114 : decode cX9_termOf 114 = .ok (.iload 6, 2) := dk_21 6 (dk_at dksX9_termOf_4 21 rfl rfl)
theorem dX9_termOf_116 : decode cX9_termOf 116 = .ok (.iload 7, 2) := dk_21 7 (dk_at dksX9_termOf_5 0 rfl rfl)
theorem dX9_termOf_118 : decode cX9_termOf 118 = .ok (.idiv, 1) := dk_108 (dk_at dksX9_termOf_5 2 rfl rfl)
theorem dX9_termOf_119 : decode cX9_termOf 119 = .ok (.goto 8, 3) := dk_167 0 8 (dk_at dksX9_termOf_5 3 rfl rfl)
theorem dX9_termOf_122 : decode cX9_termOf 122 = .ok (.iload 6, 2) := dk_21 6 (dk_at dksX9_termOf_5 6 rfl rfl)
theorem dX9_termOf_124 : decode cX9_termOf 124 = .ok (.iload 7, 2) := dk_21 7 (dk_at dksX9_termOf_5 8 rfl rfl)
theorem dX9_termOf_126 : decode cX9_termOf 126 = .ok (.irem, 1) := dk_112 (dk_at dksX9_termOf_5 10 rfl rfl)
theorem dX9_termOf_127 : decode cX9_termOf 127 = .ok (.iastore, 1) := dk_79 (dk_at dksX9_termOf_5 11 rfl rfl)
theorem dX9_termOf_128 : decode cX9_termOf 128 = .ok (.goto 44, 3) := dk_167 0 44 (dk_at dksX9_termOf_5 12 rfl rfl)
theorem dX9_termOf_131 : decode cX9_termOf 131 = .ok (.aload_n 0, 1) := dk_42 (dk_at dksX9_termOf_5 15 rfl rfl)
theorem dX9_termOf_132 : decode cX9_termOf 132 = .ok (.getfield 73, 3) := dk_180 0 73 (dk_at dksX9_termOf_5 16 rfl rfl)
theorem dX9_termOf_135 : decode cX9_termOf 135 = .ok (.iload_n 3, 1) := dk_29 (dk_at dksX9_termOf_5 19 rfl rfl)
theorem dX9_termOf_136 : decode cX9_termOf 136 = .ok (.iconst 1, 1) := dk_4 (dk_at dksX9_termOf_5 20 rfl rfl)
theorem dX9_termOf_137 : decode cX9_termOf 137 = .ok (.isub, 1) := dk_100 (dk_at dksX9_termOf_5 21 rfl rfl)
theorem dX9_termOf_138 : decode cX9_termOf 138 = .ok (.iload 5, 2) := dk_21 5 (dk_at dksX9_termOf_5 22 rfl rfl)
theorem dX9_termOf_140 : decode cX9_termOf 140 = .ok (.iconst 2, 1) := dk_5 (dk_at dksX9_termOf_6 0 rfl rfl)
theorem dX9_termOf_141 : decode cX9_termOf 141 = .ok (.if_icmp .ne 11, 3) := dk_160 0 11 (dk_at dksX9_termOf_6 1 rfl rfl)
theorem dX9_termOf_144 : decode cX9_termOf 144 = .ok (.iload 6, 2) := dk_21 6 (dk_at dksX9_termOf_6 4 rfl rfl)
theorem dX9_termOf_146 : decode cX9_termOf 146 = .ok (.iload 7, 2) := dk_21 7 (dk_at dksX9_termOf_6 6 rfl rfl)
theorem dX9_termOf_148 : decode cX9_termOf 148 = .ok (.iadd, 1) := dk_96 (dk_at dksX9_termOf_6 8 rfl rfl)
theorem dX9_termOf_149 : decode cX9_termOf 149 = .ok (.goto 22, 3) := dk_167 0 22 (dk_at dksX9_termOf_6 9 rfl rfl)
theorem dX9_termOf_152 : decode cX9_termOf 152 = .ok (.iload 5, 2) := dk_21 5 (dk_at dksX9_termOf_6 12 rfl rfl)
theorem dX9_termOf_154 : decode cX9_termOf 154 = .ok (.iconst 3, 1) := dk_6 (dk_at dksX9_termOf_6 14 rfl rfl)
theorem dX9_termOf_155 : decode cX9_termOf 155 = .ok (.if_icmp .ne 11, 3) := dk_160 0 11 (dk_at dksX9_termOf_6 15 rfl rfl)
theorem dX9_termOf_158 : decode cX9_termOf 158 = .ok (.iload 6, 2) := dk_21 6 (dk_at dksX9_termOf_6 18 rfl rfl)
theorem dX9_termOf_160 : decode cX9_termOf 160 = .ok (.iload 7, 2) := dk_21 7 (dk_at dksX9_termOf_6 20 rfl rfl)
theorem dX9_termOf_162 : decode cX9_termOf 162 = .ok (.isub, 1) := dk_100 (dk_at dksX9_termOf_6 22 rfl rfl)
theorem dX9_termOf_163 : decode cX9_termOf 163 = .ok (.goto 8, 3) := dk_167 0 8 (dk_at dksX9_termOf_7 0 rfl rfl)
theorem dX9_termOf_166 : decode cX9_termOf 166 = .ok (.iload 6, 2) := dk_21 6 (dk_at dksX9_termOf_7 3 rfl rfl)
theorem dX9_termOf_168 : decode cX9_termOf 168 = .ok (.iload 7, 2) := dk_21 7 (dk_at dksX9_termOf_7 5 rfl rfl)
theorem dX9_termOf_170 : decode cX9_termOf 170 = .ok (.imul, 1) := dk_104 (dk_at dksX9_termOf_7 7 rfl rfl)
theorem dX9_termOf_171 : decode cX9_termOf 171 = .ok (.iastore, 1) := dk_79 (dk_at dksX9_termOf_7 8 rfl rfl)
theorem dX9_termOf_172 : decode cX9_termOf 172 = .ok (.iinc 4 1, 3) := dk_132 4 1 (dk_at dksX9_termOf_7 9 rfl rfl)
theorem dX9_termOf_175 : decode cX9_termOf 175 = .ok (.goto (-170), 3) := dk_167 255 86 (dk_at dksX9_termOf_7 12 rfl rfl)
theorem dX9_termOf_178 : decode cX9_termOf 178 = .ok (.aload_n 0, 1) := dk_42 (dk_at dksX9_termOf_7 15 rfl rfl)
theorem dX9_termOf_179 : decode cX9_termOf 179 = .ok (.getfield 73, 3) := dk_180 0 73 (dk_at dksX9_termOf_7 16 rfl rfl)
theorem dX9_termOf_182 : decode cX9_termOf 182 = .ok (.iconst 0, 1) := dk_3 (dk_at dksX9_termOf_7 19 rfl rfl)
theorem dX9_termOf_183 : decode cX9_termOf 183 = .ok (.iaload, 1) := dk_46 (dk_at dksX9_termOf_7 20 rfl rfl)
theorem dX9_termOf_184 : decode cX9_termOf 184 = .ok (.ireturn, 1) := dk_172 (dk_at dksX9_termOf_7 21 rfl rfl)
abbrev cX9_keyOf : ByteArray := prog_20_method_34_code
def yX9_keyOf : MethodName := ⟨RX9, "keyOf", "(I)I"⟩
def dkwX9_keyOf_0 : List UInt8 := [26, 17, 3, 232, 112, 60, 27, 156, 0, 11, 27, 17, 3, 232, 96, 167, 0, 4, 27, 172]
abbrev dktX9_keyOf_0 : List UInt8 := dkwX9_keyOf_0 ++ []
theorem dksX9_keyOf_0 : cX9_keyOf.data.toList.drop 0 = dktX9_keyOf_0 := by decide +kernel
theorem dX9_keyOf_0 : decode cX9_keyOf 0 = .ok (.iload_n 0, 1) := dk_26 (dk_at dksX9_keyOf_0 0 rfl rfl)
theorem dX9_keyOf_1 : decode cX9_keyOf 1 = .ok (.sipush 1000, 3) := dk_17 3 232 (dk_at dksX9_keyOf_0 1 rfl rfl)
theorem dX9_keyOf_4 : decode cX9_keyOf 4 = .ok (.irem, 1) := dk_112 (dk_at dksX9_keyOf_0 4 rfl rfl)
theorem dX9_keyOf_5 : decode cX9_keyOf 5 = .ok (.istore_n 1, 1) := dk_60 (dk_at dksX9_keyOf_0 5 rfl rfl)
theorem dX9_keyOf_6 : decode cX9_keyOf 6 = .ok (.iload_n 1, 1) := dk_27 (dk_at dksX9_keyOf_0 6 rfl rfl)
theorem dX9_keyOf_7 : decode cX9_keyOf 7 = .ok (.ifCond .ge 11, 3) := dk_156 0 11 (dk_at dksX9_keyOf_0 7 rfl rfl)
theorem dX9_keyOf_10 : decode cX9_keyOf 10 = .ok (.iload_n 1, 1) := dk_27 (dk_at dksX9_keyOf_0 10 rfl rfl)
theorem dX9_keyOf_11 : decode cX9_keyOf 11 = .ok (.sipush 1000, 3) := dk_17 3 232 (dk_at dksX9_keyOf_0 11 rfl rfl)
theorem dX9_keyOf_14 : decode cX9_keyOf 14 = .ok (.iadd, 1) := dk_96 (dk_at dksX9_keyOf_0 14 rfl rfl)
theorem dX9_keyOf_15 : decode cX9_keyOf 15 = .ok (.goto 4, 3) := dk_167 0 4 (dk_at dksX9_keyOf_0 15 rfl rfl)
theorem dX9_keyOf_18 : decode cX9_keyOf 18 = .ok (.iload_n 1, 1) := dk_27 (dk_at dksX9_keyOf_0 18 rfl rfl)
theorem dX9_keyOf_19 : decode cX9_keyOf 19 = .ok (.ireturn, 1) := dk_172 (dk_at dksX9_keyOf_0 19 rfl rfl)
abbrev cX9_starts : ByteArray := prog_20_method_64_code
def yX9_starts : MethodName := ⟨RX9, "starts", "(IIII)Z"⟩
def dkwX9_starts_5 : List UInt8 := [16, 9, 96, 3, 79, 4, 172]
abbrev dktX9_starts_5 : List UInt8 := dkwX9_starts_5 ++ []
def dkwX9_starts_4 : List UInt8 := [16, 7, 96, 21, 4, 79, 42, 180, 0, 80, 21, 5, 16, 8, 96, 3, 79, 42, 180, 0, 80, 21, 5]
abbrev dktX9_starts_4 : List UInt8 := dkwX9_starts_4 ++ dktX9_starts_5
def dkwX9_starts_3 : List UInt8 := [42, 180, 0, 80, 5, 46, 79, 42, 180, 0, 80, 21, 5, 16, 6, 96, 29, 79, 42, 180, 0, 80, 21, 5]
abbrev dktX9_starts_3 : List UInt8 := dkwX9_starts_3 ++ dktX9_starts_4
def dkwX9_starts_2 : List UInt8 := [21, 5, 3, 96, 28, 79, 42, 180, 0, 80, 21, 5, 4, 96, 4, 79, 42, 180, 0, 80, 21, 5, 8, 96]
abbrev dktX9_starts_2 : List UInt8 := dkwX9_starts_2 ++ dktX9_starts_3
def dkwX9_starts_1 : List UInt8 := [17, 2, 128, 162, 0, 14, 42, 180, 0, 80, 4, 46, 16, 28, 161, 0, 5, 3, 172, 42, 180, 0, 80]
abbrev dktX9_starts_1 : List UInt8 := dkwX9_starts_1 ++ dktX9_starts_2
def dkwX9_starts_0 : List UInt8 := [27, 184, 1, 35, 54, 5, 42, 180, 0, 80, 21, 5, 4, 96, 46, 157, 0, 26, 42, 180, 0, 80, 3, 46]
abbrev dktX9_starts_0 : List UInt8 := dkwX9_starts_0 ++ dktX9_starts_1
theorem dksX9_starts_0 : cX9_starts.data.toList.drop 0 = dktX9_starts_0 := by decide +kernel
theorem dksX9_starts_1 : cX9_starts.data.toList.drop 24 = dktX9_starts_1 := dk_seg dksX9_starts_0 24 rfl rfl
theorem dksX9_starts_2 : cX9_starts.data.toList.drop 47 = dktX9_starts_2 := dk_seg dksX9_starts_1 23 rfl rfl
theorem dksX9_starts_3 : cX9_starts.data.toList.drop 71 = dktX9_starts_3 := dk_seg dksX9_starts_2 24 rfl rfl
theorem dksX9_starts_4 : cX9_starts.data.toList.drop 95 = dktX9_starts_4 := dk_seg dksX9_starts_3 24 rfl rfl
theorem dksX9_starts_5 : cX9_starts.data.toList.drop 118 = dktX9_starts_5 := dk_seg dksX9_starts_4 23 rfl rfl
theorem dX9_starts_0 : decode cX9_starts 0 = .ok (.iload_n 1, 1) := dk_27 (dk_at dksX9_starts_0 0 rfl rfl)
theorem dX9_starts_1 : decode cX9_starts 1 = .ok (.invokestatic 291, 3) := dk_184 1 35 (dk_at dksX9_starts_0 1 rfl rfl)
theorem dX9_starts_4 : decode cX9_starts 4 = .ok (.istore 5, 2) := dk_54 5 (dk_at dksX9_starts_0 4 rfl rfl)
theorem dX9_starts_6 : decode cX9_starts 6 = .ok (.aload_n 0, 1) := dk_42 (dk_at dksX9_starts_0 6 rfl rfl)
theorem dX9_starts_7 : decode cX9_starts 7 = .ok (.getfield 80, 3) := dk_180 0 80 (dk_at dksX9_starts_0 7 rfl rfl)
theorem dX9_starts_10 : decode cX9_starts 10 = .ok (.iload 5, 2) := dk_21 5 (dk_at dksX9_starts_0 10 rfl rfl)
theorem dX9_starts_12 : decode cX9_starts 12 = .ok (.iconst 1, 1) := dk_4 (dk_at dksX9_starts_0 12 rfl rfl)
theorem dX9_starts_13 : decode cX9_starts 13 = .ok (.iadd, 1) := dk_96 (dk_at dksX9_starts_0 13 rfl rfl)
theorem dX9_starts_14 : decode cX9_starts 14 = .ok (.iaload, 1) := dk_46 (dk_at dksX9_starts_0 14 rfl rfl)
theorem dX9_starts_15 : decode cX9_starts 15 = .ok (.ifCond .gt 26, 3) := dk_157 0 26 (dk_at dksX9_starts_0 15 rfl rfl)
theorem dX9_starts_18 : decode cX9_starts 18 = .ok (.aload_n 0, 1) := dk_42 (dk_at dksX9_starts_0 18 rfl rfl)
theorem dX9_starts_19 : decode cX9_starts 19 = .ok (.getfield 80, 3) := dk_180 0 80 (dk_at dksX9_starts_0 19 rfl rfl)
theorem dX9_starts_22 : decode cX9_starts 22 = .ok (.iconst 0, 1) := dk_3 (dk_at dksX9_starts_0 22 rfl rfl)
theorem dX9_starts_23 : decode cX9_starts 23 = .ok (.iaload, 1) := dk_46 (dk_at dksX9_starts_0 23 rfl rfl)
theorem dX9_starts_24 : decode cX9_starts 24 = .ok (.sipush 640, 3) := dk_17 2 128 (dk_at dksX9_starts_1 0 rfl rfl)
theorem dX9_starts_27 : decode cX9_starts 27 = .ok (.if_icmp .ge 14, 3) := dk_162 0 14 (dk_at dksX9_starts_1 3 rfl rfl)
theorem dX9_starts_30 : decode cX9_starts 30 = .ok (.aload_n 0, 1) := dk_42 (dk_at dksX9_starts_1 6 rfl rfl)
theorem dX9_starts_31 : decode cX9_starts 31 = .ok (.getfield 80, 3) := dk_180 0 80 (dk_at dksX9_starts_1 7 rfl rfl)
theorem dX9_starts_34 : decode cX9_starts 34 = .ok (.iconst 1, 1) := dk_4 (dk_at dksX9_starts_1 10 rfl rfl)
theorem dX9_starts_35 : decode cX9_starts 35 = .ok (.iaload, 1) := dk_46 (dk_at dksX9_starts_1 11 rfl rfl)
theorem dX9_starts_36 : decode cX9_starts 36 = .ok (.bipush 28, 2) := dk_16 28 (dk_at dksX9_starts_1 12 rfl rfl)
theorem dX9_starts_38 : decode cX9_starts 38 = .ok (.if_icmp .lt 5, 3) := dk_161 0 5 (dk_at dksX9_starts_1 14 rfl rfl)
theorem dX9_starts_41 : decode cX9_starts 41 = .ok (.iconst 0, 1) := dk_3 (dk_at dksX9_starts_1 17 rfl rfl)
theorem dX9_starts_42 : decode cX9_starts 42 = .ok (.ireturn, 1) := dk_172 (dk_at dksX9_starts_1 18 rfl rfl)
theorem dX9_starts_43 : decode cX9_starts 43 = .ok (.aload_n 0, 1) := dk_42 (dk_at dksX9_starts_1 19 rfl rfl)
theorem dX9_starts_44 : decode cX9_starts 44 = .ok (.getfield 80, 3) := dk_180 0 80 (dk_at dksX9_starts_1 20 rfl rfl)
theorem dX9_starts_47 : decode cX9_starts 47 = .ok (.iload 5, 2) := dk_21 5 (dk_at dksX9_starts_2 0 rfl rfl)
theorem dX9_starts_49 : decode cX9_starts 49 = .ok (.iconst 0, 1) := dk_3 (dk_at dksX9_starts_2 2 rfl rfl)
theorem dX9_starts_50 : decode cX9_starts 50 = .ok (.iadd, 1) := dk_96 (dk_at dksX9_starts_2 3 rfl rfl)
theorem dX9_starts_51 : decode cX9_starts 51 = .ok (.iload_n 2, 1) := dk_28 (dk_at dksX9_starts_2 4 rfl rfl)
theorem dX9_starts_52 : decode cX9_starts 52 = .ok (.iastore, 1) := dk_79 (dk_at dksX9_starts_2 5 rfl rfl)
theorem dX9_starts_53 : decode cX9_starts 53 = .ok (.aload_n 0, 1) := dk_42 (dk_at dksX9_starts_2 6 rfl rfl)
theorem dX9_starts_54 : decode cX9_starts 54 = .ok (.getfield 80, 3) := dk_180 0 80 (dk_at dksX9_starts_2 7 rfl rfl)
theorem dX9_starts_57 : decode cX9_starts 57 = .ok (.iload 5, 2) := dk_21 5 (dk_at dksX9_starts_2 10 rfl rfl)
theorem dX9_starts_59 : decode cX9_starts 59 = .ok (.iconst 1, 1) := dk_4 (dk_at dksX9_starts_2 12 rfl rfl)
theorem dX9_starts_60 : decode cX9_starts 60 = .ok (.iadd, 1) := dk_96 (dk_at dksX9_starts_2 13 rfl rfl)
theorem dX9_starts_61 : decode cX9_starts 61 = .ok (.iconst 1, 1) := dk_4 (dk_at dksX9_starts_2 14 rfl rfl)
theorem dX9_starts_62 : decode cX9_starts 62 = .ok (.iastore, 1) := dk_79 (dk_at dksX9_starts_2 15 rfl rfl)
theorem dX9_starts_63 : decode cX9_starts 63 = .ok (.aload_n 0, 1) := dk_42 (dk_at dksX9_starts_2 16 rfl rfl)
theorem dX9_starts_64 : decode cX9_starts 64 = .ok (.getfield 80, 3) := dk_180 0 80 (dk_at dksX9_starts_2 17 rfl rfl)
theorem dX9_starts_67 : decode cX9_starts 67 = .ok (.iload 5, 2) := dk_21 5 (dk_at dksX9_starts_2 20 rfl rfl)
theorem dX9_starts_69 : decode cX9_starts 69 = .ok (.iconst 5, 1) := dk_8 (dk_at dksX9_starts_2 22 rfl rfl)
theorem dX9_starts_70 : decode cX9_starts 70 = .ok (.iadd, 1) := dk_96 (dk_at dksX9_starts_2 23 rfl rfl)
theorem dX9_starts_71 : decode cX9_starts 71 = .ok (.aload_n 0, 1) := dk_42 (dk_at dksX9_starts_3 0 rfl rfl)
theorem dX9_starts_72 : decode cX9_starts 72 = .ok (.getfield 80, 3) := dk_180 0 80 (dk_at dksX9_starts_3 1 rfl rfl)
theorem dX9_starts_75 : decode cX9_starts 75 = .ok (.iconst 2, 1) := dk_5 (dk_at dksX9_starts_3 4 rfl rfl)
theorem dX9_starts_76 : decode cX9_starts 76 = .ok (.iaload, 1) := dk_46 (dk_at dksX9_starts_3 5 rfl rfl)
theorem dX9_starts_77 : decode cX9_starts 77 = .ok (.iastore, 1) := dk_79 (dk_at dksX9_starts_3 6 rfl rfl)
theorem dX9_starts_78 : decode cX9_starts 78 = .ok (.aload_n 0, 1) := dk_42 (dk_at dksX9_starts_3 7 rfl rfl)
theorem dX9_starts_79 : decode cX9_starts 79 = .ok (.getfield 80, 3) := dk_180 0 80 (dk_at dksX9_starts_3 8 rfl rfl)
theorem dX9_starts_82 : decode cX9_starts 82 = .ok (.iload 5, 2) := dk_21 5 (dk_at dksX9_starts_3 11 rfl rfl)
theorem dX9_starts_84 : decode cX9_starts 84 = .ok (.bipush 6, 2) := dk_16 6 (dk_at dksX9_starts_3 13 rfl rfl)
theorem dX9_starts_86 : decode cX9_starts 86 = .ok (.iadd, 1) := dk_96 (dk_at dksX9_starts_3 15 rfl rfl)
theorem dX9_starts_87 : decode cX9_starts 87 = .ok (.iload_n 3, 1) := dk_29 (dk_at dksX9_starts_3 16 rfl rfl)
theorem dX9_starts_88 : decode cX9_starts 88 = .ok (.iastore, 1) := dk_79 (dk_at dksX9_starts_3 17 rfl rfl)
theorem dX9_starts_89 : decode cX9_starts 89 = .ok (.aload_n 0, 1) := dk_42 (dk_at dksX9_starts_3 18 rfl rfl)
theorem dX9_starts_90 : decode cX9_starts 90 = .ok (.getfield 80, 3) := dk_180 0 80 (dk_at dksX9_starts_3 19 rfl rfl)
theorem dX9_starts_93 : decode cX9_starts 93 = .ok (.iload 5, 2) := dk_21 5 (dk_at dksX9_starts_3 22 rfl rfl)
theorem dX9_starts_95 : decode cX9_starts 95 = .ok (.bipush 7, 2) := dk_16 7 (dk_at dksX9_starts_4 0 rfl rfl)
theorem dX9_starts_97 : decode cX9_starts 97 = .ok (.iadd, 1) := dk_96 (dk_at dksX9_starts_4 2 rfl rfl)
theorem dX9_starts_98 : decode cX9_starts 98 = .ok (.iload 4, 2) := dk_21 4 (dk_at dksX9_starts_4 3 rfl rfl)
theorem dX9_starts_100 : decode cX9_starts 100 = .ok (.iastore, 1) := dk_79 (dk_at dksX9_starts_4 5 rfl rfl)
theorem dX9_starts_101 : decode cX9_starts 101 = .ok (.aload_n 0, 1) := dk_42 (dk_at dksX9_starts_4 6 rfl rfl)
theorem dX9_starts_102 : decode cX9_starts 102 = .ok (.getfield 80, 3) := dk_180 0 80 (dk_at dksX9_starts_4 7 rfl rfl)
theorem dX9_starts_105 : decode cX9_starts 105 = .ok (.iload 5, 2) := dk_21 5 (dk_at dksX9_starts_4 10 rfl rfl)
theorem dX9_starts_107 : decode cX9_starts 107 = .ok (.bipush 8, 2) := dk_16 8 (dk_at dksX9_starts_4 12 rfl rfl)
theorem dX9_starts_109 : decode cX9_starts 109 = .ok (.iadd, 1) := dk_96 (dk_at dksX9_starts_4 14 rfl rfl)
theorem dX9_starts_110 : decode cX9_starts 110 = .ok (.iconst 0, 1) := dk_3 (dk_at dksX9_starts_4 15 rfl rfl)
theorem dX9_starts_111 : decode cX9_starts 111 = .ok (.iastore, 1) := dk_79 (dk_at dksX9_starts_4 16 rfl rfl)
theorem dX9_starts_112 : decode cX9_starts 112 = .ok (.aload_n 0, 1) := dk_42 (dk_at dksX9_starts_4 17 rfl rfl)
theorem dX9_starts_113 : decode cX9_starts 113 = .ok (.getfield 80, 3) := dk_180 0 80 (dk_at dksX9_starts_4 18 rfl rfl)
theorem dX9_starts_116 : decode cX9_starts 116 = .ok (.iload 5, 2) := dk_21 5 (dk_at dksX9_starts_4 21 rfl rfl)
theorem dX9_starts_118 : decode cX9_starts 118 = .ok (.bipush 9, 2) := dk_16 9 (dk_at dksX9_starts_5 0 rfl rfl)
theorem dX9_starts_120 : decode cX9_starts 120 = .ok (.iadd, 1) := dk_96 (dk_at dksX9_starts_5 2 rfl rfl)
theorem dX9_starts_121 : decode cX9_starts 121 = .ok (.iconst 0, 1) := dk_3 (dk_at dksX9_starts_5 3 rfl rfl)
theorem dX9_starts_122 : decode cX9_starts 122 = .ok (.iastore, 1) := dk_79 (dk_at dksX9_starts_5 4 rfl rfl)
theorem dX9_starts_123 : decode cX9_starts 123 = .ok (.iconst 1, 1) := dk_4 (dk_at dksX9_starts_5 5 rfl rfl)
theorem dX9_starts_124 : decode cX9_starts 124 = .ok (.ireturn, 1) := dk_172 (dk_at dksX9_starts_5 6 rfl rfl)
abbrev cX9_closes : ByteArray := prog_20_method_87_code
def yX9_closes : MethodName := ⟨RX9, "closes", "(I)I"⟩
def dkwX9_closes_1 : List UInt8 := [27, 182, 1, 1, 132, 2, 1, 167, 255, 227, 28, 172]
abbrev dktX9_closes_1 : List UInt8 := dkwX9_closes_1 ++ []
def dkwX9_closes_0 : List UInt8 := [3, 61, 28, 17, 0, 200, 162, 0, 28, 42, 180, 0, 80, 27, 184, 1, 35, 4, 96, 46, 158, 0, 14, 42]
abbrev dktX9_closes_0 : List UInt8 := dkwX9_closes_0 ++ dktX9_closes_1
theorem dksX9_closes_0 : cX9_closes.data.toList.drop 0 = dktX9_closes_0 := by decide +kernel
theorem dksX9_closes_1 : cX9_closes.data.toList.drop 24 = dktX9_closes_1 := dk_seg dksX9_closes_0 24 rfl rfl
theorem dX9_closes_0 : decode cX9_closes 0 = .ok (.iconst 0, 1) := dk_3 (dk_at dksX9_closes_0 0 rfl rfl)
theorem dX9_closes_1 : decode cX9_closes 1 = .ok (.istore_n 2, 1) := dk_61 (dk_at dksX9_closes_0 1 rfl rfl)
theorem dX9_closes_2 : decode cX9_closes 2 = .ok (.iload_n 2, 1) := dk_28 (dk_at dksX9_closes_0 2 rfl rfl)
theorem dX9_closes_3 : decode cX9_closes 3 = .ok (.sipush 200, 3) := dk_17 0 200 (dk_at dksX9_closes_0 3 rfl rfl)
theorem dX9_closes_6 : decode cX9_closes 6 = .ok (.if_icmp .ge 28, 3) := dk_162 0 28 (dk_at dksX9_closes_0 6 rfl rfl)
theorem dX9_closes_9 : decode cX9_closes 9 = .ok (.aload_n 0, 1) := dk_42 (dk_at dksX9_closes_0 9 rfl rfl)
theorem dX9_closes_10 : decode cX9_closes 10 = .ok (.getfield 80, 3) := dk_180 0 80 (dk_at dksX9_closes_0 10 rfl rfl)
theorem dX9_closes_13 : decode cX9_closes 13 = .ok (.iload_n 1, 1) := dk_27 (dk_at dksX9_closes_0 13 rfl rfl)
theorem dX9_closes_14 : decode cX9_closes 14 = .ok (.invokestatic 291, 3) := dk_184 1 35 (dk_at dksX9_closes_0 14 rfl rfl)
theorem dX9_closes_17 : decode cX9_closes 17 = .ok (.iconst 1, 1) := dk_4 (dk_at dksX9_closes_0 17 rfl rfl)
theorem dX9_closes_18 : decode cX9_closes 18 = .ok (.iadd, 1) := dk_96 (dk_at dksX9_closes_0 18 rfl rfl)
theorem dX9_closes_19 : decode cX9_closes 19 = .ok (.iaload, 1) := dk_46 (dk_at dksX9_closes_0 19 rfl rfl)
theorem dX9_closes_20 : decode cX9_closes 20 = .ok (.ifCond .le 14, 3) := dk_158 0 14 (dk_at dksX9_closes_0 20 rfl rfl)
theorem dX9_closes_23 : decode cX9_closes 23 = .ok (.aload_n 0, 1) := dk_42 (dk_at dksX9_closes_0 23 rfl rfl)
theorem dX9_closes_24 : decode cX9_closes 24 = .ok (.iload_n 1, 1) := dk_27 (dk_at dksX9_closes_1 0 rfl rfl)
theorem dX9_closes_25 : decode cX9_closes 25 = .ok (.invokevirtual 257, 3) := dk_182 1 1 (dk_at dksX9_closes_1 1 rfl rfl)
theorem dX9_closes_28 : decode cX9_closes 28 = .ok (.iinc 2 1, 3) := dk_132 2 1 (dk_at dksX9_closes_1 4 rfl rfl)
theorem dX9_closes_31 : decode cX9_closes 31 = .ok (.goto (-29), 3) := dk_167 255 227 (dk_at dksX9_closes_1 7 rfl rfl)
theorem dX9_closes_34 : decode cX9_closes 34 = .ok (.iload_n 2, 1) := dk_28 (dk_at dksX9_closes_1 10 rfl rfl)
theorem dX9_closes_35 : decode cX9_closes 35 = .ok (.ireturn, 1) := dk_172 (dk_at dksX9_closes_1 11 rfl rfl)
abbrev cX9_steps : ByteArray := prog_20_method_86_code
def yX9_steps : MethodName := ⟨RX9, "steps", "(I)V"⟩
def dkwX9_steps_7 : List UInt8 := [42, 28, 182, 1, 182, 177]
abbrev dktX9_steps_7 : List UInt8 := dkwX9_steps_7 ++ []
def dkwX9_steps_6 : List UInt8 := [42, 28, 182, 1, 173, 167, 0, 24, 42, 28, 182, 1, 176, 167, 0, 16, 42, 28, 182, 1, 179, 167, 0, 8]
abbrev dktX9_steps_6 : List UInt8 := dkwX9_steps_6 ++ dktX9_steps_7
def dkwX9_steps_5 : List UInt8 := [42, 28, 182, 1, 164, 167, 0, 48, 42, 28, 182, 1, 167, 167, 0, 40, 42, 28, 182, 1, 170, 167, 0, 32]
abbrev dktX9_steps_5 : List UInt8 := dkwX9_steps_5 ++ dktX9_steps_6
def dkwX9_steps_4 : List UInt8 := [42, 28, 182, 1, 155, 167, 0, 72, 42, 28, 182, 1, 158, 167, 0, 64, 42, 28, 182, 1, 161, 167, 0, 56]
abbrev dktX9_steps_4 : List UInt8 := dkwX9_steps_4 ++ dktX9_steps_5
def dkwX9_steps_3 : List UInt8 := [42, 28, 182, 1, 146, 167, 0, 96, 42, 28, 182, 1, 149, 167, 0, 88, 42, 28, 182, 1, 152, 167, 0, 80]
abbrev dktX9_steps_3 : List UInt8 := dkwX9_steps_3 ++ dktX9_steps_4
def dkwX9_steps_2 : List UInt8 := [170, 0, 0, 0, 0, 0, 159, 0, 0, 0, 1, 0, 0, 0, 12, 0, 0, 0, 63, 0, 0, 0, 71, 0, 0, 0, 79, 0, 0, 0, 87, 0, 0, 0, 95, 0, 0, 0, 103, 0, 0, 0, 111, 0, 0, 0, 119, 0, 0, 0, 127, 0, 0, 0, 135, 0, 0, 0, 143, 0, 0, 0, 151]
abbrev dktX9_steps_2 : List UInt8 := dkwX9_steps_2 ++ dktX9_steps_3
def dkwX9_steps_1 : List UInt8 := [92, 46, 4, 96, 79, 42, 180, 0, 80, 28, 4, 96, 46]
abbrev dktX9_steps_1 : List UInt8 := dkwX9_steps_1 ++ dktX9_steps_2
def dkwX9_steps_0 : List UInt8 := [27, 184, 1, 35, 61, 42, 180, 0, 80, 28, 4, 96, 46, 154, 0, 4, 177, 42, 180, 0, 80, 28, 7, 96]
abbrev dktX9_steps_0 : List UInt8 := dkwX9_steps_0 ++ dktX9_steps_1
theorem dksX9_steps_0 : cX9_steps.data.toList.drop 0 = dktX9_steps_0 := by decide +kernel
theorem dksX9_steps_1 : cX9_steps.data.toList.drop 24 = dktX9_steps_1 := dk_seg dksX9_steps_0 24 rfl rfl
theorem dksX9_steps_2 : cX9_steps.data.toList.drop 37 = dktX9_steps_2 := dk_seg dksX9_steps_1 13 rfl rfl
theorem dksX9_steps_3 : cX9_steps.data.toList.drop 100 = dktX9_steps_3 := dk_seg dksX9_steps_2 63 rfl rfl
theorem dksX9_steps_4 : cX9_steps.data.toList.drop 124 = dktX9_steps_4 := dk_seg dksX9_steps_3 24 rfl rfl
theorem dksX9_steps_5 : cX9_steps.data.toList.drop 148 = dktX9_steps_5 := dk_seg dksX9_steps_4 24 rfl rfl
theorem dksX9_steps_6 : cX9_steps.data.toList.drop 172 = dktX9_steps_6 := dk_seg dksX9_steps_5 24 rfl rfl
theorem dksX9_steps_7 : cX9_steps.data.toList.drop 196 = dktX9_steps_7 := dk_seg dksX9_steps_6 24 rfl rfl
theorem dX9_steps_0 : decode cX9_steps 0 = .ok (.iload_n 1, 1) := dk_27 (dk_at dksX9_steps_0 0 rfl rfl)
theorem dX9_steps_1 : decode cX9_steps 1 = .ok (.invokestatic 291, 3) := dk_184 1 35 (dk_at dksX9_steps_0 1 rfl rfl)
theorem dX9_steps_4 : decode cX9_steps 4 = .ok (.istore_n 2, 1) := dk_61 (dk_at dksX9_steps_0 4 rfl rfl)
theorem dX9_steps_5 : decode cX9_steps 5 = .ok (.aload_n 0, 1) := dk_42 (dk_at dksX9_steps_0 5 rfl rfl)
theorem dX9_steps_6 : decode cX9_steps 6 = .ok (.getfield 80, 3) := dk_180 0 80 (dk_at dksX9_steps_0 6 rfl rfl)
theorem dX9_steps_9 : decode cX9_steps 9 = .ok (.iload_n 2, 1) := dk_28 (dk_at dksX9_steps_0 9 rfl rfl)
theorem dX9_steps_10 : decode cX9_steps 10 = .ok (.iconst 1, 1) := dk_4 (dk_at dksX9_steps_0 10 rfl rfl)
theorem dX9_steps_11 : decode cX9_steps 11 = .ok (.iadd, 1) := dk_96 (dk_at dksX9_steps_0 11 rfl rfl)
theorem dX9_steps_12 : decode cX9_steps 12 = .ok (.iaload, 1) := dk_46 (dk_at dksX9_steps_0 12 rfl rfl)
theorem dX9_steps_13 : decode cX9_steps 13 = .ok (.ifCond .ne 4, 3) := dk_154 0 4 (dk_at dksX9_steps_0 13 rfl rfl)
theorem dX9_steps_16 : decode cX9_steps 16 = .ok (.return_, 1) := dk_177 (dk_at dksX9_steps_0 16 rfl rfl)
theorem dX9_steps_17 : decode cX9_steps 17 = .ok (.aload_n 0, 1) := dk_42 (dk_at dksX9_steps_0 17 rfl rfl)
theorem dX9_steps_18 : decode cX9_steps 18 = .ok (.getfield 80, 3) := dk_180 0 80 (dk_at dksX9_steps_0 18 rfl rfl)
theorem dX9_steps_21 : decode cX9_steps 21 = .ok (.iload_n 2, 1) := dk_28 (dk_at dksX9_steps_0 21 rfl rfl)
theorem dX9_steps_22 : decode cX9_steps 22 = .ok (.iconst 4, 1) := dk_7 (dk_at dksX9_steps_0 22 rfl rfl)
theorem dX9_steps_23 : decode cX9_steps 23 = .ok (.iadd, 1) := dk_96 (dk_at dksX9_steps_0 23 rfl rfl)
theorem dX9_steps_24 : decode cX9_steps 24 = .ok (.dup2, 1) := dk_92 (dk_at dksX9_steps_1 0 rfl rfl)
theorem dX9_steps_25 : decode cX9_steps 25 = .ok (.iaload, 1) := dk_46 (dk_at dksX9_steps_1 1 rfl rfl)
theorem dX9_steps_26 : decode cX9_steps 26 = .ok (.iconst 1, 1) := dk_4 (dk_at dksX9_steps_1 2 rfl rfl)
theorem dX9_steps_27 : decode cX9_steps 27 = .ok (.iadd, 1) := dk_96 (dk_at dksX9_steps_1 3 rfl rfl)
theorem dX9_steps_28 : decode cX9_steps 28 = .ok (.iastore, 1) := dk_79 (dk_at dksX9_steps_1 4 rfl rfl)
theorem dX9_steps_29 : decode cX9_steps 29 = .ok (.aload_n 0, 1) := dk_42 (dk_at dksX9_steps_1 5 rfl rfl)
theorem dX9_steps_30 : decode cX9_steps 30 = .ok (.getfield 80, 3) := dk_180 0 80 (dk_at dksX9_steps_1 6 rfl rfl)
theorem dX9_steps_33 : decode cX9_steps 33 = .ok (.iload_n 2, 1) := dk_28 (dk_at dksX9_steps_1 9 rfl rfl)
theorem dX9_steps_34 : decode cX9_steps 34 = .ok (.iconst 1, 1) := dk_4 (dk_at dksX9_steps_1 10 rfl rfl)
theorem dX9_steps_35 : decode cX9_steps 35 = .ok (.iadd, 1) := dk_96 (dk_at dksX9_steps_1 11 rfl rfl)
theorem dX9_steps_36 : decode cX9_steps 36 = .ok (.iaload, 1) := dk_46 (dk_at dksX9_steps_1 12 rfl rfl)
theorem dX9_steps_37 : decode cX9_steps 37 = .ok (.tableswitch 159 1 12 #[63, 71, 79, 87, 95, 103, 111, 119, 127, 135, 143, 151], 63) := by decide +kernel
theorem dX9_steps_100 : decode cX9_steps 100 = .ok (.aload_n 0, 1) := dk_42 (dk_at dksX9_steps_3 0 rfl rfl)
theorem dX9_steps_101 : decode cX9_steps 101 = .ok (.iload_n 2, 1) := dk_28 (dk_at dksX9_steps_3 1 rfl rfl)
theorem dX9_steps_102 : decode cX9_steps 102 = .ok (.invokevirtual 402, 3) := dk_182 1 146 (dk_at dksX9_steps_3 2 rfl rfl)
theorem dX9_steps_105 : decode cX9_steps 105 = .ok (.goto 96, 3) := dk_167 0 96 (dk_at dksX9_steps_3 5 rfl rfl)
theorem dX9_steps_108 : decode cX9_steps 108 = .ok (.aload_n 0, 1) := dk_42 (dk_at dksX9_steps_3 8 rfl rfl)
theorem dX9_steps_109 : decode cX9_steps 109 = .ok (.iload_n 2, 1) := dk_28 (dk_at dksX9_steps_3 9 rfl rfl)
theorem dX9_steps_110 : decode cX9_steps 110 = .ok (.invokevirtual 405, 3) := dk_182 1 149 (dk_at dksX9_steps_3 10 rfl rfl)
theorem dX9_steps_113 : decode cX9_steps 113 = .ok (.goto 88, 3) := dk_167 0 88 (dk_at dksX9_steps_3 13 rfl rfl)
theorem dX9_steps_116 : decode cX9_steps 116 = .ok (.aload_n 0, 1) := dk_42 (dk_at dksX9_steps_3 16 rfl rfl)
theorem dX9_steps_117 : decode cX9_steps 117 = .ok (.iload_n 2, 1) := dk_28 (dk_at dksX9_steps_3 17 rfl rfl)
theorem dX9_steps_118 : decode cX9_steps 118 = .ok (.invokevirtual 408, 3) := dk_182 1 152 (dk_at dksX9_steps_3 18 rfl rfl)
theorem dX9_steps_121 : decode cX9_steps 121 = .ok (.goto 80, 3) := dk_167 0 80 (dk_at dksX9_steps_3 21 rfl rfl)
theorem dX9_steps_124 : decode cX9_steps 124 = .ok (.aload_n 0, 1) := dk_42 (dk_at dksX9_steps_4 0 rfl rfl)
theorem dX9_steps_125 : decode cX9_steps 125 = .ok (.iload_n 2, 1) := dk_28 (dk_at dksX9_steps_4 1 rfl rfl)
theorem dX9_steps_126 : decode cX9_steps 126 = .ok (.invokevirtual 411, 3) := dk_182 1 155 (dk_at dksX9_steps_4 2 rfl rfl)
theorem dX9_steps_129 : decode cX9_steps 129 = .ok (.goto 72, 3) := dk_167 0 72 (dk_at dksX9_steps_4 5 rfl rfl)
theorem dX9_steps_132 : decode cX9_steps 132 = .ok (.aload_n 0, 1) := dk_42 (dk_at dksX9_steps_4 8 rfl rfl)
theorem dX9_steps_133 : decode cX9_steps 133 = .ok (.iload_n 2, 1) := dk_28 (dk_at dksX9_steps_4 9 rfl rfl)
theorem dX9_steps_134 : decode cX9_steps 134 = .ok (.invokevirtual 414, 3) := dk_182 1 158 (dk_at dksX9_steps_4 10 rfl rfl)
theorem dX9_steps_137 : decode cX9_steps 137 = .ok (.goto 64, 3) := dk_167 0 64 (dk_at dksX9_steps_4 13 rfl rfl)
theorem dX9_steps_140 : decode cX9_steps 140 = .ok (.aload_n 0, 1) := dk_42 (dk_at dksX9_steps_4 16 rfl rfl)
theorem dX9_steps_141 : decode cX9_steps 141 = .ok (.iload_n 2, 1) := dk_28 (dk_at dksX9_steps_4 17 rfl rfl)
theorem dX9_steps_142 : decode cX9_steps 142 = .ok (.invokevirtual 417, 3) := dk_182 1 161 (dk_at dksX9_steps_4 18 rfl rfl)
theorem dX9_steps_145 : decode cX9_steps 145 = .ok (.goto 56, 3) := dk_167 0 56 (dk_at dksX9_steps_4 21 rfl rfl)
theorem dX9_steps_148 : decode cX9_steps 148 = .ok (.aload_n 0, 1) := dk_42 (dk_at dksX9_steps_5 0 rfl rfl)
theorem dX9_steps_149 : decode cX9_steps 149 = .ok (.iload_n 2, 1) := dk_28 (dk_at dksX9_steps_5 1 rfl rfl)
theorem dX9_steps_150 : decode cX9_steps 150 = .ok (.invokevirtual 420, 3) := dk_182 1 164 (dk_at dksX9_steps_5 2 rfl rfl)
theorem dX9_steps_153 : decode cX9_steps 153 = .ok (.goto 48, 3) := dk_167 0 48 (dk_at dksX9_steps_5 5 rfl rfl)
theorem dX9_steps_156 : decode cX9_steps 156 = .ok (.aload_n 0, 1) := dk_42 (dk_at dksX9_steps_5 8 rfl rfl)
theorem dX9_steps_157 : decode cX9_steps 157 = .ok (.iload_n 2, 1) := dk_28 (dk_at dksX9_steps_5 9 rfl rfl)
theorem dX9_steps_158 : decode cX9_steps 158 = .ok (.invokevirtual 423, 3) := dk_182 1 167 (dk_at dksX9_steps_5 10 rfl rfl)
theorem dX9_steps_161 : decode cX9_steps 161 = .ok (.goto 40, 3) := dk_167 0 40 (dk_at dksX9_steps_5 13 rfl rfl)
theorem dX9_steps_164 : decode cX9_steps 164 = .ok (.aload_n 0, 1) := dk_42 (dk_at dksX9_steps_5 16 rfl rfl)
theorem dX9_steps_165 : decode cX9_steps 165 = .ok (.iload_n 2, 1) := dk_28 (dk_at dksX9_steps_5 17 rfl rfl)
theorem dX9_steps_166 : decode cX9_steps 166 = .ok (.invokevirtual 426, 3) := dk_182 1 170 (dk_at dksX9_steps_5 18 rfl rfl)
theorem dX9_steps_169 : decode cX9_steps 169 = .ok (.goto 32, 3) := dk_167 0 32 (dk_at dksX9_steps_5 21 rfl rfl)
theorem dX9_steps_172 : decode cX9_steps 172 = .ok (.aload_n 0, 1) := dk_42 (dk_at dksX9_steps_6 0 rfl rfl)
theorem dX9_steps_173 : decode cX9_steps 173 = .ok (.iload_n 2, 1) := dk_28 (dk_at dksX9_steps_6 1 rfl rfl)
theorem dX9_steps_174 : decode cX9_steps 174 = .ok (.invokevirtual 429, 3) := dk_182 1 173 (dk_at dksX9_steps_6 2 rfl rfl)
theorem dX9_steps_177 : decode cX9_steps 177 = .ok (.goto 24, 3) := dk_167 0 24 (dk_at dksX9_steps_6 5 rfl rfl)
theorem dX9_steps_180 : decode cX9_steps 180 = .ok (.aload_n 0, 1) := dk_42 (dk_at dksX9_steps_6 8 rfl rfl)
theorem dX9_steps_181 : decode cX9_steps 181 = .ok (.iload_n 2, 1) := dk_28 (dk_at dksX9_steps_6 9 rfl rfl)
theorem dX9_steps_182 : decode cX9_steps 182 = .ok (.invokevirtual 432, 3) := dk_182 1 176 (dk_at dksX9_steps_6 10 rfl rfl)
theorem dX9_steps_185 : decode cX9_steps 185 = .ok (.goto 16, 3) := dk_167 0 16 (dk_at dksX9_steps_6 13 rfl rfl)
theorem dX9_steps_188 : decode cX9_steps 188 = .ok (.aload_n 0, 1) := dk_42 (dk_at dksX9_steps_6 16 rfl rfl)
theorem dX9_steps_189 : decode cX9_steps 189 = .ok (.iload_n 2, 1) := dk_28 (dk_at dksX9_steps_6 17 rfl rfl)
theorem dX9_steps_190 : decode cX9_steps 190 = .ok (.invokevirtual 435, 3) := dk_182 1 179 (dk_at dksX9_steps_6 18 rfl rfl)
theorem dX9_steps_193 : decode cX9_steps 193 = .ok (.goto 8, 3) := dk_167 0 8 (dk_at dksX9_steps_6 21 rfl rfl)
theorem dX9_steps_196 : decode cX9_steps 196 = .ok (.aload_n 0, 1) := dk_42 (dk_at dksX9_steps_7 0 rfl rfl)
theorem dX9_steps_197 : decode cX9_steps 197 = .ok (.iload_n 2, 1) := dk_28 (dk_at dksX9_steps_7 1 rfl rfl)
theorem dX9_steps_198 : decode cX9_steps 198 = .ok (.invokevirtual 438, 3) := dk_182 1 182 (dk_at dksX9_steps_7 2 rfl rfl)
theorem dX9_steps_201 : decode cX9_steps 201 = .ok (.return_, 1) := dk_177 (dk_at dksX9_steps_7 5 rfl rfl)
abbrev cX9_finds : ByteArray := prog_20_method_66_code
def yX9_finds : MethodName := ⟨RX9, "finds", "(I)V"⟩
def dkwX9_finds_2 : List UInt8 := [79, 42, 27, 5, 182, 1, 92, 177]
abbrev dktX9_finds_2 : List UInt8 := dkwX9_finds_2 ++ []
def dkwX9_finds_1 : List UInt8 := [96, 46, 164, 0, 9, 132, 2, 255, 167, 255, 235, 42, 180, 0, 80, 27, 5, 96, 42, 180, 0, 95, 28, 46]
abbrev dktX9_finds_1 : List UInt8 := dkwX9_finds_1 ++ dktX9_finds_2
def dkwX9_finds_0 : List UInt8 := [42, 182, 1, 89, 42, 180, 1, 86, 4, 100, 61, 42, 180, 0, 92, 28, 46, 42, 180, 0, 80, 27, 16, 6]
abbrev dktX9_finds_0 : List UInt8 := dkwX9_finds_0 ++ dktX9_finds_1
theorem dksX9_finds_0 : cX9_finds.data.toList.drop 0 = dktX9_finds_0 := by decide +kernel
theorem dksX9_finds_1 : cX9_finds.data.toList.drop 24 = dktX9_finds_1 := dk_seg dksX9_finds_0 24 rfl rfl
theorem dksX9_finds_2 : cX9_finds.data.toList.drop 48 = dktX9_finds_2 := dk_seg dksX9_finds_1 24 rfl rfl
theorem dX9_finds_0 : decode cX9_finds 0 = .ok (.aload_n 0, 1) := dk_42 (dk_at dksX9_finds_0 0 rfl rfl)
theorem dX9_finds_1 : decode cX9_finds 1 = .ok (.invokevirtual 345, 3) := dk_182 1 89 (dk_at dksX9_finds_0 1 rfl rfl)
theorem dX9_finds_4 : decode cX9_finds 4 = .ok (.aload_n 0, 1) := dk_42 (dk_at dksX9_finds_0 4 rfl rfl)
theorem dX9_finds_5 : decode cX9_finds 5 = .ok (.getfield 342, 3) := dk_180 1 86 (dk_at dksX9_finds_0 5 rfl rfl)
theorem dX9_finds_8 : decode cX9_finds 8 = .ok (.iconst 1, 1) := dk_4 (dk_at dksX9_finds_0 8 rfl rfl)
theorem dX9_finds_9 : decode cX9_finds 9 = .ok (.isub, 1) := dk_100 (dk_at dksX9_finds_0 9 rfl rfl)
theorem dX9_finds_10 : decode cX9_finds 10 = .ok (.istore_n 2, 1) := dk_61 (dk_at dksX9_finds_0 10 rfl rfl)
theorem dX9_finds_11 : decode cX9_finds 11 = .ok (.aload_n 0, 1) := dk_42 (dk_at dksX9_finds_0 11 rfl rfl)
theorem dX9_finds_12 : decode cX9_finds 12 = .ok (.getfield 92, 3) := dk_180 0 92 (dk_at dksX9_finds_0 12 rfl rfl)
theorem dX9_finds_15 : decode cX9_finds 15 = .ok (.iload_n 2, 1) := dk_28 (dk_at dksX9_finds_0 15 rfl rfl)
theorem dX9_finds_16 : decode cX9_finds 16 = .ok (.iaload, 1) := dk_46 (dk_at dksX9_finds_0 16 rfl rfl)
theorem dX9_finds_17 : decode cX9_finds 17 = .ok (.aload_n 0, 1) := dk_42 (dk_at dksX9_finds_0 17 rfl rfl)
theorem dX9_finds_18 : decode cX9_finds 18 = .ok (.getfield 80, 3) := dk_180 0 80 (dk_at dksX9_finds_0 18 rfl rfl)
theorem dX9_finds_21 : decode cX9_finds 21 = .ok (.iload_n 1, 1) := dk_27 (dk_at dksX9_finds_0 21 rfl rfl)
theorem dX9_finds_22 : decode cX9_finds 22 = .ok (.bipush 6, 2) := dk_16 6 (dk_at dksX9_finds_0 22 rfl rfl)
theorem dX9_finds_24 : decode cX9_finds 24 = .ok (.iadd, 1) := dk_96 (dk_at dksX9_finds_1 0 rfl rfl)
theorem dX9_finds_25 : decode cX9_finds 25 = .ok (.iaload, 1) := dk_46 (dk_at dksX9_finds_1 1 rfl rfl)
theorem dX9_finds_26 : decode cX9_finds 26 = .ok (.if_icmp .le 9, 3) := dk_164 0 9 (dk_at dksX9_finds_1 2 rfl rfl)
theorem dX9_finds_29 : decode cX9_finds 29 = .ok (.iinc 2 (-1), 3) := dk_132 2 255 (dk_at dksX9_finds_1 5 rfl rfl)
theorem dX9_finds_32 : decode cX9_finds 32 = .ok (.goto (-21), 3) := dk_167 255 235 (dk_at dksX9_finds_1 8 rfl rfl)
theorem dX9_finds_35 : decode cX9_finds 35 = .ok (.aload_n 0, 1) := dk_42 (dk_at dksX9_finds_1 11 rfl rfl)
theorem dX9_finds_36 : decode cX9_finds 36 = .ok (.getfield 80, 3) := dk_180 0 80 (dk_at dksX9_finds_1 12 rfl rfl)
theorem dX9_finds_39 : decode cX9_finds 39 = .ok (.iload_n 1, 1) := dk_27 (dk_at dksX9_finds_1 15 rfl rfl)
theorem dX9_finds_40 : decode cX9_finds 40 = .ok (.iconst 2, 1) := dk_5 (dk_at dksX9_finds_1 16 rfl rfl)
theorem dX9_finds_41 : decode cX9_finds 41 = .ok (.iadd, 1) := dk_96 (dk_at dksX9_finds_1 17 rfl rfl)
theorem dX9_finds_42 : decode cX9_finds 42 = .ok (.aload_n 0, 1) := dk_42 (dk_at dksX9_finds_1 18 rfl rfl)
theorem dX9_finds_43 : decode cX9_finds 43 = .ok (.getfield 95, 3) := dk_180 0 95 (dk_at dksX9_finds_1 19 rfl rfl)
theorem dX9_finds_46 : decode cX9_finds 46 = .ok (.iload_n 2, 1) := dk_28 (dk_at dksX9_finds_1 22 rfl rfl)
theorem dX9_finds_47 : decode cX9_finds 47 = .ok (.iaload, 1) := dk_46 (dk_at dksX9_finds_1 23 rfl rfl)
theorem dX9_finds_48 : decode cX9_finds 48 = .ok (.iastore, 1) := dk_79 (dk_at dksX9_finds_2 0 rfl rfl)
theorem dX9_finds_49 : decode cX9_finds 49 = .ok (.aload_n 0, 1) := dk_42 (dk_at dksX9_finds_2 1 rfl rfl)
theorem dX9_finds_50 : decode cX9_finds 50 = .ok (.iload_n 1, 1) := dk_27 (dk_at dksX9_finds_2 2 rfl rfl)
theorem dX9_finds_51 : decode cX9_finds 51 = .ok (.iconst 2, 1) := dk_5 (dk_at dksX9_finds_2 3 rfl rfl)
theorem dX9_finds_52 : decode cX9_finds 52 = .ok (.invokevirtual 348, 3) := dk_182 1 92 (dk_at dksX9_finds_2 4 rfl rfl)
theorem dX9_finds_55 : decode cX9_finds 55 = .ok (.return_, 1) := dk_177 (dk_at dksX9_finds_2 7 rfl rfl)
abbrev cX9_fillsBounds : ByteArray := prog_20_method_56_code
def yX9_fillsBounds : MethodName := ⟨RX9, "fillsBounds", "()V"⟩
def dkwX9_fillsBounds_2 : List UInt8 := [132, 1, 1, 167, 255, 221, 177]
abbrev dktX9_fillsBounds_2 : List UInt8 := dkwX9_fillsBounds_2 ++ []
def dkwX9_fillsBounds_1 : List UInt8 := [180, 0, 92, 27, 42, 180, 0, 86, 27, 46, 79, 42, 180, 0, 95, 27, 42, 180, 0, 89, 27, 46, 79]
abbrev dktX9_fillsBounds_1 : List UInt8 := dkwX9_fillsBounds_1 ++ dktX9_fillsBounds_2
def dkwX9_fillsBounds_0 : List UInt8 := [42, 3, 182, 1, 83, 42, 42, 180, 1, 53, 181, 1, 86, 3, 60, 27, 42, 180, 1, 53, 162, 0, 33, 42]
abbrev dktX9_fillsBounds_0 : List UInt8 := dkwX9_fillsBounds_0 ++ dktX9_fillsBounds_1
theorem dksX9_fillsBounds_0 : cX9_fillsBounds.data.toList.drop 0 = dktX9_fillsBounds_0 := by decide +kernel
theorem dksX9_fillsBounds_1 : cX9_fillsBounds.data.toList.drop 24 = dktX9_fillsBounds_1 := dk_seg dksX9_fillsBounds_0 24 rfl rfl
theorem dksX9_fillsBounds_2 : cX9_fillsBounds.data.toList.drop 47 = dktX9_fillsBounds_2 := dk_seg dksX9_fillsBounds_1 23 rfl rfl
theorem dX9_fillsBounds_0 : decode cX9_fillsBounds 0 = .ok (.aload_n 0, 1) := dk_42 (dk_at dksX9_fillsBounds_0 0 rfl rfl)
theorem dX9_fillsBounds_1 : decode cX9_fillsBounds 1 = .ok (.iconst 0, 1) := dk_3 (dk_at dksX9_fillsBounds_0 1 rfl rfl)
theorem dX9_fillsBounds_2 : decode cX9_fillsBounds 2 = .ok (.invokevirtual 339, 3) := dk_182 1 83 (dk_at dksX9_fillsBounds_0 2 rfl rfl)
theorem dX9_fillsBounds_5 : decode cX9_fillsBounds 5 = .ok (.aload_n 0, 1) := dk_42 (dk_at dksX9_fillsBounds_0 5 rfl rfl)
theorem dX9_fillsBounds_6 : decode cX9_fillsBounds 6 = .ok (.aload_n 0, 1) := dk_42 (dk_at dksX9_fillsBounds_0 6 rfl rfl)
theorem dX9_fillsBounds_7 : decode cX9_fillsBounds 7 = .ok (.getfield 309, 3) := dk_180 1 53 (dk_at dksX9_fillsBounds_0 7 rfl rfl)
theorem dX9_fillsBounds_10 : decode cX9_fillsBounds 10 = .ok (.putfield 342, 3) := dk_181 1 86 (dk_at dksX9_fillsBounds_0 10 rfl rfl)
theorem dX9_fillsBounds_13 : decode cX9_fillsBounds 13 = .ok (.iconst 0, 1) := dk_3 (dk_at dksX9_fillsBounds_0 13 rfl rfl)
theorem dX9_fillsBounds_14 : decode cX9_fillsBounds 14 = .ok (.istore_n 1, 1) := dk_60 (dk_at dksX9_fillsBounds_0 14 rfl rfl)
theorem dX9_fillsBounds_15 : decode cX9_fillsBounds 15 = .ok (.iload_n 1, 1) := dk_27 (dk_at dksX9_fillsBounds_0 15 rfl rfl)
theorem dX9_fillsBounds_16 : decode cX9_fillsBounds 16 = .ok (.aload_n 0, 1) := dk_42 (dk_at dksX9_fillsBounds_0 16 rfl rfl)
theorem dX9_fillsBounds_17 : decode cX9_fillsBounds 17 = .ok (.getfield 309, 3) := dk_180 1 53 (dk_at dksX9_fillsBounds_0 17 rfl rfl)
theorem dX9_fillsBounds_20 : decode cX9_fillsBounds 20 = .ok (.if_icmp .ge 33, 3) := dk_162 0 33 (dk_at dksX9_fillsBounds_0 20 rfl rfl)
theorem dX9_fillsBounds_23 : decode cX9_fillsBounds 23 = .ok (.aload_n 0, 1) := dk_42 (dk_at dksX9_fillsBounds_0 23 rfl rfl)
theorem dX9_fillsBounds_24 : decode cX9_fillsBounds 24 = .ok (.getfield 92, 3) := dk_180 0 92 (dk_at dksX9_fillsBounds_1 0 rfl rfl)
theorem dX9_fillsBounds_27 : decode cX9_fillsBounds 27 = .ok (.iload_n 1, 1) := dk_27 (dk_at dksX9_fillsBounds_1 3 rfl rfl)
theorem dX9_fillsBounds_28 : decode cX9_fillsBounds 28 = .ok (.aload_n 0, 1) := dk_42 (dk_at dksX9_fillsBounds_1 4 rfl rfl)
theorem dX9_fillsBounds_29 : decode cX9_fillsBounds 29 = .ok (.getfield 86, 3) := dk_180 0 86 (dk_at dksX9_fillsBounds_1 5 rfl rfl)
theorem dX9_fillsBounds_32 : decode cX9_fillsBounds 32 = .ok (.iload_n 1, 1) := dk_27 (dk_at dksX9_fillsBounds_1 8 rfl rfl)
theorem dX9_fillsBounds_33 : decode cX9_fillsBounds 33 = .ok (.iaload, 1) := dk_46 (dk_at dksX9_fillsBounds_1 9 rfl rfl)
theorem dX9_fillsBounds_34 : decode cX9_fillsBounds 34 = .ok (.iastore, 1) := dk_79 (dk_at dksX9_fillsBounds_1 10 rfl rfl)
theorem dX9_fillsBounds_35 : decode cX9_fillsBounds 35 = .ok (.aload_n 0, 1) := dk_42 (dk_at dksX9_fillsBounds_1 11 rfl rfl)
theorem dX9_fillsBounds_36 : decode cX9_fillsBounds 36 = .ok (.getfield 95, 3) := dk_180 0 95 (dk_at dksX9_fillsBounds_1 12 rfl rfl)
theorem dX9_fillsBounds_39 : decode cX9_fillsBounds 39 = .ok (.iload_n 1, 1) := dk_27 (dk_at dksX9_fillsBounds_1 15 rfl rfl)
theorem dX9_fillsBounds_40 : decode cX9_fillsBounds 40 = .ok (.aload_n 0, 1) := dk_42 (dk_at dksX9_fillsBounds_1 16 rfl rfl)
theorem dX9_fillsBounds_41 : decode cX9_fillsBounds 41 = .ok (.getfield 89, 3) := dk_180 0 89 (dk_at dksX9_fillsBounds_1 17 rfl rfl)
theorem dX9_fillsBounds_44 : decode cX9_fillsBounds 44 = .ok (.iload_n 1, 1) := dk_27 (dk_at dksX9_fillsBounds_1 20 rfl rfl)
theorem dX9_fillsBounds_45 : decode cX9_fillsBounds 45 = .ok (.iaload, 1) := dk_46 (dk_at dksX9_fillsBounds_1 21 rfl rfl)
theorem dX9_fillsBounds_46 : decode cX9_fillsBounds 46 = .ok (.iastore, 1) := dk_79 (dk_at dksX9_fillsBounds_1 22 rfl rfl)
theorem dX9_fillsBounds_47 : decode cX9_fillsBounds 47 = .ok (.iinc 1 1, 3) := dk_132 1 1 (dk_at dksX9_fillsBounds_2 0 rfl rfl)
theorem dX9_fillsBounds_50 : decode cX9_fillsBounds 50 = .ok (.goto (-35), 3) := dk_167 255 221 (dk_at dksX9_fillsBounds_2 3 rfl rfl)
theorem dX9_fillsBounds_53 : decode cX9_fillsBounds 53 = .ok (.return_, 1) := dk_177 (dk_at dksX9_fillsBounds_2 6 rfl rfl)
abbrev cX9_stands : ByteArray := prog_20_method_61_code
def yX9_stands : MethodName := ⟨RX9, "stands", "(II)V"⟩
def dkwX9_stands_0 : List UInt8 := [42, 180, 0, 80, 27, 4, 96, 28, 79, 177]
abbrev dktX9_stands_0 : List UInt8 := dkwX9_stands_0 ++ []
theorem dksX9_stands_0 : cX9_stands.data.toList.drop 0 = dktX9_stands_0 := by decide +kernel
theorem dX9_stands_0 : decode cX9_stands 0 = .ok (.aload_n 0, 1) := dk_42 (dk_at dksX9_stands_0 0 rfl rfl)
theorem dX9_stands_1 : decode cX9_stands 1 = .ok (.getfield 80, 3) := dk_180 0 80 (dk_at dksX9_stands_0 1 rfl rfl)
theorem dX9_stands_4 : decode cX9_stands 4 = .ok (.iload_n 1, 1) := dk_27 (dk_at dksX9_stands_0 4 rfl rfl)
theorem dX9_stands_5 : decode cX9_stands 5 = .ok (.iconst 1, 1) := dk_4 (dk_at dksX9_stands_0 5 rfl rfl)
theorem dX9_stands_6 : decode cX9_stands 6 = .ok (.iadd, 1) := dk_96 (dk_at dksX9_stands_0 6 rfl rfl)
theorem dX9_stands_7 : decode cX9_stands 7 = .ok (.iload_n 2, 1) := dk_28 (dk_at dksX9_stands_0 7 rfl rfl)
theorem dX9_stands_8 : decode cX9_stands 8 = .ok (.iastore, 1) := dk_79 (dk_at dksX9_stands_0 8 rfl rfl)
theorem dX9_stands_9 : decode cX9_stands 9 = .ok (.return_, 1) := dk_177 (dk_at dksX9_stands_0 9 rfl rfl)
abbrev cX9_reads : ByteArray := prog_20_method_69_code
def yX9_reads : MethodName := ⟨RX9, "reads", "(I)V"⟩
def dkwX9_reads_9 : List UInt8 := [182, 1, 107, 167, 0, 10, 42, 27, 28, 6, 182, 1, 114, 177]
abbrev dktX9_reads_9 : List UInt8 := dkwX9_reads_9 ++ []
def dkwX9_reads_8 : List UInt8 := [21, 5, 4, 160, 0, 25, 21, 4, 154, 0, 20, 42, 182, 1, 110, 153, 0, 13, 42, 27, 16, 253]
abbrev dktX9_reads_8 : List UInt8 := dkwX9_reads_8 ++ dktX9_reads_9
def dkwX9_reads_7 : List UInt8 := [182, 1, 107, 167, 0, 56, 42, 180, 1, 47, 16, 24, 164, 0, 12, 42, 27, 7, 182, 1, 92, 167, 0, 38]
abbrev dktX9_reads_7 : List UInt8 := dkwX9_reads_7 ++ dktX9_reads_8
def dkwX9_reads_6 : List UInt8 := [167, 0, 4, 3, 182, 1, 107, 167, 0, 76, 21, 5, 5, 160, 0, 17, 21, 4, 154, 0, 12, 42, 27, 3]
abbrev dktX9_reads_6 : List UInt8 := dkwX9_reads_6 ++ dktX9_reads_7
def dkwX9_reads_5 : List UInt8 := [21, 5, 6, 160, 0, 30, 42, 27, 21, 4, 153, 0, 16, 42, 180, 0, 89, 42, 29, 182, 1, 56, 46]
abbrev dktX9_reads_5 : List UInt8 := dkwX9_reads_5 ++ dktX9_reads_6
def dkwX9_reads_4 : List UInt8 := [180, 1, 71, 182, 1, 104, 177, 42, 29, 182, 1, 59, 54, 4, 42, 180, 0, 80, 27, 3, 96, 46, 54, 5]
abbrev dktX9_reads_4 : List UInt8 := dkwX9_reads_4 ++ dktX9_reads_5
def dkwX9_reads_3 : List UInt8 := [96, 42, 180, 1, 71, 79, 42, 27, 5, 182, 1, 92, 167, 0, 16, 42, 27, 42, 180, 1, 68, 42]
abbrev dktX9_reads_3 : List UInt8 := dkwX9_reads_3 ++ dktX9_reads_4
def dkwX9_reads_2 : List UInt8 := [161, 0, 53, 42, 42, 180, 1, 68, 182, 1, 101, 42, 180, 1, 71, 160, 0, 24, 42, 180, 0, 80, 27, 5]
abbrev dktX9_reads_2 : List UInt8 := dkwX9_reads_2 ++ dktX9_reads_3
def dkwX9_reads_1 : List UInt8 := [153, 0, 10, 42, 27, 28, 182, 1, 98, 177, 42, 182, 1, 89, 42, 28, 182, 1, 83, 29, 42, 180, 1, 68]
abbrev dktX9_reads_1 : List UInt8 := dkwX9_reads_1 ++ dktX9_reads_2
def dkwX9_reads_0 : List UInt8 := [42, 180, 0, 80, 27, 5, 96, 46, 61, 42, 180, 0, 80, 27, 16, 6, 96, 46, 62, 42, 28, 182, 1, 95]
abbrev dktX9_reads_0 : List UInt8 := dkwX9_reads_0 ++ dktX9_reads_1
theorem dksX9_reads_0 : cX9_reads.data.toList.drop 0 = dktX9_reads_0 := by decide +kernel
theorem dksX9_reads_1 : cX9_reads.data.toList.drop 24 = dktX9_reads_1 := dk_seg dksX9_reads_0 24 rfl rfl
theorem dksX9_reads_2 : cX9_reads.data.toList.drop 48 = dktX9_reads_2 := dk_seg dksX9_reads_1 24 rfl rfl
theorem dksX9_reads_3 : cX9_reads.data.toList.drop 72 = dktX9_reads_3 := dk_seg dksX9_reads_2 24 rfl rfl
theorem dksX9_reads_4 : cX9_reads.data.toList.drop 94 = dktX9_reads_4 := dk_seg dksX9_reads_3 22 rfl rfl
theorem dksX9_reads_5 : cX9_reads.data.toList.drop 118 = dktX9_reads_5 := dk_seg dksX9_reads_4 24 rfl rfl
theorem dksX9_reads_6 : cX9_reads.data.toList.drop 141 = dktX9_reads_6 := dk_seg dksX9_reads_5 23 rfl rfl
theorem dksX9_reads_7 : cX9_reads.data.toList.drop 165 = dktX9_reads_7 := dk_seg dksX9_reads_6 24 rfl rfl
theorem dksX9_reads_8 : cX9_reads.data.toList.drop 189 = dktX9_reads_8 := dk_seg dksX9_reads_7 24 rfl rfl
theorem dksX9_reads_9 : cX9_reads.data.toList.drop 211 = dktX9_reads_9 := dk_seg dksX9_reads_8 22 rfl rfl
theorem dX9_reads_0 : decode cX9_reads 0 = .ok (.aload_n 0, 1) := dk_42 (dk_at dksX9_reads_0 0 rfl rfl)
theorem dX9_reads_1 : decode cX9_reads 1 = .ok (.getfield 80, 3) := dk_180 0 80 (dk_at dksX9_reads_0 1 rfl rfl)
theorem dX9_reads_4 : decode cX9_reads 4 = .ok (.iload_n 1, 1) := dk_27 (dk_at dksX9_reads_0 4 rfl rfl)
theorem dX9_reads_5 : decode cX9_reads 5 = .ok (.iconst 2, 1) := dk_5 (dk_at dksX9_reads_0 5 rfl rfl)
theorem dX9_reads_6 : decode cX9_reads 6 = .ok (.iadd, 1) := dk_96 (dk_at dksX9_reads_0 6 rfl rfl)
theorem dX9_reads_7 : decode cX9_reads 7 = .ok (.iaload, 1) := dk_46 (dk_at dksX9_reads_0 7 rfl rfl)
theorem dX9_reads_8 : decode cX9_reads 8 = .ok (.istore_n 2, 1) := dk_61 (dk_at dksX9_reads_0 8 rfl rfl)
theorem dX9_reads_9 : decode cX9_reads 9 = .ok (.aload_n 0, 1) := dk_42 (dk_at dksX9_reads_0 9 rfl rfl)
theorem dX9_reads_10 : decode cX9_reads 10 = .ok (.getfield 80, 3) := dk_180 0 80 (dk_at dksX9_reads_0 10 rfl rfl)
theorem dX9_reads_13 : decode cX9_reads 13 = .ok (.iload_n 1, 1) := dk_27 (dk_at dksX9_reads_0 13 rfl rfl)
theorem dX9_reads_14 : decode cX9_reads 14 = .ok (.bipush 6, 2) := dk_16 6 (dk_at dksX9_reads_0 14 rfl rfl)
theorem dX9_reads_16 : decode cX9_reads 16 = .ok (.iadd, 1) := dk_96 (dk_at dksX9_reads_0 16 rfl rfl)
theorem dX9_reads_17 : decode cX9_reads 17 = .ok (.iaload, 1) := dk_46 (dk_at dksX9_reads_0 17 rfl rfl)
theorem dX9_reads_18 : decode cX9_reads 18 = .ok (.istore_n 3, 1) := dk_62 (dk_at dksX9_reads_0 18 rfl rfl)
theorem dX9_reads_19 : decode cX9_reads 19 = .ok (.aload_n 0, 1) := dk_42 (dk_at dksX9_reads_0 19 rfl rfl)
theorem dX9_reads_20 : decode cX9_reads 20 = .ok (.iload_n 2, 1) := dk_28 (dk_at dksX9_reads_0 20 rfl rfl)
theorem dX9_reads_21 : decode cX9_reads 21 = .ok (.invokevirtual 351, 3) := dk_182 1 95 (dk_at dksX9_reads_0 21 rfl rfl)
theorem dX9_reads_24 : decode cX9_reads 24 = .ok (.ifCond .eq 10, 3) := dk_153 0 10 (dk_at dksX9_reads_1 0 rfl rfl)
theorem dX9_reads_27 : decode cX9_reads 27 = .ok (.aload_n 0, 1) := dk_42 (dk_at dksX9_reads_1 3 rfl rfl)
theorem dX9_reads_28 : decode cX9_reads 28 = .ok (.iload_n 1, 1) := dk_27 (dk_at dksX9_reads_1 4 rfl rfl)
theorem dX9_reads_29 : decode cX9_reads 29 = .ok (.iload_n 2, 1) := dk_28 (dk_at dksX9_reads_1 5 rfl rfl)
theorem dX9_reads_30 : decode cX9_reads 30 = .ok (.invokevirtual 354, 3) := dk_182 1 98 (dk_at dksX9_reads_1 6 rfl rfl)
theorem dX9_reads_33 : decode cX9_reads 33 = .ok (.return_, 1) := dk_177 (dk_at dksX9_reads_1 9 rfl rfl)
theorem dX9_reads_34 : decode cX9_reads 34 = .ok (.aload_n 0, 1) := dk_42 (dk_at dksX9_reads_1 10 rfl rfl)
theorem dX9_reads_35 : decode cX9_reads 35 = .ok (.invokevirtual 345, 3) := dk_182 1 89 (dk_at dksX9_reads_1 11 rfl rfl)
theorem dX9_reads_38 : decode cX9_reads 38 = .ok (.aload_n 0, 1) := dk_42 (dk_at dksX9_reads_1 14 rfl rfl)
theorem dX9_reads_39 : decode cX9_reads 39 = .ok (.iload_n 2, 1) := dk_28 (dk_at dksX9_reads_1 15 rfl rfl)
theorem dX9_reads_40 : decode cX9_reads 40 = .ok (.invokevirtual 339, 3) := dk_182 1 83 (dk_at dksX9_reads_1 16 rfl rfl)
theorem dX9_reads_43 : decode cX9_reads 43 = .ok (.iload_n 3, 1) := dk_29 (dk_at dksX9_reads_1 19 rfl rfl)
theorem dX9_reads_44 : decode cX9_reads 44 = .ok (.aload_n 0, 1) := dk_42 (dk_at dksX9_reads_1 20 rfl rfl)
theorem dX9_reads_45 : decode cX9_reads 45 = .ok (.getfield 324, 3) := dk_180 1 68 (dk_at dksX9_reads_1 21 rfl rfl)
theorem dX9_reads_48 : decode cX9_reads 48 = .ok (.if_icmp .lt 53, 3) := dk_161 0 53 (dk_at dksX9_reads_2 0 rfl rfl)
theorem dX9_reads_51 : decode cX9_reads 51 = .ok (.aload_n 0, 1) := dk_42 (dk_at dksX9_reads_2 3 rfl rfl)
theorem dX9_reads_52 : decode cX9_reads 52 = .ok (.aload_n 0, 1) := dk_42 (dk_at dksX9_reads_2 4 rfl rfl)
theorem dX9_reads_53 : decode cX9_reads 53 = .ok (.getfield 324, 3) := dk_180 1 68 (dk_at dksX9_reads_2 5 rfl rfl)
theorem dX9_reads_56 : decode cX9_reads 56 = .ok (.invokevirtual 357, 3) := dk_182 1 101 (dk_at dksX9_reads_2 8 rfl rfl)
theorem dX9_reads_59 : decode cX9_reads 59 = .ok (.aload_n 0, 1) := dk_42 (dk_at dksX9_reads_2 11 rfl rfl)
theorem dX9_reads_60 : decode cX9_reads 60 = .ok (.getfield 327, 3) := dk_180 1 71 (dk_at dksX9_reads_2 12 rfl rfl)
theorem dX9_reads_63 : decode cX9_reads 63 = .ok (.if_icmp .ne 24, 3) := dk_160 0 24 (dk_at dksX9_reads_2 15 rfl rfl)
theorem dX9_reads_66 : decode cX9_reads 66 = .ok (.aload_n 0, 1) := dk_42 (dk_at dksX9_reads_2 18 rfl rfl)
theorem dX9_reads_67 : decode cX9_reads 67 = .ok (.getfield 80, 3) := dk_180 0 80 (dk_at dksX9_reads_2 19 rfl rfl)
theorem dX9_reads_70 : decode cX9_reads 70 = .ok (.iload_n 1, 1) := dk_27 (dk_at dksX9_reads_2 22 rfl rfl)
theorem dX9_reads_71 : decode cX9_reads 71 = .ok (.iconst 2, 1) := dk_5 (dk_at dksX9_reads_2 23 rfl rfl)
theorem dX9_reads_72 : decode cX9_reads 72 = .ok (.iadd, 1) := dk_96 (dk_at dksX9_reads_3 0 rfl rfl)
theorem dX9_reads_73 : decode cX9_reads 73 = .ok (.aload_n 0, 1) := dk_42 (dk_at dksX9_reads_3 1 rfl rfl)
theorem dX9_reads_74 : decode cX9_reads 74 = .ok (.getfield 327, 3) := dk_180 1 71 (dk_at dksX9_reads_3 2 rfl rfl)
theorem dX9_reads_77 : decode cX9_reads 77 = .ok (.iastore, 1) := dk_79 (dk_at dksX9_reads_3 5 rfl rfl)
theorem dX9_reads_78 : decode cX9_reads 78 = .ok (.aload_n 0, 1) := dk_42 (dk_at dksX9_reads_3 6 rfl rfl)
theorem dX9_reads_79 : decode cX9_reads 79 = .ok (.iload_n 1, 1) := dk_27 (dk_at dksX9_reads_3 7 rfl rfl)
theorem dX9_reads_80 : decode cX9_reads 80 = .ok (.iconst 2, 1) := dk_5 (dk_at dksX9_reads_3 8 rfl rfl)
theorem dX9_reads_81 : decode cX9_reads 81 = .ok (.invokevirtual 348, 3) := dk_182 1 92 (dk_at dksX9_reads_3 9 rfl rfl)
theorem dX9_reads_84 : decode cX9_reads 84 = .ok (.goto 16, 3) := dk_167 0 16 (dk_at dksX9_reads_3 12 rfl rfl)
theorem dX9_reads_87 : decode cX9_reads 87 = .ok (.aload_n 0, 1) := dk_42 (dk_at dksX9_reads_3 15 rfl rfl)
theorem dX9_reads_88 : decode cX9_reads 88 = .ok (.iload_n 1, 1) := dk_27 (dk_at dksX9_reads_3 16 rfl rfl)
theorem dX9_reads_89 : decode cX9_reads 89 = .ok (.aload_n 0, 1) := dk_42 (dk_at dksX9_reads_3 17 rfl rfl)
theorem dX9_reads_90 : decode cX9_reads 90 = .ok (.getfield 324, 3) := dk_180 1 68 (dk_at dksX9_reads_3 18 rfl rfl)
theorem dX9_reads_93 : decode cX9_reads 93 = .ok (.aload_n 0, 1) := dk_42 (dk_at dksX9_reads_3 21 rfl rfl)
theorem dX9_reads_94 : decode cX9_reads 94 = .ok (.getfield 327, 3) := dk_180 1 71 (dk_at dksX9_reads_4 0 rfl rfl)
theorem dX9_reads_97 : decode cX9_reads 97 = .ok (.invokevirtual 360, 3) := dk_182 1 104 (dk_at dksX9_reads_4 3 rfl rfl)
theorem dX9_reads_100 : decode cX9_reads 100 = .ok (.return_, 1) := dk_177 (dk_at dksX9_reads_4 6 rfl rfl)
theorem dX9_reads_101 : decode cX9_reads 101 = .ok (.aload_n 0, 1) := dk_42 (dk_at dksX9_reads_4 7 rfl rfl)
theorem dX9_reads_102 : decode cX9_reads 102 = .ok (.iload_n 3, 1) := dk_29 (dk_at dksX9_reads_4 8 rfl rfl)
theorem dX9_reads_103 : decode cX9_reads 103 = .ok (.invokevirtual 315, 3) := dk_182 1 59 (dk_at dksX9_reads_4 9 rfl rfl)
theorem dX9_reads_106 : decode cX9_reads 106 = .ok (.istore 4, 2) := dk_54 4 (dk_at dksX9_reads_4 12 rfl rfl)
theorem dX9_reads_108 : decode cX9_reads 108 = .ok (.aload_n 0, 1) := dk_42 (dk_at dksX9_reads_4 14 rfl rfl)
theorem dX9_reads_109 : decode cX9_reads 109 = .ok (.getfield 80, 3) := dk_180 0 80 (dk_at dksX9_reads_4 15 rfl rfl)
theorem dX9_reads_112 : decode cX9_reads 112 = .ok (.iload_n 1, 1) := dk_27 (dk_at dksX9_reads_4 18 rfl rfl)
theorem dX9_reads_113 : decode cX9_reads 113 = .ok (.iconst 0, 1) := dk_3 (dk_at dksX9_reads_4 19 rfl rfl)
theorem dX9_reads_114 : decode cX9_reads 114 = .ok (.iadd, 1) := dk_96 (dk_at dksX9_reads_4 20 rfl rfl)
theorem dX9_reads_115 : decode cX9_reads 115 = .ok (.iaload, 1) := dk_46 (dk_at dksX9_reads_4 21 rfl rfl)
theorem dX9_reads_116 : decode cX9_reads 116 = .ok (.istore 5, 2) := dk_54 5 (dk_at dksX9_reads_4 22 rfl rfl)
theorem dX9_reads_118 : decode cX9_reads 118 = .ok (.iload 5, 2) := dk_21 5 (dk_at dksX9_reads_5 0 rfl rfl)
theorem dX9_reads_120 : decode cX9_reads 120 = .ok (.iconst 3, 1) := dk_6 (dk_at dksX9_reads_5 2 rfl rfl)
theorem dX9_reads_121 : decode cX9_reads 121 = .ok (.if_icmp .ne 30, 3) := dk_160 0 30 (dk_at dksX9_reads_5 3 rfl rfl)
theorem dX9_reads_124 : decode cX9_reads 124 = .ok (.aload_n 0, 1) := dk_42 (dk_at dksX9_reads_5 6 rfl rfl)
theorem dX9_reads_125 : decode cX9_reads 125 = .ok (.iload_n 1, 1) := dk_27 (dk_at dksX9_reads_5 7 rfl rfl)
theorem dX9_reads_126 : decode cX9_reads 126 = .ok (.iload 4, 2) := dk_21 4 (dk_at dksX9_reads_5 8 rfl rfl)
theorem dX9_reads_128 : decode cX9_reads 128 = .ok (.ifCond .eq 16, 3) := dk_153 0 16 (dk_at dksX9_reads_5 10 rfl rfl)
theorem dX9_reads_131 : decode cX9_reads 131 = .ok (.aload_n 0, 1) := dk_42 (dk_at dksX9_reads_5 13 rfl rfl)
theorem dX9_reads_132 : decode cX9_reads 132 = .ok (.getfield 89, 3) := dk_180 0 89 (dk_at dksX9_reads_5 14 rfl rfl)
theorem dX9_reads_135 : decode cX9_reads 135 = .ok (.aload_n 0, 1) := dk_42 (dk_at dksX9_reads_5 17 rfl rfl)
theorem dX9_reads_136 : decode cX9_reads 136 = .ok (.iload_n 3, 1) := dk_29 (dk_at dksX9_reads_5 18 rfl rfl)
theorem dX9_reads_137 : decode cX9_reads 137 = .ok (.invokevirtual 312, 3) := dk_182 1 56 (dk_at dksX9_reads_5 19 rfl rfl)
theorem dX9_reads_140 : decode cX9_reads 140 = .ok (.iaload, 1) := dk_46 (dk_at dksX9_reads_5 22 rfl rfl)
theorem dX9_reads_141 : decode cX9_reads 141 = .ok (.goto 4, 3) := dk_167 0 4 (dk_at dksX9_reads_6 0 rfl rfl)
theorem dX9_reads_144 : decode cX9_reads 144 = .ok (.iconst 0, 1) := dk_3 (dk_at dksX9_reads_6 3 rfl rfl)
theorem dX9_reads_145 : decode cX9_reads 145 = .ok (.invokevirtual 363, 3) := dk_182 1 107 (dk_at dksX9_reads_6 4 rfl rfl)
theorem dX9_reads_148 : decode cX9_reads 148 = .ok (.goto 76, 3) := dk_167 0 76 (dk_at dksX9_reads_6 7 rfl rfl)
theorem dX9_reads_151 : decode cX9_reads 151 = .ok (.iload 5, 2) := dk_21 5 (dk_at dksX9_reads_6 10 rfl rfl)
theorem dX9_reads_153 : decode cX9_reads 153 = .ok (.iconst 2, 1) := dk_5 (dk_at dksX9_reads_6 12 rfl rfl)
theorem dX9_reads_154 : decode cX9_reads 154 = .ok (.if_icmp .ne 17, 3) := dk_160 0 17 (dk_at dksX9_reads_6 13 rfl rfl)
theorem dX9_reads_157 : decode cX9_reads 157 = .ok (.iload 4, 2) := dk_21 4 (dk_at dksX9_reads_6 16 rfl rfl)
theorem dX9_reads_159 : decode cX9_reads 159 = .ok (.ifCond .ne 12, 3) := dk_154 0 12 (dk_at dksX9_reads_6 18 rfl rfl)
theorem dX9_reads_162 : decode cX9_reads 162 = .ok (.aload_n 0, 1) := dk_42 (dk_at dksX9_reads_6 21 rfl rfl)
theorem dX9_reads_163 : decode cX9_reads 163 = .ok (.iload_n 1, 1) := dk_27 (dk_at dksX9_reads_6 22 rfl rfl)
theorem dX9_reads_164 : decode cX9_reads 164 = .ok (.iconst 0, 1) := dk_3 (dk_at dksX9_reads_6 23 rfl rfl)
theorem dX9_reads_165 : decode cX9_reads 165 = .ok (.invokevirtual 363, 3) := dk_182 1 107 (dk_at dksX9_reads_7 0 rfl rfl)
theorem dX9_reads_168 : decode cX9_reads 168 = .ok (.goto 56, 3) := dk_167 0 56 (dk_at dksX9_reads_7 3 rfl rfl)
theorem dX9_reads_171 : decode cX9_reads 171 = .ok (.aload_n 0, 1) := dk_42 (dk_at dksX9_reads_7 6 rfl rfl)
theorem dX9_reads_172 : decode cX9_reads 172 = .ok (.getfield 303, 3) := dk_180 1 47 (dk_at dksX9_reads_7 7 rfl rfl)
theorem dX9_reads_175 : decode cX9_reads 175 = .ok (.bipush 24, 2) := dk_16 24 (dk_at dksX9_reads_7 10 rfl rfl)
theorem dX9_reads_177 : decode cX9_reads 177 = .ok (.if_icmp .le 12, 3) := dk_164 0 12 (dk_at dksX9_reads_7 12 rfl rfl)
theorem dX9_reads_180 : decode cX9_reads 180 = .ok (.aload_n 0, 1) := dk_42 (dk_at dksX9_reads_7 15 rfl rfl)
theorem dX9_reads_181 : decode cX9_reads 181 = .ok (.iload_n 1, 1) := dk_27 (dk_at dksX9_reads_7 16 rfl rfl)
theorem dX9_reads_182 : decode cX9_reads 182 = .ok (.iconst 4, 1) := dk_7 (dk_at dksX9_reads_7 17 rfl rfl)
theorem dX9_reads_183 : decode cX9_reads 183 = .ok (.invokevirtual 348, 3) := dk_182 1 92 (dk_at dksX9_reads_7 18 rfl rfl)
theorem dX9_reads_186 : decode cX9_reads 186 = .ok (.goto 38, 3) := dk_167 0 38 (dk_at dksX9_reads_7 21 rfl rfl)
theorem dX9_reads_189 : decode cX9_reads 189 = .ok (.iload 5, 2) := dk_21 5 (dk_at dksX9_reads_8 0 rfl rfl)
theorem dX9_reads_191 : decode cX9_reads 191 = .ok (.iconst 1, 1) := dk_4 (dk_at dksX9_reads_8 2 rfl rfl)
theorem dX9_reads_192 : decode cX9_reads 192 = .ok (.if_icmp .ne 25, 3) := dk_160 0 25 (dk_at dksX9_reads_8 3 rfl rfl)
theorem dX9_reads_195 : decode cX9_reads 195 = .ok (.iload 4, 2) := dk_21 4 (dk_at dksX9_reads_8 6 rfl rfl)
theorem dX9_reads_197 : decode cX9_reads 197 = .ok (.ifCond .ne 20, 3) := dk_154 0 20 (dk_at dksX9_reads_8 8 rfl rfl)
theorem dX9_reads_200 : decode cX9_reads 200 = .ok (.aload_n 0, 1) := dk_42 (dk_at dksX9_reads_8 11 rfl rfl)
theorem dX9_reads_201 : decode cX9_reads 201 = .ok (.invokevirtual 366, 3) := dk_182 1 110 (dk_at dksX9_reads_8 12 rfl rfl)
theorem dX9_reads_204 : decode cX9_reads 204 = .ok (.ifCond .eq 13, 3) := dk_153 0 13 (dk_at dksX9_reads_8 15 rfl rfl)
theorem dX9_reads_207 : decode cX9_reads 207 = .ok (.aload_n 0, 1) := dk_42 (dk_at dksX9_reads_8 18 rfl rfl)
theorem dX9_reads_208 : decode cX9_reads 208 = .ok (.iload_n 1, 1) := dk_27 (dk_at dksX9_reads_8 19 rfl rfl)
theorem dX9_reads_209 : decode cX9_reads 209 = .ok (.bipush (-3), 2) := dk_16 253 (dk_at dksX9_reads_8 20 rfl rfl)
theorem dX9_reads_211 : decode cX9_reads 211 = .ok (.invokevirtual 363, 3) := dk_182 1 107 (dk_at dksX9_reads_9 0 rfl rfl)
theorem dX9_reads_214 : decode cX9_reads 214 = .ok (.goto 10, 3) := dk_167 0 10 (dk_at dksX9_reads_9 3 rfl rfl)
theorem dX9_reads_217 : decode cX9_reads 217 = .ok (.aload_n 0, 1) := dk_42 (dk_at dksX9_reads_9 6 rfl rfl)
theorem dX9_reads_218 : decode cX9_reads 218 = .ok (.iload_n 1, 1) := dk_27 (dk_at dksX9_reads_9 7 rfl rfl)
theorem dX9_reads_219 : decode cX9_reads 219 = .ok (.iload_n 2, 1) := dk_28 (dk_at dksX9_reads_9 8 rfl rfl)
theorem dX9_reads_220 : decode cX9_reads 220 = .ok (.iconst 3, 1) := dk_6 (dk_at dksX9_reads_9 9 rfl rfl)
theorem dX9_reads_221 : decode cX9_reads 221 = .ok (.invokevirtual 370, 3) := dk_182 1 114 (dk_at dksX9_reads_9 10 rfl rfl)
theorem dX9_reads_224 : decode cX9_reads 224 = .ok (.return_, 1) := dk_177 (dk_at dksX9_reads_9 13 rfl rfl)
abbrev cX9_isGone : ByteArray := prog_20_method_47_code
def yX9_isGone : MethodName := ⟨RX9, "isGone", "(I)Z"⟩
def dkwX9_isGone_0 : List UInt8 := [42, 42, 27, 182, 1, 44, 3, 182, 1, 32, 7, 160, 0, 7, 4, 167, 0, 4, 3, 172]
abbrev dktX9_isGone_0 : List UInt8 := dkwX9_isGone_0 ++ []
theorem dksX9_isGone_0 : cX9_isGone.data.toList.drop 0 = dktX9_isGone_0 := by decide +kernel
theorem dX9_isGone_0 : decode cX9_isGone 0 = .ok (.aload_n 0, 1) := dk_42 (dk_at dksX9_isGone_0 0 rfl rfl)
theorem dX9_isGone_1 : decode cX9_isGone 1 = .ok (.aload_n 0, 1) := dk_42 (dk_at dksX9_isGone_0 1 rfl rfl)
theorem dX9_isGone_2 : decode cX9_isGone 2 = .ok (.iload_n 1, 1) := dk_27 (dk_at dksX9_isGone_0 2 rfl rfl)
theorem dX9_isGone_3 : decode cX9_isGone 3 = .ok (.invokevirtual 300, 3) := dk_182 1 44 (dk_at dksX9_isGone_0 3 rfl rfl)
theorem dX9_isGone_6 : decode cX9_isGone 6 = .ok (.iconst 0, 1) := dk_3 (dk_at dksX9_isGone_0 6 rfl rfl)
theorem dX9_isGone_7 : decode cX9_isGone 7 = .ok (.invokevirtual 288, 3) := dk_182 1 32 (dk_at dksX9_isGone_0 7 rfl rfl)
theorem dX9_isGone_10 : decode cX9_isGone 10 = .ok (.iconst 4, 1) := dk_7 (dk_at dksX9_isGone_0 10 rfl rfl)
theorem dX9_isGone_11 : decode cX9_isGone 11 = .ok (.if_icmp .ne 7, 3) := dk_160 0 7 (dk_at dksX9_isGone_0 11 rfl rfl)
theorem dX9_isGone_14 : decode cX9_isGone 14 = .ok (.iconst 1, 1) := dk_4 (dk_at dksX9_isGone_0 14 rfl rfl)
theorem dX9_isGone_15 : decode cX9_isGone 15 = .ok (.goto 4, 3) := dk_167 0 4 (dk_at dksX9_isGone_0 15 rfl rfl)
theorem dX9_isGone_18 : decode cX9_isGone 18 = .ok (.iconst 0, 1) := dk_3 (dk_at dksX9_isGone_0 18 rfl rfl)
theorem dX9_isGone_19 : decode cX9_isGone 19 = .ok (.ireturn, 1) := dk_172 (dk_at dksX9_isGone_0 19 rfl rfl)
abbrev cX9_leaves : ByteArray := prog_20_method_68_code
def yX9_leaves : MethodName := ⟨RX9, "leaves", "(II)V"⟩
def dkwX9_leaves_0 : List UInt8 := [42, 180, 0, 80, 27, 16, 11, 96, 28, 79, 42, 27, 16, 10, 182, 1, 92, 177]
abbrev dktX9_leaves_0 : List UInt8 := dkwX9_leaves_0 ++ []
theorem dksX9_leaves_0 : cX9_leaves.data.toList.drop 0 = dktX9_leaves_0 := by decide +kernel
theorem dX9_leaves_0 : decode cX9_leaves 0 = .ok (.aload_n 0, 1) := dk_42 (dk_at dksX9_leaves_0 0 rfl rfl)
theorem dX9_leaves_1 : decode cX9_leaves 1 = .ok (.getfield 80, 3) := dk_180 0 80 (dk_at dksX9_leaves_0 1 rfl rfl)
theorem dX9_leaves_4 : decode cX9_leaves 4 = .ok (.iload_n 1, 1) := dk_27 (dk_at dksX9_leaves_0 4 rfl rfl)
theorem dX9_leaves_5 : decode cX9_leaves 5 = .ok (.bipush 11, 2) := dk_16 11 (dk_at dksX9_leaves_0 5 rfl rfl)
theorem dX9_leaves_7 : decode cX9_leaves 7 = .ok (.iadd, 1) := dk_96 (dk_at dksX9_leaves_0 7 rfl rfl)
theorem dX9_leaves_8 : decode cX9_leaves 8 = .ok (.iload_n 2, 1) := dk_28 (dk_at dksX9_leaves_0 8 rfl rfl)
theorem dX9_leaves_9 : decode cX9_leaves 9 = .ok (.iastore, 1) := dk_79 (dk_at dksX9_leaves_0 9 rfl rfl)
theorem dX9_leaves_10 : decode cX9_leaves 10 = .ok (.aload_n 0, 1) := dk_42 (dk_at dksX9_leaves_0 10 rfl rfl)
theorem dX9_leaves_11 : decode cX9_leaves 11 = .ok (.iload_n 1, 1) := dk_27 (dk_at dksX9_leaves_0 11 rfl rfl)
theorem dX9_leaves_12 : decode cX9_leaves 12 = .ok (.bipush 10, 2) := dk_16 10 (dk_at dksX9_leaves_0 12 rfl rfl)
theorem dX9_leaves_14 : decode cX9_leaves 14 = .ok (.invokevirtual 348, 3) := dk_182 1 92 (dk_at dksX9_leaves_0 14 rfl rfl)
theorem dX9_leaves_17 : decode cX9_leaves 17 = .ok (.return_, 1) := dk_177 (dk_at dksX9_leaves_0 17 rfl rfl)
abbrev cX9_pageBy : ByteArray := prog_20_method_58_code
def yX9_pageBy : MethodName := ⟨RX9, "pageBy", "(I)I"⟩
def dkwX9_pageBy_1 : List UInt8 := [28, 46, 172, 132, 2, 1, 167, 255, 228, 2, 172]
abbrev dktX9_pageBy_1 : List UInt8 := dkwX9_pageBy_1 ++ []
def dkwX9_pageBy_0 : List UInt8 := [3, 61, 28, 42, 180, 1, 86, 162, 0, 26, 42, 180, 0, 92, 28, 46, 27, 160, 0, 10, 42, 180, 0, 95]
abbrev dktX9_pageBy_0 : List UInt8 := dkwX9_pageBy_0 ++ dktX9_pageBy_1
theorem dksX9_pageBy_0 : cX9_pageBy.data.toList.drop 0 = dktX9_pageBy_0 := by decide +kernel
theorem dksX9_pageBy_1 : cX9_pageBy.data.toList.drop 24 = dktX9_pageBy_1 := dk_seg dksX9_pageBy_0 24 rfl rfl
theorem dX9_pageBy_0 : decode cX9_pageBy 0 = .ok (.iconst 0, 1) := dk_3 (dk_at dksX9_pageBy_0 0 rfl rfl)
theorem dX9_pageBy_1 : decode cX9_pageBy 1 = .ok (.istore_n 2, 1) := dk_61 (dk_at dksX9_pageBy_0 1 rfl rfl)
theorem dX9_pageBy_2 : decode cX9_pageBy 2 = .ok (.iload_n 2, 1) := dk_28 (dk_at dksX9_pageBy_0 2 rfl rfl)
theorem dX9_pageBy_3 : decode cX9_pageBy 3 = .ok (.aload_n 0, 1) := dk_42 (dk_at dksX9_pageBy_0 3 rfl rfl)
theorem dX9_pageBy_4 : decode cX9_pageBy 4 = .ok (.getfield 342, 3) := dk_180 1 86 (dk_at dksX9_pageBy_0 4 rfl rfl)
theorem dX9_pageBy_7 : decode cX9_pageBy 7 = .ok (.if_icmp .ge 26, 3) := dk_162 0 26 (dk_at dksX9_pageBy_0 7 rfl rfl)
theorem dX9_pageBy_10 : decode cX9_pageBy 10 = .ok (.aload_n 0, 1) := dk_42 (dk_at dksX9_pageBy_0 10 rfl rfl)
theorem dX9_pageBy_11 : decode cX9_pageBy 11 = .ok (.getfield 92, 3) := dk_180 0 92 (dk_at dksX9_pageBy_0 11 rfl rfl)
theorem dX9_pageBy_14 : decode cX9_pageBy 14 = .ok (.iload_n 2, 1) := dk_28 (dk_at dksX9_pageBy_0 14 rfl rfl)
theorem dX9_pageBy_15 : decode cX9_pageBy 15 = .ok (.iaload, 1) := dk_46 (dk_at dksX9_pageBy_0 15 rfl rfl)
theorem dX9_pageBy_16 : decode cX9_pageBy 16 = .ok (.iload_n 1, 1) := dk_27 (dk_at dksX9_pageBy_0 16 rfl rfl)
theorem dX9_pageBy_17 : decode cX9_pageBy 17 = .ok (.if_icmp .ne 10, 3) := dk_160 0 10 (dk_at dksX9_pageBy_0 17 rfl rfl)
theorem dX9_pageBy_20 : decode cX9_pageBy 20 = .ok (.aload_n 0, 1) := dk_42 (dk_at dksX9_pageBy_0 20 rfl rfl)
theorem dX9_pageBy_21 : decode cX9_pageBy 21 = .ok (.getfield 95, 3) := dk_180 0 95 (dk_at dksX9_pageBy_0 21 rfl rfl)
theorem dX9_pageBy_24 : decode cX9_pageBy 24 = .ok (.iload_n 2, 1) := dk_28 (dk_at dksX9_pageBy_1 0 rfl rfl)
theorem dX9_pageBy_25 : decode cX9_pageBy 25 = .ok (.iaload, 1) := dk_46 (dk_at dksX9_pageBy_1 1 rfl rfl)
theorem dX9_pageBy_26 : decode cX9_pageBy 26 = .ok (.ireturn, 1) := dk_172 (dk_at dksX9_pageBy_1 2 rfl rfl)
theorem dX9_pageBy_27 : decode cX9_pageBy 27 = .ok (.iinc 2 1, 3) := dk_132 2 1 (dk_at dksX9_pageBy_1 3 rfl rfl)
theorem dX9_pageBy_30 : decode cX9_pageBy 30 = .ok (.goto (-28), 3) := dk_167 255 228 (dk_at dksX9_pageBy_1 6 rfl rfl)
theorem dX9_pageBy_33 : decode cX9_pageBy 33 = .ok (.iconst (-1), 1) := dk_2 (dk_at dksX9_pageBy_1 9 rfl rfl)
theorem dX9_pageBy_34 : decode cX9_pageBy 34 = .ok (.ireturn, 1) := dk_172 (dk_at dksX9_pageBy_1 10 rfl rfl)
abbrev cX9_notes : ByteArray := prog_20_method_67_code
def yX9_notes : MethodName := ⟨RX9, "notes", "(III)V"⟩
def dkwX9_notes_1 : List UInt8 := [182, 1, 92, 177]
abbrev dktX9_notes_1 : List UInt8 := dkwX9_notes_1 ++ []
def dkwX9_notes_0 : List UInt8 := [42, 180, 0, 80, 27, 16, 12, 96, 28, 79, 42, 180, 0, 80, 27, 16, 13, 96, 29, 79, 42, 27, 16, 7]
abbrev dktX9_notes_0 : List UInt8 := dkwX9_notes_0 ++ dktX9_notes_1
theorem dksX9_notes_0 : cX9_notes.data.toList.drop 0 = dktX9_notes_0 := by decide +kernel
theorem dksX9_notes_1 : cX9_notes.data.toList.drop 24 = dktX9_notes_1 := dk_seg dksX9_notes_0 24 rfl rfl
theorem dX9_notes_0 : decode cX9_notes 0 = .ok (.aload_n 0, 1) := dk_42 (dk_at dksX9_notes_0 0 rfl rfl)
theorem dX9_notes_1 : decode cX9_notes 1 = .ok (.getfield 80, 3) := dk_180 0 80 (dk_at dksX9_notes_0 1 rfl rfl)
theorem dX9_notes_4 : decode cX9_notes 4 = .ok (.iload_n 1, 1) := dk_27 (dk_at dksX9_notes_0 4 rfl rfl)
theorem dX9_notes_5 : decode cX9_notes 5 = .ok (.bipush 12, 2) := dk_16 12 (dk_at dksX9_notes_0 5 rfl rfl)
theorem dX9_notes_7 : decode cX9_notes 7 = .ok (.iadd, 1) := dk_96 (dk_at dksX9_notes_0 7 rfl rfl)
theorem dX9_notes_8 : decode cX9_notes 8 = .ok (.iload_n 2, 1) := dk_28 (dk_at dksX9_notes_0 8 rfl rfl)
theorem dX9_notes_9 : decode cX9_notes 9 = .ok (.iastore, 1) := dk_79 (dk_at dksX9_notes_0 9 rfl rfl)
theorem dX9_notes_10 : decode cX9_notes 10 = .ok (.aload_n 0, 1) := dk_42 (dk_at dksX9_notes_0 10 rfl rfl)
theorem dX9_notes_11 : decode cX9_notes 11 = .ok (.getfield 80, 3) := dk_180 0 80 (dk_at dksX9_notes_0 11 rfl rfl)
theorem dX9_notes_14 : decode cX9_notes 14 = .ok (.iload_n 1, 1) := dk_27 (dk_at dksX9_notes_0 14 rfl rfl)
theorem dX9_notes_15 : decode cX9_notes 15 = .ok (.bipush 13, 2) := dk_16 13 (dk_at dksX9_notes_0 15 rfl rfl)
theorem dX9_notes_17 : decode cX9_notes 17 = .ok (.iadd, 1) := dk_96 (dk_at dksX9_notes_0 17 rfl rfl)
theorem dX9_notes_18 : decode cX9_notes 18 = .ok (.iload_n 3, 1) := dk_29 (dk_at dksX9_notes_0 18 rfl rfl)
theorem dX9_notes_19 : decode cX9_notes 19 = .ok (.iastore, 1) := dk_79 (dk_at dksX9_notes_0 19 rfl rfl)
theorem dX9_notes_20 : decode cX9_notes 20 = .ok (.aload_n 0, 1) := dk_42 (dk_at dksX9_notes_0 20 rfl rfl)
theorem dX9_notes_21 : decode cX9_notes 21 = .ok (.iload_n 1, 1) := dk_27 (dk_at dksX9_notes_0 21 rfl rfl)
theorem dX9_notes_22 : decode cX9_notes 22 = .ok (.bipush 7, 2) := dk_16 7 (dk_at dksX9_notes_0 22 rfl rfl)
theorem dX9_notes_24 : decode cX9_notes 24 = .ok (.invokevirtual 348, 3) := dk_182 1 92 (dk_at dksX9_notes_1 0 rfl rfl)
theorem dX9_notes_27 : decode cX9_notes 27 = .ok (.return_, 1) := dk_177 (dk_at dksX9_notes_1 3 rfl rfl)
abbrev cX9_rests : ByteArray := prog_20_method_63_code
def yX9_rests : MethodName := ⟨RX9, "rests", "(II)V"⟩
def dkwX9_rests_1 : List UInt8 := [27, 4, 96, 3, 79, 177]
abbrev dktX9_rests_1 : List UInt8 := dkwX9_rests_1 ++ []
def dkwX9_rests_0 : List UInt8 := [42, 180, 0, 80, 27, 16, 8, 96, 28, 79, 42, 180, 0, 80, 27, 16, 9, 96, 4, 79, 42, 180, 0, 80]
abbrev dktX9_rests_0 : List UInt8 := dkwX9_rests_0 ++ dktX9_rests_1
theorem dksX9_rests_0 : cX9_rests.data.toList.drop 0 = dktX9_rests_0 := by decide +kernel
theorem dksX9_rests_1 : cX9_rests.data.toList.drop 24 = dktX9_rests_1 := dk_seg dksX9_rests_0 24 rfl rfl
theorem dX9_rests_0 : decode cX9_rests 0 = .ok (.aload_n 0, 1) := dk_42 (dk_at dksX9_rests_0 0 rfl rfl)
theorem dX9_rests_1 : decode cX9_rests 1 = .ok (.getfield 80, 3) := dk_180 0 80 (dk_at dksX9_rests_0 1 rfl rfl)
theorem dX9_rests_4 : decode cX9_rests 4 = .ok (.iload_n 1, 1) := dk_27 (dk_at dksX9_rests_0 4 rfl rfl)
theorem dX9_rests_5 : decode cX9_rests 5 = .ok (.bipush 8, 2) := dk_16 8 (dk_at dksX9_rests_0 5 rfl rfl)
theorem dX9_rests_7 : decode cX9_rests 7 = .ok (.iadd, 1) := dk_96 (dk_at dksX9_rests_0 7 rfl rfl)
theorem dX9_rests_8 : decode cX9_rests 8 = .ok (.iload_n 2, 1) := dk_28 (dk_at dksX9_rests_0 8 rfl rfl)
theorem dX9_rests_9 : decode cX9_rests 9 = .ok (.iastore, 1) := dk_79 (dk_at dksX9_rests_0 9 rfl rfl)
theorem dX9_rests_10 : decode cX9_rests 10 = .ok (.aload_n 0, 1) := dk_42 (dk_at dksX9_rests_0 10 rfl rfl)
theorem dX9_rests_11 : decode cX9_rests 11 = .ok (.getfield 80, 3) := dk_180 0 80 (dk_at dksX9_rests_0 11 rfl rfl)
theorem dX9_rests_14 : decode cX9_rests 14 = .ok (.iload_n 1, 1) := dk_27 (dk_at dksX9_rests_0 14 rfl rfl)
theorem dX9_rests_15 : decode cX9_rests 15 = .ok (.bipush 9, 2) := dk_16 9 (dk_at dksX9_rests_0 15 rfl rfl)
theorem dX9_rests_17 : decode cX9_rests 17 = .ok (.iadd, 1) := dk_96 (dk_at dksX9_rests_0 17 rfl rfl)
theorem dX9_rests_18 : decode cX9_rests 18 = .ok (.iconst 1, 1) := dk_4 (dk_at dksX9_rests_0 18 rfl rfl)
theorem dX9_rests_19 : decode cX9_rests 19 = .ok (.iastore, 1) := dk_79 (dk_at dksX9_rests_0 19 rfl rfl)
theorem dX9_rests_20 : decode cX9_rests 20 = .ok (.aload_n 0, 1) := dk_42 (dk_at dksX9_rests_0 20 rfl rfl)
theorem dX9_rests_21 : decode cX9_rests 21 = .ok (.getfield 80, 3) := dk_180 0 80 (dk_at dksX9_rests_0 21 rfl rfl)
theorem dX9_rests_24 : decode cX9_rests 24 = .ok (.iload_n 1, 1) := dk_27 (dk_at dksX9_rests_1 0 rfl rfl)
theorem dX9_rests_25 : decode cX9_rests 25 = .ok (.iconst 1, 1) := dk_4 (dk_at dksX9_rests_1 1 rfl rfl)
theorem dX9_rests_26 : decode cX9_rests 26 = .ok (.iadd, 1) := dk_96 (dk_at dksX9_rests_1 2 rfl rfl)
theorem dX9_rests_27 : decode cX9_rests 27 = .ok (.iconst 0, 1) := dk_3 (dk_at dksX9_rests_1 3 rfl rfl)
theorem dX9_rests_28 : decode cX9_rests 28 = .ok (.iastore, 1) := dk_79 (dk_at dksX9_rests_1 4 rfl rfl)
theorem dX9_rests_29 : decode cX9_rests 29 = .ok (.return_, 1) := dk_177 (dk_at dksX9_rests_1 5 rfl rfl)
abbrev cX9_isFull : ByteArray := prog_20_method_70_code
def yX9_isFull : MethodName := ⟨RX9, "isFull", "()Z"⟩
def dkwX9_isFull_0 : List UInt8 := [42, 182, 1, 10, 42, 180, 1, 13, 16, 40, 161, 0, 7, 4, 167, 0, 4, 3, 172]
abbrev dktX9_isFull_0 : List UInt8 := dkwX9_isFull_0 ++ []
theorem dksX9_isFull_0 : cX9_isFull.data.toList.drop 0 = dktX9_isFull_0 := by decide +kernel
theorem dX9_isFull_0 : decode cX9_isFull 0 = .ok (.aload_n 0, 1) := dk_42 (dk_at dksX9_isFull_0 0 rfl rfl)
theorem dX9_isFull_1 : decode cX9_isFull 1 = .ok (.invokevirtual 266, 3) := dk_182 1 10 (dk_at dksX9_isFull_0 1 rfl rfl)
theorem dX9_isFull_4 : decode cX9_isFull 4 = .ok (.aload_n 0, 1) := dk_42 (dk_at dksX9_isFull_0 4 rfl rfl)
theorem dX9_isFull_5 : decode cX9_isFull 5 = .ok (.getfield 269, 3) := dk_180 1 13 (dk_at dksX9_isFull_0 5 rfl rfl)
theorem dX9_isFull_8 : decode cX9_isFull 8 = .ok (.bipush 40, 2) := dk_16 40 (dk_at dksX9_isFull_0 8 rfl rfl)
theorem dX9_isFull_10 : decode cX9_isFull 10 = .ok (.if_icmp .lt 7, 3) := dk_161 0 7 (dk_at dksX9_isFull_0 10 rfl rfl)
theorem dX9_isFull_13 : decode cX9_isFull 13 = .ok (.iconst 1, 1) := dk_4 (dk_at dksX9_isFull_0 13 rfl rfl)
theorem dX9_isFull_14 : decode cX9_isFull 14 = .ok (.goto 4, 3) := dk_167 0 4 (dk_at dksX9_isFull_0 14 rfl rfl)
theorem dX9_isFull_17 : decode cX9_isFull 17 = .ok (.iconst 0, 1) := dk_3 (dk_at dksX9_isFull_0 17 rfl rfl)
theorem dX9_isFull_18 : decode cX9_isFull 18 = .ok (.ireturn, 1) := dk_172 (dk_at dksX9_isFull_0 18 rfl rfl)
abbrev cX9_sees : ByteArray := prog_20_method_71_code
def yX9_sees : MethodName := ⟨RX9, "sees", "(III)V"⟩
def dkwX9_sees_0 : List UInt8 := [42, 180, 0, 80, 27, 16, 10, 96, 42, 28, 182, 1, 44, 79, 42, 27, 29, 182, 1, 92, 177]
abbrev dktX9_sees_0 : List UInt8 := dkwX9_sees_0 ++ []
theorem dksX9_sees_0 : cX9_sees.data.toList.drop 0 = dktX9_sees_0 := by decide +kernel
theorem dX9_sees_0 : decode cX9_sees 0 = .ok (.aload_n 0, 1) := dk_42 (dk_at dksX9_sees_0 0 rfl rfl)
theorem dX9_sees_1 : decode cX9_sees 1 = .ok (.getfield 80, 3) := dk_180 0 80 (dk_at dksX9_sees_0 1 rfl rfl)
theorem dX9_sees_4 : decode cX9_sees 4 = .ok (.iload_n 1, 1) := dk_27 (dk_at dksX9_sees_0 4 rfl rfl)
theorem dX9_sees_5 : decode cX9_sees 5 = .ok (.bipush 10, 2) := dk_16 10 (dk_at dksX9_sees_0 5 rfl rfl)
theorem dX9_sees_7 : decode cX9_sees 7 = .ok (.iadd, 1) := dk_96 (dk_at dksX9_sees_0 7 rfl rfl)
theorem dX9_sees_8 : decode cX9_sees 8 = .ok (.aload_n 0, 1) := dk_42 (dk_at dksX9_sees_0 8 rfl rfl)
theorem dX9_sees_9 : decode cX9_sees 9 = .ok (.iload_n 2, 1) := dk_28 (dk_at dksX9_sees_0 9 rfl rfl)
theorem dX9_sees_10 : decode cX9_sees 10 = .ok (.invokevirtual 300, 3) := dk_182 1 44 (dk_at dksX9_sees_0 10 rfl rfl)
theorem dX9_sees_13 : decode cX9_sees 13 = .ok (.iastore, 1) := dk_79 (dk_at dksX9_sees_0 13 rfl rfl)
theorem dX9_sees_14 : decode cX9_sees 14 = .ok (.aload_n 0, 1) := dk_42 (dk_at dksX9_sees_0 14 rfl rfl)
theorem dX9_sees_15 : decode cX9_sees 15 = .ok (.iload_n 1, 1) := dk_27 (dk_at dksX9_sees_0 15 rfl rfl)
theorem dX9_sees_16 : decode cX9_sees 16 = .ok (.iload_n 3, 1) := dk_29 (dk_at dksX9_sees_0 16 rfl rfl)
theorem dX9_sees_17 : decode cX9_sees 17 = .ok (.invokevirtual 348, 3) := dk_182 1 92 (dk_at dksX9_sees_0 17 rfl rfl)
theorem dX9_sees_20 : decode cX9_sees 20 = .ok (.return_, 1) := dk_177 (dk_at dksX9_sees_0 20 rfl rfl)
abbrev cX9_prepends : ByteArray := prog_20_method_73_code
def yX9_prepends : MethodName := ⟨RX9, "prepends", "(I)V"⟩
def dkwX9_prepends_6 : List UInt8 := [27, 7, 182, 1, 92, 177]
abbrev dktX9_prepends_6 : List UInt8 := dkwX9_prepends_6 ++ []
def dkwX9_prepends_5 : List UInt8 := [182, 1, 44, 182, 1, 29, 182, 1, 124, 42, 28, 182, 1, 127, 42, 180, 0, 80, 8, 46, 164, 0, 9, 42]
abbrev dktX9_prepends_5 : List UInt8 := dkwX9_prepends_5 ++ dktX9_prepends_6
def dkwX9_prepends_4 : List UInt8 := [5, 29, 21, 4, 153, 0, 15, 42, 180, 0, 80, 27, 16, 7, 96, 46, 167, 0, 5, 16, 254, 42, 28]
abbrev dktX9_prepends_4 : List UInt8 := dkwX9_prepends_4 ++ dktX9_prepends_5
def dkwX9_prepends_3 : List UInt8 := [46, 4, 160, 0, 7, 4, 167, 0, 4, 3, 54, 4, 42, 28, 42, 21, 4, 153, 0, 7, 4, 167, 0, 4]
abbrev dktX9_prepends_3 : List UInt8 := dkwX9_prepends_3 ++ dktX9_prepends_4
def dkwX9_prepends_2 : List UInt8 := [27, 42, 29, 182, 1, 59, 153, 0, 7, 4, 167, 0, 4, 3, 182, 1, 107, 42, 180, 0, 80, 27, 3, 96]
abbrev dktX9_prepends_2 : List UInt8 := dkwX9_prepends_2 ++ dktX9_prepends_3
def dkwX9_prepends_1 : List UInt8 := [182, 1, 117, 154, 0, 15, 42, 27, 182, 1, 121, 42, 27, 5, 182, 1, 92, 177, 42, 28, 182, 1, 83, 42]
abbrev dktX9_prepends_1 : List UInt8 := dkwX9_prepends_1 ++ dktX9_prepends_2
def dkwX9_prepends_0 : List UInt8 := [42, 180, 0, 80, 27, 5, 96, 46, 61, 42, 180, 0, 80, 27, 16, 6, 96, 46, 62, 42, 27, 28]
abbrev dktX9_prepends_0 : List UInt8 := dkwX9_prepends_0 ++ dktX9_prepends_1
theorem dksX9_prepends_0 : cX9_prepends.data.toList.drop 0 = dktX9_prepends_0 := by decide +kernel
theorem dksX9_prepends_1 : cX9_prepends.data.toList.drop 22 = dktX9_prepends_1 := dk_seg dksX9_prepends_0 22 rfl rfl
theorem dksX9_prepends_2 : cX9_prepends.data.toList.drop 46 = dktX9_prepends_2 := dk_seg dksX9_prepends_1 24 rfl rfl
theorem dksX9_prepends_3 : cX9_prepends.data.toList.drop 70 = dktX9_prepends_3 := dk_seg dksX9_prepends_2 24 rfl rfl
theorem dksX9_prepends_4 : cX9_prepends.data.toList.drop 94 = dktX9_prepends_4 := dk_seg dksX9_prepends_3 24 rfl rfl
theorem dksX9_prepends_5 : cX9_prepends.data.toList.drop 117 = dktX9_prepends_5 := dk_seg dksX9_prepends_4 23 rfl rfl
theorem dksX9_prepends_6 : cX9_prepends.data.toList.drop 141 = dktX9_prepends_6 := dk_seg dksX9_prepends_5 24 rfl rfl
theorem dX9_prepends_0 : decode cX9_prepends 0 = .ok (.aload_n 0, 1) := dk_42 (dk_at dksX9_prepends_0 0 rfl rfl)
theorem dX9_prepends_1 : decode cX9_prepends 1 = .ok (.getfield 80, 3) := dk_180 0 80 (dk_at dksX9_prepends_0 1 rfl rfl)
theorem dX9_prepends_4 : decode cX9_prepends 4 = .ok (.iload_n 1, 1) := dk_27 (dk_at dksX9_prepends_0 4 rfl rfl)
theorem dX9_prepends_5 : decode cX9_prepends 5 = .ok (.iconst 2, 1) := dk_5 (dk_at dksX9_prepends_0 5 rfl rfl)
theorem dX9_prepends_6 : decode cX9_prepends 6 = .ok (.iadd, 1) := dk_96 (dk_at dksX9_prepends_0 6 rfl rfl)
theorem dX9_prepends_7 : decode cX9_prepends 7 = .ok (.iaload, 1) := dk_46 (dk_at dksX9_prepends_0 7 rfl rfl)
theorem dX9_prepends_8 : decode cX9_prepends 8 = .ok (.istore_n 2, 1) := dk_61 (dk_at dksX9_prepends_0 8 rfl rfl)
theorem dX9_prepends_9 : decode cX9_prepends 9 = .ok (.aload_n 0, 1) := dk_42 (dk_at dksX9_prepends_0 9 rfl rfl)
theorem dX9_prepends_10 : decode cX9_prepends 10 = .ok (.getfield 80, 3) := dk_180 0 80 (dk_at dksX9_prepends_0 10 rfl rfl)
theorem dX9_prepends_13 : decode cX9_prepends 13 = .ok (.iload_n 1, 1) := dk_27 (dk_at dksX9_prepends_0 13 rfl rfl)
theorem dX9_prepends_14 : decode cX9_prepends 14 = .ok (.bipush 6, 2) := dk_16 6 (dk_at dksX9_prepends_0 14 rfl rfl)
theorem dX9_prepends_16 : decode cX9_prepends 16 = .ok (.iadd, 1) := dk_96 (dk_at dksX9_prepends_0 16 rfl rfl)
theorem dX9_prepends_17 : decode cX9_prepends 17 = .ok (.iaload, 1) := dk_46 (dk_at dksX9_prepends_0 17 rfl rfl)
theorem dX9_prepends_18 : decode cX9_prepends 18 = .ok (.istore_n 3, 1) := dk_62 (dk_at dksX9_prepends_0 18 rfl rfl)
theorem dX9_prepends_19 : decode cX9_prepends 19 = .ok (.aload_n 0, 1) := dk_42 (dk_at dksX9_prepends_0 19 rfl rfl)
theorem dX9_prepends_20 : decode cX9_prepends 20 = .ok (.iload_n 1, 1) := dk_27 (dk_at dksX9_prepends_0 20 rfl rfl)
theorem dX9_prepends_21 : decode cX9_prepends 21 = .ok (.iload_n 2, 1) := dk_28 (dk_at dksX9_prepends_0 21 rfl rfl)
theorem dX9_prepends_22 : decode cX9_prepends 22 = .ok (.invokevirtual 373, 3) := dk_182 1 117 (dk_at dksX9_prepends_1 0 rfl rfl)
theorem dX9_prepends_25 : decode cX9_prepends 25 = .ok (.ifCond .ne 15, 3) := dk_154 0 15 (dk_at dksX9_prepends_1 3 rfl rfl)
theorem dX9_prepends_28 : decode cX9_prepends 28 = .ok (.aload_n 0, 1) := dk_42 (dk_at dksX9_prepends_1 6 rfl rfl)
theorem dX9_prepends_29 : decode cX9_prepends 29 = .ok (.iload_n 1, 1) := dk_27 (dk_at dksX9_prepends_1 7 rfl rfl)
theorem dX9_prepends_30 : decode cX9_prepends 30 = .ok (.invokevirtual 377, 3) := dk_182 1 121 (dk_at dksX9_prepends_1 8 rfl rfl)
theorem dX9_prepends_33 : decode cX9_prepends 33 = .ok (.aload_n 0, 1) := dk_42 (dk_at dksX9_prepends_1 11 rfl rfl)
theorem dX9_prepends_34 : decode cX9_prepends 34 = .ok (.iload_n 1, 1) := dk_27 (dk_at dksX9_prepends_1 12 rfl rfl)
theorem dX9_prepends_35 : decode cX9_prepends 35 = .ok (.iconst 2, 1) := dk_5 (dk_at dksX9_prepends_1 13 rfl rfl)
theorem dX9_prepends_36 : decode cX9_prepends 36 = .ok (.invokevirtual 348, 3) := dk_182 1 92 (dk_at dksX9_prepends_1 14 rfl rfl)
theorem dX9_prepends_39 : decode cX9_prepends 39 = .ok (.return_, 1) := dk_177 (dk_at dksX9_prepends_1 17 rfl rfl)
theorem dX9_prepends_40 : decode cX9_prepends 40 = .ok (.aload_n 0, 1) := dk_42 (dk_at dksX9_prepends_1 18 rfl rfl)
theorem dX9_prepends_41 : decode cX9_prepends 41 = .ok (.iload_n 2, 1) := dk_28 (dk_at dksX9_prepends_1 19 rfl rfl)
theorem dX9_prepends_42 : decode cX9_prepends 42 = .ok (.invokevirtual 339, 3) := dk_182 1 83 (dk_at dksX9_prepends_1 20 rfl rfl)
theorem dX9_prepends_45 : decode cX9_prepends 45 = .ok (.aload_n 0, 1) := dk_42 (dk_at dksX9_prepends_1 23 rfl rfl)
theorem dX9_prepends_46 : decode cX9_prepends 46 = .ok (.iload_n 1, 1) := dk_27 (dk_at dksX9_prepends_2 0 rfl rfl)
theorem dX9_prepends_47 : decode cX9_prepends 47 = .ok (.aload_n 0, 1) := dk_42 (dk_at dksX9_prepends_2 1 rfl rfl)
theorem dX9_prepends_48 : decode cX9_prepends 48 = .ok (.iload_n 3, 1) := dk_29 (dk_at dksX9_prepends_2 2 rfl rfl)
theorem dX9_prepends_49 : decode cX9_prepends 49 = .ok (.invokevirtual 315, 3) := dk_182 1 59 (dk_at dksX9_prepends_2 3 rfl rfl)
theorem dX9_prepends_52 : decode cX9_prepends 52 = .ok (.ifCond .eq 7, 3) := dk_153 0 7 (dk_at dksX9_prepends_2 6 rfl rfl)
theorem dX9_prepends_55 : decode cX9_prepends 55 = .ok (.iconst 1, 1) := dk_4 (dk_at dksX9_prepends_2 9 rfl rfl)
theorem dX9_prepends_56 : decode cX9_prepends 56 = .ok (.goto 4, 3) := dk_167 0 4 (dk_at dksX9_prepends_2 10 rfl rfl)
theorem dX9_prepends_59 : decode cX9_prepends 59 = .ok (.iconst 0, 1) := dk_3 (dk_at dksX9_prepends_2 13 rfl rfl)
theorem dX9_prepends_60 : decode cX9_prepends 60 = .ok (.invokevirtual 363, 3) := dk_182 1 107 (dk_at dksX9_prepends_2 14 rfl rfl)
theorem dX9_prepends_63 : decode cX9_prepends 63 = .ok (.aload_n 0, 1) := dk_42 (dk_at dksX9_prepends_2 17 rfl rfl)
theorem dX9_prepends_64 : decode cX9_prepends 64 = .ok (.getfield 80, 3) := dk_180 0 80 (dk_at dksX9_prepends_2 18 rfl rfl)
theorem dX9_prepends_67 : decode cX9_prepends 67 = .ok (.iload_n 1, 1) := dk_27 (dk_at dksX9_prepends_2 21 rfl rfl)
theorem dX9_prepends_68 : decode cX9_prepends 68 = .ok (.iconst 0, 1) := dk_3 (dk_at dksX9_prepends_2 22 rfl rfl)
theorem dX9_prepends_69 : decode cX9_prepends 69 = .ok (.iadd, 1) := dk_96 (dk_at dksX9_prepends_2 23 rfl rfl)
theorem dX9_prepends_70 : decode cX9_prepends 70 = .ok (.iaload, 1) := dk_46 (dk_at dksX9_prepends_3 0 rfl rfl)
theorem dX9_prepends_71 : decode cX9_prepends 71 = .ok (.iconst 1, 1) := dk_4 (dk_at dksX9_prepends_3 1 rfl rfl)
theorem dX9_prepends_72 : decode cX9_prepends 72 = .ok (.if_icmp .ne 7, 3) := dk_160 0 7 (dk_at dksX9_prepends_3 2 rfl rfl)
theorem dX9_prepends_75 : decode cX9_prepends 75 = .ok (.iconst 1, 1) := dk_4 (dk_at dksX9_prepends_3 5 rfl rfl)
theorem dX9_prepends_76 : decode cX9_prepends 76 = .ok (.goto 4, 3) := dk_167 0 4 (dk_at dksX9_prepends_3 6 rfl rfl)
theorem dX9_prepends_79 : decode cX9_prepends 79 = .ok (.iconst 0, 1) := dk_3 (dk_at dksX9_prepends_3 9 rfl rfl)
theorem dX9_prepends_80 : decode cX9_prepends 80 = .ok (.istore 4, 2) := dk_54 4 (dk_at dksX9_prepends_3 10 rfl rfl)
theorem dX9_prepends_82 : decode cX9_prepends 82 = .ok (.aload_n 0, 1) := dk_42 (dk_at dksX9_prepends_3 12 rfl rfl)
theorem dX9_prepends_83 : decode cX9_prepends 83 = .ok (.iload_n 2, 1) := dk_28 (dk_at dksX9_prepends_3 13 rfl rfl)
theorem dX9_prepends_84 : decode cX9_prepends 84 = .ok (.aload_n 0, 1) := dk_42 (dk_at dksX9_prepends_3 14 rfl rfl)
theorem dX9_prepends_85 : decode cX9_prepends 85 = .ok (.iload 4, 2) := dk_21 4 (dk_at dksX9_prepends_3 15 rfl rfl)
theorem dX9_prepends_87 : decode cX9_prepends 87 = .ok (.ifCond .eq 7, 3) := dk_153 0 7 (dk_at dksX9_prepends_3 17 rfl rfl)
theorem dX9_prepends_90 : decode cX9_prepends 90 = .ok (.iconst 1, 1) := dk_4 (dk_at dksX9_prepends_3 20 rfl rfl)
theorem dX9_prepends_91 : decode cX9_prepends 91 = .ok (.goto 4, 3) := dk_167 0 4 (dk_at dksX9_prepends_3 21 rfl rfl)
theorem dX9_prepends_94 : decode cX9_prepends 94 = .ok (.iconst 2, 1) := dk_5 (dk_at dksX9_prepends_4 0 rfl rfl)
theorem dX9_prepends_95 : decode cX9_prepends 95 = .ok (.iload_n 3, 1) := dk_29 (dk_at dksX9_prepends_4 1 rfl rfl)
theorem dX9_prepends_96 : decode cX9_prepends 96 = .ok (.iload 4, 2) := dk_21 4 (dk_at dksX9_prepends_4 2 rfl rfl)
theorem dX9_prepends_98 : decode cX9_prepends 98 = .ok (.ifCond .eq 15, 3) := dk_153 0 15 (dk_at dksX9_prepends_4 4 rfl rfl)
theorem dX9_prepends_101 : decode cX9_prepends 101 = .ok (.aload_n 0, 1) := dk_42 (dk_at dksX9_prepends_4 7 rfl rfl)
theorem dX9_prepends_102 : decode cX9_prepends 102 = .ok (.getfield 80, 3) := dk_180 0 80 (dk_at dksX9_prepends_4 8 rfl rfl)
theorem dX9_prepends_105 : decode cX9_prepends 105 = .ok (.iload_n 1, 1) := dk_27 (dk_at dksX9_prepends_4 11 rfl rfl)
theorem dX9_prepends_106 : decode cX9_prepends 106 = .ok (.bipush 7, 2) := dk_16 7 (dk_at dksX9_prepends_4 12 rfl rfl)
theorem dX9_prepends_108 : decode cX9_prepends 108 = .ok (.iadd, 1) := dk_96 (dk_at dksX9_prepends_4 14 rfl rfl)
theorem dX9_prepends_109 : decode cX9_prepends 109 = .ok (.iaload, 1) := dk_46 (dk_at dksX9_prepends_4 15 rfl rfl)
theorem dX9_prepends_110 : decode cX9_prepends 110 = .ok (.goto 5, 3) := dk_167 0 5 (dk_at dksX9_prepends_4 16 rfl rfl)
theorem dX9_prepends_113 : decode cX9_prepends 113 = .ok (.bipush (-2), 2) := dk_16 254 (dk_at dksX9_prepends_4 19 rfl rfl)
theorem dX9_prepends_115 : decode cX9_prepends 115 = .ok (.aload_n 0, 1) := dk_42 (dk_at dksX9_prepends_4 21 rfl rfl)
theorem dX9_prepends_116 : decode cX9_prepends 116 = .ok (.iload_n 2, 1) := dk_28 (dk_at dksX9_prepends_4 22 rfl rfl)
theorem dX9_prepends_117 : decode cX9_prepends 117 = .ok (.invokevirtual 300, 3) := dk_182 1 44 (dk_at dksX9_prepends_5 0 rfl rfl)
theorem dX9_prepends_120 : decode cX9_prepends 120 = .ok (.invokevirtual 285, 3) := dk_182 1 29 (dk_at dksX9_prepends_5 3 rfl rfl)
theorem dX9_prepends_123 : decode cX9_prepends 123 = .ok (.invokevirtual 380, 3) := dk_182 1 124 (dk_at dksX9_prepends_5 6 rfl rfl)
theorem dX9_prepends_126 : decode cX9_prepends 126 = .ok (.aload_n 0, 1) := dk_42 (dk_at dksX9_prepends_5 9 rfl rfl)
theorem dX9_prepends_127 : decode cX9_prepends 127 = .ok (.iload_n 2, 1) := dk_28 (dk_at dksX9_prepends_5 10 rfl rfl)
theorem dX9_prepends_128 : decode cX9_prepends 128 = .ok (.invokevirtual 383, 3) := dk_182 1 127 (dk_at dksX9_prepends_5 11 rfl rfl)
theorem dX9_prepends_131 : decode cX9_prepends 131 = .ok (.aload_n 0, 1) := dk_42 (dk_at dksX9_prepends_5 14 rfl rfl)
theorem dX9_prepends_132 : decode cX9_prepends 132 = .ok (.getfield 80, 3) := dk_180 0 80 (dk_at dksX9_prepends_5 15 rfl rfl)
theorem dX9_prepends_135 : decode cX9_prepends 135 = .ok (.iconst 5, 1) := dk_8 (dk_at dksX9_prepends_5 18 rfl rfl)
theorem dX9_prepends_136 : decode cX9_prepends 136 = .ok (.iaload, 1) := dk_46 (dk_at dksX9_prepends_5 19 rfl rfl)
theorem dX9_prepends_137 : decode cX9_prepends 137 = .ok (.if_icmp .le 9, 3) := dk_164 0 9 (dk_at dksX9_prepends_5 20 rfl rfl)
theorem dX9_prepends_140 : decode cX9_prepends 140 = .ok (.aload_n 0, 1) := dk_42 (dk_at dksX9_prepends_5 23 rfl rfl)
theorem dX9_prepends_141 : decode cX9_prepends 141 = .ok (.iload_n 1, 1) := dk_27 (dk_at dksX9_prepends_6 0 rfl rfl)
theorem dX9_prepends_142 : decode cX9_prepends 142 = .ok (.iconst 4, 1) := dk_7 (dk_at dksX9_prepends_6 1 rfl rfl)
theorem dX9_prepends_143 : decode cX9_prepends 143 = .ok (.invokevirtual 348, 3) := dk_182 1 92 (dk_at dksX9_prepends_6 2 rfl rfl)
theorem dX9_prepends_146 : decode cX9_prepends 146 = .ok (.return_, 1) := dk_177 (dk_at dksX9_prepends_6 5 rfl rfl)
abbrev cX9_isSeen : ByteArray := prog_20_method_72_code
def yX9_isSeen : MethodName := ⟨RX9, "isSeen", "(II)Z"⟩
def dkwX9_isSeen_0 : List UInt8 := [42, 28, 182, 1, 44, 42, 180, 0, 80, 27, 16, 10, 96, 46, 160, 0, 7, 4, 167, 0, 4, 3, 172]
abbrev dktX9_isSeen_0 : List UInt8 := dkwX9_isSeen_0 ++ []
theorem dksX9_isSeen_0 : cX9_isSeen.data.toList.drop 0 = dktX9_isSeen_0 := by decide +kernel
theorem dX9_isSeen_0 : decode cX9_isSeen 0 = .ok (.aload_n 0, 1) := dk_42 (dk_at dksX9_isSeen_0 0 rfl rfl)
theorem dX9_isSeen_1 : decode cX9_isSeen 1 = .ok (.iload_n 2, 1) := dk_28 (dk_at dksX9_isSeen_0 1 rfl rfl)
theorem dX9_isSeen_2 : decode cX9_isSeen 2 = .ok (.invokevirtual 300, 3) := dk_182 1 44 (dk_at dksX9_isSeen_0 2 rfl rfl)
theorem dX9_isSeen_5 : decode cX9_isSeen 5 = .ok (.aload_n 0, 1) := dk_42 (dk_at dksX9_isSeen_0 5 rfl rfl)
theorem dX9_isSeen_6 : decode cX9_isSeen 6 = .ok (.getfield 80, 3) := dk_180 0 80 (dk_at dksX9_isSeen_0 6 rfl rfl)
theorem dX9_isSeen_9 : decode cX9_isSeen 9 = .ok (.iload_n 1, 1) := dk_27 (dk_at dksX9_isSeen_0 9 rfl rfl)
theorem dX9_isSeen_10 : decode cX9_isSeen 10 = .ok (.bipush 10, 2) := dk_16 10 (dk_at dksX9_isSeen_0 10 rfl rfl)
theorem dX9_isSeen_12 : decode cX9_isSeen 12 = .ok (.iadd, 1) := dk_96 (dk_at dksX9_isSeen_0 12 rfl rfl)
theorem dX9_isSeen_13 : decode cX9_isSeen 13 = .ok (.iaload, 1) := dk_46 (dk_at dksX9_isSeen_0 13 rfl rfl)
theorem dX9_isSeen_14 : decode cX9_isSeen 14 = .ok (.if_icmp .ne 7, 3) := dk_160 0 7 (dk_at dksX9_isSeen_0 14 rfl rfl)
theorem dX9_isSeen_17 : decode cX9_isSeen 17 = .ok (.iconst 1, 1) := dk_4 (dk_at dksX9_isSeen_0 17 rfl rfl)
theorem dX9_isSeen_18 : decode cX9_isSeen 18 = .ok (.goto 4, 3) := dk_167 0 4 (dk_at dksX9_isSeen_0 18 rfl rfl)
theorem dX9_isSeen_21 : decode cX9_isSeen 21 = .ok (.iconst 0, 1) := dk_3 (dk_at dksX9_isSeen_0 21 rfl rfl)
theorem dX9_isSeen_22 : decode cX9_isSeen 22 = .ok (.ireturn, 1) := dk_172 (dk_at dksX9_isSeen_0 22 rfl rfl)
abbrev cX9_loses : ByteArray := prog_20_method_60_code
def yX9_loses : MethodName := ⟨RX9, "loses", "(I)V"⟩
def dkwX9_loses_0 : List UInt8 := [42, 180, 0, 80, 27, 6, 96, 92, 46, 4, 96, 79, 42, 180, 0, 80, 6, 92, 46, 4, 96, 79, 177]
abbrev dktX9_loses_0 : List UInt8 := dkwX9_loses_0 ++ []
theorem dksX9_loses_0 : cX9_loses.data.toList.drop 0 = dktX9_loses_0 := by decide +kernel
theorem dX9_loses_0 : decode cX9_loses 0 = .ok (.aload_n 0, 1) := dk_42 (dk_at dksX9_loses_0 0 rfl rfl)
theorem dX9_loses_1 : decode cX9_loses 1 = .ok (.getfield 80, 3) := dk_180 0 80 (dk_at dksX9_loses_0 1 rfl rfl)
theorem dX9_loses_4 : decode cX9_loses 4 = .ok (.iload_n 1, 1) := dk_27 (dk_at dksX9_loses_0 4 rfl rfl)
theorem dX9_loses_5 : decode cX9_loses 5 = .ok (.iconst 3, 1) := dk_6 (dk_at dksX9_loses_0 5 rfl rfl)
theorem dX9_loses_6 : decode cX9_loses 6 = .ok (.iadd, 1) := dk_96 (dk_at dksX9_loses_0 6 rfl rfl)
theorem dX9_loses_7 : decode cX9_loses 7 = .ok (.dup2, 1) := dk_92 (dk_at dksX9_loses_0 7 rfl rfl)
theorem dX9_loses_8 : decode cX9_loses 8 = .ok (.iaload, 1) := dk_46 (dk_at dksX9_loses_0 8 rfl rfl)
theorem dX9_loses_9 : decode cX9_loses 9 = .ok (.iconst 1, 1) := dk_4 (dk_at dksX9_loses_0 9 rfl rfl)
theorem dX9_loses_10 : decode cX9_loses 10 = .ok (.iadd, 1) := dk_96 (dk_at dksX9_loses_0 10 rfl rfl)
theorem dX9_loses_11 : decode cX9_loses 11 = .ok (.iastore, 1) := dk_79 (dk_at dksX9_loses_0 11 rfl rfl)
theorem dX9_loses_12 : decode cX9_loses 12 = .ok (.aload_n 0, 1) := dk_42 (dk_at dksX9_loses_0 12 rfl rfl)
theorem dX9_loses_13 : decode cX9_loses 13 = .ok (.getfield 80, 3) := dk_180 0 80 (dk_at dksX9_loses_0 13 rfl rfl)
theorem dX9_loses_16 : decode cX9_loses 16 = .ok (.iconst 3, 1) := dk_6 (dk_at dksX9_loses_0 16 rfl rfl)
theorem dX9_loses_17 : decode cX9_loses 17 = .ok (.dup2, 1) := dk_92 (dk_at dksX9_loses_0 17 rfl rfl)
theorem dX9_loses_18 : decode cX9_loses 18 = .ok (.iaload, 1) := dk_46 (dk_at dksX9_loses_0 18 rfl rfl)
theorem dX9_loses_19 : decode cX9_loses 19 = .ok (.iconst 1, 1) := dk_4 (dk_at dksX9_loses_0 19 rfl rfl)
theorem dX9_loses_20 : decode cX9_loses 20 = .ok (.iadd, 1) := dk_96 (dk_at dksX9_loses_0 20 rfl rfl)
theorem dX9_loses_21 : decode cX9_loses 21 = .ok (.iastore, 1) := dk_79 (dk_at dksX9_loses_0 21 rfl rfl)
theorem dX9_loses_22 : decode cX9_loses 22 = .ok (.return_, 1) := dk_177 (dk_at dksX9_loses_0 22 rfl rfl)
abbrev cX9_laysTop : ByteArray := prog_20_method_65_code
def yX9_laysTop : MethodName := ⟨RX9, "laysTop", "(II)V"⟩
def dkwX9_laysTop_0 : List UInt8 := [42, 180, 0, 80, 16, 10, 27, 96, 28, 79, 177]
abbrev dktX9_laysTop_0 : List UInt8 := dkwX9_laysTop_0 ++ []
theorem dksX9_laysTop_0 : cX9_laysTop.data.toList.drop 0 = dktX9_laysTop_0 := by decide +kernel
theorem dX9_laysTop_0 : decode cX9_laysTop 0 = .ok (.aload_n 0, 1) := dk_42 (dk_at dksX9_laysTop_0 0 rfl rfl)
theorem dX9_laysTop_1 : decode cX9_laysTop 1 = .ok (.getfield 80, 3) := dk_180 0 80 (dk_at dksX9_laysTop_0 1 rfl rfl)
theorem dX9_laysTop_4 : decode cX9_laysTop 4 = .ok (.bipush 10, 2) := dk_16 10 (dk_at dksX9_laysTop_0 4 rfl rfl)
theorem dX9_laysTop_6 : decode cX9_laysTop 6 = .ok (.iload_n 1, 1) := dk_27 (dk_at dksX9_laysTop_0 6 rfl rfl)
theorem dX9_laysTop_7 : decode cX9_laysTop 7 = .ok (.iadd, 1) := dk_96 (dk_at dksX9_laysTop_0 7 rfl rfl)
theorem dX9_laysTop_8 : decode cX9_laysTop 8 = .ok (.iload_n 2, 1) := dk_28 (dk_at dksX9_laysTop_0 8 rfl rfl)
theorem dX9_laysTop_9 : decode cX9_laysTop 9 = .ok (.iastore, 1) := dk_79 (dk_at dksX9_laysTop_0 9 rfl rfl)
theorem dX9_laysTop_10 : decode cX9_laysTop 10 = .ok (.return_, 1) := dk_177 (dk_at dksX9_laysTop_0 10 rfl rfl)
abbrev cX9_lengthOf : ByteArray := prog_20_method_46_code
def yX9_lengthOf : MethodName := ⟨RX9, "lengthOf", "(I)I"⟩
def dkwX9_lengthOf_0 : List UInt8 := [42, 27, 182, 1, 50, 42, 180, 1, 47, 4, 100, 172]
abbrev dktX9_lengthOf_0 : List UInt8 := dkwX9_lengthOf_0 ++ []
theorem dksX9_lengthOf_0 : cX9_lengthOf.data.toList.drop 0 = dktX9_lengthOf_0 := by decide +kernel
theorem dX9_lengthOf_0 : decode cX9_lengthOf 0 = .ok (.aload_n 0, 1) := dk_42 (dk_at dksX9_lengthOf_0 0 rfl rfl)
theorem dX9_lengthOf_1 : decode cX9_lengthOf 1 = .ok (.iload_n 1, 1) := dk_27 (dk_at dksX9_lengthOf_0 1 rfl rfl)
theorem dX9_lengthOf_2 : decode cX9_lengthOf 2 = .ok (.invokevirtual 306, 3) := dk_182 1 50 (dk_at dksX9_lengthOf_0 2 rfl rfl)
theorem dX9_lengthOf_5 : decode cX9_lengthOf 5 = .ok (.aload_n 0, 1) := dk_42 (dk_at dksX9_lengthOf_0 5 rfl rfl)
theorem dX9_lengthOf_6 : decode cX9_lengthOf 6 = .ok (.getfield 303, 3) := dk_180 1 47 (dk_at dksX9_lengthOf_0 6 rfl rfl)
theorem dX9_lengthOf_9 : decode cX9_lengthOf 9 = .ok (.iconst 1, 1) := dk_4 (dk_at dksX9_lengthOf_0 9 rfl rfl)
theorem dX9_lengthOf_10 : decode cX9_lengthOf 10 = .ok (.isub, 1) := dk_100 (dk_at dksX9_lengthOf_0 10 rfl rfl)
theorem dX9_lengthOf_11 : decode cX9_lengthOf 11 = .ok (.ireturn, 1) := dk_172 (dk_at dksX9_lengthOf_0 11 rfl rfl)
abbrev cX9_gathers : ByteArray := prog_20_method_74_code
def yX9_gathers : MethodName := ⟨RX9, "gathers", "(I)V"⟩
def dkwX9_gathers_1 : List UInt8 := [182, 1, 130, 167, 0, 10, 42, 27, 28, 8, 182, 1, 114, 177]
abbrev dktX9_gathers_1 : List UInt8 := dkwX9_gathers_1 ++ []
def dkwX9_gathers_0 : List UInt8 := [42, 180, 0, 80, 27, 5, 96, 46, 61, 28, 158, 0, 19, 42, 28, 182, 1, 95, 153, 0, 11, 42, 27]
abbrev dktX9_gathers_0 : List UInt8 := dkwX9_gathers_0 ++ dktX9_gathers_1
theorem dksX9_gathers_0 : cX9_gathers.data.toList.drop 0 = dktX9_gathers_0 := by decide +kernel
theorem dksX9_gathers_1 : cX9_gathers.data.toList.drop 23 = dktX9_gathers_1 := dk_seg dksX9_gathers_0 23 rfl rfl
theorem dX9_gathers_0 : decode cX9_gathers 0 = .ok (.aload_n 0, 1) := dk_42 (dk_at dksX9_gathers_0 0 rfl rfl)
theorem dX9_gathers_1 : decode cX9_gathers 1 = .ok (.getfield 80, 3) := dk_180 0 80 (dk_at dksX9_gathers_0 1 rfl rfl)
theorem dX9_gathers_4 : decode cX9_gathers 4 = .ok (.iload_n 1, 1) := dk_27 (dk_at dksX9_gathers_0 4 rfl rfl)
theorem dX9_gathers_5 : decode cX9_gathers 5 = .ok (.iconst 2, 1) := dk_5 (dk_at dksX9_gathers_0 5 rfl rfl)
theorem dX9_gathers_6 : decode cX9_gathers 6 = .ok (.iadd, 1) := dk_96 (dk_at dksX9_gathers_0 6 rfl rfl)
theorem dX9_gathers_7 : decode cX9_gathers 7 = .ok (.iaload, 1) := dk_46 (dk_at dksX9_gathers_0 7 rfl rfl)
theorem dX9_gathers_8 : decode cX9_gathers 8 = .ok (.istore_n 2, 1) := dk_61 (dk_at dksX9_gathers_0 8 rfl rfl)
theorem dX9_gathers_9 : decode cX9_gathers 9 = .ok (.iload_n 2, 1) := dk_28 (dk_at dksX9_gathers_0 9 rfl rfl)
theorem dX9_gathers_10 : decode cX9_gathers 10 = .ok (.ifCond .le 19, 3) := dk_158 0 19 (dk_at dksX9_gathers_0 10 rfl rfl)
theorem dX9_gathers_13 : decode cX9_gathers 13 = .ok (.aload_n 0, 1) := dk_42 (dk_at dksX9_gathers_0 13 rfl rfl)
theorem dX9_gathers_14 : decode cX9_gathers 14 = .ok (.iload_n 2, 1) := dk_28 (dk_at dksX9_gathers_0 14 rfl rfl)
theorem dX9_gathers_15 : decode cX9_gathers 15 = .ok (.invokevirtual 351, 3) := dk_182 1 95 (dk_at dksX9_gathers_0 15 rfl rfl)
theorem dX9_gathers_18 : decode cX9_gathers 18 = .ok (.ifCond .eq 11, 3) := dk_153 0 11 (dk_at dksX9_gathers_0 18 rfl rfl)
theorem dX9_gathers_21 : decode cX9_gathers 21 = .ok (.aload_n 0, 1) := dk_42 (dk_at dksX9_gathers_0 21 rfl rfl)
theorem dX9_gathers_22 : decode cX9_gathers 22 = .ok (.iload_n 1, 1) := dk_27 (dk_at dksX9_gathers_0 22 rfl rfl)
theorem dX9_gathers_23 : decode cX9_gathers 23 = .ok (.invokevirtual 386, 3) := dk_182 1 130 (dk_at dksX9_gathers_1 0 rfl rfl)
theorem dX9_gathers_26 : decode cX9_gathers 26 = .ok (.goto 10, 3) := dk_167 0 10 (dk_at dksX9_gathers_1 3 rfl rfl)
theorem dX9_gathers_29 : decode cX9_gathers 29 = .ok (.aload_n 0, 1) := dk_42 (dk_at dksX9_gathers_1 6 rfl rfl)
theorem dX9_gathers_30 : decode cX9_gathers 30 = .ok (.iload_n 1, 1) := dk_27 (dk_at dksX9_gathers_1 7 rfl rfl)
theorem dX9_gathers_31 : decode cX9_gathers 31 = .ok (.iload_n 2, 1) := dk_28 (dk_at dksX9_gathers_1 8 rfl rfl)
theorem dX9_gathers_32 : decode cX9_gathers 32 = .ok (.iconst 5, 1) := dk_8 (dk_at dksX9_gathers_1 9 rfl rfl)
theorem dX9_gathers_33 : decode cX9_gathers 33 = .ok (.invokevirtual 370, 3) := dk_182 1 114 (dk_at dksX9_gathers_1 10 rfl rfl)
theorem dX9_gathers_36 : decode cX9_gathers 36 = .ok (.return_, 1) := dk_177 (dk_at dksX9_gathers_1 13 rfl rfl)
abbrev cX9_goOn : ByteArray := prog_20_method_62_code
def yX9_goOn : MethodName := ⟨RX9, "goOn", "(I)V"⟩
def dkwX9_goOn_1 : List UInt8 := [4, 79, 177]
abbrev dktX9_goOn_1 : List UInt8 := dkwX9_goOn_1 ++ []
def dkwX9_goOn_0 : List UInt8 := [42, 180, 0, 80, 27, 4, 96, 42, 180, 0, 80, 27, 16, 9, 96, 46, 4, 160, 0, 7, 3, 167, 0, 4]
abbrev dktX9_goOn_0 : List UInt8 := dkwX9_goOn_0 ++ dktX9_goOn_1
theorem dksX9_goOn_0 : cX9_goOn.data.toList.drop 0 = dktX9_goOn_0 := by decide +kernel
theorem dksX9_goOn_1 : cX9_goOn.data.toList.drop 24 = dktX9_goOn_1 := dk_seg dksX9_goOn_0 24 rfl rfl
theorem dX9_goOn_0 : decode cX9_goOn 0 = .ok (.aload_n 0, 1) := dk_42 (dk_at dksX9_goOn_0 0 rfl rfl)
theorem dX9_goOn_1 : decode cX9_goOn 1 = .ok (.getfield 80, 3) := dk_180 0 80 (dk_at dksX9_goOn_0 1 rfl rfl)
theorem dX9_goOn_4 : decode cX9_goOn 4 = .ok (.iload_n 1, 1) := dk_27 (dk_at dksX9_goOn_0 4 rfl rfl)
theorem dX9_goOn_5 : decode cX9_goOn 5 = .ok (.iconst 1, 1) := dk_4 (dk_at dksX9_goOn_0 5 rfl rfl)
theorem dX9_goOn_6 : decode cX9_goOn 6 = .ok (.iadd, 1) := dk_96 (dk_at dksX9_goOn_0 6 rfl rfl)
theorem dX9_goOn_7 : decode cX9_goOn 7 = .ok (.aload_n 0, 1) := dk_42 (dk_at dksX9_goOn_0 7 rfl rfl)
theorem dX9_goOn_8 : decode cX9_goOn 8 = .ok (.getfield 80, 3) := dk_180 0 80 (dk_at dksX9_goOn_0 8 rfl rfl)
theorem dX9_goOn_11 : decode cX9_goOn 11 = .ok (.iload_n 1, 1) := dk_27 (dk_at dksX9_goOn_0 11 rfl rfl)
theorem dX9_goOn_12 : decode cX9_goOn 12 = .ok (.bipush 9, 2) := dk_16 9 (dk_at dksX9_goOn_0 12 rfl rfl)
theorem dX9_goOn_14 : decode cX9_goOn 14 = .ok (.iadd, 1) := dk_96 (dk_at dksX9_goOn_0 14 rfl rfl)
theorem dX9_goOn_15 : decode cX9_goOn 15 = .ok (.iaload, 1) := dk_46 (dk_at dksX9_goOn_0 15 rfl rfl)
theorem dX9_goOn_16 : decode cX9_goOn 16 = .ok (.iconst 1, 1) := dk_4 (dk_at dksX9_goOn_0 16 rfl rfl)
theorem dX9_goOn_17 : decode cX9_goOn 17 = .ok (.if_icmp .ne 7, 3) := dk_160 0 7 (dk_at dksX9_goOn_0 17 rfl rfl)
theorem dX9_goOn_20 : decode cX9_goOn 20 = .ok (.iconst 0, 1) := dk_3 (dk_at dksX9_goOn_0 20 rfl rfl)
theorem dX9_goOn_21 : decode cX9_goOn 21 = .ok (.goto 4, 3) := dk_167 0 4 (dk_at dksX9_goOn_0 21 rfl rfl)
theorem dX9_goOn_24 : decode cX9_goOn 24 = .ok (.iconst 1, 1) := dk_4 (dk_at dksX9_goOn_1 0 rfl rfl)
theorem dX9_goOn_25 : decode cX9_goOn 25 = .ok (.iastore, 1) := dk_79 (dk_at dksX9_goOn_1 1 rfl rfl)
theorem dX9_goOn_26 : decode cX9_goOn 26 = .ok (.return_, 1) := dk_177 (dk_at dksX9_goOn_1 2 rfl rfl)
abbrev cX9_swaps : ByteArray := prog_20_method_76_code
def yX9_swaps : MethodName := ⟨RX9, "swaps", "(I)V"⟩
def dkwX9_swaps_9 : List UInt8 := [167, 0, 8, 42, 27, 182, 1, 130, 177]
abbrev dktX9_swaps_9 : List UInt8 := dkwX9_swaps_9 ++ []
def dkwX9_swaps_8 : List UInt8 := [158, 0, 27, 42, 180, 1, 53, 42, 180, 0, 80, 16, 7, 46, 162, 0, 13, 42, 27, 16, 9, 182, 1, 92]
abbrev dktX9_swaps_8 : List UInt8 := dkwX9_swaps_8 ++ dktX9_swaps_9
def dkwX9_swaps_7 : List UInt8 := [180, 1, 53, 42, 180, 0, 80, 16, 6, 46, 164, 0, 13, 42, 27, 16, 6, 182, 1, 92, 167, 0, 36, 28]
abbrev dktX9_swaps_7 : List UInt8 := dkwX9_swaps_7 ++ dktX9_swaps_8
def dkwX9_swaps_6 : List UInt8 := [167, 255, 200, 42, 28, 29, 182, 1, 124, 42, 180, 0, 80, 27, 16, 10, 96, 29, 79, 28, 158, 0, 27, 42]
abbrev dktX9_swaps_6 : List UInt8 := dkwX9_swaps_6 ++ dktX9_swaps_7
def dkwX9_swaps_5 : List UInt8 := [160, 0, 20, 42, 42, 42, 180, 0, 83, 21, 4, 46, 16, 9, 182, 1, 32, 182, 1, 133, 132, 4, 1]
abbrev dktX9_swaps_5 : List UInt8 := dkwX9_swaps_5 ++ dktX9_swaps_6
def dkwX9_swaps_4 : List UInt8 := [42, 42, 180, 0, 83, 21, 4, 46, 182, 1, 133, 42, 42, 180, 0, 83, 21, 4, 46, 3, 182, 1, 32, 8]
abbrev dktX9_swaps_4 : List UInt8 := dkwX9_swaps_4 ++ dktX9_swaps_5
def dkwX9_swaps_3 : List UInt8 := [21, 4, 46, 182, 1, 41, 132, 4, 1, 167, 255, 225, 3, 54, 4, 21, 4, 42, 180, 1, 47, 162, 0, 53]
abbrev dktX9_swaps_3 : List UInt8 := dkwX9_swaps_3 ++ dktX9_swaps_4
def dkwX9_swaps_2 : List UInt8 := [54, 4, 21, 4, 42, 180, 1, 53, 162, 0, 28, 42, 29, 42, 180, 0, 86, 21, 4, 46, 42, 180, 0, 89]
abbrev dktX9_swaps_2 : List UInt8 := dkwX9_swaps_2 ++ dktX9_swaps_3
def dkwX9_swaps_1 : List UInt8 := [27, 182, 1, 130, 177, 42, 28, 182, 1, 83, 42, 42, 180, 1, 68, 42, 180, 1, 71, 182, 1, 38, 62, 3]
abbrev dktX9_swaps_1 : List UInt8 := dkwX9_swaps_1 ++ dktX9_swaps_2
def dkwX9_swaps_0 : List UInt8 := [42, 180, 0, 80, 27, 5, 96, 46, 61, 42, 27, 28, 182, 1, 117, 154, 0, 14, 42, 27, 182, 1, 121, 42]
abbrev dktX9_swaps_0 : List UInt8 := dkwX9_swaps_0 ++ dktX9_swaps_1
theorem dksX9_swaps_0 : cX9_swaps.data.toList.drop 0 = dktX9_swaps_0 := by decide +kernel
theorem dksX9_swaps_1 : cX9_swaps.data.toList.drop 24 = dktX9_swaps_1 := dk_seg dksX9_swaps_0 24 rfl rfl
theorem dksX9_swaps_2 : cX9_swaps.data.toList.drop 48 = dktX9_swaps_2 := dk_seg dksX9_swaps_1 24 rfl rfl
theorem dksX9_swaps_3 : cX9_swaps.data.toList.drop 72 = dktX9_swaps_3 := dk_seg dksX9_swaps_2 24 rfl rfl
theorem dksX9_swaps_4 : cX9_swaps.data.toList.drop 96 = dktX9_swaps_4 := dk_seg dksX9_swaps_3 24 rfl rfl
theorem dksX9_swaps_5 : cX9_swaps.data.toList.drop 120 = dktX9_swaps_5 := dk_seg dksX9_swaps_4 24 rfl rfl
theorem dksX9_swaps_6 : cX9_swaps.data.toList.drop 143 = dktX9_swaps_6 := dk_seg dksX9_swaps_5 23 rfl rfl
theorem dksX9_swaps_7 : cX9_swaps.data.toList.drop 167 = dktX9_swaps_7 := dk_seg dksX9_swaps_6 24 rfl rfl
theorem dksX9_swaps_8 : cX9_swaps.data.toList.drop 191 = dktX9_swaps_8 := dk_seg dksX9_swaps_7 24 rfl rfl
theorem dksX9_swaps_9 : cX9_swaps.data.toList.drop 215 = dktX9_swaps_9 := dk_seg dksX9_swaps_8 24 rfl rfl
theorem dX9_swaps_0 : decode cX9_swaps 0 = .ok (.aload_n 0, 1) := dk_42 (dk_at dksX9_swaps_0 0 rfl rfl)
theorem dX9_swaps_1 : decode cX9_swaps 1 = .ok (.getfield 80, 3) := dk_180 0 80 (dk_at dksX9_swaps_0 1 rfl rfl)
theorem dX9_swaps_4 : decode cX9_swaps 4 = .ok (.iload_n 1, 1) := dk_27 (dk_at dksX9_swaps_0 4 rfl rfl)
theorem dX9_swaps_5 : decode cX9_swaps 5 = .ok (.iconst 2, 1) := dk_5 (dk_at dksX9_swaps_0 5 rfl rfl)
theorem dX9_swaps_6 : decode cX9_swaps 6 = .ok (.iadd, 1) := dk_96 (dk_at dksX9_swaps_0 6 rfl rfl)
theorem dX9_swaps_7 : decode cX9_swaps 7 = .ok (.iaload, 1) := dk_46 (dk_at dksX9_swaps_0 7 rfl rfl)
theorem dX9_swaps_8 : decode cX9_swaps 8 = .ok (.istore_n 2, 1) := dk_61 (dk_at dksX9_swaps_0 8 rfl rfl)
theorem dX9_swaps_9 : decode cX9_swaps 9 = .ok (.aload_n 0, 1) := dk_42 (dk_at dksX9_swaps_0 9 rfl rfl)
theorem dX9_swaps_10 : decode cX9_swaps 10 = .ok (.iload_n 1, 1) := dk_27 (dk_at dksX9_swaps_0 10 rfl rfl)
theorem dX9_swaps_11 : decode cX9_swaps 11 = .ok (.iload_n 2, 1) := dk_28 (dk_at dksX9_swaps_0 11 rfl rfl)
theorem dX9_swaps_12 : decode cX9_swaps 12 = .ok (.invokevirtual 373, 3) := dk_182 1 117 (dk_at dksX9_swaps_0 12 rfl rfl)
theorem dX9_swaps_15 : decode cX9_swaps 15 = .ok (.ifCond .ne 14, 3) := dk_154 0 14 (dk_at dksX9_swaps_0 15 rfl rfl)
theorem dX9_swaps_18 : decode cX9_swaps 18 = .ok (.aload_n 0, 1) := dk_42 (dk_at dksX9_swaps_0 18 rfl rfl)
theorem dX9_swaps_19 : decode cX9_swaps 19 = .ok (.iload_n 1, 1) := dk_27 (dk_at dksX9_swaps_0 19 rfl rfl)
theorem dX9_swaps_20 : decode cX9_swaps 20 = .ok (.invokevirtual 377, 3) := dk_182 1 121 (dk_at dksX9_swaps_0 20 rfl rfl)
theorem dX9_swaps_23 : decode cX9_swaps 23 = .ok (.aload_n 0, 1) := dk_42 (dk_at dksX9_swaps_0 23 rfl rfl)
theorem dX9_swaps_24 : decode cX9_swaps 24 = .ok (.iload_n 1, 1) := dk_27 (dk_at dksX9_swaps_1 0 rfl rfl)
theorem dX9_swaps_25 : decode cX9_swaps 25 = .ok (.invokevirtual 386, 3) := dk_182 1 130 (dk_at dksX9_swaps_1 1 rfl rfl)
theorem dX9_swaps_28 : decode cX9_swaps 28 = .ok (.return_, 1) := dk_177 (dk_at dksX9_swaps_1 4 rfl rfl)
theorem dX9_swaps_29 : decode cX9_swaps 29 = .ok (.aload_n 0, 1) := dk_42 (dk_at dksX9_swaps_1 5 rfl rfl)
theorem dX9_swaps_30 : decode cX9_swaps 30 = .ok (.iload_n 2, 1) := dk_28 (dk_at dksX9_swaps_1 6 rfl rfl)
theorem dX9_swaps_31 : decode cX9_swaps 31 = .ok (.invokevirtual 339, 3) := dk_182 1 83 (dk_at dksX9_swaps_1 7 rfl rfl)
theorem dX9_swaps_34 : decode cX9_swaps 34 = .ok (.aload_n 0, 1) := dk_42 (dk_at dksX9_swaps_1 10 rfl rfl)
theorem dX9_swaps_35 : decode cX9_swaps 35 = .ok (.aload_n 0, 1) := dk_42 (dk_at dksX9_swaps_1 11 rfl rfl)
theorem dX9_swaps_36 : decode cX9_swaps 36 = .ok (.getfield 324, 3) := dk_180 1 68 (dk_at dksX9_swaps_1 12 rfl rfl)
theorem dX9_swaps_39 : decode cX9_swaps 39 = .ok (.aload_n 0, 1) := dk_42 (dk_at dksX9_swaps_1 15 rfl rfl)
theorem dX9_swaps_40 : decode cX9_swaps 40 = .ok (.getfield 327, 3) := dk_180 1 71 (dk_at dksX9_swaps_1 16 rfl rfl)
theorem dX9_swaps_43 : decode cX9_swaps 43 = .ok (.invokevirtual 294, 3) := dk_182 1 38 (dk_at dksX9_swaps_1 19 rfl rfl)
theorem dX9_swaps_46 : decode cX9_swaps 46 = .ok (.istore_n 3, 1) := dk_62 (dk_at dksX9_swaps_1 22 rfl rfl)
theorem dX9_swaps_47 : decode cX9_swaps 47 = .ok (.iconst 0, 1) := dk_3 (dk_at dksX9_swaps_1 23 rfl rfl)
theorem dX9_swaps_48 : decode cX9_swaps 48 = .ok (.istore 4, 2) := dk_54 4 (dk_at dksX9_swaps_2 0 rfl rfl)
theorem dX9_swaps_50 : decode cX9_swaps 50 = .ok (.iload 4, 2) := dk_21 4 (dk_at dksX9_swaps_2 2 rfl rfl)
theorem dX9_swaps_52 : decode cX9_swaps 52 = .ok (.aload_n 0, 1) := dk_42 (dk_at dksX9_swaps_2 4 rfl rfl)
theorem dX9_swaps_53 : decode cX9_swaps 53 = .ok (.getfield 309, 3) := dk_180 1 53 (dk_at dksX9_swaps_2 5 rfl rfl)
theorem dX9_swaps_56 : decode cX9_swaps 56 = .ok (.if_icmp .ge 28, 3) := dk_162 0 28 (dk_at dksX9_swaps_2 8 rfl rfl)
theorem dX9_swaps_59 : decode cX9_swaps 59 = .ok (.aload_n 0, 1) := dk_42 (dk_at dksX9_swaps_2 11 rfl rfl)
theorem dX9_swaps_60 : decode cX9_swaps 60 = .ok (.iload_n 3, 1) := dk_29 (dk_at dksX9_swaps_2 12 rfl rfl)
theorem dX9_swaps_61 : decode cX9_swaps 61 = .ok (.aload_n 0, 1) := dk_42 (dk_at dksX9_swaps_2 13 rfl rfl)
theorem dX9_swaps_62 : decode cX9_swaps 62 = .ok (.getfield 86, 3) := dk_180 0 86 (dk_at dksX9_swaps_2 14 rfl rfl)
theorem dX9_swaps_65 : decode cX9_swaps 65 = .ok (.iload 4, 2) := dk_21 4 (dk_at dksX9_swaps_2 17 rfl rfl)
theorem dX9_swaps_67 : decode cX9_swaps 67 = .ok (.iaload, 1) := dk_46 (dk_at dksX9_swaps_2 19 rfl rfl)
theorem dX9_swaps_68 : decode cX9_swaps 68 = .ok (.aload_n 0, 1) := dk_42 (dk_at dksX9_swaps_2 20 rfl rfl)
theorem dX9_swaps_69 : decode cX9_swaps 69 = .ok (.getfield 89, 3) := dk_180 0 89 (dk_at dksX9_swaps_2 21 rfl rfl)
theorem dX9_swaps_72 : decode cX9_swaps 72 = .ok (.iload 4, 2) := dk_21 4 (dk_at dksX9_swaps_3 0 rfl rfl)
theorem dX9_swaps_74 : decode cX9_swaps 74 = .ok (.iaload, 1) := dk_46 (dk_at dksX9_swaps_3 2 rfl rfl)
theorem dX9_swaps_75 : decode cX9_swaps 75 = .ok (.invokevirtual 297, 3) := dk_182 1 41 (dk_at dksX9_swaps_3 3 rfl rfl)
theorem dX9_swaps_78 : decode cX9_swaps 78 = .ok (.iinc 4 1, 3) := dk_132 4 1 (dk_at dksX9_swaps_3 6 rfl rfl)
theorem dX9_swaps_81 : decode cX9_swaps 81 = .ok (.goto (-31), 3) := dk_167 255 225 (dk_at dksX9_swaps_3 9 rfl rfl)
theorem dX9_swaps_84 : decode cX9_swaps 84 = .ok (.iconst 0, 1) := dk_3 (dk_at dksX9_swaps_3 12 rfl rfl)
theorem dX9_swaps_85 : decode cX9_swaps 85 = .ok (.istore 4, 2) := dk_54 4 (dk_at dksX9_swaps_3 13 rfl rfl)
theorem dX9_swaps_87 : decode cX9_swaps 87 = .ok (.iload 4, 2) := dk_21 4 (dk_at dksX9_swaps_3 15 rfl rfl)
theorem dX9_swaps_89 : decode cX9_swaps 89 = .ok (.aload_n 0, 1) := dk_42 (dk_at dksX9_swaps_3 17 rfl rfl)
theorem dX9_swaps_90 : decode cX9_swaps 90 = .ok (.getfield 303, 3) := dk_180 1 47 (dk_at dksX9_swaps_3 18 rfl rfl)
theorem dX9_swaps_93 : decode cX9_swaps 93 = .ok (.if_icmp .ge 53, 3) := dk_162 0 53 (dk_at dksX9_swaps_3 21 rfl rfl)
theorem dX9_swaps_96 : decode cX9_swaps 96 = .ok (.aload_n 0, 1) := dk_42 (dk_at dksX9_swaps_4 0 rfl rfl)
theorem dX9_swaps_97 : decode cX9_swaps 97 = .ok (.aload_n 0, 1) := dk_42 (dk_at dksX9_swaps_4 1 rfl rfl)
theorem dX9_swaps_98 : decode cX9_swaps 98 = .ok (.getfield 83, 3) := dk_180 0 83 (dk_at dksX9_swaps_4 2 rfl rfl)
theorem dX9_swaps_101 : decode cX9_swaps 101 = .ok (.iload 4, 2) := dk_21 4 (dk_at dksX9_swaps_4 5 rfl rfl)
theorem dX9_swaps_103 : decode cX9_swaps 103 = .ok (.iaload, 1) := dk_46 (dk_at dksX9_swaps_4 7 rfl rfl)
theorem dX9_swaps_104 : decode cX9_swaps 104 = .ok (.invokevirtual 389, 3) := dk_182 1 133 (dk_at dksX9_swaps_4 8 rfl rfl)
theorem dX9_swaps_107 : decode cX9_swaps 107 = .ok (.aload_n 0, 1) := dk_42 (dk_at dksX9_swaps_4 11 rfl rfl)
theorem dX9_swaps_108 : decode cX9_swaps 108 = .ok (.aload_n 0, 1) := dk_42 (dk_at dksX9_swaps_4 12 rfl rfl)
theorem dX9_swaps_109 : decode cX9_swaps 109 = .ok (.getfield 83, 3) := dk_180 0 83 (dk_at dksX9_swaps_4 13 rfl rfl)
theorem dX9_swaps_112 : decode cX9_swaps 112 = .ok (.iload 4, 2) := dk_21 4 (dk_at dksX9_swaps_4 16 rfl rfl)
theorem dX9_swaps_114 : decode cX9_swaps 114 = .ok (.iaload, 1) := dk_46 (dk_at dksX9_swaps_4 18 rfl rfl)
theorem dX9_swaps_115 : decode cX9_swaps 115 = .ok (.iconst 0, 1) := dk_3 (dk_at dksX9_swaps_4 19 rfl rfl)
theorem dX9_swaps_116 : decode cX9_swaps 116 = .ok (.invokevirtual 288, 3) := dk_182 1 32 (dk_at dksX9_swaps_4 20 rfl rfl)
theorem dX9_swaps_119 : decode cX9_swaps 119 = .ok (.iconst 5, 1) := dk_8 (dk_at dksX9_swaps_4 23 rfl rfl)
theorem dX9_swaps_120 : decode cX9_swaps 120 = .ok (.if_icmp .ne 20, 3) := dk_160 0 20 (dk_at dksX9_swaps_5 0 rfl rfl)
theorem dX9_swaps_123 : decode cX9_swaps 123 = .ok (.aload_n 0, 1) := dk_42 (dk_at dksX9_swaps_5 3 rfl rfl)
theorem dX9_swaps_124 : decode cX9_swaps 124 = .ok (.aload_n 0, 1) := dk_42 (dk_at dksX9_swaps_5 4 rfl rfl)
theorem dX9_swaps_125 : decode cX9_swaps 125 = .ok (.aload_n 0, 1) := dk_42 (dk_at dksX9_swaps_5 5 rfl rfl)
theorem dX9_swaps_126 : decode cX9_swaps 126 = .ok (.getfield 83, 3) := dk_180 0 83 (dk_at dksX9_swaps_5 6 rfl rfl)
theorem dX9_swaps_129 : decode cX9_swaps 129 = .ok (.iload 4, 2) := dk_21 4 (dk_at dksX9_swaps_5 9 rfl rfl)
theorem dX9_swaps_131 : decode cX9_swaps 131 = .ok (.iaload, 1) := dk_46 (dk_at dksX9_swaps_5 11 rfl rfl)
theorem dX9_swaps_132 : decode cX9_swaps 132 = .ok (.bipush 9, 2) := dk_16 9 (dk_at dksX9_swaps_5 12 rfl rfl)
theorem dX9_swaps_134 : decode cX9_swaps 134 = .ok (.invokevirtual 288, 3) := dk_182 1 32 (dk_at dksX9_swaps_5 14 rfl rfl)
theorem dX9_swaps_137 : decode cX9_swaps 137 = .ok (.invokevirtual 389, 3) := dk_182 1 133 (dk_at dksX9_swaps_5 17 rfl rfl)
theorem dX9_swaps_140 : decode cX9_swaps 140 = .ok (.iinc 4 1, 3) := dk_132 4 1 (dk_at dksX9_swaps_5 20 rfl rfl)
theorem dX9_swaps_143 : decode cX9_swaps 143 = .ok (.goto (-56), 3) := dk_167 255 200 (dk_at dksX9_swaps_6 0 rfl rfl)
theorem dX9_swaps_146 : decode cX9_swaps 146 = .ok (.aload_n 0, 1) := dk_42 (dk_at dksX9_swaps_6 3 rfl rfl)
theorem dX9_swaps_147 : decode cX9_swaps 147 = .ok (.iload_n 2, 1) := dk_28 (dk_at dksX9_swaps_6 4 rfl rfl)
theorem dX9_swaps_148 : decode cX9_swaps 148 = .ok (.iload_n 3, 1) := dk_29 (dk_at dksX9_swaps_6 5 rfl rfl)
theorem dX9_swaps_149 : decode cX9_swaps 149 = .ok (.invokevirtual 380, 3) := dk_182 1 124 (dk_at dksX9_swaps_6 6 rfl rfl)
theorem dX9_swaps_152 : decode cX9_swaps 152 = .ok (.aload_n 0, 1) := dk_42 (dk_at dksX9_swaps_6 9 rfl rfl)
theorem dX9_swaps_153 : decode cX9_swaps 153 = .ok (.getfield 80, 3) := dk_180 0 80 (dk_at dksX9_swaps_6 10 rfl rfl)
theorem dX9_swaps_156 : decode cX9_swaps 156 = .ok (.iload_n 1, 1) := dk_27 (dk_at dksX9_swaps_6 13 rfl rfl)
theorem dX9_swaps_157 : decode cX9_swaps 157 = .ok (.bipush 10, 2) := dk_16 10 (dk_at dksX9_swaps_6 14 rfl rfl)
theorem dX9_swaps_159 : decode cX9_swaps 159 = .ok (.iadd, 1) := dk_96 (dk_at dksX9_swaps_6 16 rfl rfl)
theorem dX9_swaps_160 : decode cX9_swaps 160 = .ok (.iload_n 3, 1) := dk_29 (dk_at dksX9_swaps_6 17 rfl rfl)
theorem dX9_swaps_161 : decode cX9_swaps 161 = .ok (.iastore, 1) := dk_79 (dk_at dksX9_swaps_6 18 rfl rfl)
theorem dX9_swaps_162 : decode cX9_swaps 162 = .ok (.iload_n 2, 1) := dk_28 (dk_at dksX9_swaps_6 19 rfl rfl)
theorem dX9_swaps_163 : decode cX9_swaps 163 = .ok (.ifCond .le 27, 3) := dk_158 0 27 (dk_at dksX9_swaps_6 20 rfl rfl)
theorem dX9_swaps_166 : decode cX9_swaps 166 = .ok (.aload_n 0, 1) := dk_42 (dk_at dksX9_swaps_6 23 rfl rfl)
theorem dX9_swaps_167 : decode cX9_swaps 167 = .ok (.getfield 309, 3) := dk_180 1 53 (dk_at dksX9_swaps_7 0 rfl rfl)
theorem dX9_swaps_170 : decode cX9_swaps 170 = .ok (.aload_n 0, 1) := dk_42 (dk_at dksX9_swaps_7 3 rfl rfl)
theorem dX9_swaps_171 : decode cX9_swaps 171 = .ok (.getfield 80, 3) := dk_180 0 80 (dk_at dksX9_swaps_7 4 rfl rfl)
theorem dX9_swaps_174 : decode cX9_swaps 174 = .ok (.bipush 6, 2) := dk_16 6 (dk_at dksX9_swaps_7 7 rfl rfl)
theorem dX9_swaps_176 : decode cX9_swaps 176 = .ok (.iaload, 1) := dk_46 (dk_at dksX9_swaps_7 9 rfl rfl)
theorem dX9_swaps_177 : decode cX9_swaps 177 = .ok (.if_icmp .le 13, 3) := dk_164 0 13 (dk_at dksX9_swaps_7 10 rfl rfl)
theorem dX9_swaps_180 : decode cX9_swaps 180 = .ok (.aload_n 0, 1) := dk_42 (dk_at dksX9_swaps_7 13 rfl rfl)
theorem dX9_swaps_181 : decode cX9_swaps 181 = .ok (.iload_n 1, 1) := dk_27 (dk_at dksX9_swaps_7 14 rfl rfl)
theorem dX9_swaps_182 : decode cX9_swaps 182 = .ok (.bipush 6, 2) := dk_16 6 (dk_at dksX9_swaps_7 15 rfl rfl)
theorem dX9_swaps_184 : decode cX9_swaps 184 = .ok (.invokevirtual 348, 3) := dk_182 1 92 (dk_at dksX9_swaps_7 17 rfl rfl)
theorem dX9_swaps_187 : decode cX9_swaps 187 = .ok (.goto 36, 3) := dk_167 0 36 (dk_at dksX9_swaps_7 20 rfl rfl)
theorem dX9_swaps_190 : decode cX9_swaps 190 = .ok (.iload_n 2, 1) := dk_28 (dk_at dksX9_swaps_7 23 rfl rfl)
theorem dX9_swaps_191 : decode cX9_swaps 191 = .ok (.ifCond .le 27, 3) := dk_158 0 27 (dk_at dksX9_swaps_8 0 rfl rfl)
theorem dX9_swaps_194 : decode cX9_swaps 194 = .ok (.aload_n 0, 1) := dk_42 (dk_at dksX9_swaps_8 3 rfl rfl)
theorem dX9_swaps_195 : decode cX9_swaps 195 = .ok (.getfield 309, 3) := dk_180 1 53 (dk_at dksX9_swaps_8 4 rfl rfl)
theorem dX9_swaps_198 : decode cX9_swaps 198 = .ok (.aload_n 0, 1) := dk_42 (dk_at dksX9_swaps_8 7 rfl rfl)
theorem dX9_swaps_199 : decode cX9_swaps 199 = .ok (.getfield 80, 3) := dk_180 0 80 (dk_at dksX9_swaps_8 8 rfl rfl)
theorem dX9_swaps_202 : decode cX9_swaps 202 = .ok (.bipush 7, 2) := dk_16 7 (dk_at dksX9_swaps_8 11 rfl rfl)
theorem dX9_swaps_204 : decode cX9_swaps 204 = .ok (.iaload, 1) := dk_46 (dk_at dksX9_swaps_8 13 rfl rfl)
theorem dX9_swaps_205 : decode cX9_swaps 205 = .ok (.if_icmp .ge 13, 3) := dk_162 0 13 (dk_at dksX9_swaps_8 14 rfl rfl)
theorem dX9_swaps_208 : decode cX9_swaps 208 = .ok (.aload_n 0, 1) := dk_42 (dk_at dksX9_swaps_8 17 rfl rfl)
theorem dX9_swaps_209 : decode cX9_swaps 209 = .ok (.iload_n 1, 1) := dk_27 (dk_at dksX9_swaps_8 18 rfl rfl)
theorem dX9_swaps_210 : decode cX9_swaps 210 = .ok (.bipush 9, 2) := dk_16 9 (dk_at dksX9_swaps_8 19 rfl rfl)
theorem dX9_swaps_212 : decode cX9_swaps 212 = .ok (.invokevirtual 348, 3) := dk_182 1 92 (dk_at dksX9_swaps_8 21 rfl rfl)
theorem dX9_swaps_215 : decode cX9_swaps 215 = .ok (.goto 8, 3) := dk_167 0 8 (dk_at dksX9_swaps_9 0 rfl rfl)
theorem dX9_swaps_218 : decode cX9_swaps 218 = .ok (.aload_n 0, 1) := dk_42 (dk_at dksX9_swaps_9 3 rfl rfl)
theorem dX9_swaps_219 : decode cX9_swaps 219 = .ok (.iload_n 1, 1) := dk_27 (dk_at dksX9_swaps_9 4 rfl rfl)
theorem dX9_swaps_220 : decode cX9_swaps 220 = .ok (.invokevirtual 386, 3) := dk_182 1 130 (dk_at dksX9_swaps_9 5 rfl rfl)
theorem dX9_swaps_223 : decode cX9_swaps 223 = .ok (.return_, 1) := dk_177 (dk_at dksX9_swaps_9 8 rfl rfl)
abbrev cX9_retires : ByteArray := prog_20_method_75_code
def yX9_retires : MethodName := ⟨RX9, "retires", "(I)V"⟩
def dkwX9_retires_0 : List UInt8 := [42, 180, 0, 80, 27, 184, 1, 26, 7, 96, 42, 180, 0, 80, 5, 46, 79, 177]
abbrev dktX9_retires_0 : List UInt8 := dkwX9_retires_0 ++ []
theorem dksX9_retires_0 : cX9_retires.data.toList.drop 0 = dktX9_retires_0 := by decide +kernel
theorem dX9_retires_0 : decode cX9_retires 0 = .ok (.aload_n 0, 1) := dk_42 (dk_at dksX9_retires_0 0 rfl rfl)
theorem dX9_retires_1 : decode cX9_retires 1 = .ok (.getfield 80, 3) := dk_180 0 80 (dk_at dksX9_retires_0 1 rfl rfl)
theorem dX9_retires_4 : decode cX9_retires 4 = .ok (.iload_n 1, 1) := dk_27 (dk_at dksX9_retires_0 4 rfl rfl)
theorem dX9_retires_5 : decode cX9_retires 5 = .ok (.invokestatic 282, 3) := dk_184 1 26 (dk_at dksX9_retires_0 5 rfl rfl)
theorem dX9_retires_8 : decode cX9_retires 8 = .ok (.iconst 4, 1) := dk_7 (dk_at dksX9_retires_0 8 rfl rfl)
theorem dX9_retires_9 : decode cX9_retires 9 = .ok (.iadd, 1) := dk_96 (dk_at dksX9_retires_0 9 rfl rfl)
theorem dX9_retires_10 : decode cX9_retires 10 = .ok (.aload_n 0, 1) := dk_42 (dk_at dksX9_retires_0 10 rfl rfl)
theorem dX9_retires_11 : decode cX9_retires 11 = .ok (.getfield 80, 3) := dk_180 0 80 (dk_at dksX9_retires_0 11 rfl rfl)
theorem dX9_retires_14 : decode cX9_retires 14 = .ok (.iconst 2, 1) := dk_5 (dk_at dksX9_retires_0 14 rfl rfl)
theorem dX9_retires_15 : decode cX9_retires 15 = .ok (.iaload, 1) := dk_46 (dk_at dksX9_retires_0 15 rfl rfl)
theorem dX9_retires_16 : decode cX9_retires 16 = .ok (.iastore, 1) := dk_79 (dk_at dksX9_retires_0 16 rfl rfl)
theorem dX9_retires_17 : decode cX9_retires 17 = .ok (.return_, 1) := dk_177 (dk_at dksX9_retires_0 17 rfl rfl)
abbrev cX9_splits : ByteArray := prog_20_method_77_code
def yX9_splits : MethodName := ⟨RX9, "splits", "(I)V"⟩
def dkwX9_splits_6 : List UInt8 := [182, 1, 29, 182, 1, 124, 42, 27, 42, 180, 0, 86, 29, 46, 21, 4, 182, 1, 104, 177]
abbrev dktX9_splits_6 : List UInt8 := dkwX9_splits_6 ++ []
def dkwX9_splits_5 : List UInt8 := [4, 92, 46, 4, 96, 79, 42, 28, 42, 6, 42, 180, 0, 86, 29, 46, 21, 4, 42, 28, 182, 1, 44]
abbrev dktX9_splits_5 : List UInt8 := dkwX9_splits_5 ++ dktX9_splits_6
def dkwX9_splits_4 : List UInt8 := [21, 6, 46, 182, 1, 41, 132, 6, 1, 167, 255, 224, 42, 21, 4, 21, 5, 182, 1, 124, 42, 180, 0, 80]
abbrev dktX9_splits_4 : List UInt8 := dkwX9_splits_4 ++ dktX9_splits_5
def dkwX9_splits_3 : List UInt8 := [21, 6, 42, 180, 1, 53, 162, 0, 29, 42, 21, 5, 42, 180, 0, 86, 21, 6, 46, 42, 180, 0, 89]
abbrev dktX9_splits_3 : List UInt8 := dkwX9_splits_3 ++ dktX9_splits_4
def dkwX9_splits_2 : List UInt8 := [180, 0, 80, 4, 46, 54, 4, 42, 42, 180, 1, 68, 42, 180, 1, 71, 182, 1, 38, 54, 5, 29, 54, 6]
abbrev dktX9_splits_2 : List UInt8 := dkwX9_splits_2 ++ dktX9_splits_3
def dkwX9_splits_1 : List UInt8 := [16, 32, 161, 0, 9, 42, 27, 182, 1, 130, 177, 42, 28, 182, 1, 83, 42, 180, 1, 53, 5, 108, 62, 42]
abbrev dktX9_splits_1 : List UInt8 := dkwX9_splits_1 ++ dktX9_splits_2
def dkwX9_splits_0 : List UInt8 := [42, 180, 0, 80, 27, 5, 96, 46, 61, 42, 27, 28, 182, 1, 117, 153, 0, 14, 42, 180, 0, 80, 4, 46]
abbrev dktX9_splits_0 : List UInt8 := dkwX9_splits_0 ++ dktX9_splits_1
theorem dksX9_splits_0 : cX9_splits.data.toList.drop 0 = dktX9_splits_0 := by decide +kernel
theorem dksX9_splits_1 : cX9_splits.data.toList.drop 24 = dktX9_splits_1 := dk_seg dksX9_splits_0 24 rfl rfl
theorem dksX9_splits_2 : cX9_splits.data.toList.drop 48 = dktX9_splits_2 := dk_seg dksX9_splits_1 24 rfl rfl
theorem dksX9_splits_3 : cX9_splits.data.toList.drop 72 = dktX9_splits_3 := dk_seg dksX9_splits_2 24 rfl rfl
theorem dksX9_splits_4 : cX9_splits.data.toList.drop 95 = dktX9_splits_4 := dk_seg dksX9_splits_3 23 rfl rfl
theorem dksX9_splits_5 : cX9_splits.data.toList.drop 119 = dktX9_splits_5 := dk_seg dksX9_splits_4 24 rfl rfl
theorem dksX9_splits_6 : cX9_splits.data.toList.drop 142 = dktX9_splits_6 := dk_seg dksX9_splits_5 23 rfl rfl
theorem dX9_splits_0 : decode cX9_splits 0 = .ok (.aload_n 0, 1) := dk_42 (dk_at dksX9_splits_0 0 rfl rfl)
theorem dX9_splits_1 : decode cX9_splits 1 = .ok (.getfield 80, 3) := dk_180 0 80 (dk_at dksX9_splits_0 1 rfl rfl)
theorem dX9_splits_4 : decode cX9_splits 4 = .ok (.iload_n 1, 1) := dk_27 (dk_at dksX9_splits_0 4 rfl rfl)
theorem dX9_splits_5 : decode cX9_splits 5 = .ok (.iconst 2, 1) := dk_5 (dk_at dksX9_splits_0 5 rfl rfl)
theorem dX9_splits_6 : decode cX9_splits 6 = .ok (.iadd, 1) := dk_96 (dk_at dksX9_splits_0 6 rfl rfl)
theorem dX9_splits_7 : decode cX9_splits 7 = .ok (.iaload, 1) := dk_46 (dk_at dksX9_splits_0 7 rfl rfl)
theorem dX9_splits_8 : decode cX9_splits 8 = .ok (.istore_n 2, 1) := dk_61 (dk_at dksX9_splits_0 8 rfl rfl)
theorem dX9_splits_9 : decode cX9_splits 9 = .ok (.aload_n 0, 1) := dk_42 (dk_at dksX9_splits_0 9 rfl rfl)
theorem dX9_splits_10 : decode cX9_splits 10 = .ok (.iload_n 1, 1) := dk_27 (dk_at dksX9_splits_0 10 rfl rfl)
theorem dX9_splits_11 : decode cX9_splits 11 = .ok (.iload_n 2, 1) := dk_28 (dk_at dksX9_splits_0 11 rfl rfl)
theorem dX9_splits_12 : decode cX9_splits 12 = .ok (.invokevirtual 373, 3) := dk_182 1 117 (dk_at dksX9_splits_0 12 rfl rfl)
theorem dX9_splits_15 : decode cX9_splits 15 = .ok (.ifCond .eq 14, 3) := dk_153 0 14 (dk_at dksX9_splits_0 15 rfl rfl)
theorem dX9_splits_18 : decode cX9_splits 18 = .ok (.aload_n 0, 1) := dk_42 (dk_at dksX9_splits_0 18 rfl rfl)
theorem dX9_splits_19 : decode cX9_splits 19 = .ok (.getfield 80, 3) := dk_180 0 80 (dk_at dksX9_splits_0 19 rfl rfl)
theorem dX9_splits_22 : decode cX9_splits 22 = .ok (.iconst 1, 1) := dk_4 (dk_at dksX9_splits_0 22 rfl rfl)
theorem dX9_splits_23 : decode cX9_splits 23 = .ok (.iaload, 1) := dk_46 (dk_at dksX9_splits_0 23 rfl rfl)
theorem dX9_splits_24 : decode cX9_splits 24 = .ok (.bipush 32, 2) := dk_16 32 (dk_at dksX9_splits_1 0 rfl rfl)
theorem dX9_splits_26 : decode cX9_splits 26 = .ok (.if_icmp .lt 9, 3) := dk_161 0 9 (dk_at dksX9_splits_1 2 rfl rfl)
theorem dX9_splits_29 : decode cX9_splits 29 = .ok (.aload_n 0, 1) := dk_42 (dk_at dksX9_splits_1 5 rfl rfl)
theorem dX9_splits_30 : decode cX9_splits 30 = .ok (.iload_n 1, 1) := dk_27 (dk_at dksX9_splits_1 6 rfl rfl)
theorem dX9_splits_31 : decode cX9_splits 31 = .ok (.invokevirtual 386, 3) := dk_182 1 130 (dk_at dksX9_splits_1 7 rfl rfl)
theorem dX9_splits_34 : decode cX9_splits 34 = .ok (.return_, 1) := dk_177 (dk_at dksX9_splits_1 10 rfl rfl)
theorem dX9_splits_35 : decode cX9_splits 35 = .ok (.aload_n 0, 1) := dk_42 (dk_at dksX9_splits_1 11 rfl rfl)
theorem dX9_splits_36 : decode cX9_splits 36 = .ok (.iload_n 2, 1) := dk_28 (dk_at dksX9_splits_1 12 rfl rfl)
theorem dX9_splits_37 : decode cX9_splits 37 = .ok (.invokevirtual 339, 3) := dk_182 1 83 (dk_at dksX9_splits_1 13 rfl rfl)
theorem dX9_splits_40 : decode cX9_splits 40 = .ok (.aload_n 0, 1) := dk_42 (dk_at dksX9_splits_1 16 rfl rfl)
theorem dX9_splits_41 : decode cX9_splits 41 = .ok (.getfield 309, 3) := dk_180 1 53 (dk_at dksX9_splits_1 17 rfl rfl)
theorem dX9_splits_44 : decode cX9_splits 44 = .ok (.iconst 2, 1) := dk_5 (dk_at dksX9_splits_1 20 rfl rfl)
theorem dX9_splits_45 : decode cX9_splits 45 = .ok (.idiv, 1) := dk_108 (dk_at dksX9_splits_1 21 rfl rfl)
theorem dX9_splits_46 : decode cX9_splits 46 = .ok (.istore_n 3, 1) := dk_62 (dk_at dksX9_splits_1 22 rfl rfl)
theorem dX9_splits_47 : decode cX9_splits 47 = .ok (.aload_n 0, 1) := dk_42 (dk_at dksX9_splits_1 23 rfl rfl)
theorem dX9_splits_48 : decode cX9_splits 48 = .ok (.getfield 80, 3) := dk_180 0 80 (dk_at dksX9_splits_2 0 rfl rfl)
theorem dX9_splits_51 : decode cX9_splits 51 = .ok (.iconst 1, 1) := dk_4 (dk_at dksX9_splits_2 3 rfl rfl)
theorem dX9_splits_52 : decode cX9_splits 52 = .ok (.iaload, 1) := dk_46 (dk_at dksX9_splits_2 4 rfl rfl)
theorem dX9_splits_53 : decode cX9_splits 53 = .ok (.istore 4, 2) := dk_54 4 (dk_at dksX9_splits_2 5 rfl rfl)
theorem dX9_splits_55 : decode cX9_splits 55 = .ok (.aload_n 0, 1) := dk_42 (dk_at dksX9_splits_2 7 rfl rfl)
theorem dX9_splits_56 : decode cX9_splits 56 = .ok (.aload_n 0, 1) := dk_42 (dk_at dksX9_splits_2 8 rfl rfl)
theorem dX9_splits_57 : decode cX9_splits 57 = .ok (.getfield 324, 3) := dk_180 1 68 (dk_at dksX9_splits_2 9 rfl rfl)
theorem dX9_splits_60 : decode cX9_splits 60 = .ok (.aload_n 0, 1) := dk_42 (dk_at dksX9_splits_2 12 rfl rfl)
theorem dX9_splits_61 : decode cX9_splits 61 = .ok (.getfield 327, 3) := dk_180 1 71 (dk_at dksX9_splits_2 13 rfl rfl)
theorem dX9_splits_64 : decode cX9_splits 64 = .ok (.invokevirtual 294, 3) := dk_182 1 38 (dk_at dksX9_splits_2 16 rfl rfl)
theorem dX9_splits_67 : decode cX9_splits 67 = .ok (.istore 5, 2) := dk_54 5 (dk_at dksX9_splits_2 19 rfl rfl)
theorem dX9_splits_69 : decode cX9_splits 69 = .ok (.iload_n 3, 1) := dk_29 (dk_at dksX9_splits_2 21 rfl rfl)
theorem dX9_splits_70 : decode cX9_splits 70 = .ok (.istore 6, 2) := dk_54 6 (dk_at dksX9_splits_2 22 rfl rfl)
theorem dX9_splits_72 : decode cX9_splits 72 = .ok (.iload 6, 2) := dk_21 6 (dk_at dksX9_splits_3 0 rfl rfl)
theorem dX9_splits_74 : decode cX9_splits 74 = .ok (.aload_n 0, 1) := dk_42 (dk_at dksX9_splits_3 2 rfl rfl)
theorem dX9_splits_75 : decode cX9_splits 75 = .ok (.getfield 309, 3) := dk_180 1 53 (dk_at dksX9_splits_3 3 rfl rfl)
theorem dX9_splits_78 : decode cX9_splits 78 = .ok (.if_icmp .ge 29, 3) := dk_162 0 29 (dk_at dksX9_splits_3 6 rfl rfl)
theorem dX9_splits_81 : decode cX9_splits 81 = .ok (.aload_n 0, 1) := dk_42 (dk_at dksX9_splits_3 9 rfl rfl)
theorem dX9_splits_82 : decode cX9_splits 82 = .ok (.iload 5, 2) := dk_21 5 (dk_at dksX9_splits_3 10 rfl rfl)
theorem dX9_splits_84 : decode cX9_splits 84 = .ok (.aload_n 0, 1) := dk_42 (dk_at dksX9_splits_3 12 rfl rfl)
theorem dX9_splits_85 : decode cX9_splits 85 = .ok (.getfield 86, 3) := dk_180 0 86 (dk_at dksX9_splits_3 13 rfl rfl)
theorem dX9_splits_88 : decode cX9_splits 88 = .ok (.iload 6, 2) := dk_21 6 (dk_at dksX9_splits_3 16 rfl rfl)
theorem dX9_splits_90 : decode cX9_splits 90 = .ok (.iaload, 1) := dk_46 (dk_at dksX9_splits_3 18 rfl rfl)
theorem dX9_splits_91 : decode cX9_splits 91 = .ok (.aload_n 0, 1) := dk_42 (dk_at dksX9_splits_3 19 rfl rfl)
theorem dX9_splits_92 : decode cX9_splits 92 = .ok (.getfield 89, 3) := dk_180 0 89 (dk_at dksX9_splits_3 20 rfl rfl)
theorem dX9_splits_95 : decode cX9_splits 95 = .ok (.iload 6, 2) := dk_21 6 (dk_at dksX9_splits_4 0 rfl rfl)
theorem dX9_splits_97 : decode cX9_splits 97 = .ok (.iaload, 1) := dk_46 (dk_at dksX9_splits_4 2 rfl rfl)
theorem dX9_splits_98 : decode cX9_splits 98 = .ok (.invokevirtual 297, 3) := dk_182 1 41 (dk_at dksX9_splits_4 3 rfl rfl)
theorem dX9_splits_101 : decode cX9_splits 101 = .ok (.iinc 6 1, 3) := dk_132 6 1 (dk_at dksX9_splits_4 6 rfl rfl)
theorem dX9_splits_104 : decode cX9_splits 104 = .ok (.goto (-32), 3) := dk_167 255 224 (dk_at dksX9_splits_4 9 rfl rfl)
theorem dX9_splits_107 : decode cX9_splits 107 = .ok (.aload_n 0, 1) := dk_42 (dk_at dksX9_splits_4 12 rfl rfl)
theorem dX9_splits_108 : decode cX9_splits 108 = .ok (.iload 4, 2) := dk_21 4 (dk_at dksX9_splits_4 13 rfl rfl)
theorem dX9_splits_110 : decode cX9_splits 110 = .ok (.iload 5, 2) := dk_21 5 (dk_at dksX9_splits_4 15 rfl rfl)
theorem dX9_splits_112 : decode cX9_splits 112 = .ok (.invokevirtual 380, 3) := dk_182 1 124 (dk_at dksX9_splits_4 17 rfl rfl)
theorem dX9_splits_115 : decode cX9_splits 115 = .ok (.aload_n 0, 1) := dk_42 (dk_at dksX9_splits_4 20 rfl rfl)
theorem dX9_splits_116 : decode cX9_splits 116 = .ok (.getfield 80, 3) := dk_180 0 80 (dk_at dksX9_splits_4 21 rfl rfl)
theorem dX9_splits_119 : decode cX9_splits 119 = .ok (.iconst 1, 1) := dk_4 (dk_at dksX9_splits_5 0 rfl rfl)
theorem dX9_splits_120 : decode cX9_splits 120 = .ok (.dup2, 1) := dk_92 (dk_at dksX9_splits_5 1 rfl rfl)
theorem dX9_splits_121 : decode cX9_splits 121 = .ok (.iaload, 1) := dk_46 (dk_at dksX9_splits_5 2 rfl rfl)
theorem dX9_splits_122 : decode cX9_splits 122 = .ok (.iconst 1, 1) := dk_4 (dk_at dksX9_splits_5 3 rfl rfl)
theorem dX9_splits_123 : decode cX9_splits 123 = .ok (.iadd, 1) := dk_96 (dk_at dksX9_splits_5 4 rfl rfl)
theorem dX9_splits_124 : decode cX9_splits 124 = .ok (.iastore, 1) := dk_79 (dk_at dksX9_splits_5 5 rfl rfl)
theorem dX9_splits_125 : decode cX9_splits 125 = .ok (.aload_n 0, 1) := dk_42 (dk_at dksX9_splits_5 6 rfl rfl)
theorem dX9_splits_126 : decode cX9_splits 126 = .ok (.iload_n 2, 1) := dk_28 (dk_at dksX9_splits_5 7 rfl rfl)
theorem dX9_splits_127 : decode cX9_splits 127 = .ok (.aload_n 0, 1) := dk_42 (dk_at dksX9_splits_5 8 rfl rfl)
theorem dX9_splits_128 : decode cX9_splits 128 = .ok (.iconst 3, 1) := dk_6 (dk_at dksX9_splits_5 9 rfl rfl)
theorem dX9_splits_129 : decode cX9_splits 129 = .ok (.aload_n 0, 1) := dk_42 (dk_at dksX9_splits_5 10 rfl rfl)
theorem dX9_splits_130 : decode cX9_splits 130 = .ok (.getfield 86, 3) := dk_180 0 86 (dk_at dksX9_splits_5 11 rfl rfl)
theorem dX9_splits_133 : decode cX9_splits 133 = .ok (.iload_n 3, 1) := dk_29 (dk_at dksX9_splits_5 14 rfl rfl)
theorem dX9_splits_134 : decode cX9_splits 134 = .ok (.iaload, 1) := dk_46 (dk_at dksX9_splits_5 15 rfl rfl)
theorem dX9_splits_135 : decode cX9_splits 135 = .ok (.iload 4, 2) := dk_21 4 (dk_at dksX9_splits_5 16 rfl rfl)
theorem dX9_splits_137 : decode cX9_splits 137 = .ok (.aload_n 0, 1) := dk_42 (dk_at dksX9_splits_5 18 rfl rfl)
theorem dX9_splits_138 : decode cX9_splits 138 = .ok (.iload_n 2, 1) := dk_28 (dk_at dksX9_splits_5 19 rfl rfl)
theorem dX9_splits_139 : decode cX9_splits 139 = .ok (.invokevirtual 300, 3) := dk_182 1 44 (dk_at dksX9_splits_5 20 rfl rfl)
theorem dX9_splits_142 : decode cX9_splits 142 = .ok (.invokevirtual 285, 3) := dk_182 1 29 (dk_at dksX9_splits_6 0 rfl rfl)
theorem dX9_splits_145 : decode cX9_splits 145 = .ok (.invokevirtual 380, 3) := dk_182 1 124 (dk_at dksX9_splits_6 3 rfl rfl)
theorem dX9_splits_148 : decode cX9_splits 148 = .ok (.aload_n 0, 1) := dk_42 (dk_at dksX9_splits_6 6 rfl rfl)
theorem dX9_splits_149 : decode cX9_splits 149 = .ok (.iload_n 1, 1) := dk_27 (dk_at dksX9_splits_6 7 rfl rfl)
theorem dX9_splits_150 : decode cX9_splits 150 = .ok (.aload_n 0, 1) := dk_42 (dk_at dksX9_splits_6 8 rfl rfl)
theorem dX9_splits_151 : decode cX9_splits 151 = .ok (.getfield 86, 3) := dk_180 0 86 (dk_at dksX9_splits_6 9 rfl rfl)
theorem dX9_splits_154 : decode cX9_splits 154 = .ok (.iload_n 3, 1) := dk_29 (dk_at dksX9_splits_6 12 rfl rfl)
theorem dX9_splits_155 : decode cX9_splits 155 = .ok (.iaload, 1) := dk_46 (dk_at dksX9_splits_6 13 rfl rfl)
theorem dX9_splits_156 : decode cX9_splits 156 = .ok (.iload 4, 2) := dk_21 4 (dk_at dksX9_splits_6 14 rfl rfl)
theorem dX9_splits_158 : decode cX9_splits 158 = .ok (.invokevirtual 360, 3) := dk_182 1 104 (dk_at dksX9_splits_6 16 rfl rfl)
theorem dX9_splits_161 : decode cX9_splits 161 = .ok (.return_, 1) := dk_177 (dk_at dksX9_splits_6 19 rfl rfl)
abbrev cX9_looksUp : ByteArray := prog_20_method_78_code
def yX9_looksUp : MethodName := ⟨RX9, "looksUp", "(I)V"⟩
def dkwX9_looksUp_2 : List UInt8 := [16, 11, 96, 28, 79, 42, 27, 16, 12, 182, 1, 92, 167, 0, 11, 42, 27, 3, 16, 8, 182, 1, 114, 177]
abbrev dktX9_looksUp_2 : List UInt8 := dkwX9_looksUp_2 ++ []
def dkwX9_looksUp_1 : List UInt8 := [16, 13, 96, 46, 160, 0, 11, 42, 27, 182, 1, 130, 167, 0, 35, 28, 155, 0, 23, 42, 180, 0, 80, 27]
abbrev dktX9_looksUp_1 : List UInt8 := dkwX9_looksUp_1 ++ dktX9_looksUp_2
def dkwX9_looksUp_0 : List UInt8 := [42, 182, 1, 89, 42, 42, 180, 0, 80, 27, 16, 12, 96, 46, 182, 1, 101, 61, 28, 42, 180, 0, 80, 27]
abbrev dktX9_looksUp_0 : List UInt8 := dkwX9_looksUp_0 ++ dktX9_looksUp_1
theorem dksX9_looksUp_0 : cX9_looksUp.data.toList.drop 0 = dktX9_looksUp_0 := by decide +kernel
theorem dksX9_looksUp_1 : cX9_looksUp.data.toList.drop 24 = dktX9_looksUp_1 := dk_seg dksX9_looksUp_0 24 rfl rfl
theorem dksX9_looksUp_2 : cX9_looksUp.data.toList.drop 48 = dktX9_looksUp_2 := dk_seg dksX9_looksUp_1 24 rfl rfl
theorem dX9_looksUp_0 : decode cX9_looksUp 0 = .ok (.aload_n 0, 1) := dk_42 (dk_at dksX9_looksUp_0 0 rfl rfl)
theorem dX9_looksUp_1 : decode cX9_looksUp 1 = .ok (.invokevirtual 345, 3) := dk_182 1 89 (dk_at dksX9_looksUp_0 1 rfl rfl)
theorem dX9_looksUp_4 : decode cX9_looksUp 4 = .ok (.aload_n 0, 1) := dk_42 (dk_at dksX9_looksUp_0 4 rfl rfl)
theorem dX9_looksUp_5 : decode cX9_looksUp 5 = .ok (.aload_n 0, 1) := dk_42 (dk_at dksX9_looksUp_0 5 rfl rfl)
theorem dX9_looksUp_6 : decode cX9_looksUp 6 = .ok (.getfield 80, 3) := dk_180 0 80 (dk_at dksX9_looksUp_0 6 rfl rfl)
theorem dX9_looksUp_9 : decode cX9_looksUp 9 = .ok (.iload_n 1, 1) := dk_27 (dk_at dksX9_looksUp_0 9 rfl rfl)
theorem dX9_looksUp_10 : decode cX9_looksUp 10 = .ok (.bipush 12, 2) := dk_16 12 (dk_at dksX9_looksUp_0 10 rfl rfl)
theorem dX9_looksUp_12 : decode cX9_looksUp 12 = .ok (.iadd, 1) := dk_96 (dk_at dksX9_looksUp_0 12 rfl rfl)
theorem dX9_looksUp_13 : decode cX9_looksUp 13 = .ok (.iaload, 1) := dk_46 (dk_at dksX9_looksUp_0 13 rfl rfl)
theorem dX9_looksUp_14 : decode cX9_looksUp 14 = .ok (.invokevirtual 357, 3) := dk_182 1 101 (dk_at dksX9_looksUp_0 14 rfl rfl)
theorem dX9_looksUp_17 : decode cX9_looksUp 17 = .ok (.istore_n 2, 1) := dk_61 (dk_at dksX9_looksUp_0 17 rfl rfl)
theorem dX9_looksUp_18 : decode cX9_looksUp 18 = .ok (.iload_n 2, 1) := dk_28 (dk_at dksX9_looksUp_0 18 rfl rfl)
theorem dX9_looksUp_19 : decode cX9_looksUp 19 = .ok (.aload_n 0, 1) := dk_42 (dk_at dksX9_looksUp_0 19 rfl rfl)
theorem dX9_looksUp_20 : decode cX9_looksUp 20 = .ok (.getfield 80, 3) := dk_180 0 80 (dk_at dksX9_looksUp_0 20 rfl rfl)
theorem dX9_looksUp_23 : decode cX9_looksUp 23 = .ok (.iload_n 1, 1) := dk_27 (dk_at dksX9_looksUp_0 23 rfl rfl)
theorem dX9_looksUp_24 : decode cX9_looksUp 24 = .ok (.bipush 13, 2) := dk_16 13 (dk_at dksX9_looksUp_1 0 rfl rfl)
theorem dX9_looksUp_26 : decode cX9_looksUp 26 = .ok (.iadd, 1) := dk_96 (dk_at dksX9_looksUp_1 2 rfl rfl)
theorem dX9_looksUp_27 : decode cX9_looksUp 27 = .ok (.iaload, 1) := dk_46 (dk_at dksX9_looksUp_1 3 rfl rfl)
theorem dX9_looksUp_28 : decode cX9_looksUp 28 = .ok (.if_icmp .ne 11, 3) := dk_160 0 11 (dk_at dksX9_looksUp_1 4 rfl rfl)
theorem dX9_looksUp_31 : decode cX9_looksUp 31 = .ok (.aload_n 0, 1) := dk_42 (dk_at dksX9_looksUp_1 7 rfl rfl)
theorem dX9_looksUp_32 : decode cX9_looksUp 32 = .ok (.iload_n 1, 1) := dk_27 (dk_at dksX9_looksUp_1 8 rfl rfl)
theorem dX9_looksUp_33 : decode cX9_looksUp 33 = .ok (.invokevirtual 386, 3) := dk_182 1 130 (dk_at dksX9_looksUp_1 9 rfl rfl)
theorem dX9_looksUp_36 : decode cX9_looksUp 36 = .ok (.goto 35, 3) := dk_167 0 35 (dk_at dksX9_looksUp_1 12 rfl rfl)
theorem dX9_looksUp_39 : decode cX9_looksUp 39 = .ok (.iload_n 2, 1) := dk_28 (dk_at dksX9_looksUp_1 15 rfl rfl)
theorem dX9_looksUp_40 : decode cX9_looksUp 40 = .ok (.ifCond .lt 23, 3) := dk_155 0 23 (dk_at dksX9_looksUp_1 16 rfl rfl)
theorem dX9_looksUp_43 : decode cX9_looksUp 43 = .ok (.aload_n 0, 1) := dk_42 (dk_at dksX9_looksUp_1 19 rfl rfl)
theorem dX9_looksUp_44 : decode cX9_looksUp 44 = .ok (.getfield 80, 3) := dk_180 0 80 (dk_at dksX9_looksUp_1 20 rfl rfl)
theorem dX9_looksUp_47 : decode cX9_looksUp 47 = .ok (.iload_n 1, 1) := dk_27 (dk_at dksX9_looksUp_1 23 rfl rfl)
theorem dX9_looksUp_48 : decode cX9_looksUp 48 = .ok (.bipush 11, 2) := dk_16 11 (dk_at dksX9_looksUp_2 0 rfl rfl)
theorem dX9_looksUp_50 : decode cX9_looksUp 50 = .ok (.iadd, 1) := dk_96 (dk_at dksX9_looksUp_2 2 rfl rfl)
theorem dX9_looksUp_51 : decode cX9_looksUp 51 = .ok (.iload_n 2, 1) := dk_28 (dk_at dksX9_looksUp_2 3 rfl rfl)
theorem dX9_looksUp_52 : decode cX9_looksUp 52 = .ok (.iastore, 1) := dk_79 (dk_at dksX9_looksUp_2 4 rfl rfl)
theorem dX9_looksUp_53 : decode cX9_looksUp 53 = .ok (.aload_n 0, 1) := dk_42 (dk_at dksX9_looksUp_2 5 rfl rfl)
theorem dX9_looksUp_54 : decode cX9_looksUp 54 = .ok (.iload_n 1, 1) := dk_27 (dk_at dksX9_looksUp_2 6 rfl rfl)
theorem dX9_looksUp_55 : decode cX9_looksUp 55 = .ok (.bipush 12, 2) := dk_16 12 (dk_at dksX9_looksUp_2 7 rfl rfl)
theorem dX9_looksUp_57 : decode cX9_looksUp 57 = .ok (.invokevirtual 348, 3) := dk_182 1 92 (dk_at dksX9_looksUp_2 9 rfl rfl)
theorem dX9_looksUp_60 : decode cX9_looksUp 60 = .ok (.goto 11, 3) := dk_167 0 11 (dk_at dksX9_looksUp_2 12 rfl rfl)
theorem dX9_looksUp_63 : decode cX9_looksUp 63 = .ok (.aload_n 0, 1) := dk_42 (dk_at dksX9_looksUp_2 15 rfl rfl)
theorem dX9_looksUp_64 : decode cX9_looksUp 64 = .ok (.iload_n 1, 1) := dk_27 (dk_at dksX9_looksUp_2 16 rfl rfl)
theorem dX9_looksUp_65 : decode cX9_looksUp 65 = .ok (.iconst 0, 1) := dk_3 (dk_at dksX9_looksUp_2 17 rfl rfl)
theorem dX9_looksUp_66 : decode cX9_looksUp 66 = .ok (.bipush 8, 2) := dk_16 8 (dk_at dksX9_looksUp_2 18 rfl rfl)
theorem dX9_looksUp_68 : decode cX9_looksUp 68 = .ok (.invokevirtual 370, 3) := dk_182 1 114 (dk_at dksX9_looksUp_2 20 rfl rfl)
theorem dX9_looksUp_71 : decode cX9_looksUp 71 = .ok (.return_, 1) := dk_177 (dk_at dksX9_looksUp_2 23 rfl rfl)
abbrev cX9_enters : ByteArray := prog_20_method_80_code
def yX9_enters : MethodName := ⟨RX9, "enters", "(I)V"⟩
def dkwX9_enters_2 : List UInt8 := [177]
abbrev dktX9_enters_2 : List UInt8 := dkwX9_enters_2 ++ []
def dkwX9_enters_1 : List UInt8 := [180, 0, 80, 27, 16, 13, 96, 46, 182, 1, 136, 177, 42, 27, 182, 1, 121, 42, 27, 16, 7, 182, 1, 92]
abbrev dktX9_enters_1 : List UInt8 := dkwX9_enters_1 ++ dktX9_enters_2
def dkwX9_enters_0 : List UInt8 := [42, 27, 3, 182, 1, 117, 153, 0, 29, 42, 27, 16, 6, 42, 180, 0, 80, 27, 16, 12, 96, 46, 42]
abbrev dktX9_enters_0 : List UInt8 := dkwX9_enters_0 ++ dktX9_enters_1
theorem dksX9_enters_0 : cX9_enters.data.toList.drop 0 = dktX9_enters_0 := by decide +kernel
theorem dksX9_enters_1 : cX9_enters.data.toList.drop 23 = dktX9_enters_1 := dk_seg dksX9_enters_0 23 rfl rfl
theorem dksX9_enters_2 : cX9_enters.data.toList.drop 47 = dktX9_enters_2 := dk_seg dksX9_enters_1 24 rfl rfl
theorem dX9_enters_0 : decode cX9_enters 0 = .ok (.aload_n 0, 1) := dk_42 (dk_at dksX9_enters_0 0 rfl rfl)
theorem dX9_enters_1 : decode cX9_enters 1 = .ok (.iload_n 1, 1) := dk_27 (dk_at dksX9_enters_0 1 rfl rfl)
theorem dX9_enters_2 : decode cX9_enters 2 = .ok (.iconst 0, 1) := dk_3 (dk_at dksX9_enters_0 2 rfl rfl)
theorem dX9_enters_3 : decode cX9_enters 3 = .ok (.invokevirtual 373, 3) := dk_182 1 117 (dk_at dksX9_enters_0 3 rfl rfl)
theorem dX9_enters_6 : decode cX9_enters 6 = .ok (.ifCond .eq 29, 3) := dk_153 0 29 (dk_at dksX9_enters_0 6 rfl rfl)
theorem dX9_enters_9 : decode cX9_enters 9 = .ok (.aload_n 0, 1) := dk_42 (dk_at dksX9_enters_0 9 rfl rfl)
theorem dX9_enters_10 : decode cX9_enters 10 = .ok (.iload_n 1, 1) := dk_27 (dk_at dksX9_enters_0 10 rfl rfl)
theorem dX9_enters_11 : decode cX9_enters 11 = .ok (.bipush 6, 2) := dk_16 6 (dk_at dksX9_enters_0 11 rfl rfl)
theorem dX9_enters_13 : decode cX9_enters 13 = .ok (.aload_n 0, 1) := dk_42 (dk_at dksX9_enters_0 13 rfl rfl)
theorem dX9_enters_14 : decode cX9_enters 14 = .ok (.getfield 80, 3) := dk_180 0 80 (dk_at dksX9_enters_0 14 rfl rfl)
theorem dX9_enters_17 : decode cX9_enters 17 = .ok (.iload_n 1, 1) := dk_27 (dk_at dksX9_enters_0 17 rfl rfl)
theorem dX9_enters_18 : decode cX9_enters 18 = .ok (.bipush 12, 2) := dk_16 12 (dk_at dksX9_enters_0 18 rfl rfl)
theorem dX9_enters_20 : decode cX9_enters 20 = .ok (.iadd, 1) := dk_96 (dk_at dksX9_enters_0 20 rfl rfl)
theorem dX9_enters_21 : decode cX9_enters 21 = .ok (.iaload, 1) := dk_46 (dk_at dksX9_enters_0 21 rfl rfl)
theorem dX9_enters_22 : decode cX9_enters 22 = .ok (.aload_n 0, 1) := dk_42 (dk_at dksX9_enters_0 22 rfl rfl)
theorem dX9_enters_23 : decode cX9_enters 23 = .ok (.getfield 80, 3) := dk_180 0 80 (dk_at dksX9_enters_1 0 rfl rfl)
theorem dX9_enters_26 : decode cX9_enters 26 = .ok (.iload_n 1, 1) := dk_27 (dk_at dksX9_enters_1 3 rfl rfl)
theorem dX9_enters_27 : decode cX9_enters 27 = .ok (.bipush 13, 2) := dk_16 13 (dk_at dksX9_enters_1 4 rfl rfl)
theorem dX9_enters_29 : decode cX9_enters 29 = .ok (.iadd, 1) := dk_96 (dk_at dksX9_enters_1 6 rfl rfl)
theorem dX9_enters_30 : decode cX9_enters 30 = .ok (.iaload, 1) := dk_46 (dk_at dksX9_enters_1 7 rfl rfl)
theorem dX9_enters_31 : decode cX9_enters 31 = .ok (.invokevirtual 392, 3) := dk_182 1 136 (dk_at dksX9_enters_1 8 rfl rfl)
theorem dX9_enters_34 : decode cX9_enters 34 = .ok (.return_, 1) := dk_177 (dk_at dksX9_enters_1 11 rfl rfl)
theorem dX9_enters_35 : decode cX9_enters 35 = .ok (.aload_n 0, 1) := dk_42 (dk_at dksX9_enters_1 12 rfl rfl)
theorem dX9_enters_36 : decode cX9_enters 36 = .ok (.iload_n 1, 1) := dk_27 (dk_at dksX9_enters_1 13 rfl rfl)
theorem dX9_enters_37 : decode cX9_enters 37 = .ok (.invokevirtual 377, 3) := dk_182 1 121 (dk_at dksX9_enters_1 14 rfl rfl)
theorem dX9_enters_40 : decode cX9_enters 40 = .ok (.aload_n 0, 1) := dk_42 (dk_at dksX9_enters_1 17 rfl rfl)
theorem dX9_enters_41 : decode cX9_enters 41 = .ok (.iload_n 1, 1) := dk_27 (dk_at dksX9_enters_1 18 rfl rfl)
theorem dX9_enters_42 : decode cX9_enters 42 = .ok (.bipush 7, 2) := dk_16 7 (dk_at dksX9_enters_1 19 rfl rfl)
theorem dX9_enters_44 : decode cX9_enters 44 = .ok (.invokevirtual 348, 3) := dk_182 1 92 (dk_at dksX9_enters_1 21 rfl rfl)
theorem dX9_enters_47 : decode cX9_enters 47 = .ok (.return_, 1) := dk_177 (dk_at dksX9_enters_2 0 rfl rfl)
abbrev cX9_changes : ByteArray := prog_20_method_79_code
def yX9_changes : MethodName := ⟨RX9, "changes", "(IIII)V"⟩
def dkwX9_changes_2 : List UInt8 := [167, 0, 8, 42, 27, 182, 1, 130, 177]
abbrev dktX9_changes_2 : List UInt8 := dkwX9_changes_2 ++ []
def dkwX9_changes_1 : List UInt8 := [180, 0, 80, 8, 46, 164, 0, 21, 42, 180, 0, 80, 27, 5, 96, 3, 79, 42, 27, 7, 182, 1, 92]
abbrev dktX9_changes_1 : List UInt8 := dkwX9_changes_1 ++ dktX9_changes_2
def dkwX9_changes_0 : List UInt8 := [42, 3, 42, 28, 29, 21, 4, 42, 3, 182, 1, 44, 182, 1, 29, 182, 1, 124, 42, 3, 182, 1, 127, 42]
abbrev dktX9_changes_0 : List UInt8 := dkwX9_changes_0 ++ dktX9_changes_1
theorem dksX9_changes_0 : cX9_changes.data.toList.drop 0 = dktX9_changes_0 := by decide +kernel
theorem dksX9_changes_1 : cX9_changes.data.toList.drop 24 = dktX9_changes_1 := dk_seg dksX9_changes_0 24 rfl rfl
theorem dksX9_changes_2 : cX9_changes.data.toList.drop 47 = dktX9_changes_2 := dk_seg dksX9_changes_1 23 rfl rfl
theorem dX9_changes_0 : decode cX9_changes 0 = .ok (.aload_n 0, 1) := dk_42 (dk_at dksX9_changes_0 0 rfl rfl)
theorem dX9_changes_1 : decode cX9_changes 1 = .ok (.iconst 0, 1) := dk_3 (dk_at dksX9_changes_0 1 rfl rfl)
theorem dX9_changes_2 : decode cX9_changes 2 = .ok (.aload_n 0, 1) := dk_42 (dk_at dksX9_changes_0 2 rfl rfl)
theorem dX9_changes_3 : decode cX9_changes 3 = .ok (.iload_n 2, 1) := dk_28 (dk_at dksX9_changes_0 3 rfl rfl)
theorem dX9_changes_4 : decode cX9_changes 4 = .ok (.iload_n 3, 1) := dk_29 (dk_at dksX9_changes_0 4 rfl rfl)
theorem dX9_changes_5 : decode cX9_changes 5 = .ok (.iload 4, 2) := dk_21 4 (dk_at dksX9_changes_0 5 rfl rfl)
theorem dX9_changes_7 : decode cX9_changes 7 = .ok (.aload_n 0, 1) := dk_42 (dk_at dksX9_changes_0 7 rfl rfl)
theorem dX9_changes_8 : decode cX9_changes 8 = .ok (.iconst 0, 1) := dk_3 (dk_at dksX9_changes_0 8 rfl rfl)
theorem dX9_changes_9 : decode cX9_changes 9 = .ok (.invokevirtual 300, 3) := dk_182 1 44 (dk_at dksX9_changes_0 9 rfl rfl)
theorem dX9_changes_12 : decode cX9_changes 12 = .ok (.invokevirtual 285, 3) := dk_182 1 29 (dk_at dksX9_changes_0 12 rfl rfl)
theorem dX9_changes_15 : decode cX9_changes 15 = .ok (.invokevirtual 380, 3) := dk_182 1 124 (dk_at dksX9_changes_0 15 rfl rfl)
theorem dX9_changes_18 : decode cX9_changes 18 = .ok (.aload_n 0, 1) := dk_42 (dk_at dksX9_changes_0 18 rfl rfl)
theorem dX9_changes_19 : decode cX9_changes 19 = .ok (.iconst 0, 1) := dk_3 (dk_at dksX9_changes_0 19 rfl rfl)
theorem dX9_changes_20 : decode cX9_changes 20 = .ok (.invokevirtual 383, 3) := dk_182 1 127 (dk_at dksX9_changes_0 20 rfl rfl)
theorem dX9_changes_23 : decode cX9_changes 23 = .ok (.aload_n 0, 1) := dk_42 (dk_at dksX9_changes_0 23 rfl rfl)
theorem dX9_changes_24 : decode cX9_changes 24 = .ok (.getfield 80, 3) := dk_180 0 80 (dk_at dksX9_changes_1 0 rfl rfl)
theorem dX9_changes_27 : decode cX9_changes 27 = .ok (.iconst 5, 1) := dk_8 (dk_at dksX9_changes_1 3 rfl rfl)
theorem dX9_changes_28 : decode cX9_changes 28 = .ok (.iaload, 1) := dk_46 (dk_at dksX9_changes_1 4 rfl rfl)
theorem dX9_changes_29 : decode cX9_changes 29 = .ok (.if_icmp .le 21, 3) := dk_164 0 21 (dk_at dksX9_changes_1 5 rfl rfl)
theorem dX9_changes_32 : decode cX9_changes 32 = .ok (.aload_n 0, 1) := dk_42 (dk_at dksX9_changes_1 8 rfl rfl)
theorem dX9_changes_33 : decode cX9_changes 33 = .ok (.getfield 80, 3) := dk_180 0 80 (dk_at dksX9_changes_1 9 rfl rfl)
theorem dX9_changes_36 : decode cX9_changes 36 = .ok (.iload_n 1, 1) := dk_27 (dk_at dksX9_changes_1 12 rfl rfl)
theorem dX9_changes_37 : decode cX9_changes 37 = .ok (.iconst 2, 1) := dk_5 (dk_at dksX9_changes_1 13 rfl rfl)
theorem dX9_changes_38 : decode cX9_changes 38 = .ok (.iadd, 1) := dk_96 (dk_at dksX9_changes_1 14 rfl rfl)
theorem dX9_changes_39 : decode cX9_changes 39 = .ok (.iconst 0, 1) := dk_3 (dk_at dksX9_changes_1 15 rfl rfl)
theorem dX9_changes_40 : decode cX9_changes 40 = .ok (.iastore, 1) := dk_79 (dk_at dksX9_changes_1 16 rfl rfl)
theorem dX9_changes_41 : decode cX9_changes 41 = .ok (.aload_n 0, 1) := dk_42 (dk_at dksX9_changes_1 17 rfl rfl)
theorem dX9_changes_42 : decode cX9_changes 42 = .ok (.iload_n 1, 1) := dk_27 (dk_at dksX9_changes_1 18 rfl rfl)
theorem dX9_changes_43 : decode cX9_changes 43 = .ok (.iconst 4, 1) := dk_7 (dk_at dksX9_changes_1 19 rfl rfl)
theorem dX9_changes_44 : decode cX9_changes 44 = .ok (.invokevirtual 348, 3) := dk_182 1 92 (dk_at dksX9_changes_1 20 rfl rfl)
theorem dX9_changes_47 : decode cX9_changes 47 = .ok (.goto 8, 3) := dk_167 0 8 (dk_at dksX9_changes_2 0 rfl rfl)
theorem dX9_changes_50 : decode cX9_changes 50 = .ok (.aload_n 0, 1) := dk_42 (dk_at dksX9_changes_2 3 rfl rfl)
theorem dX9_changes_51 : decode cX9_changes 51 = .ok (.iload_n 1, 1) := dk_27 (dk_at dksX9_changes_2 4 rfl rfl)
theorem dX9_changes_52 : decode cX9_changes 52 = .ok (.invokevirtual 386, 3) := dk_182 1 130 (dk_at dksX9_changes_2 5 rfl rfl)
theorem dX9_changes_55 : decode cX9_changes 55 = .ok (.return_, 1) := dk_177 (dk_at dksX9_changes_2 8 rfl rfl)
abbrev cX9_removes : ByteArray := prog_20_method_81_code
def yX9_removes : MethodName := ⟨RX9, "removes", "(I)V"⟩
def dkwX9_removes_3 : List UInt8 := [182, 1, 98, 177]
abbrev dktX9_removes_3 : List UInt8 := dkwX9_removes_3 ++ []
def dkwX9_removes_2 : List UInt8 := [177, 42, 28, 42, 7, 16, 254, 16, 254, 42, 28, 182, 1, 44, 182, 1, 29, 182, 1, 124, 42, 27, 28]
abbrev dktX9_removes_2 : List UInt8 := dkwX9_removes_2 ++ dktX9_removes_3
def dkwX9_removes_1 : List UInt8 := [182, 1, 117, 153, 0, 16, 29, 155, 0, 12, 42, 180, 0, 92, 29, 46, 154, 0, 9, 42, 27, 182, 1, 130]
abbrev dktX9_removes_1 : List UInt8 := dkwX9_removes_1 ++ dktX9_removes_2
def dkwX9_removes_0 : List UInt8 := [42, 180, 0, 80, 27, 5, 96, 46, 61, 42, 182, 1, 89, 42, 28, 182, 1, 140, 62, 42, 27, 28]
abbrev dktX9_removes_0 : List UInt8 := dkwX9_removes_0 ++ dktX9_removes_1
theorem dksX9_removes_0 : cX9_removes.data.toList.drop 0 = dktX9_removes_0 := by decide +kernel
theorem dksX9_removes_1 : cX9_removes.data.toList.drop 22 = dktX9_removes_1 := dk_seg dksX9_removes_0 22 rfl rfl
theorem dksX9_removes_2 : cX9_removes.data.toList.drop 46 = dktX9_removes_2 := dk_seg dksX9_removes_1 24 rfl rfl
theorem dksX9_removes_3 : cX9_removes.data.toList.drop 69 = dktX9_removes_3 := dk_seg dksX9_removes_2 23 rfl rfl
theorem dX9_removes_0 : decode cX9_removes 0 = .ok (.aload_n 0, 1) := dk_42 (dk_at dksX9_removes_0 0 rfl rfl)
theorem dX9_removes_1 : decode cX9_removes 1 = .ok (.getfield 80, 3) := dk_180 0 80 (dk_at dksX9_removes_0 1 rfl rfl)
theorem dX9_removes_4 : decode cX9_removes 4 = .ok (.iload_n 1, 1) := dk_27 (dk_at dksX9_removes_0 4 rfl rfl)
theorem dX9_removes_5 : decode cX9_removes 5 = .ok (.iconst 2, 1) := dk_5 (dk_at dksX9_removes_0 5 rfl rfl)
theorem dX9_removes_6 : decode cX9_removes 6 = .ok (.iadd, 1) := dk_96 (dk_at dksX9_removes_0 6 rfl rfl)
theorem dX9_removes_7 : decode cX9_removes 7 = .ok (.iaload, 1) := dk_46 (dk_at dksX9_removes_0 7 rfl rfl)
theorem dX9_removes_8 : decode cX9_removes 8 = .ok (.istore_n 2, 1) := dk_61 (dk_at dksX9_removes_0 8 rfl rfl)
theorem dX9_removes_9 : decode cX9_removes 9 = .ok (.aload_n 0, 1) := dk_42 (dk_at dksX9_removes_0 9 rfl rfl)
theorem dX9_removes_10 : decode cX9_removes 10 = .ok (.invokevirtual 345, 3) := dk_182 1 89 (dk_at dksX9_removes_0 10 rfl rfl)
theorem dX9_removes_13 : decode cX9_removes 13 = .ok (.aload_n 0, 1) := dk_42 (dk_at dksX9_removes_0 13 rfl rfl)
theorem dX9_removes_14 : decode cX9_removes 14 = .ok (.iload_n 2, 1) := dk_28 (dk_at dksX9_removes_0 14 rfl rfl)
theorem dX9_removes_15 : decode cX9_removes 15 = .ok (.invokevirtual 396, 3) := dk_182 1 140 (dk_at dksX9_removes_0 15 rfl rfl)
theorem dX9_removes_18 : decode cX9_removes 18 = .ok (.istore_n 3, 1) := dk_62 (dk_at dksX9_removes_0 18 rfl rfl)
theorem dX9_removes_19 : decode cX9_removes 19 = .ok (.aload_n 0, 1) := dk_42 (dk_at dksX9_removes_0 19 rfl rfl)
theorem dX9_removes_20 : decode cX9_removes 20 = .ok (.iload_n 1, 1) := dk_27 (dk_at dksX9_removes_0 20 rfl rfl)
theorem dX9_removes_21 : decode cX9_removes 21 = .ok (.iload_n 2, 1) := dk_28 (dk_at dksX9_removes_0 21 rfl rfl)
theorem dX9_removes_22 : decode cX9_removes 22 = .ok (.invokevirtual 373, 3) := dk_182 1 117 (dk_at dksX9_removes_1 0 rfl rfl)
theorem dX9_removes_25 : decode cX9_removes 25 = .ok (.ifCond .eq 16, 3) := dk_153 0 16 (dk_at dksX9_removes_1 3 rfl rfl)
theorem dX9_removes_28 : decode cX9_removes 28 = .ok (.iload_n 3, 1) := dk_29 (dk_at dksX9_removes_1 6 rfl rfl)
theorem dX9_removes_29 : decode cX9_removes 29 = .ok (.ifCond .lt 12, 3) := dk_155 0 12 (dk_at dksX9_removes_1 7 rfl rfl)
theorem dX9_removes_32 : decode cX9_removes 32 = .ok (.aload_n 0, 1) := dk_42 (dk_at dksX9_removes_1 10 rfl rfl)
theorem dX9_removes_33 : decode cX9_removes 33 = .ok (.getfield 92, 3) := dk_180 0 92 (dk_at dksX9_removes_1 11 rfl rfl)
theorem dX9_removes_36 : decode cX9_removes 36 = .ok (.iload_n 3, 1) := dk_29 (dk_at dksX9_removes_1 14 rfl rfl)
theorem dX9_removes_37 : decode cX9_removes 37 = .ok (.iaload, 1) := dk_46 (dk_at dksX9_removes_1 15 rfl rfl)
theorem dX9_removes_38 : decode cX9_removes 38 = .ok (.ifCond .ne 9, 3) := dk_154 0 9 (dk_at dksX9_removes_1 16 rfl rfl)
theorem dX9_removes_41 : decode cX9_removes 41 = .ok (.aload_n 0, 1) := dk_42 (dk_at dksX9_removes_1 19 rfl rfl)
theorem dX9_removes_42 : decode cX9_removes 42 = .ok (.iload_n 1, 1) := dk_27 (dk_at dksX9_removes_1 20 rfl rfl)
theorem dX9_removes_43 : decode cX9_removes 43 = .ok (.invokevirtual 386, 3) := dk_182 1 130 (dk_at dksX9_removes_1 21 rfl rfl)
theorem dX9_removes_46 : decode cX9_removes 46 = .ok (.return_, 1) := dk_177 (dk_at dksX9_removes_2 0 rfl rfl)
theorem dX9_removes_47 : decode cX9_removes 47 = .ok (.aload_n 0, 1) := dk_42 (dk_at dksX9_removes_2 1 rfl rfl)
theorem dX9_removes_48 : decode cX9_removes 48 = .ok (.iload_n 2, 1) := dk_28 (dk_at dksX9_removes_2 2 rfl rfl)
theorem dX9_removes_49 : decode cX9_removes 49 = .ok (.aload_n 0, 1) := dk_42 (dk_at dksX9_removes_2 3 rfl rfl)
theorem dX9_removes_50 : decode cX9_removes 50 = .ok (.iconst 4, 1) := dk_7 (dk_at dksX9_removes_2 4 rfl rfl)
theorem dX9_removes_51 : decode cX9_removes 51 = .ok (.bipush (-2), 2) := dk_16 254 (dk_at dksX9_removes_2 5 rfl rfl)
theorem dX9_removes_53 : decode cX9_removes 53 = .ok (.bipush (-2), 2) := dk_16 254 (dk_at dksX9_removes_2 7 rfl rfl)
theorem dX9_removes_55 : decode cX9_removes 55 = .ok (.aload_n 0, 1) := dk_42 (dk_at dksX9_removes_2 9 rfl rfl)
theorem dX9_removes_56 : decode cX9_removes 56 = .ok (.iload_n 2, 1) := dk_28 (dk_at dksX9_removes_2 10 rfl rfl)
theorem dX9_removes_57 : decode cX9_removes 57 = .ok (.invokevirtual 300, 3) := dk_182 1 44 (dk_at dksX9_removes_2 11 rfl rfl)
theorem dX9_removes_60 : decode cX9_removes 60 = .ok (.invokevirtual 285, 3) := dk_182 1 29 (dk_at dksX9_removes_2 14 rfl rfl)
theorem dX9_removes_63 : decode cX9_removes 63 = .ok (.invokevirtual 380, 3) := dk_182 1 124 (dk_at dksX9_removes_2 17 rfl rfl)
theorem dX9_removes_66 : decode cX9_removes 66 = .ok (.aload_n 0, 1) := dk_42 (dk_at dksX9_removes_2 20 rfl rfl)
theorem dX9_removes_67 : decode cX9_removes 67 = .ok (.iload_n 1, 1) := dk_27 (dk_at dksX9_removes_2 21 rfl rfl)
theorem dX9_removes_68 : decode cX9_removes 68 = .ok (.iload_n 2, 1) := dk_28 (dk_at dksX9_removes_2 22 rfl rfl)
theorem dX9_removes_69 : decode cX9_removes 69 = .ok (.invokevirtual 354, 3) := dk_182 1 98 (dk_at dksX9_removes_3 0 rfl rfl)
theorem dX9_removes_72 : decode cX9_removes 72 = .ok (.return_, 1) := dk_177 (dk_at dksX9_removes_3 3 rfl rfl)
abbrev cX9_boundOf : ByteArray := prog_20_method_57_code
def yX9_boundOf : MethodName := ⟨RX9, "boundOf", "(I)I"⟩
def dkwX9_boundOf_1 : List UInt8 := [132, 2, 1, 167, 255, 233, 2, 172]
abbrev dktX9_boundOf_1 : List UInt8 := dkwX9_boundOf_1 ++ []
def dkwX9_boundOf_0 : List UInt8 := [3, 61, 28, 42, 180, 1, 86, 162, 0, 21, 42, 180, 0, 95, 28, 46, 27, 160, 0, 5, 28, 172]
abbrev dktX9_boundOf_0 : List UInt8 := dkwX9_boundOf_0 ++ dktX9_boundOf_1
theorem dksX9_boundOf_0 : cX9_boundOf.data.toList.drop 0 = dktX9_boundOf_0 := by decide +kernel
theorem dksX9_boundOf_1 : cX9_boundOf.data.toList.drop 22 = dktX9_boundOf_1 := dk_seg dksX9_boundOf_0 22 rfl rfl
theorem dX9_boundOf_0 : decode cX9_boundOf 0 = .ok (.iconst 0, 1) := dk_3 (dk_at dksX9_boundOf_0 0 rfl rfl)
theorem dX9_boundOf_1 : decode cX9_boundOf 1 = .ok (.istore_n 2, 1) := dk_61 (dk_at dksX9_boundOf_0 1 rfl rfl)
theorem dX9_boundOf_2 : decode cX9_boundOf 2 = .ok (.iload_n 2, 1) := dk_28 (dk_at dksX9_boundOf_0 2 rfl rfl)
theorem dX9_boundOf_3 : decode cX9_boundOf 3 = .ok (.aload_n 0, 1) := dk_42 (dk_at dksX9_boundOf_0 3 rfl rfl)
theorem dX9_boundOf_4 : decode cX9_boundOf 4 = .ok (.getfield 342, 3) := dk_180 1 86 (dk_at dksX9_boundOf_0 4 rfl rfl)
theorem dX9_boundOf_7 : decode cX9_boundOf 7 = .ok (.if_icmp .ge 21, 3) := dk_162 0 21 (dk_at dksX9_boundOf_0 7 rfl rfl)
theorem dX9_boundOf_10 : decode cX9_boundOf 10 = .ok (.aload_n 0, 1) := dk_42 (dk_at dksX9_boundOf_0 10 rfl rfl)
theorem dX9_boundOf_11 : decode cX9_boundOf 11 = .ok (.getfield 95, 3) := dk_180 0 95 (dk_at dksX9_boundOf_0 11 rfl rfl)
theorem dX9_boundOf_14 : decode cX9_boundOf 14 = .ok (.iload_n 2, 1) := dk_28 (dk_at dksX9_boundOf_0 14 rfl rfl)
theorem dX9_boundOf_15 : decode cX9_boundOf 15 = .ok (.iaload, 1) := dk_46 (dk_at dksX9_boundOf_0 15 rfl rfl)
theorem dX9_boundOf_16 : decode cX9_boundOf 16 = .ok (.iload_n 1, 1) := dk_27 (dk_at dksX9_boundOf_0 16 rfl rfl)
theorem dX9_boundOf_17 : decode cX9_boundOf 17 = .ok (.if_icmp .ne 5, 3) := dk_160 0 5 (dk_at dksX9_boundOf_0 17 rfl rfl)
theorem dX9_boundOf_20 : decode cX9_boundOf 20 = .ok (.iload_n 2, 1) := dk_28 (dk_at dksX9_boundOf_0 20 rfl rfl)
theorem dX9_boundOf_21 : decode cX9_boundOf 21 = .ok (.ireturn, 1) := dk_172 (dk_at dksX9_boundOf_0 21 rfl rfl)
theorem dX9_boundOf_22 : decode cX9_boundOf 22 = .ok (.iinc 2 1, 3) := dk_132 2 1 (dk_at dksX9_boundOf_1 0 rfl rfl)
theorem dX9_boundOf_25 : decode cX9_boundOf 25 = .ok (.goto (-23), 3) := dk_167 255 233 (dk_at dksX9_boundOf_1 3 rfl rfl)
theorem dX9_boundOf_28 : decode cX9_boundOf 28 = .ok (.iconst (-1), 1) := dk_2 (dk_at dksX9_boundOf_1 6 rfl rfl)
theorem dX9_boundOf_29 : decode cX9_boundOf 29 = .ok (.ireturn, 1) := dk_172 (dk_at dksX9_boundOf_1 7 rfl rfl)
abbrev cX9_goesLeft : ByteArray := prog_20_method_82_code
def yX9_goesLeft : MethodName := ⟨RX9, "goesLeft", "(I)V"⟩
def dkwX9_goesLeft_6 : List UInt8 := [21, 4, 79, 42, 27, 21, 4, 16, 11, 182, 1, 114, 167, 0, 10, 42, 27, 16, 12, 182, 1, 92, 177]
abbrev dktX9_goesLeft_6 : List UInt8 := dkwX9_goesLeft_6 ++ []
def dkwX9_goesLeft_5 : List UInt8 := [42, 180, 0, 80, 27, 16, 12, 96, 42, 180, 0, 92, 29, 46, 79, 42, 180, 0, 80, 27, 16, 13, 96]
abbrev dktX9_goesLeft_5 : List UInt8 := dkwX9_goesLeft_5 ++ dktX9_goesLeft_6
def dkwX9_goesLeft_4 : List UInt8 := [167, 0, 69, 42, 180, 1, 68, 42, 180, 0, 92, 29, 46, 160, 0, 49, 42, 180, 1, 71, 28, 160, 0, 41]
abbrev dktX9_goesLeft_4 : List UInt8 := dkwX9_goesLeft_4 ++ dktX9_goesLeft_5
def dkwX9_goesLeft_3 : List UInt8 := [42, 180, 0, 92, 29, 46, 162, 0, 19, 42, 27, 42, 180, 1, 68, 42, 180, 1, 71, 182, 1, 104]
abbrev dktX9_goesLeft_3 : List UInt8 := dkwX9_goesLeft_3 ++ dktX9_goesLeft_4
def dkwX9_goesLeft_2 : List UInt8 := [182, 1, 95, 153, 0, 11, 42, 27, 21, 4, 182, 1, 98, 177, 42, 21, 4, 182, 1, 83, 42, 180, 1, 68]
abbrev dktX9_goesLeft_2 : List UInt8 := dkwX9_goesLeft_2 ++ dktX9_goesLeft_3
def dkwX9_goesLeft_1 : List UInt8 := [162, 0, 9, 42, 27, 182, 1, 130, 177, 42, 180, 0, 95, 29, 4, 100, 46, 54, 4, 42, 21, 4]
abbrev dktX9_goesLeft_1 : List UInt8 := dkwX9_goesLeft_1 ++ dktX9_goesLeft_2
def dkwX9_goesLeft_0 : List UInt8 := [42, 180, 0, 80, 27, 16, 11, 96, 46, 61, 42, 182, 1, 89, 42, 28, 182, 1, 140, 62, 29, 4]
abbrev dktX9_goesLeft_0 : List UInt8 := dkwX9_goesLeft_0 ++ dktX9_goesLeft_1
theorem dksX9_goesLeft_0 : cX9_goesLeft.data.toList.drop 0 = dktX9_goesLeft_0 := by decide +kernel
theorem dksX9_goesLeft_1 : cX9_goesLeft.data.toList.drop 22 = dktX9_goesLeft_1 := dk_seg dksX9_goesLeft_0 22 rfl rfl
theorem dksX9_goesLeft_2 : cX9_goesLeft.data.toList.drop 44 = dktX9_goesLeft_2 := dk_seg dksX9_goesLeft_1 22 rfl rfl
theorem dksX9_goesLeft_3 : cX9_goesLeft.data.toList.drop 68 = dktX9_goesLeft_3 := dk_seg dksX9_goesLeft_2 24 rfl rfl
theorem dksX9_goesLeft_4 : cX9_goesLeft.data.toList.drop 90 = dktX9_goesLeft_4 := dk_seg dksX9_goesLeft_3 22 rfl rfl
theorem dksX9_goesLeft_5 : cX9_goesLeft.data.toList.drop 114 = dktX9_goesLeft_5 := dk_seg dksX9_goesLeft_4 24 rfl rfl
theorem dksX9_goesLeft_6 : cX9_goesLeft.data.toList.drop 137 = dktX9_goesLeft_6 := dk_seg dksX9_goesLeft_5 23 rfl rfl
theorem dX9_goesLeft_0 : decode cX9_goesLeft 0 = .ok (.aload_n 0, 1) := dk_42 (dk_at dksX9_goesLeft_0 0 rfl rfl)
theorem dX9_goesLeft_1 : decode cX9_goesLeft 1 = .ok (.getfield 80, 3) := dk_180 0 80 (dk_at dksX9_goesLeft_0 1 rfl rfl)
theorem dX9_goesLeft_4 : decode cX9_goesLeft 4 = .ok (.iload_n 1, 1) := dk_27 (dk_at dksX9_goesLeft_0 4 rfl rfl)
theorem dX9_goesLeft_5 : decode cX9_goesLeft 5 = .ok (.bipush 11, 2) := dk_16 11 (dk_at dksX9_goesLeft_0 5 rfl rfl)
theorem dX9_goesLeft_7 : decode cX9_goesLeft 7 = .ok (.iadd, 1) := dk_96 (dk_at dksX9_goesLeft_0 7 rfl rfl)
theorem dX9_goesLeft_8 : decode cX9_goesLeft 8 = .ok (.iaload, 1) := dk_46 (dk_at dksX9_goesLeft_0 8 rfl rfl)
theorem dX9_goesLeft_9 : decode cX9_goesLeft 9 = .ok (.istore_n 2, 1) := dk_61 (dk_at dksX9_goesLeft_0 9 rfl rfl)
theorem dX9_goesLeft_10 : decode cX9_goesLeft 10 = .ok (.aload_n 0, 1) := dk_42 (dk_at dksX9_goesLeft_0 10 rfl rfl)
theorem dX9_goesLeft_11 : decode cX9_goesLeft 11 = .ok (.invokevirtual 345, 3) := dk_182 1 89 (dk_at dksX9_goesLeft_0 11 rfl rfl)
theorem dX9_goesLeft_14 : decode cX9_goesLeft 14 = .ok (.aload_n 0, 1) := dk_42 (dk_at dksX9_goesLeft_0 14 rfl rfl)
theorem dX9_goesLeft_15 : decode cX9_goesLeft 15 = .ok (.iload_n 2, 1) := dk_28 (dk_at dksX9_goesLeft_0 15 rfl rfl)
theorem dX9_goesLeft_16 : decode cX9_goesLeft 16 = .ok (.invokevirtual 396, 3) := dk_182 1 140 (dk_at dksX9_goesLeft_0 16 rfl rfl)
theorem dX9_goesLeft_19 : decode cX9_goesLeft 19 = .ok (.istore_n 3, 1) := dk_62 (dk_at dksX9_goesLeft_0 19 rfl rfl)
theorem dX9_goesLeft_20 : decode cX9_goesLeft 20 = .ok (.iload_n 3, 1) := dk_29 (dk_at dksX9_goesLeft_0 20 rfl rfl)
theorem dX9_goesLeft_21 : decode cX9_goesLeft 21 = .ok (.iconst 1, 1) := dk_4 (dk_at dksX9_goesLeft_0 21 rfl rfl)
theorem dX9_goesLeft_22 : decode cX9_goesLeft 22 = .ok (.if_icmp .ge 9, 3) := dk_162 0 9 (dk_at dksX9_goesLeft_1 0 rfl rfl)
theorem dX9_goesLeft_25 : decode cX9_goesLeft 25 = .ok (.aload_n 0, 1) := dk_42 (dk_at dksX9_goesLeft_1 3 rfl rfl)
theorem dX9_goesLeft_26 : decode cX9_goesLeft 26 = .ok (.iload_n 1, 1) := dk_27 (dk_at dksX9_goesLeft_1 4 rfl rfl)
theorem dX9_goesLeft_27 : decode cX9_goesLeft 27 = .ok (.invokevirtual 386, 3) := dk_182 1 130 (dk_at dksX9_goesLeft_1 5 rfl rfl)
theorem dX9_goesLeft_30 : decode cX9_goesLeft 30 = .ok (.return_, 1) := dk_177 (dk_at dksX9_goesLeft_1 8 rfl rfl)
theorem dX9_goesLeft_31 : decode cX9_goesLeft 31 = .ok (.aload_n 0, 1) := dk_42 (dk_at dksX9_goesLeft_1 9 rfl rfl)
theorem dX9_goesLeft_32 : decode cX9_goesLeft 32 = .ok (.getfield 95, 3) := dk_180 0 95 (dk_at dksX9_goesLeft_1 10 rfl rfl)
theorem dX9_goesLeft_35 : decode cX9_goesLeft 35 = .ok (.iload_n 3, 1) := dk_29 (dk_at dksX9_goesLeft_1 13 rfl rfl)
theorem dX9_goesLeft_36 : decode cX9_goesLeft 36 = .ok (.iconst 1, 1) := dk_4 (dk_at dksX9_goesLeft_1 14 rfl rfl)
theorem dX9_goesLeft_37 : decode cX9_goesLeft 37 = .ok (.isub, 1) := dk_100 (dk_at dksX9_goesLeft_1 15 rfl rfl)
theorem dX9_goesLeft_38 : decode cX9_goesLeft 38 = .ok (.iaload, 1) := dk_46 (dk_at dksX9_goesLeft_1 16 rfl rfl)
theorem dX9_goesLeft_39 : decode cX9_goesLeft 39 = .ok (.istore 4, 2) := dk_54 4 (dk_at dksX9_goesLeft_1 17 rfl rfl)
theorem dX9_goesLeft_41 : decode cX9_goesLeft 41 = .ok (.aload_n 0, 1) := dk_42 (dk_at dksX9_goesLeft_1 19 rfl rfl)
theorem dX9_goesLeft_42 : decode cX9_goesLeft 42 = .ok (.iload 4, 2) := dk_21 4 (dk_at dksX9_goesLeft_1 20 rfl rfl)
theorem dX9_goesLeft_44 : decode cX9_goesLeft 44 = .ok (.invokevirtual 351, 3) := dk_182 1 95 (dk_at dksX9_goesLeft_2 0 rfl rfl)
theorem dX9_goesLeft_47 : decode cX9_goesLeft 47 = .ok (.ifCond .eq 11, 3) := dk_153 0 11 (dk_at dksX9_goesLeft_2 3 rfl rfl)
theorem dX9_goesLeft_50 : decode cX9_goesLeft 50 = .ok (.aload_n 0, 1) := dk_42 (dk_at dksX9_goesLeft_2 6 rfl rfl)
theorem dX9_goesLeft_51 : decode cX9_goesLeft 51 = .ok (.iload_n 1, 1) := dk_27 (dk_at dksX9_goesLeft_2 7 rfl rfl)
theorem dX9_goesLeft_52 : decode cX9_goesLeft 52 = .ok (.iload 4, 2) := dk_21 4 (dk_at dksX9_goesLeft_2 8 rfl rfl)
theorem dX9_goesLeft_54 : decode cX9_goesLeft 54 = .ok (.invokevirtual 354, 3) := dk_182 1 98 (dk_at dksX9_goesLeft_2 10 rfl rfl)
theorem dX9_goesLeft_57 : decode cX9_goesLeft 57 = .ok (.return_, 1) := dk_177 (dk_at dksX9_goesLeft_2 13 rfl rfl)
theorem dX9_goesLeft_58 : decode cX9_goesLeft 58 = .ok (.aload_n 0, 1) := dk_42 (dk_at dksX9_goesLeft_2 14 rfl rfl)
theorem dX9_goesLeft_59 : decode cX9_goesLeft 59 = .ok (.iload 4, 2) := dk_21 4 (dk_at dksX9_goesLeft_2 15 rfl rfl)
theorem dX9_goesLeft_61 : decode cX9_goesLeft 61 = .ok (.invokevirtual 339, 3) := dk_182 1 83 (dk_at dksX9_goesLeft_2 17 rfl rfl)
theorem dX9_goesLeft_64 : decode cX9_goesLeft 64 = .ok (.aload_n 0, 1) := dk_42 (dk_at dksX9_goesLeft_2 20 rfl rfl)
theorem dX9_goesLeft_65 : decode cX9_goesLeft 65 = .ok (.getfield 324, 3) := dk_180 1 68 (dk_at dksX9_goesLeft_2 21 rfl rfl)
theorem dX9_goesLeft_68 : decode cX9_goesLeft 68 = .ok (.aload_n 0, 1) := dk_42 (dk_at dksX9_goesLeft_3 0 rfl rfl)
theorem dX9_goesLeft_69 : decode cX9_goesLeft 69 = .ok (.getfield 92, 3) := dk_180 0 92 (dk_at dksX9_goesLeft_3 1 rfl rfl)
theorem dX9_goesLeft_72 : decode cX9_goesLeft 72 = .ok (.iload_n 3, 1) := dk_29 (dk_at dksX9_goesLeft_3 4 rfl rfl)
theorem dX9_goesLeft_73 : decode cX9_goesLeft 73 = .ok (.iaload, 1) := dk_46 (dk_at dksX9_goesLeft_3 5 rfl rfl)
theorem dX9_goesLeft_74 : decode cX9_goesLeft 74 = .ok (.if_icmp .ge 19, 3) := dk_162 0 19 (dk_at dksX9_goesLeft_3 6 rfl rfl)
theorem dX9_goesLeft_77 : decode cX9_goesLeft 77 = .ok (.aload_n 0, 1) := dk_42 (dk_at dksX9_goesLeft_3 9 rfl rfl)
theorem dX9_goesLeft_78 : decode cX9_goesLeft 78 = .ok (.iload_n 1, 1) := dk_27 (dk_at dksX9_goesLeft_3 10 rfl rfl)
theorem dX9_goesLeft_79 : decode cX9_goesLeft 79 = .ok (.aload_n 0, 1) := dk_42 (dk_at dksX9_goesLeft_3 11 rfl rfl)
theorem dX9_goesLeft_80 : decode cX9_goesLeft 80 = .ok (.getfield 324, 3) := dk_180 1 68 (dk_at dksX9_goesLeft_3 12 rfl rfl)
theorem dX9_goesLeft_83 : decode cX9_goesLeft 83 = .ok (.aload_n 0, 1) := dk_42 (dk_at dksX9_goesLeft_3 15 rfl rfl)
theorem dX9_goesLeft_84 : decode cX9_goesLeft 84 = .ok (.getfield 327, 3) := dk_180 1 71 (dk_at dksX9_goesLeft_3 16 rfl rfl)
theorem dX9_goesLeft_87 : decode cX9_goesLeft 87 = .ok (.invokevirtual 360, 3) := dk_182 1 104 (dk_at dksX9_goesLeft_3 19 rfl rfl)
theorem dX9_goesLeft_90 : decode cX9_goesLeft 90 = .ok (.goto 69, 3) := dk_167 0 69 (dk_at dksX9_goesLeft_4 0 rfl rfl)
theorem dX9_goesLeft_93 : decode cX9_goesLeft 93 = .ok (.aload_n 0, 1) := dk_42 (dk_at dksX9_goesLeft_4 3 rfl rfl)
theorem dX9_goesLeft_94 : decode cX9_goesLeft 94 = .ok (.getfield 324, 3) := dk_180 1 68 (dk_at dksX9_goesLeft_4 4 rfl rfl)
theorem dX9_goesLeft_97 : decode cX9_goesLeft 97 = .ok (.aload_n 0, 1) := dk_42 (dk_at dksX9_goesLeft_4 7 rfl rfl)
theorem dX9_goesLeft_98 : decode cX9_goesLeft 98 = .ok (.getfield 92, 3) := dk_180 0 92 (dk_at dksX9_goesLeft_4 8 rfl rfl)
theorem dX9_goesLeft_101 : decode cX9_goesLeft 101 = .ok (.iload_n 3, 1) := dk_29 (dk_at dksX9_goesLeft_4 11 rfl rfl)
theorem dX9_goesLeft_102 : decode cX9_goesLeft 102 = .ok (.iaload, 1) := dk_46 (dk_at dksX9_goesLeft_4 12 rfl rfl)
theorem dX9_goesLeft_103 : decode cX9_goesLeft 103 = .ok (.if_icmp .ne 49, 3) := dk_160 0 49 (dk_at dksX9_goesLeft_4 13 rfl rfl)
theorem dX9_goesLeft_106 : decode cX9_goesLeft 106 = .ok (.aload_n 0, 1) := dk_42 (dk_at dksX9_goesLeft_4 16 rfl rfl)
theorem dX9_goesLeft_107 : decode cX9_goesLeft 107 = .ok (.getfield 327, 3) := dk_180 1 71 (dk_at dksX9_goesLeft_4 17 rfl rfl)
theorem dX9_goesLeft_110 : decode cX9_goesLeft 110 = .ok (.iload_n 2, 1) := dk_28 (dk_at dksX9_goesLeft_4 20 rfl rfl)
theorem dX9_goesLeft_111 : decode cX9_goesLeft 111 = .ok (.if_icmp .ne 41, 3) := dk_160 0 41 (dk_at dksX9_goesLeft_4 21 rfl rfl)
theorem dX9_goesLeft_114 : decode cX9_goesLeft 114 = .ok (.aload_n 0, 1) := dk_42 (dk_at dksX9_goesLeft_5 0 rfl rfl)
theorem dX9_goesLeft_115 : decode cX9_goesLeft 115 = .ok (.getfield 80, 3) := dk_180 0 80 (dk_at dksX9_goesLeft_5 1 rfl rfl)
theorem dX9_goesLeft_118 : decode cX9_goesLeft 118 = .ok (.iload_n 1, 1) := dk_27 (dk_at dksX9_goesLeft_5 4 rfl rfl)
theorem dX9_goesLeft_119 : decode cX9_goesLeft 119 = .ok (.bipush 12, 2) := dk_16 12 (dk_at dksX9_goesLeft_5 5 rfl rfl)
theorem dX9_goesLeft_121 : decode cX9_goesLeft 121 = .ok (.iadd, 1) := dk_96 (dk_at dksX9_goesLeft_5 7 rfl rfl)
theorem dX9_goesLeft_122 : decode cX9_goesLeft 122 = .ok (.aload_n 0, 1) := dk_42 (dk_at dksX9_goesLeft_5 8 rfl rfl)
theorem dX9_goesLeft_123 : decode cX9_goesLeft 123 = .ok (.getfield 92, 3) := dk_180 0 92 (dk_at dksX9_goesLeft_5 9 rfl rfl)
theorem dX9_goesLeft_126 : decode cX9_goesLeft 126 = .ok (.iload_n 3, 1) := dk_29 (dk_at dksX9_goesLeft_5 12 rfl rfl)
theorem dX9_goesLeft_127 : decode cX9_goesLeft 127 = .ok (.iaload, 1) := dk_46 (dk_at dksX9_goesLeft_5 13 rfl rfl)
theorem dX9_goesLeft_128 : decode cX9_goesLeft 128 = .ok (.iastore, 1) := dk_79 (dk_at dksX9_goesLeft_5 14 rfl rfl)
theorem dX9_goesLeft_129 : decode cX9_goesLeft 129 = .ok (.aload_n 0, 1) := dk_42 (dk_at dksX9_goesLeft_5 15 rfl rfl)
theorem dX9_goesLeft_130 : decode cX9_goesLeft 130 = .ok (.getfield 80, 3) := dk_180 0 80 (dk_at dksX9_goesLeft_5 16 rfl rfl)
theorem dX9_goesLeft_133 : decode cX9_goesLeft 133 = .ok (.iload_n 1, 1) := dk_27 (dk_at dksX9_goesLeft_5 19 rfl rfl)
theorem dX9_goesLeft_134 : decode cX9_goesLeft 134 = .ok (.bipush 13, 2) := dk_16 13 (dk_at dksX9_goesLeft_5 20 rfl rfl)
theorem dX9_goesLeft_136 : decode cX9_goesLeft 136 = .ok (.iadd, 1) := dk_96 (dk_at dksX9_goesLeft_5 22 rfl rfl)
theorem dX9_goesLeft_137 : decode cX9_goesLeft 137 = .ok (.iload 4, 2) := dk_21 4 (dk_at dksX9_goesLeft_6 0 rfl rfl)
theorem dX9_goesLeft_139 : decode cX9_goesLeft 139 = .ok (.iastore, 1) := dk_79 (dk_at dksX9_goesLeft_6 2 rfl rfl)
theorem dX9_goesLeft_140 : decode cX9_goesLeft 140 = .ok (.aload_n 0, 1) := dk_42 (dk_at dksX9_goesLeft_6 3 rfl rfl)
theorem dX9_goesLeft_141 : decode cX9_goesLeft 141 = .ok (.iload_n 1, 1) := dk_27 (dk_at dksX9_goesLeft_6 4 rfl rfl)
theorem dX9_goesLeft_142 : decode cX9_goesLeft 142 = .ok (.iload 4, 2) := dk_21 4 (dk_at dksX9_goesLeft_6 5 rfl rfl)
theorem dX9_goesLeft_144 : decode cX9_goesLeft 144 = .ok (.bipush 11, 2) := dk_16 11 (dk_at dksX9_goesLeft_6 7 rfl rfl)
theorem dX9_goesLeft_146 : decode cX9_goesLeft 146 = .ok (.invokevirtual 370, 3) := dk_182 1 114 (dk_at dksX9_goesLeft_6 9 rfl rfl)
theorem dX9_goesLeft_149 : decode cX9_goesLeft 149 = .ok (.goto 10, 3) := dk_167 0 10 (dk_at dksX9_goesLeft_6 12 rfl rfl)
theorem dX9_goesLeft_152 : decode cX9_goesLeft 152 = .ok (.aload_n 0, 1) := dk_42 (dk_at dksX9_goesLeft_6 15 rfl rfl)
theorem dX9_goesLeft_153 : decode cX9_goesLeft 153 = .ok (.iload_n 1, 1) := dk_27 (dk_at dksX9_goesLeft_6 16 rfl rfl)
theorem dX9_goesLeft_154 : decode cX9_goesLeft 154 = .ok (.bipush 12, 2) := dk_16 12 (dk_at dksX9_goesLeft_6 17 rfl rfl)
theorem dX9_goesLeft_156 : decode cX9_goesLeft 156 = .ok (.invokevirtual 348, 3) := dk_182 1 92 (dk_at dksX9_goesLeft_6 19 rfl rfl)
theorem dX9_goesLeft_159 : decode cX9_goesLeft 159 = .ok (.return_, 1) := dk_177 (dk_at dksX9_goesLeft_6 22 rfl rfl)
abbrev cX9_merges : ByteArray := prog_20_method_83_code
def yX9_merges : MethodName := ⟨RX9, "merges", "(I)V"⟩
def dkwX9_merges_4 : List UInt8 := [16, 12, 182, 1, 92, 177]
abbrev dktX9_merges_4 : List UInt8 := dkwX9_merges_4 ++ []
def dkwX9_merges_3 : List UInt8 := [42, 180, 0, 80, 21, 5, 184, 1, 26, 16, 9, 96, 21, 4, 79, 42, 28, 21, 5, 182, 1, 124, 42, 27]
abbrev dktX9_merges_3 : List UInt8 := dkwX9_merges_3 ++ dktX9_merges_4
def dkwX9_merges_2 : List UInt8 := [54, 4, 42, 8, 42, 180, 0, 80, 27, 16, 12, 96, 46, 29, 42, 28, 182, 1, 44, 182, 1, 29, 54, 5]
abbrev dktX9_merges_2 : List UInt8 := dkwX9_merges_2 ++ dktX9_merges_3
def dkwX9_merges_1 : List UInt8 := [182, 1, 117, 154, 0, 16, 42, 27, 182, 1, 121, 42, 27, 16, 10, 182, 1, 92, 177, 42, 29, 182, 1, 143]
abbrev dktX9_merges_1 : List UInt8 := dkwX9_merges_1 ++ dktX9_merges_2
def dkwX9_merges_0 : List UInt8 := [42, 180, 0, 80, 27, 16, 13, 96, 46, 61, 42, 180, 0, 80, 27, 16, 11, 96, 46, 62, 42, 27, 28]
abbrev dktX9_merges_0 : List UInt8 := dkwX9_merges_0 ++ dktX9_merges_1
theorem dksX9_merges_0 : cX9_merges.data.toList.drop 0 = dktX9_merges_0 := by decide +kernel
theorem dksX9_merges_1 : cX9_merges.data.toList.drop 23 = dktX9_merges_1 := dk_seg dksX9_merges_0 23 rfl rfl
theorem dksX9_merges_2 : cX9_merges.data.toList.drop 47 = dktX9_merges_2 := dk_seg dksX9_merges_1 24 rfl rfl
theorem dksX9_merges_3 : cX9_merges.data.toList.drop 71 = dktX9_merges_3 := dk_seg dksX9_merges_2 24 rfl rfl
theorem dksX9_merges_4 : cX9_merges.data.toList.drop 95 = dktX9_merges_4 := dk_seg dksX9_merges_3 24 rfl rfl
theorem dX9_merges_0 : decode cX9_merges 0 = .ok (.aload_n 0, 1) := dk_42 (dk_at dksX9_merges_0 0 rfl rfl)
theorem dX9_merges_1 : decode cX9_merges 1 = .ok (.getfield 80, 3) := dk_180 0 80 (dk_at dksX9_merges_0 1 rfl rfl)
theorem dX9_merges_4 : decode cX9_merges 4 = .ok (.iload_n 1, 1) := dk_27 (dk_at dksX9_merges_0 4 rfl rfl)
theorem dX9_merges_5 : decode cX9_merges 5 = .ok (.bipush 13, 2) := dk_16 13 (dk_at dksX9_merges_0 5 rfl rfl)
theorem dX9_merges_7 : decode cX9_merges 7 = .ok (.iadd, 1) := dk_96 (dk_at dksX9_merges_0 7 rfl rfl)
theorem dX9_merges_8 : decode cX9_merges 8 = .ok (.iaload, 1) := dk_46 (dk_at dksX9_merges_0 8 rfl rfl)
theorem dX9_merges_9 : decode cX9_merges 9 = .ok (.istore_n 2, 1) := dk_61 (dk_at dksX9_merges_0 9 rfl rfl)
theorem dX9_merges_10 : decode cX9_merges 10 = .ok (.aload_n 0, 1) := dk_42 (dk_at dksX9_merges_0 10 rfl rfl)
theorem dX9_merges_11 : decode cX9_merges 11 = .ok (.getfield 80, 3) := dk_180 0 80 (dk_at dksX9_merges_0 11 rfl rfl)
theorem dX9_merges_14 : decode cX9_merges 14 = .ok (.iload_n 1, 1) := dk_27 (dk_at dksX9_merges_0 14 rfl rfl)
theorem dX9_merges_15 : decode cX9_merges 15 = .ok (.bipush 11, 2) := dk_16 11 (dk_at dksX9_merges_0 15 rfl rfl)
theorem dX9_merges_17 : decode cX9_merges 17 = .ok (.iadd, 1) := dk_96 (dk_at dksX9_merges_0 17 rfl rfl)
theorem dX9_merges_18 : decode cX9_merges 18 = .ok (.iaload, 1) := dk_46 (dk_at dksX9_merges_0 18 rfl rfl)
theorem dX9_merges_19 : decode cX9_merges 19 = .ok (.istore_n 3, 1) := dk_62 (dk_at dksX9_merges_0 19 rfl rfl)
theorem dX9_merges_20 : decode cX9_merges 20 = .ok (.aload_n 0, 1) := dk_42 (dk_at dksX9_merges_0 20 rfl rfl)
theorem dX9_merges_21 : decode cX9_merges 21 = .ok (.iload_n 1, 1) := dk_27 (dk_at dksX9_merges_0 21 rfl rfl)
theorem dX9_merges_22 : decode cX9_merges 22 = .ok (.iload_n 2, 1) := dk_28 (dk_at dksX9_merges_0 22 rfl rfl)
theorem dX9_merges_23 : decode cX9_merges 23 = .ok (.invokevirtual 373, 3) := dk_182 1 117 (dk_at dksX9_merges_1 0 rfl rfl)
theorem dX9_merges_26 : decode cX9_merges 26 = .ok (.ifCond .ne 16, 3) := dk_154 0 16 (dk_at dksX9_merges_1 3 rfl rfl)
theorem dX9_merges_29 : decode cX9_merges 29 = .ok (.aload_n 0, 1) := dk_42 (dk_at dksX9_merges_1 6 rfl rfl)
theorem dX9_merges_30 : decode cX9_merges 30 = .ok (.iload_n 1, 1) := dk_27 (dk_at dksX9_merges_1 7 rfl rfl)
theorem dX9_merges_31 : decode cX9_merges 31 = .ok (.invokevirtual 377, 3) := dk_182 1 121 (dk_at dksX9_merges_1 8 rfl rfl)
theorem dX9_merges_34 : decode cX9_merges 34 = .ok (.aload_n 0, 1) := dk_42 (dk_at dksX9_merges_1 11 rfl rfl)
theorem dX9_merges_35 : decode cX9_merges 35 = .ok (.iload_n 1, 1) := dk_27 (dk_at dksX9_merges_1 12 rfl rfl)
theorem dX9_merges_36 : decode cX9_merges 36 = .ok (.bipush 10, 2) := dk_16 10 (dk_at dksX9_merges_1 13 rfl rfl)
theorem dX9_merges_38 : decode cX9_merges 38 = .ok (.invokevirtual 348, 3) := dk_182 1 92 (dk_at dksX9_merges_1 15 rfl rfl)
theorem dX9_merges_41 : decode cX9_merges 41 = .ok (.return_, 1) := dk_177 (dk_at dksX9_merges_1 18 rfl rfl)
theorem dX9_merges_42 : decode cX9_merges 42 = .ok (.aload_n 0, 1) := dk_42 (dk_at dksX9_merges_1 19 rfl rfl)
theorem dX9_merges_43 : decode cX9_merges 43 = .ok (.iload_n 3, 1) := dk_29 (dk_at dksX9_merges_1 20 rfl rfl)
theorem dX9_merges_44 : decode cX9_merges 44 = .ok (.invokevirtual 399, 3) := dk_182 1 143 (dk_at dksX9_merges_1 21 rfl rfl)
theorem dX9_merges_47 : decode cX9_merges 47 = .ok (.istore 4, 2) := dk_54 4 (dk_at dksX9_merges_2 0 rfl rfl)
theorem dX9_merges_49 : decode cX9_merges 49 = .ok (.aload_n 0, 1) := dk_42 (dk_at dksX9_merges_2 2 rfl rfl)
theorem dX9_merges_50 : decode cX9_merges 50 = .ok (.iconst 5, 1) := dk_8 (dk_at dksX9_merges_2 3 rfl rfl)
theorem dX9_merges_51 : decode cX9_merges 51 = .ok (.aload_n 0, 1) := dk_42 (dk_at dksX9_merges_2 4 rfl rfl)
theorem dX9_merges_52 : decode cX9_merges 52 = .ok (.getfield 80, 3) := dk_180 0 80 (dk_at dksX9_merges_2 5 rfl rfl)
theorem dX9_merges_55 : decode cX9_merges 55 = .ok (.iload_n 1, 1) := dk_27 (dk_at dksX9_merges_2 8 rfl rfl)
theorem dX9_merges_56 : decode cX9_merges 56 = .ok (.bipush 12, 2) := dk_16 12 (dk_at dksX9_merges_2 9 rfl rfl)
theorem dX9_merges_58 : decode cX9_merges 58 = .ok (.iadd, 1) := dk_96 (dk_at dksX9_merges_2 11 rfl rfl)
theorem dX9_merges_59 : decode cX9_merges 59 = .ok (.iaload, 1) := dk_46 (dk_at dksX9_merges_2 12 rfl rfl)
theorem dX9_merges_60 : decode cX9_merges 60 = .ok (.iload_n 3, 1) := dk_29 (dk_at dksX9_merges_2 13 rfl rfl)
theorem dX9_merges_61 : decode cX9_merges 61 = .ok (.aload_n 0, 1) := dk_42 (dk_at dksX9_merges_2 14 rfl rfl)
theorem dX9_merges_62 : decode cX9_merges 62 = .ok (.iload_n 2, 1) := dk_28 (dk_at dksX9_merges_2 15 rfl rfl)
theorem dX9_merges_63 : decode cX9_merges 63 = .ok (.invokevirtual 300, 3) := dk_182 1 44 (dk_at dksX9_merges_2 16 rfl rfl)
theorem dX9_merges_66 : decode cX9_merges 66 = .ok (.invokevirtual 285, 3) := dk_182 1 29 (dk_at dksX9_merges_2 19 rfl rfl)
theorem dX9_merges_69 : decode cX9_merges 69 = .ok (.istore 5, 2) := dk_54 5 (dk_at dksX9_merges_2 22 rfl rfl)
theorem dX9_merges_71 : decode cX9_merges 71 = .ok (.aload_n 0, 1) := dk_42 (dk_at dksX9_merges_3 0 rfl rfl)
theorem dX9_merges_72 : decode cX9_merges 72 = .ok (.getfield 80, 3) := dk_180 0 80 (dk_at dksX9_merges_3 1 rfl rfl)
theorem dX9_merges_75 : decode cX9_merges 75 = .ok (.iload 5, 2) := dk_21 5 (dk_at dksX9_merges_3 4 rfl rfl)
theorem dX9_merges_77 : decode cX9_merges 77 = .ok (.invokestatic 282, 3) := dk_184 1 26 (dk_at dksX9_merges_3 6 rfl rfl)
theorem dX9_merges_80 : decode cX9_merges 80 = .ok (.bipush 9, 2) := dk_16 9 (dk_at dksX9_merges_3 9 rfl rfl)
theorem dX9_merges_82 : decode cX9_merges 82 = .ok (.iadd, 1) := dk_96 (dk_at dksX9_merges_3 11 rfl rfl)
theorem dX9_merges_83 : decode cX9_merges 83 = .ok (.iload 4, 2) := dk_21 4 (dk_at dksX9_merges_3 12 rfl rfl)
theorem dX9_merges_85 : decode cX9_merges 85 = .ok (.iastore, 1) := dk_79 (dk_at dksX9_merges_3 14 rfl rfl)
theorem dX9_merges_86 : decode cX9_merges 86 = .ok (.aload_n 0, 1) := dk_42 (dk_at dksX9_merges_3 15 rfl rfl)
theorem dX9_merges_87 : decode cX9_merges 87 = .ok (.iload_n 2, 1) := dk_28 (dk_at dksX9_merges_3 16 rfl rfl)
theorem dX9_merges_88 : decode cX9_merges 88 = .ok (.iload 5, 2) := dk_21 5 (dk_at dksX9_merges_3 17 rfl rfl)
theorem dX9_merges_90 : decode cX9_merges 90 = .ok (.invokevirtual 380, 3) := dk_182 1 124 (dk_at dksX9_merges_3 19 rfl rfl)
theorem dX9_merges_93 : decode cX9_merges 93 = .ok (.aload_n 0, 1) := dk_42 (dk_at dksX9_merges_3 22 rfl rfl)
theorem dX9_merges_94 : decode cX9_merges 94 = .ok (.iload_n 1, 1) := dk_27 (dk_at dksX9_merges_3 23 rfl rfl)
theorem dX9_merges_95 : decode cX9_merges 95 = .ok (.bipush 12, 2) := dk_16 12 (dk_at dksX9_merges_4 0 rfl rfl)
theorem dX9_merges_97 : decode cX9_merges 97 = .ok (.invokevirtual 348, 3) := dk_182 1 92 (dk_at dksX9_merges_4 2 rfl rfl)
theorem dX9_merges_100 : decode cX9_merges 100 = .ok (.return_, 1) := dk_177 (dk_at dksX9_merges_4 5 rfl rfl)
abbrev cX9_baseOf : ByteArray := prog_20_method_48_code
def yX9_baseOf : MethodName := ⟨RX9, "baseOf", "(I)I"⟩
def dkwX9_baseOf_0 : List UInt8 := [42, 27, 182, 1, 50, 42, 180, 0, 83, 42, 180, 1, 47, 4, 100, 46, 172]
abbrev dktX9_baseOf_0 : List UInt8 := dkwX9_baseOf_0 ++ []
theorem dksX9_baseOf_0 : cX9_baseOf.data.toList.drop 0 = dktX9_baseOf_0 := by decide +kernel
theorem dX9_baseOf_0 : decode cX9_baseOf 0 = .ok (.aload_n 0, 1) := dk_42 (dk_at dksX9_baseOf_0 0 rfl rfl)
theorem dX9_baseOf_1 : decode cX9_baseOf 1 = .ok (.iload_n 1, 1) := dk_27 (dk_at dksX9_baseOf_0 1 rfl rfl)
theorem dX9_baseOf_2 : decode cX9_baseOf 2 = .ok (.invokevirtual 306, 3) := dk_182 1 50 (dk_at dksX9_baseOf_0 2 rfl rfl)
theorem dX9_baseOf_5 : decode cX9_baseOf 5 = .ok (.aload_n 0, 1) := dk_42 (dk_at dksX9_baseOf_0 5 rfl rfl)
theorem dX9_baseOf_6 : decode cX9_baseOf 6 = .ok (.getfield 83, 3) := dk_180 0 83 (dk_at dksX9_baseOf_0 6 rfl rfl)
theorem dX9_baseOf_9 : decode cX9_baseOf 9 = .ok (.aload_n 0, 1) := dk_42 (dk_at dksX9_baseOf_0 9 rfl rfl)
theorem dX9_baseOf_10 : decode cX9_baseOf 10 = .ok (.getfield 303, 3) := dk_180 1 47 (dk_at dksX9_baseOf_0 10 rfl rfl)
theorem dX9_baseOf_13 : decode cX9_baseOf 13 = .ok (.iconst 1, 1) := dk_4 (dk_at dksX9_baseOf_0 13 rfl rfl)
theorem dX9_baseOf_14 : decode cX9_baseOf 14 = .ok (.isub, 1) := dk_100 (dk_at dksX9_baseOf_0 14 rfl rfl)
theorem dX9_baseOf_15 : decode cX9_baseOf 15 = .ok (.iaload, 1) := dk_46 (dk_at dksX9_baseOf_0 15 rfl rfl)
theorem dX9_baseOf_16 : decode cX9_baseOf 16 = .ok (.ireturn, 1) := dk_172 (dk_at dksX9_baseOf_0 16 rfl rfl)
abbrev cX9_looksOn : ByteArray := prog_20_method_84_code
def yX9_looksOn : MethodName := ⟨RX9, "looksOn", "(I)V"⟩
def dkwX9_looksOn_1 : List UInt8 := [182, 1, 130, 167, 0, 11, 42, 27, 3, 16, 13, 182, 1, 114, 177]
abbrev dktX9_looksOn_1 : List UInt8 := dkwX9_looksOn_1 ++ []
def dkwX9_looksOn_0 : List UInt8 := [42, 182, 1, 89, 42, 42, 180, 0, 80, 27, 16, 11, 96, 46, 182, 1, 140, 156, 0, 11, 42, 27]
abbrev dktX9_looksOn_0 : List UInt8 := dkwX9_looksOn_0 ++ dktX9_looksOn_1
theorem dksX9_looksOn_0 : cX9_looksOn.data.toList.drop 0 = dktX9_looksOn_0 := by decide +kernel
theorem dksX9_looksOn_1 : cX9_looksOn.data.toList.drop 22 = dktX9_looksOn_1 := dk_seg dksX9_looksOn_0 22 rfl rfl
theorem dX9_looksOn_0 : decode cX9_looksOn 0 = .ok (.aload_n 0, 1) := dk_42 (dk_at dksX9_looksOn_0 0 rfl rfl)
theorem dX9_looksOn_1 : decode cX9_looksOn 1 = .ok (.invokevirtual 345, 3) := dk_182 1 89 (dk_at dksX9_looksOn_0 1 rfl rfl)
theorem dX9_looksOn_4 : decode cX9_looksOn 4 = .ok (.aload_n 0, 1) := dk_42 (dk_at dksX9_looksOn_0 4 rfl rfl)
theorem dX9_looksOn_5 : decode cX9_looksOn 5 = .ok (.aload_n 0, 1) := dk_42 (dk_at dksX9_looksOn_0 5 rfl rfl)
theorem dX9_looksOn_6 : decode cX9_looksOn 6 = .ok (.getfield 80, 3) := dk_180 0 80 (dk_at dksX9_looksOn_0 6 rfl rfl)
theorem dX9_looksOn_9 : decode cX9_looksOn 9 = .ok (.iload_n 1, 1) := dk_27 (dk_at dksX9_looksOn_0 9 rfl rfl)
theorem dX9_looksOn_10 : decode cX9_looksOn 10 = .ok (.bipush 11, 2) := dk_16 11 (dk_at dksX9_looksOn_0 10 rfl rfl)
theorem dX9_looksOn_12 : decode cX9_looksOn 12 = .ok (.iadd, 1) := dk_96 (dk_at dksX9_looksOn_0 12 rfl rfl)
theorem dX9_looksOn_13 : decode cX9_looksOn 13 = .ok (.iaload, 1) := dk_46 (dk_at dksX9_looksOn_0 13 rfl rfl)
theorem dX9_looksOn_14 : decode cX9_looksOn 14 = .ok (.invokevirtual 396, 3) := dk_182 1 140 (dk_at dksX9_looksOn_0 14 rfl rfl)
theorem dX9_looksOn_17 : decode cX9_looksOn 17 = .ok (.ifCond .ge 11, 3) := dk_156 0 11 (dk_at dksX9_looksOn_0 17 rfl rfl)
theorem dX9_looksOn_20 : decode cX9_looksOn 20 = .ok (.aload_n 0, 1) := dk_42 (dk_at dksX9_looksOn_0 20 rfl rfl)
theorem dX9_looksOn_21 : decode cX9_looksOn 21 = .ok (.iload_n 1, 1) := dk_27 (dk_at dksX9_looksOn_0 21 rfl rfl)
theorem dX9_looksOn_22 : decode cX9_looksOn 22 = .ok (.invokevirtual 386, 3) := dk_182 1 130 (dk_at dksX9_looksOn_1 0 rfl rfl)
theorem dX9_looksOn_25 : decode cX9_looksOn 25 = .ok (.goto 11, 3) := dk_167 0 11 (dk_at dksX9_looksOn_1 3 rfl rfl)
theorem dX9_looksOn_28 : decode cX9_looksOn 28 = .ok (.aload_n 0, 1) := dk_42 (dk_at dksX9_looksOn_1 6 rfl rfl)
theorem dX9_looksOn_29 : decode cX9_looksOn 29 = .ok (.iload_n 1, 1) := dk_27 (dk_at dksX9_looksOn_1 7 rfl rfl)
theorem dX9_looksOn_30 : decode cX9_looksOn 30 = .ok (.iconst 0, 1) := dk_3 (dk_at dksX9_looksOn_1 8 rfl rfl)
theorem dX9_looksOn_31 : decode cX9_looksOn 31 = .ok (.bipush 13, 2) := dk_16 13 (dk_at dksX9_looksOn_1 9 rfl rfl)
theorem dX9_looksOn_33 : decode cX9_looksOn 33 = .ok (.invokevirtual 370, 3) := dk_182 1 114 (dk_at dksX9_looksOn_1 11 rfl rfl)
theorem dX9_looksOn_36 : decode cX9_looksOn 36 = .ok (.return_, 1) := dk_177 (dk_at dksX9_looksOn_1 14 rfl rfl)
abbrev cX9_strikes : ByteArray := prog_20_method_85_code
def yX9_strikes : MethodName := ⟨RX9, "strikes", "(I)V"⟩
def dkwX9_strikes_3 : List UInt8 := [182, 1, 136, 177]
abbrev dktX9_strikes_3 : List UInt8 := dkwX9_strikes_3 ++ []
def dkwX9_strikes_2 : List UInt8 := [28, 182, 1, 95, 153, 0, 12, 42, 42, 28, 182, 1, 44, 182, 1, 133, 42, 27, 16, 7, 29, 16, 254]
abbrev dktX9_strikes_2 : List UInt8 := dkwX9_strikes_2 ++ dktX9_strikes_3
def dkwX9_strikes_1 : List UInt8 := [42, 27, 16, 12, 182, 1, 92, 177, 42, 182, 1, 89, 42, 180, 0, 92, 42, 28, 182, 1, 140, 46, 62, 42]
abbrev dktX9_strikes_1 : List UInt8 := dkwX9_strikes_1 ++ dktX9_strikes_2
def dkwX9_strikes_0 : List UInt8 := [42, 180, 0, 80, 27, 16, 11, 96, 46, 61, 42, 27, 3, 182, 1, 117, 154, 0, 16, 42, 27, 182, 1, 121]
abbrev dktX9_strikes_0 : List UInt8 := dkwX9_strikes_0 ++ dktX9_strikes_1
theorem dksX9_strikes_0 : cX9_strikes.data.toList.drop 0 = dktX9_strikes_0 := by decide +kernel
theorem dksX9_strikes_1 : cX9_strikes.data.toList.drop 24 = dktX9_strikes_1 := dk_seg dksX9_strikes_0 24 rfl rfl
theorem dksX9_strikes_2 : cX9_strikes.data.toList.drop 48 = dktX9_strikes_2 := dk_seg dksX9_strikes_1 24 rfl rfl
theorem dksX9_strikes_3 : cX9_strikes.data.toList.drop 71 = dktX9_strikes_3 := dk_seg dksX9_strikes_2 23 rfl rfl
theorem dX9_strikes_0 : decode cX9_strikes 0 = .ok (.aload_n 0, 1) := dk_42 (dk_at dksX9_strikes_0 0 rfl rfl)
theorem dX9_strikes_1 : decode cX9_strikes 1 = .ok (.getfield 80, 3) := dk_180 0 80 (dk_at dksX9_strikes_0 1 rfl rfl)
theorem dX9_strikes_4 : decode cX9_strikes 4 = .ok (.iload_n 1, 1) := dk_27 (dk_at dksX9_strikes_0 4 rfl rfl)
theorem dX9_strikes_5 : decode cX9_strikes 5 = .ok (.bipush 11, 2) := dk_16 11 (dk_at dksX9_strikes_0 5 rfl rfl)
theorem dX9_strikes_7 : decode cX9_strikes 7 = .ok (.iadd, 1) := dk_96 (dk_at dksX9_strikes_0 7 rfl rfl)
theorem dX9_strikes_8 : decode cX9_strikes 8 = .ok (.iaload, 1) := dk_46 (dk_at dksX9_strikes_0 8 rfl rfl)
theorem dX9_strikes_9 : decode cX9_strikes 9 = .ok (.istore_n 2, 1) := dk_61 (dk_at dksX9_strikes_0 9 rfl rfl)
theorem dX9_strikes_10 : decode cX9_strikes 10 = .ok (.aload_n 0, 1) := dk_42 (dk_at dksX9_strikes_0 10 rfl rfl)
theorem dX9_strikes_11 : decode cX9_strikes 11 = .ok (.iload_n 1, 1) := dk_27 (dk_at dksX9_strikes_0 11 rfl rfl)
theorem dX9_strikes_12 : decode cX9_strikes 12 = .ok (.iconst 0, 1) := dk_3 (dk_at dksX9_strikes_0 12 rfl rfl)
theorem dX9_strikes_13 : decode cX9_strikes 13 = .ok (.invokevirtual 373, 3) := dk_182 1 117 (dk_at dksX9_strikes_0 13 rfl rfl)
theorem dX9_strikes_16 : decode cX9_strikes 16 = .ok (.ifCond .ne 16, 3) := dk_154 0 16 (dk_at dksX9_strikes_0 16 rfl rfl)
theorem dX9_strikes_19 : decode cX9_strikes 19 = .ok (.aload_n 0, 1) := dk_42 (dk_at dksX9_strikes_0 19 rfl rfl)
theorem dX9_strikes_20 : decode cX9_strikes 20 = .ok (.iload_n 1, 1) := dk_27 (dk_at dksX9_strikes_0 20 rfl rfl)
theorem dX9_strikes_21 : decode cX9_strikes 21 = .ok (.invokevirtual 377, 3) := dk_182 1 121 (dk_at dksX9_strikes_0 21 rfl rfl)
theorem dX9_strikes_24 : decode cX9_strikes 24 = .ok (.aload_n 0, 1) := dk_42 (dk_at dksX9_strikes_1 0 rfl rfl)
theorem dX9_strikes_25 : decode cX9_strikes 25 = .ok (.iload_n 1, 1) := dk_27 (dk_at dksX9_strikes_1 1 rfl rfl)
theorem dX9_strikes_26 : decode cX9_strikes 26 = .ok (.bipush 12, 2) := dk_16 12 (dk_at dksX9_strikes_1 2 rfl rfl)
theorem dX9_strikes_28 : decode cX9_strikes 28 = .ok (.invokevirtual 348, 3) := dk_182 1 92 (dk_at dksX9_strikes_1 4 rfl rfl)
theorem dX9_strikes_31 : decode cX9_strikes 31 = .ok (.return_, 1) := dk_177 (dk_at dksX9_strikes_1 7 rfl rfl)
theorem dX9_strikes_32 : decode cX9_strikes 32 = .ok (.aload_n 0, 1) := dk_42 (dk_at dksX9_strikes_1 8 rfl rfl)
theorem dX9_strikes_33 : decode cX9_strikes 33 = .ok (.invokevirtual 345, 3) := dk_182 1 89 (dk_at dksX9_strikes_1 9 rfl rfl)
theorem dX9_strikes_36 : decode cX9_strikes 36 = .ok (.aload_n 0, 1) := dk_42 (dk_at dksX9_strikes_1 12 rfl rfl)
theorem dX9_strikes_37 : decode cX9_strikes 37 = .ok (.getfield 92, 3) := dk_180 0 92 (dk_at dksX9_strikes_1 13 rfl rfl)
theorem dX9_strikes_40 : decode cX9_strikes 40 = .ok (.aload_n 0, 1) := dk_42 (dk_at dksX9_strikes_1 16 rfl rfl)
theorem dX9_strikes_41 : decode cX9_strikes 41 = .ok (.iload_n 2, 1) := dk_28 (dk_at dksX9_strikes_1 17 rfl rfl)
theorem dX9_strikes_42 : decode cX9_strikes 42 = .ok (.invokevirtual 396, 3) := dk_182 1 140 (dk_at dksX9_strikes_1 18 rfl rfl)
theorem dX9_strikes_45 : decode cX9_strikes 45 = .ok (.iaload, 1) := dk_46 (dk_at dksX9_strikes_1 21 rfl rfl)
theorem dX9_strikes_46 : decode cX9_strikes 46 = .ok (.istore_n 3, 1) := dk_62 (dk_at dksX9_strikes_1 22 rfl rfl)
theorem dX9_strikes_47 : decode cX9_strikes 47 = .ok (.aload_n 0, 1) := dk_42 (dk_at dksX9_strikes_1 23 rfl rfl)
theorem dX9_strikes_48 : decode cX9_strikes 48 = .ok (.iload_n 2, 1) := dk_28 (dk_at dksX9_strikes_2 0 rfl rfl)
theorem dX9_strikes_49 : decode cX9_strikes 49 = .ok (.invokevirtual 351, 3) := dk_182 1 95 (dk_at dksX9_strikes_2 1 rfl rfl)
theorem dX9_strikes_52 : decode cX9_strikes 52 = .ok (.ifCond .eq 12, 3) := dk_153 0 12 (dk_at dksX9_strikes_2 4 rfl rfl)
theorem dX9_strikes_55 : decode cX9_strikes 55 = .ok (.aload_n 0, 1) := dk_42 (dk_at dksX9_strikes_2 7 rfl rfl)
theorem dX9_strikes_56 : decode cX9_strikes 56 = .ok (.aload_n 0, 1) := dk_42 (dk_at dksX9_strikes_2 8 rfl rfl)
theorem dX9_strikes_57 : decode cX9_strikes 57 = .ok (.iload_n 2, 1) := dk_28 (dk_at dksX9_strikes_2 9 rfl rfl)
theorem dX9_strikes_58 : decode cX9_strikes 58 = .ok (.invokevirtual 300, 3) := dk_182 1 44 (dk_at dksX9_strikes_2 10 rfl rfl)
theorem dX9_strikes_61 : decode cX9_strikes 61 = .ok (.invokevirtual 389, 3) := dk_182 1 133 (dk_at dksX9_strikes_2 13 rfl rfl)
theorem dX9_strikes_64 : decode cX9_strikes 64 = .ok (.aload_n 0, 1) := dk_42 (dk_at dksX9_strikes_2 16 rfl rfl)
theorem dX9_strikes_65 : decode cX9_strikes 65 = .ok (.iload_n 1, 1) := dk_27 (dk_at dksX9_strikes_2 17 rfl rfl)
theorem dX9_strikes_66 : decode cX9_strikes 66 = .ok (.bipush 7, 2) := dk_16 7 (dk_at dksX9_strikes_2 18 rfl rfl)
theorem dX9_strikes_68 : decode cX9_strikes 68 = .ok (.iload_n 3, 1) := dk_29 (dk_at dksX9_strikes_2 20 rfl rfl)
theorem dX9_strikes_69 : decode cX9_strikes 69 = .ok (.bipush (-2), 2) := dk_16 254 (dk_at dksX9_strikes_2 21 rfl rfl)
theorem dX9_strikes_71 : decode cX9_strikes 71 = .ok (.invokevirtual 392, 3) := dk_182 1 136 (dk_at dksX9_strikes_3 0 rfl rfl)
theorem dX9_strikes_74 : decode cX9_strikes 74 = .ok (.return_, 1) := dk_177 (dk_at dksX9_strikes_3 3 rfl rfl)
abbrev cX9_sweeps : ByteArray := prog_20_method_88_code
def yX9_sweeps : MethodName := ⟨RX9, "sweeps", "()I"⟩
def dkwX9_sweeps_6 : List UInt8 := [79, 132, 2, 1, 132, 3, 1, 167, 255, 183, 28, 172]
abbrev dktX9_sweeps_6 : List UInt8 := dkwX9_sweeps_6 ++ []
def dkwX9_sweeps_5 : List UInt8 := [180, 0, 80, 21, 4, 8, 96, 46, 4, 160, 0, 6, 167, 0, 16, 42, 180, 0, 80, 21, 4, 8, 96, 4]
abbrev dktX9_sweeps_5 : List UInt8 := dkwX9_sweeps_5 ++ dktX9_sweeps_6
def dkwX9_sweeps_4 : List UInt8 := [21, 4, 7, 96, 46, 155, 0, 45, 42, 180, 0, 80, 21, 4, 7, 96, 46, 27, 162, 0, 32, 42]
abbrev dktX9_sweeps_4 : List UInt8 := dkwX9_sweeps_4 ++ dktX9_sweeps_5
def dkwX9_sweeps_3 : List UInt8 := [61, 3, 62, 29, 42, 180, 0, 80, 3, 46, 162, 0, 69, 29, 184, 1, 26, 54, 4, 42, 180, 0, 80]
abbrev dktX9_sweeps_3 : List UInt8 := dkwX9_sweeps_3 ++ dktX9_sweeps_4
def dkwX9_sweeps_2 : List UInt8 := [46, 27, 162, 0, 15, 42, 180, 0, 80, 28, 184, 1, 35, 8, 96, 46, 60, 132, 2, 1, 167, 255, 207, 3]
abbrev dktX9_sweeps_2 : List UInt8 := dkwX9_sweeps_2 ++ dktX9_sweeps_3
def dkwX9_sweeps_1 : List UInt8 := [42, 180, 0, 80, 28, 184, 1, 35, 4, 96, 46, 158, 0, 30, 42, 180, 0, 80, 28, 184, 1, 35, 8, 96]
abbrev dktX9_sweeps_1 : List UInt8 := dkwX9_sweeps_1 ++ dktX9_sweeps_2
def dkwX9_sweeps_0 : List UInt8 := [42, 180, 0, 80, 5, 92, 46, 4, 96, 79, 42, 180, 0, 80, 5, 46, 60, 3, 61, 28, 7, 162, 0, 50]
abbrev dktX9_sweeps_0 : List UInt8 := dkwX9_sweeps_0 ++ dktX9_sweeps_1
theorem dksX9_sweeps_0 : cX9_sweeps.data.toList.drop 0 = dktX9_sweeps_0 := by decide +kernel
theorem dksX9_sweeps_1 : cX9_sweeps.data.toList.drop 24 = dktX9_sweeps_1 := dk_seg dksX9_sweeps_0 24 rfl rfl
theorem dksX9_sweeps_2 : cX9_sweeps.data.toList.drop 48 = dktX9_sweeps_2 := dk_seg dksX9_sweeps_1 24 rfl rfl
theorem dksX9_sweeps_3 : cX9_sweeps.data.toList.drop 72 = dktX9_sweeps_3 := dk_seg dksX9_sweeps_2 24 rfl rfl
theorem dksX9_sweeps_4 : cX9_sweeps.data.toList.drop 95 = dktX9_sweeps_4 := dk_seg dksX9_sweeps_3 23 rfl rfl
theorem dksX9_sweeps_5 : cX9_sweeps.data.toList.drop 117 = dktX9_sweeps_5 := dk_seg dksX9_sweeps_4 22 rfl rfl
theorem dksX9_sweeps_6 : cX9_sweeps.data.toList.drop 141 = dktX9_sweeps_6 := dk_seg dksX9_sweeps_5 24 rfl rfl
theorem dX9_sweeps_0 : decode cX9_sweeps 0 = .ok (.aload_n 0, 1) := dk_42 (dk_at dksX9_sweeps_0 0 rfl rfl)
theorem dX9_sweeps_1 : decode cX9_sweeps 1 = .ok (.getfield 80, 3) := dk_180 0 80 (dk_at dksX9_sweeps_0 1 rfl rfl)
theorem dX9_sweeps_4 : decode cX9_sweeps 4 = .ok (.iconst 2, 1) := dk_5 (dk_at dksX9_sweeps_0 4 rfl rfl)
theorem dX9_sweeps_5 : decode cX9_sweeps 5 = .ok (.dup2, 1) := dk_92 (dk_at dksX9_sweeps_0 5 rfl rfl)
theorem dX9_sweeps_6 : decode cX9_sweeps 6 = .ok (.iaload, 1) := dk_46 (dk_at dksX9_sweeps_0 6 rfl rfl)
theorem dX9_sweeps_7 : decode cX9_sweeps 7 = .ok (.iconst 1, 1) := dk_4 (dk_at dksX9_sweeps_0 7 rfl rfl)
theorem dX9_sweeps_8 : decode cX9_sweeps 8 = .ok (.iadd, 1) := dk_96 (dk_at dksX9_sweeps_0 8 rfl rfl)
theorem dX9_sweeps_9 : decode cX9_sweeps 9 = .ok (.iastore, 1) := dk_79 (dk_at dksX9_sweeps_0 9 rfl rfl)
theorem dX9_sweeps_10 : decode cX9_sweeps 10 = .ok (.aload_n 0, 1) := dk_42 (dk_at dksX9_sweeps_0 10 rfl rfl)
theorem dX9_sweeps_11 : decode cX9_sweeps 11 = .ok (.getfield 80, 3) := dk_180 0 80 (dk_at dksX9_sweeps_0 11 rfl rfl)
theorem dX9_sweeps_14 : decode cX9_sweeps 14 = .ok (.iconst 2, 1) := dk_5 (dk_at dksX9_sweeps_0 14 rfl rfl)
theorem dX9_sweeps_15 : decode cX9_sweeps 15 = .ok (.iaload, 1) := dk_46 (dk_at dksX9_sweeps_0 15 rfl rfl)
theorem dX9_sweeps_16 : decode cX9_sweeps 16 = .ok (.istore_n 1, 1) := dk_60 (dk_at dksX9_sweeps_0 16 rfl rfl)
theorem dX9_sweeps_17 : decode cX9_sweeps 17 = .ok (.iconst 0, 1) := dk_3 (dk_at dksX9_sweeps_0 17 rfl rfl)
theorem dX9_sweeps_18 : decode cX9_sweeps 18 = .ok (.istore_n 2, 1) := dk_61 (dk_at dksX9_sweeps_0 18 rfl rfl)
theorem dX9_sweeps_19 : decode cX9_sweeps 19 = .ok (.iload_n 2, 1) := dk_28 (dk_at dksX9_sweeps_0 19 rfl rfl)
theorem dX9_sweeps_20 : decode cX9_sweeps 20 = .ok (.iconst 4, 1) := dk_7 (dk_at dksX9_sweeps_0 20 rfl rfl)
theorem dX9_sweeps_21 : decode cX9_sweeps 21 = .ok (.if_icmp .ge 50, 3) := dk_162 0 50 (dk_at dksX9_sweeps_0 21 rfl rfl)
theorem dX9_sweeps_24 : decode cX9_sweeps 24 = .ok (.aload_n 0, 1) := dk_42 (dk_at dksX9_sweeps_1 0 rfl rfl)
theorem dX9_sweeps_25 : decode cX9_sweeps 25 = .ok (.getfield 80, 3) := dk_180 0 80 (dk_at dksX9_sweeps_1 1 rfl rfl)
theorem dX9_sweeps_28 : decode cX9_sweeps 28 = .ok (.iload_n 2, 1) := dk_28 (dk_at dksX9_sweeps_1 4 rfl rfl)
theorem dX9_sweeps_29 : decode cX9_sweeps 29 = .ok (.invokestatic 291, 3) := dk_184 1 35 (dk_at dksX9_sweeps_1 5 rfl rfl)
theorem dX9_sweeps_32 : decode cX9_sweeps 32 = .ok (.iconst 1, 1) := dk_4 (dk_at dksX9_sweeps_1 8 rfl rfl)
theorem dX9_sweeps_33 : decode cX9_sweeps 33 = .ok (.iadd, 1) := dk_96 (dk_at dksX9_sweeps_1 9 rfl rfl)
theorem dX9_sweeps_34 : decode cX9_sweeps 34 = .ok (.iaload, 1) := dk_46 (dk_at dksX9_sweeps_1 10 rfl rfl)
theorem dX9_sweeps_35 : decode cX9_sweeps 35 = .ok (.ifCond .le 30, 3) := dk_158 0 30 (dk_at dksX9_sweeps_1 11 rfl rfl)
theorem dX9_sweeps_38 : decode cX9_sweeps 38 = .ok (.aload_n 0, 1) := dk_42 (dk_at dksX9_sweeps_1 14 rfl rfl)
theorem dX9_sweeps_39 : decode cX9_sweeps 39 = .ok (.getfield 80, 3) := dk_180 0 80 (dk_at dksX9_sweeps_1 15 rfl rfl)
theorem dX9_sweeps_42 : decode cX9_sweeps 42 = .ok (.iload_n 2, 1) := dk_28 (dk_at dksX9_sweeps_1 18 rfl rfl)
theorem dX9_sweeps_43 : decode cX9_sweeps 43 = .ok (.invokestatic 291, 3) := dk_184 1 35 (dk_at dksX9_sweeps_1 19 rfl rfl)
theorem dX9_sweeps_46 : decode cX9_sweeps 46 = .ok (.iconst 5, 1) := dk_8 (dk_at dksX9_sweeps_1 22 rfl rfl)
theorem dX9_sweeps_47 : decode cX9_sweeps 47 = .ok (.iadd, 1) := dk_96 (dk_at dksX9_sweeps_1 23 rfl rfl)
theorem dX9_sweeps_48 : decode cX9_sweeps 48 = .ok (.iaload, 1) := dk_46 (dk_at dksX9_sweeps_2 0 rfl rfl)
theorem dX9_sweeps_49 : decode cX9_sweeps 49 = .ok (.iload_n 1, 1) := dk_27 (dk_at dksX9_sweeps_2 1 rfl rfl)
theorem dX9_sweeps_50 : decode cX9_sweeps 50 = .ok (.if_icmp .ge 15, 3) := dk_162 0 15 (dk_at dksX9_sweeps_2 2 rfl rfl)
theorem dX9_sweeps_53 : decode cX9_sweeps 53 = .ok (.aload_n 0, 1) := dk_42 (dk_at dksX9_sweeps_2 5 rfl rfl)
theorem dX9_sweeps_54 : decode cX9_sweeps 54 = .ok (.getfield 80, 3) := dk_180 0 80 (dk_at dksX9_sweeps_2 6 rfl rfl)
theorem dX9_sweeps_57 : decode cX9_sweeps 57 = .ok (.iload_n 2, 1) := dk_28 (dk_at dksX9_sweeps_2 9 rfl rfl)
theorem dX9_sweeps_58 : decode cX9_sweeps 58 = .ok (.invokestatic 291, 3) := dk_184 1 35 (dk_at dksX9_sweeps_2 10 rfl rfl)
theorem dX9_sweeps_61 : decode cX9_sweeps 61 = .ok (.iconst 5, 1) := dk_8 (dk_at dksX9_sweeps_2 13 rfl rfl)
theorem dX9_sweeps_62 : decode cX9_sweeps 62 = .ok (.iadd, 1) := dk_96 (dk_at dksX9_sweeps_2 14 rfl rfl)
theorem dX9_sweeps_63 : decode cX9_sweeps 63 = .ok (.iaload, 1) := dk_46 (dk_at dksX9_sweeps_2 15 rfl rfl)
theorem dX9_sweeps_64 : decode cX9_sweeps 64 = .ok (.istore_n 1, 1) := dk_60 (dk_at dksX9_sweeps_2 16 rfl rfl)
theorem dX9_sweeps_65 : decode cX9_sweeps 65 = .ok (.iinc 2 1, 3) := dk_132 2 1 (dk_at dksX9_sweeps_2 17 rfl rfl)
theorem dX9_sweeps_68 : decode cX9_sweeps 68 = .ok (.goto (-49), 3) := dk_167 255 207 (dk_at dksX9_sweeps_2 20 rfl rfl)
theorem dX9_sweeps_71 : decode cX9_sweeps 71 = .ok (.iconst 0, 1) := dk_3 (dk_at dksX9_sweeps_2 23 rfl rfl)
theorem dX9_sweeps_72 : decode cX9_sweeps 72 = .ok (.istore_n 2, 1) := dk_61 (dk_at dksX9_sweeps_3 0 rfl rfl)
theorem dX9_sweeps_73 : decode cX9_sweeps 73 = .ok (.iconst 0, 1) := dk_3 (dk_at dksX9_sweeps_3 1 rfl rfl)
theorem dX9_sweeps_74 : decode cX9_sweeps 74 = .ok (.istore_n 3, 1) := dk_62 (dk_at dksX9_sweeps_3 2 rfl rfl)
theorem dX9_sweeps_75 : decode cX9_sweeps 75 = .ok (.iload_n 3, 1) := dk_29 (dk_at dksX9_sweeps_3 3 rfl rfl)
theorem dX9_sweeps_76 : decode cX9_sweeps 76 = .ok (.aload_n 0, 1) := dk_42 (dk_at dksX9_sweeps_3 4 rfl rfl)
theorem dX9_sweeps_77 : decode cX9_sweeps 77 = .ok (.getfield 80, 3) := dk_180 0 80 (dk_at dksX9_sweeps_3 5 rfl rfl)
theorem dX9_sweeps_80 : decode cX9_sweeps 80 = .ok (.iconst 0, 1) := dk_3 (dk_at dksX9_sweeps_3 8 rfl rfl)
theorem dX9_sweeps_81 : decode cX9_sweeps 81 = .ok (.iaload, 1) := dk_46 (dk_at dksX9_sweeps_3 9 rfl rfl)
theorem dX9_sweeps_82 : decode cX9_sweeps 82 = .ok (.if_icmp .ge 69, 3) := dk_162 0 69 (dk_at dksX9_sweeps_3 10 rfl rfl)
theorem dX9_sweeps_85 : decode cX9_sweeps 85 = .ok (.iload_n 3, 1) := dk_29 (dk_at dksX9_sweeps_3 13 rfl rfl)
theorem dX9_sweeps_86 : decode cX9_sweeps 86 = .ok (.invokestatic 282, 3) := dk_184 1 26 (dk_at dksX9_sweeps_3 14 rfl rfl)
theorem dX9_sweeps_89 : decode cX9_sweeps 89 = .ok (.istore 4, 2) := dk_54 4 (dk_at dksX9_sweeps_3 17 rfl rfl)
theorem dX9_sweeps_91 : decode cX9_sweeps 91 = .ok (.aload_n 0, 1) := dk_42 (dk_at dksX9_sweeps_3 19 rfl rfl)
theorem dX9_sweeps_92 : decode cX9_sweeps 92 = .ok (.getfield 80, 3) := dk_180 0 80 (dk_at dksX9_sweeps_3 20 rfl rfl)
theorem dX9_sweeps_95 : decode cX9_sweeps 95 = .ok (.iload 4, 2) := dk_21 4 (dk_at dksX9_sweeps_4 0 rfl rfl)
theorem dX9_sweeps_97 : decode cX9_sweeps 97 = .ok (.iconst 4, 1) := dk_7 (dk_at dksX9_sweeps_4 2 rfl rfl)
theorem dX9_sweeps_98 : decode cX9_sweeps 98 = .ok (.iadd, 1) := dk_96 (dk_at dksX9_sweeps_4 3 rfl rfl)
theorem dX9_sweeps_99 : decode cX9_sweeps 99 = .ok (.iaload, 1) := dk_46 (dk_at dksX9_sweeps_4 4 rfl rfl)
theorem dX9_sweeps_100 : decode cX9_sweeps 100 = .ok (.ifCond .lt 45, 3) := dk_155 0 45 (dk_at dksX9_sweeps_4 5 rfl rfl)
theorem dX9_sweeps_103 : decode cX9_sweeps 103 = .ok (.aload_n 0, 1) := dk_42 (dk_at dksX9_sweeps_4 8 rfl rfl)
theorem dX9_sweeps_104 : decode cX9_sweeps 104 = .ok (.getfield 80, 3) := dk_180 0 80 (dk_at dksX9_sweeps_4 9 rfl rfl)
theorem dX9_sweeps_107 : decode cX9_sweeps 107 = .ok (.iload 4, 2) := dk_21 4 (dk_at dksX9_sweeps_4 12 rfl rfl)
theorem dX9_sweeps_109 : decode cX9_sweeps 109 = .ok (.iconst 4, 1) := dk_7 (dk_at dksX9_sweeps_4 14 rfl rfl)
theorem dX9_sweeps_110 : decode cX9_sweeps 110 = .ok (.iadd, 1) := dk_96 (dk_at dksX9_sweeps_4 15 rfl rfl)
theorem dX9_sweeps_111 : decode cX9_sweeps 111 = .ok (.iaload, 1) := dk_46 (dk_at dksX9_sweeps_4 16 rfl rfl)
theorem dX9_sweeps_112 : decode cX9_sweeps 112 = .ok (.iload_n 1, 1) := dk_27 (dk_at dksX9_sweeps_4 17 rfl rfl)
theorem dX9_sweeps_113 : decode cX9_sweeps 113 = .ok (.if_icmp .ge 32, 3) := dk_162 0 32 (dk_at dksX9_sweeps_4 18 rfl rfl)
theorem dX9_sweeps_116 : decode cX9_sweeps 116 = .ok (.aload_n 0, 1) := dk_42 (dk_at dksX9_sweeps_4 21 rfl rfl)
theorem dX9_sweeps_117 : decode cX9_sweeps 117 = .ok (.getfield 80, 3) := dk_180 0 80 (dk_at dksX9_sweeps_5 0 rfl rfl)
theorem dX9_sweeps_120 : decode cX9_sweeps 120 = .ok (.iload 4, 2) := dk_21 4 (dk_at dksX9_sweeps_5 3 rfl rfl)
theorem dX9_sweeps_122 : decode cX9_sweeps 122 = .ok (.iconst 5, 1) := dk_8 (dk_at dksX9_sweeps_5 5 rfl rfl)
theorem dX9_sweeps_123 : decode cX9_sweeps 123 = .ok (.iadd, 1) := dk_96 (dk_at dksX9_sweeps_5 6 rfl rfl)
theorem dX9_sweeps_124 : decode cX9_sweeps 124 = .ok (.iaload, 1) := dk_46 (dk_at dksX9_sweeps_5 7 rfl rfl)
theorem dX9_sweeps_125 : decode cX9_sweeps 125 = .ok (.iconst 1, 1) := dk_4 (dk_at dksX9_sweeps_5 8 rfl rfl)
theorem dX9_sweeps_126 : decode cX9_sweeps 126 = .ok (.if_icmp .ne 6, 3) := dk_160 0 6 (dk_at dksX9_sweeps_5 9 rfl rfl)
theorem dX9_sweeps_129 : decode cX9_sweeps 129 = .ok (.goto 16, 3) := dk_167 0 16 (dk_at dksX9_sweeps_5 12 rfl rfl)
theorem dX9_sweeps_132 : decode cX9_sweeps 132 = .ok (.aload_n 0, 1) := dk_42 (dk_at dksX9_sweeps_5 15 rfl rfl)
theorem dX9_sweeps_133 : decode cX9_sweeps 133 = .ok (.getfield 80, 3) := dk_180 0 80 (dk_at dksX9_sweeps_5 16 rfl rfl)
theorem dX9_sweeps_136 : decode cX9_sweeps 136 = .ok (.iload 4, 2) := dk_21 4 (dk_at dksX9_sweeps_5 19 rfl rfl)
theorem dX9_sweeps_138 : decode cX9_sweeps 138 = .ok (.iconst 5, 1) := dk_8 (dk_at dksX9_sweeps_5 21 rfl rfl)
theorem dX9_sweeps_139 : decode cX9_sweeps 139 = .ok (.iadd, 1) := dk_96 (dk_at dksX9_sweeps_5 22 rfl rfl)
theorem dX9_sweeps_140 : decode cX9_sweeps 140 = .ok (.iconst 1, 1) := dk_4 (dk_at dksX9_sweeps_5 23 rfl rfl)
theorem dX9_sweeps_141 : decode cX9_sweeps 141 = .ok (.iastore, 1) := dk_79 (dk_at dksX9_sweeps_6 0 rfl rfl)
theorem dX9_sweeps_142 : decode cX9_sweeps 142 = .ok (.iinc 2 1, 3) := dk_132 2 1 (dk_at dksX9_sweeps_6 1 rfl rfl)
theorem dX9_sweeps_145 : decode cX9_sweeps 145 = .ok (.iinc 3 1, 3) := dk_132 3 1 (dk_at dksX9_sweeps_6 4 rfl rfl)
theorem dX9_sweeps_148 : decode cX9_sweeps 148 = .ok (.goto (-73), 3) := dk_167 255 183 (dk_at dksX9_sweeps_6 7 rfl rfl)
theorem dX9_sweeps_151 : decode cX9_sweeps 151 = .ok (.iload_n 2, 1) := dk_28 (dk_at dksX9_sweeps_6 10 rfl rfl)
theorem dX9_sweeps_152 : decode cX9_sweeps 152 = .ok (.ireturn, 1) := dk_172 (dk_at dksX9_sweeps_6 11 rfl rfl)
abbrev cX9_place : ByteArray := prog_20_method_20_code
def yX9_place : MethodName := ⟨RX9, "place", "()I"⟩
theorem dX9_place_0 : decode cX9_place 0 = .ok (.aload_n 0, 1) := by decide +kernel
theorem dX9_place_1 : decode cX9_place 1 = .ok (.getfield 37, 3) := by decide +kernel
theorem dX9_place_4 : decode cX9_place 4 = .ok (.ireturn, 1) := by decide +kernel
abbrev cX9_begin : ByteArray := prog_20_method_91_code
def yX9_begin : MethodName := ⟨RX9, "begin", "(IIII)Z"⟩
def dkwX9_begin_1 : List UInt8 := [27, 28, 29, 21, 4, 182, 1, 22, 153, 0, 7, 4, 167, 0, 4, 3, 172]
abbrev dktX9_begin_1 : List UInt8 := dkwX9_begin_1 ++ []
def dkwX9_begin_0 : List UInt8 := [27, 184, 1, 189, 153, 0, 35, 28, 4, 6, 184, 1, 185, 153, 0, 26, 29, 184, 1, 192, 153, 0, 19, 42]
abbrev dktX9_begin_0 : List UInt8 := dkwX9_begin_0 ++ dktX9_begin_1
theorem dksX9_begin_0 : cX9_begin.data.toList.drop 0 = dktX9_begin_0 := by decide +kernel
theorem dksX9_begin_1 : cX9_begin.data.toList.drop 24 = dktX9_begin_1 := dk_seg dksX9_begin_0 24 rfl rfl
theorem dX9_begin_0 : decode cX9_begin 0 = .ok (.iload_n 1, 1) := dk_27 (dk_at dksX9_begin_0 0 rfl rfl)
theorem dX9_begin_1 : decode cX9_begin 1 = .ok (.invokestatic 445, 3) := dk_184 1 189 (dk_at dksX9_begin_0 1 rfl rfl)
theorem dX9_begin_4 : decode cX9_begin 4 = .ok (.ifCond .eq 35, 3) := dk_153 0 35 (dk_at dksX9_begin_0 4 rfl rfl)
theorem dX9_begin_7 : decode cX9_begin 7 = .ok (.iload_n 2, 1) := dk_28 (dk_at dksX9_begin_0 7 rfl rfl)
theorem dX9_begin_8 : decode cX9_begin 8 = .ok (.iconst 1, 1) := dk_4 (dk_at dksX9_begin_0 8 rfl rfl)
theorem dX9_begin_9 : decode cX9_begin 9 = .ok (.iconst 3, 1) := dk_6 (dk_at dksX9_begin_0 9 rfl rfl)
theorem dX9_begin_10 : decode cX9_begin 10 = .ok (.invokestatic 441, 3) := dk_184 1 185 (dk_at dksX9_begin_0 10 rfl rfl)
theorem dX9_begin_13 : decode cX9_begin 13 = .ok (.ifCond .eq 26, 3) := dk_153 0 26 (dk_at dksX9_begin_0 13 rfl rfl)
theorem dX9_begin_16 : decode cX9_begin 16 = .ok (.iload_n 3, 1) := dk_29 (dk_at dksX9_begin_0 16 rfl rfl)
theorem dX9_begin_17 : decode cX9_begin 17 = .ok (.invokestatic 448, 3) := dk_184 1 192 (dk_at dksX9_begin_0 17 rfl rfl)
theorem dX9_begin_20 : decode cX9_begin 20 = .ok (.ifCond .eq 19, 3) := dk_153 0 19 (dk_at dksX9_begin_0 20 rfl rfl)
theorem dX9_begin_23 : decode cX9_begin 23 = .ok (.aload_n 0, 1) := dk_42 (dk_at dksX9_begin_0 23 rfl rfl)
theorem dX9_begin_24 : decode cX9_begin 24 = .ok (.iload_n 1, 1) := dk_27 (dk_at dksX9_begin_1 0 rfl rfl)
theorem dX9_begin_25 : decode cX9_begin 25 = .ok (.iload_n 2, 1) := dk_28 (dk_at dksX9_begin_1 1 rfl rfl)
theorem dX9_begin_26 : decode cX9_begin 26 = .ok (.iload_n 3, 1) := dk_29 (dk_at dksX9_begin_1 2 rfl rfl)
theorem dX9_begin_27 : decode cX9_begin 27 = .ok (.iload 4, 2) := dk_21 4 (dk_at dksX9_begin_1 3 rfl rfl)
theorem dX9_begin_29 : decode cX9_begin 29 = .ok (.invokevirtual 278, 3) := dk_182 1 22 (dk_at dksX9_begin_1 5 rfl rfl)
theorem dX9_begin_32 : decode cX9_begin 32 = .ok (.ifCond .eq 7, 3) := dk_153 0 7 (dk_at dksX9_begin_1 8 rfl rfl)
theorem dX9_begin_35 : decode cX9_begin 35 = .ok (.iconst 1, 1) := dk_4 (dk_at dksX9_begin_1 11 rfl rfl)
theorem dX9_begin_36 : decode cX9_begin 36 = .ok (.goto 4, 3) := dk_167 0 4 (dk_at dksX9_begin_1 12 rfl rfl)
theorem dX9_begin_39 : decode cX9_begin 39 = .ok (.iconst 0, 1) := dk_3 (dk_at dksX9_begin_1 15 rfl rfl)
theorem dX9_begin_40 : decode cX9_begin 40 = .ok (.ireturn, 1) := dk_172 (dk_at dksX9_begin_1 16 rfl rfl)
abbrev cX9_isHand : ByteArray := prog_20_method_89_code
def yX9_isHand : MethodName := ⟨RX9, "isHand", "(I)Z"⟩
def dkwX9_isHand_0 : List UInt8 := [26, 3, 6, 184, 1, 185, 172]
abbrev dktX9_isHand_0 : List UInt8 := dkwX9_isHand_0 ++ []
theorem dksX9_isHand_0 : cX9_isHand.data.toList.drop 0 = dktX9_isHand_0 := by decide +kernel
theorem dX9_isHand_0 : decode cX9_isHand 0 = .ok (.iload_n 0, 1) := dk_26 (dk_at dksX9_isHand_0 0 rfl rfl)
theorem dX9_isHand_1 : decode cX9_isHand 1 = .ok (.iconst 0, 1) := dk_3 (dk_at dksX9_isHand_0 1 rfl rfl)
theorem dX9_isHand_2 : decode cX9_isHand 2 = .ok (.iconst 3, 1) := dk_6 (dk_at dksX9_isHand_0 2 rfl rfl)
theorem dX9_isHand_3 : decode cX9_isHand 3 = .ok (.invokestatic 441, 3) := dk_184 1 185 (dk_at dksX9_isHand_0 3 rfl rfl)
theorem dX9_isHand_6 : decode cX9_isHand 6 = .ok (.ireturn, 1) := dk_172 (dk_at dksX9_isHand_0 6 rfl rfl)
abbrev cX9_in : ByteArray := prog_20_method_35_code
def yX9_in : MethodName := ⟨RX9, "in", "(III)Z"⟩
def dkwX9_in_0 : List UInt8 := [26, 27, 161, 0, 12, 26, 28, 163, 0, 7, 4, 167, 0, 4, 3, 172]
abbrev dktX9_in_0 : List UInt8 := dkwX9_in_0 ++ []
theorem dksX9_in_0 : cX9_in.data.toList.drop 0 = dktX9_in_0 := by decide +kernel
theorem dX9_in_0 : decode cX9_in 0 = .ok (.iload_n 0, 1) := dk_26 (dk_at dksX9_in_0 0 rfl rfl)
theorem dX9_in_1 : decode cX9_in 1 = .ok (.iload_n 1, 1) := dk_27 (dk_at dksX9_in_0 1 rfl rfl)
theorem dX9_in_2 : decode cX9_in 2 = .ok (.if_icmp .lt 12, 3) := dk_161 0 12 (dk_at dksX9_in_0 2 rfl rfl)
theorem dX9_in_5 : decode cX9_in 5 = .ok (.iload_n 0, 1) := dk_26 (dk_at dksX9_in_0 5 rfl rfl)
theorem dX9_in_6 : decode cX9_in 6 = .ok (.iload_n 2, 1) := dk_28 (dk_at dksX9_in_0 6 rfl rfl)
theorem dX9_in_7 : decode cX9_in 7 = .ok (.if_icmp .gt 7, 3) := dk_163 0 7 (dk_at dksX9_in_0 7 rfl rfl)
theorem dX9_in_10 : decode cX9_in 10 = .ok (.iconst 1, 1) := dk_4 (dk_at dksX9_in_0 10 rfl rfl)
theorem dX9_in_11 : decode cX9_in 11 = .ok (.goto 4, 3) := dk_167 0 4 (dk_at dksX9_in_0 11 rfl rfl)
theorem dX9_in_14 : decode cX9_in 14 = .ok (.iconst 0, 1) := dk_3 (dk_at dksX9_in_0 14 rfl rfl)
theorem dX9_in_15 : decode cX9_in 15 = .ok (.ireturn, 1) := dk_172 (dk_at dksX9_in_0 15 rfl rfl)
abbrev cX9_isKey : ByteArray := prog_20_method_90_code
def yX9_isKey : MethodName := ⟨RX9, "isKey", "(I)Z"⟩
def dkwX9_isKey_0 : List UInt8 := [26, 3, 17, 3, 231, 184, 1, 185, 172]
abbrev dktX9_isKey_0 : List UInt8 := dkwX9_isKey_0 ++ []
theorem dksX9_isKey_0 : cX9_isKey.data.toList.drop 0 = dktX9_isKey_0 := by decide +kernel
theorem dX9_isKey_0 : decode cX9_isKey 0 = .ok (.iload_n 0, 1) := dk_26 (dk_at dksX9_isKey_0 0 rfl rfl)
theorem dX9_isKey_1 : decode cX9_isKey 1 = .ok (.iconst 0, 1) := dk_3 (dk_at dksX9_isKey_0 1 rfl rfl)
theorem dX9_isKey_2 : decode cX9_isKey 2 = .ok (.sipush 999, 3) := dk_17 3 231 (dk_at dksX9_isKey_0 2 rfl rfl)
theorem dX9_isKey_5 : decode cX9_isKey 5 = .ok (.invokestatic 441, 3) := dk_184 1 185 (dk_at dksX9_isKey_0 5 rfl rfl)
theorem dX9_isKey_8 : decode cX9_isKey 8 = .ok (.ireturn, 1) := dk_172 (dk_at dksX9_isKey_0 8 rfl rfl)
abbrev cX9_step : ByteArray := prog_20_method_92_code
def yX9_step : MethodName := ⟨RX9, "step", "(I)I"⟩
def dkwX9_step_1 : List UInt8 := [27, 182, 1, 1, 42, 180, 0, 80, 27, 184, 1, 35, 4, 96, 46, 172]
abbrev dktX9_step_1 : List UInt8 := dkwX9_step_1 ++ []
def dkwX9_step_0 : List UInt8 := [27, 184, 1, 189, 153, 0, 17, 42, 180, 0, 80, 27, 184, 1, 35, 4, 96, 46, 154, 0, 5, 2, 172, 42]
abbrev dktX9_step_0 : List UInt8 := dkwX9_step_0 ++ dktX9_step_1
theorem dksX9_step_0 : cX9_step.data.toList.drop 0 = dktX9_step_0 := by decide +kernel
theorem dksX9_step_1 : cX9_step.data.toList.drop 24 = dktX9_step_1 := dk_seg dksX9_step_0 24 rfl rfl
theorem dX9_step_0 : decode cX9_step 0 = .ok (.iload_n 1, 1) := dk_27 (dk_at dksX9_step_0 0 rfl rfl)
theorem dX9_step_1 : decode cX9_step 1 = .ok (.invokestatic 445, 3) := dk_184 1 189 (dk_at dksX9_step_0 1 rfl rfl)
theorem dX9_step_4 : decode cX9_step 4 = .ok (.ifCond .eq 17, 3) := dk_153 0 17 (dk_at dksX9_step_0 4 rfl rfl)
theorem dX9_step_7 : decode cX9_step 7 = .ok (.aload_n 0, 1) := dk_42 (dk_at dksX9_step_0 7 rfl rfl)
theorem dX9_step_8 : decode cX9_step 8 = .ok (.getfield 80, 3) := dk_180 0 80 (dk_at dksX9_step_0 8 rfl rfl)
theorem dX9_step_11 : decode cX9_step 11 = .ok (.iload_n 1, 1) := dk_27 (dk_at dksX9_step_0 11 rfl rfl)
theorem dX9_step_12 : decode cX9_step 12 = .ok (.invokestatic 291, 3) := dk_184 1 35 (dk_at dksX9_step_0 12 rfl rfl)
theorem dX9_step_15 : decode cX9_step 15 = .ok (.iconst 1, 1) := dk_4 (dk_at dksX9_step_0 15 rfl rfl)
theorem dX9_step_16 : decode cX9_step 16 = .ok (.iadd, 1) := dk_96 (dk_at dksX9_step_0 16 rfl rfl)
theorem dX9_step_17 : decode cX9_step 17 = .ok (.iaload, 1) := dk_46 (dk_at dksX9_step_0 17 rfl rfl)
theorem dX9_step_18 : decode cX9_step 18 = .ok (.ifCond .ne 5, 3) := dk_154 0 5 (dk_at dksX9_step_0 18 rfl rfl)
theorem dX9_step_21 : decode cX9_step 21 = .ok (.iconst (-1), 1) := dk_2 (dk_at dksX9_step_0 21 rfl rfl)
theorem dX9_step_22 : decode cX9_step 22 = .ok (.ireturn, 1) := dk_172 (dk_at dksX9_step_0 22 rfl rfl)
theorem dX9_step_23 : decode cX9_step 23 = .ok (.aload_n 0, 1) := dk_42 (dk_at dksX9_step_0 23 rfl rfl)
theorem dX9_step_24 : decode cX9_step 24 = .ok (.iload_n 1, 1) := dk_27 (dk_at dksX9_step_1 0 rfl rfl)
theorem dX9_step_25 : decode cX9_step 25 = .ok (.invokevirtual 257, 3) := dk_182 1 1 (dk_at dksX9_step_1 1 rfl rfl)
theorem dX9_step_28 : decode cX9_step 28 = .ok (.aload_n 0, 1) := dk_42 (dk_at dksX9_step_1 4 rfl rfl)
theorem dX9_step_29 : decode cX9_step 29 = .ok (.getfield 80, 3) := dk_180 0 80 (dk_at dksX9_step_1 5 rfl rfl)
theorem dX9_step_32 : decode cX9_step 32 = .ok (.iload_n 1, 1) := dk_27 (dk_at dksX9_step_1 8 rfl rfl)
theorem dX9_step_33 : decode cX9_step 33 = .ok (.invokestatic 291, 3) := dk_184 1 35 (dk_at dksX9_step_1 9 rfl rfl)
theorem dX9_step_36 : decode cX9_step 36 = .ok (.iconst 1, 1) := dk_4 (dk_at dksX9_step_1 12 rfl rfl)
theorem dX9_step_37 : decode cX9_step 37 = .ok (.iadd, 1) := dk_96 (dk_at dksX9_step_1 13 rfl rfl)
theorem dX9_step_38 : decode cX9_step 38 = .ok (.iaload, 1) := dk_46 (dk_at dksX9_step_1 14 rfl rfl)
theorem dX9_step_39 : decode cX9_step 39 = .ok (.ireturn, 1) := dk_172 (dk_at dksX9_step_1 15 rfl rfl)
abbrev cX9_close : ByteArray := prog_20_method_93_code
def yX9_close : MethodName := ⟨RX9, "close", "(I)I"⟩
def dkwX9_close_0 : List UInt8 := [27, 184, 1, 189, 153, 0, 11, 42, 27, 182, 1, 4, 167, 0, 4, 2, 172]
abbrev dktX9_close_0 : List UInt8 := dkwX9_close_0 ++ []
theorem dksX9_close_0 : cX9_close.data.toList.drop 0 = dktX9_close_0 := by decide +kernel
theorem dX9_close_0 : decode cX9_close 0 = .ok (.iload_n 1, 1) := dk_27 (dk_at dksX9_close_0 0 rfl rfl)
theorem dX9_close_1 : decode cX9_close 1 = .ok (.invokestatic 445, 3) := dk_184 1 189 (dk_at dksX9_close_0 1 rfl rfl)
theorem dX9_close_4 : decode cX9_close 4 = .ok (.ifCond .eq 11, 3) := dk_153 0 11 (dk_at dksX9_close_0 4 rfl rfl)
theorem dX9_close_7 : decode cX9_close 7 = .ok (.aload_n 0, 1) := dk_42 (dk_at dksX9_close_0 7 rfl rfl)
theorem dX9_close_8 : decode cX9_close 8 = .ok (.iload_n 1, 1) := dk_27 (dk_at dksX9_close_0 8 rfl rfl)
theorem dX9_close_9 : decode cX9_close 9 = .ok (.invokevirtual 260, 3) := dk_182 1 4 (dk_at dksX9_close_0 9 rfl rfl)
theorem dX9_close_12 : decode cX9_close 12 = .ok (.goto 4, 3) := dk_167 0 4 (dk_at dksX9_close_0 12 rfl rfl)
theorem dX9_close_15 : decode cX9_close 15 = .ok (.iconst (-1), 1) := dk_2 (dk_at dksX9_close_0 15 rfl rfl)
theorem dX9_close_16 : decode cX9_close 16 = .ok (.ireturn, 1) := dk_172 (dk_at dksX9_close_0 16 rfl rfl)
abbrev cX9_sweep : ByteArray := prog_20_method_94_code
def yX9_sweep : MethodName := ⟨RX9, "sweep", "()I"⟩
theorem dX9_sweep_0 : decode cX9_sweep 0 = .ok (.aload_n 0, 1) := by decide +kernel
theorem dX9_sweep_1 : decode cX9_sweep 1 = .ok (.invokevirtual 263, 3) := by decide +kernel
theorem dX9_sweep_4 : decode cX9_sweep 4 = .ok (.ireturn, 1) := by decide +kernel
abbrev cX9_has : ByteArray := prog_20_method_96_code
def yX9_has : MethodName := ⟨RX9, "has", "(I)I"⟩
def dkwX9_has_1 : List UInt8 := [167, 0, 4, 4, 172]
abbrev dktX9_has_1 : List UInt8 := dkwX9_has_1 ++ []
def dkwX9_has_0 : List UInt8 := [27, 184, 1, 192, 154, 0, 5, 2, 172, 42, 182, 1, 10, 42, 27, 182, 1, 195, 156, 0, 7, 3]
abbrev dktX9_has_0 : List UInt8 := dkwX9_has_0 ++ dktX9_has_1
theorem dksX9_has_0 : cX9_has.data.toList.drop 0 = dktX9_has_0 := by decide +kernel
theorem dksX9_has_1 : cX9_has.data.toList.drop 22 = dktX9_has_1 := dk_seg dksX9_has_0 22 rfl rfl
theorem dX9_has_0 : decode cX9_has 0 = .ok (.iload_n 1, 1) := dk_27 (dk_at dksX9_has_0 0 rfl rfl)
theorem dX9_has_1 : decode cX9_has 1 = .ok (.invokestatic 448, 3) := dk_184 1 192 (dk_at dksX9_has_0 1 rfl rfl)
theorem dX9_has_4 : decode cX9_has 4 = .ok (.ifCond .ne 5, 3) := dk_154 0 5 (dk_at dksX9_has_0 4 rfl rfl)
theorem dX9_has_7 : decode cX9_has 7 = .ok (.iconst (-1), 1) := dk_2 (dk_at dksX9_has_0 7 rfl rfl)
theorem dX9_has_8 : decode cX9_has 8 = .ok (.ireturn, 1) := dk_172 (dk_at dksX9_has_0 8 rfl rfl)
theorem dX9_has_9 : decode cX9_has 9 = .ok (.aload_n 0, 1) := dk_42 (dk_at dksX9_has_0 9 rfl rfl)
theorem dX9_has_10 : decode cX9_has 10 = .ok (.invokevirtual 266, 3) := dk_182 1 10 (dk_at dksX9_has_0 10 rfl rfl)
theorem dX9_has_13 : decode cX9_has 13 = .ok (.aload_n 0, 1) := dk_42 (dk_at dksX9_has_0 13 rfl rfl)
theorem dX9_has_14 : decode cX9_has 14 = .ok (.iload_n 1, 1) := dk_27 (dk_at dksX9_has_0 14 rfl rfl)
theorem dX9_has_15 : decode cX9_has 15 = .ok (.invokevirtual 451, 3) := dk_182 1 195 (dk_at dksX9_has_0 15 rfl rfl)
theorem dX9_has_18 : decode cX9_has 18 = .ok (.ifCond .ge 7, 3) := dk_156 0 7 (dk_at dksX9_has_0 18 rfl rfl)
theorem dX9_has_21 : decode cX9_has 21 = .ok (.iconst 0, 1) := dk_3 (dk_at dksX9_has_0 21 rfl rfl)
theorem dX9_has_22 : decode cX9_has 22 = .ok (.goto 4, 3) := dk_167 0 4 (dk_at dksX9_has_1 0 rfl rfl)
theorem dX9_has_25 : decode cX9_has 25 = .ok (.iconst 1, 1) := dk_4 (dk_at dksX9_has_1 3 rfl rfl)
theorem dX9_has_26 : decode cX9_has 26 = .ok (.ireturn, 1) := dk_172 (dk_at dksX9_has_1 4 rfl rfl)
abbrev cX9_allAt : ByteArray := prog_20_method_95_code
def yX9_allAt : MethodName := ⟨RX9, "allAt", "(I)I"⟩
def dkwX9_allAt_1 : List UInt8 := [132, 2, 1, 167, 255, 233, 2, 172]
abbrev dktX9_allAt_1 : List UInt8 := dkwX9_allAt_1 ++ []
def dkwX9_allAt_0 : List UInt8 := [3, 61, 28, 42, 180, 1, 13, 162, 0, 21, 42, 180, 0, 98, 28, 46, 27, 160, 0, 5, 28, 172]
abbrev dktX9_allAt_0 : List UInt8 := dkwX9_allAt_0 ++ dktX9_allAt_1
theorem dksX9_allAt_0 : cX9_allAt.data.toList.drop 0 = dktX9_allAt_0 := by decide +kernel
theorem dksX9_allAt_1 : cX9_allAt.data.toList.drop 22 = dktX9_allAt_1 := dk_seg dksX9_allAt_0 22 rfl rfl
theorem dX9_allAt_0 : decode cX9_allAt 0 = .ok (.iconst 0, 1) := dk_3 (dk_at dksX9_allAt_0 0 rfl rfl)
theorem dX9_allAt_1 : decode cX9_allAt 1 = .ok (.istore_n 2, 1) := dk_61 (dk_at dksX9_allAt_0 1 rfl rfl)
theorem dX9_allAt_2 : decode cX9_allAt 2 = .ok (.iload_n 2, 1) := dk_28 (dk_at dksX9_allAt_0 2 rfl rfl)
theorem dX9_allAt_3 : decode cX9_allAt 3 = .ok (.aload_n 0, 1) := dk_42 (dk_at dksX9_allAt_0 3 rfl rfl)
theorem dX9_allAt_4 : decode cX9_allAt 4 = .ok (.getfield 269, 3) := dk_180 1 13 (dk_at dksX9_allAt_0 4 rfl rfl)
theorem dX9_allAt_7 : decode cX9_allAt 7 = .ok (.if_icmp .ge 21, 3) := dk_162 0 21 (dk_at dksX9_allAt_0 7 rfl rfl)
theorem dX9_allAt_10 : decode cX9_allAt 10 = .ok (.aload_n 0, 1) := dk_42 (dk_at dksX9_allAt_0 10 rfl rfl)
theorem dX9_allAt_11 : decode cX9_allAt 11 = .ok (.getfield 98, 3) := dk_180 0 98 (dk_at dksX9_allAt_0 11 rfl rfl)
theorem dX9_allAt_14 : decode cX9_allAt 14 = .ok (.iload_n 2, 1) := dk_28 (dk_at dksX9_allAt_0 14 rfl rfl)
theorem dX9_allAt_15 : decode cX9_allAt 15 = .ok (.iaload, 1) := dk_46 (dk_at dksX9_allAt_0 15 rfl rfl)
theorem dX9_allAt_16 : decode cX9_allAt 16 = .ok (.iload_n 1, 1) := dk_27 (dk_at dksX9_allAt_0 16 rfl rfl)
theorem dX9_allAt_17 : decode cX9_allAt 17 = .ok (.if_icmp .ne 5, 3) := dk_160 0 5 (dk_at dksX9_allAt_0 17 rfl rfl)
theorem dX9_allAt_20 : decode cX9_allAt 20 = .ok (.iload_n 2, 1) := dk_28 (dk_at dksX9_allAt_0 20 rfl rfl)
theorem dX9_allAt_21 : decode cX9_allAt 21 = .ok (.ireturn, 1) := dk_172 (dk_at dksX9_allAt_0 21 rfl rfl)
theorem dX9_allAt_22 : decode cX9_allAt 22 = .ok (.iinc 2 1, 3) := dk_132 2 1 (dk_at dksX9_allAt_1 0 rfl rfl)
theorem dX9_allAt_25 : decode cX9_allAt 25 = .ok (.goto (-23), 3) := dk_167 255 233 (dk_at dksX9_allAt_1 3 rfl rfl)
theorem dX9_allAt_28 : decode cX9_allAt 28 = .ok (.iconst (-1), 1) := dk_2 (dk_at dksX9_allAt_1 6 rfl rfl)
theorem dX9_allAt_29 : decode cX9_allAt 29 = .ok (.ireturn, 1) := dk_172 (dk_at dksX9_allAt_1 7 rfl rfl)
abbrev cX9_value : ByteArray := prog_20_method_97_code
def yX9_value : MethodName := ⟨RX9, "value", "(I)I"⟩
def dkwX9_value_1 : List UInt8 := [167, 0, 13, 42, 180, 0, 101, 42, 27, 182, 1, 195, 46, 172]
abbrev dktX9_value_1 : List UInt8 := dkwX9_value_1 ++ []
def dkwX9_value_0 : List UInt8 := [27, 184, 1, 192, 154, 0, 5, 3, 172, 42, 182, 1, 10, 42, 27, 182, 1, 195, 156, 0, 7, 3]
abbrev dktX9_value_0 : List UInt8 := dkwX9_value_0 ++ dktX9_value_1
theorem dksX9_value_0 : cX9_value.data.toList.drop 0 = dktX9_value_0 := by decide +kernel
theorem dksX9_value_1 : cX9_value.data.toList.drop 22 = dktX9_value_1 := dk_seg dksX9_value_0 22 rfl rfl
theorem dX9_value_0 : decode cX9_value 0 = .ok (.iload_n 1, 1) := dk_27 (dk_at dksX9_value_0 0 rfl rfl)
theorem dX9_value_1 : decode cX9_value 1 = .ok (.invokestatic 448, 3) := dk_184 1 192 (dk_at dksX9_value_0 1 rfl rfl)
theorem dX9_value_4 : decode cX9_value 4 = .ok (.ifCond .ne 5, 3) := dk_154 0 5 (dk_at dksX9_value_0 4 rfl rfl)
theorem dX9_value_7 : decode cX9_value 7 = .ok (.iconst 0, 1) := dk_3 (dk_at dksX9_value_0 7 rfl rfl)
theorem dX9_value_8 : decode cX9_value 8 = .ok (.ireturn, 1) := dk_172 (dk_at dksX9_value_0 8 rfl rfl)
theorem dX9_value_9 : decode cX9_value 9 = .ok (.aload_n 0, 1) := dk_42 (dk_at dksX9_value_0 9 rfl rfl)
theorem dX9_value_10 : decode cX9_value 10 = .ok (.invokevirtual 266, 3) := dk_182 1 10 (dk_at dksX9_value_0 10 rfl rfl)
theorem dX9_value_13 : decode cX9_value 13 = .ok (.aload_n 0, 1) := dk_42 (dk_at dksX9_value_0 13 rfl rfl)
theorem dX9_value_14 : decode cX9_value 14 = .ok (.iload_n 1, 1) := dk_27 (dk_at dksX9_value_0 14 rfl rfl)
theorem dX9_value_15 : decode cX9_value 15 = .ok (.invokevirtual 451, 3) := dk_182 1 195 (dk_at dksX9_value_0 15 rfl rfl)
theorem dX9_value_18 : decode cX9_value 18 = .ok (.ifCond .ge 7, 3) := dk_156 0 7 (dk_at dksX9_value_0 18 rfl rfl)
theorem dX9_value_21 : decode cX9_value 21 = .ok (.iconst 0, 1) := dk_3 (dk_at dksX9_value_0 21 rfl rfl)
theorem dX9_value_22 : decode cX9_value 22 = .ok (.goto 13, 3) := dk_167 0 13 (dk_at dksX9_value_1 0 rfl rfl)
theorem dX9_value_25 : decode cX9_value 25 = .ok (.aload_n 0, 1) := dk_42 (dk_at dksX9_value_1 3 rfl rfl)
theorem dX9_value_26 : decode cX9_value 26 = .ok (.getfield 101, 3) := dk_180 0 101 (dk_at dksX9_value_1 4 rfl rfl)
theorem dX9_value_29 : decode cX9_value 29 = .ok (.aload_n 0, 1) := dk_42 (dk_at dksX9_value_1 7 rfl rfl)
theorem dX9_value_30 : decode cX9_value 30 = .ok (.iload_n 1, 1) := dk_27 (dk_at dksX9_value_1 8 rfl rfl)
theorem dX9_value_31 : decode cX9_value 31 = .ok (.invokevirtual 451, 3) := dk_182 1 195 (dk_at dksX9_value_1 9 rfl rfl)
theorem dX9_value_34 : decode cX9_value 34 = .ok (.iaload, 1) := dk_46 (dk_at dksX9_value_1 12 rfl rfl)
theorem dX9_value_35 : decode cX9_value 35 = .ok (.ireturn, 1) := dk_172 (dk_at dksX9_value_1 13 rfl rfl)
abbrev cX9_many : ByteArray := prog_20_method_98_code
def yX9_many : MethodName := ⟨RX9, "many", "(II)I"⟩
def dkwX9_many_2 : List UInt8 := [153, 0, 6, 132, 3, 1, 132, 4, 1, 167, 255, 226, 29, 172]
abbrev dktX9_many_2 : List UInt8 := dkwX9_many_2 ++ []
def dkwX9_many_1 : List UInt8 := [54, 4, 21, 4, 42, 180, 1, 13, 162, 0, 27, 42, 180, 0, 98, 21, 4, 46, 27, 28, 184, 1, 185]
abbrev dktX9_many_1 : List UInt8 := dkwX9_many_1 ++ dktX9_many_2
def dkwX9_many_0 : List UInt8 := [27, 184, 1, 192, 153, 0, 10, 28, 184, 1, 192, 154, 0, 5, 2, 172, 42, 182, 1, 10, 3, 62, 3]
abbrev dktX9_many_0 : List UInt8 := dkwX9_many_0 ++ dktX9_many_1
theorem dksX9_many_0 : cX9_many.data.toList.drop 0 = dktX9_many_0 := by decide +kernel
theorem dksX9_many_1 : cX9_many.data.toList.drop 23 = dktX9_many_1 := dk_seg dksX9_many_0 23 rfl rfl
theorem dksX9_many_2 : cX9_many.data.toList.drop 46 = dktX9_many_2 := dk_seg dksX9_many_1 23 rfl rfl
theorem dX9_many_0 : decode cX9_many 0 = .ok (.iload_n 1, 1) := dk_27 (dk_at dksX9_many_0 0 rfl rfl)
theorem dX9_many_1 : decode cX9_many 1 = .ok (.invokestatic 448, 3) := dk_184 1 192 (dk_at dksX9_many_0 1 rfl rfl)
theorem dX9_many_4 : decode cX9_many 4 = .ok (.ifCond .eq 10, 3) := dk_153 0 10 (dk_at dksX9_many_0 4 rfl rfl)
theorem dX9_many_7 : decode cX9_many 7 = .ok (.iload_n 2, 1) := dk_28 (dk_at dksX9_many_0 7 rfl rfl)
theorem dX9_many_8 : decode cX9_many 8 = .ok (.invokestatic 448, 3) := dk_184 1 192 (dk_at dksX9_many_0 8 rfl rfl)
theorem dX9_many_11 : decode cX9_many 11 = .ok (.ifCond .ne 5, 3) := dk_154 0 5 (dk_at dksX9_many_0 11 rfl rfl)
theorem dX9_many_14 : decode cX9_many 14 = .ok (.iconst (-1), 1) := dk_2 (dk_at dksX9_many_0 14 rfl rfl)
theorem dX9_many_15 : decode cX9_many 15 = .ok (.ireturn, 1) := dk_172 (dk_at dksX9_many_0 15 rfl rfl)
theorem dX9_many_16 : decode cX9_many 16 = .ok (.aload_n 0, 1) := dk_42 (dk_at dksX9_many_0 16 rfl rfl)
theorem dX9_many_17 : decode cX9_many 17 = .ok (.invokevirtual 266, 3) := dk_182 1 10 (dk_at dksX9_many_0 17 rfl rfl)
theorem dX9_many_20 : decode cX9_many 20 = .ok (.iconst 0, 1) := dk_3 (dk_at dksX9_many_0 20 rfl rfl)
theorem dX9_many_21 : decode cX9_many 21 = .ok (.istore_n 3, 1) := dk_62 (dk_at dksX9_many_0 21 rfl rfl)
theorem dX9_many_22 : decode cX9_many 22 = .ok (.iconst 0, 1) := dk_3 (dk_at dksX9_many_0 22 rfl rfl)
theorem dX9_many_23 : decode cX9_many 23 = .ok (.istore 4, 2) := dk_54 4 (dk_at dksX9_many_1 0 rfl rfl)
theorem dX9_many_25 : decode cX9_many 25 = .ok (.iload 4, 2) := dk_21 4 (dk_at dksX9_many_1 2 rfl rfl)
theorem dX9_many_27 : decode cX9_many 27 = .ok (.aload_n 0, 1) := dk_42 (dk_at dksX9_many_1 4 rfl rfl)
theorem dX9_many_28 : decode cX9_many 28 = .ok (.getfield 269, 3) := dk_180 1 13 (dk_at dksX9_many_1 5 rfl rfl)
theorem dX9_many_31 : decode cX9_many 31 = .ok (.if_icmp .ge 27, 3) := dk_162 0 27 (dk_at dksX9_many_1 8 rfl rfl)
theorem dX9_many_34 : decode cX9_many 34 = .ok (.aload_n 0, 1) := dk_42 (dk_at dksX9_many_1 11 rfl rfl)
theorem dX9_many_35 : decode cX9_many 35 = .ok (.getfield 98, 3) := dk_180 0 98 (dk_at dksX9_many_1 12 rfl rfl)
theorem dX9_many_38 : decode cX9_many 38 = .ok (.iload 4, 2) := dk_21 4 (dk_at dksX9_many_1 15 rfl rfl)
theorem dX9_many_40 : decode cX9_many 40 = .ok (.iaload, 1) := dk_46 (dk_at dksX9_many_1 17 rfl rfl)
theorem dX9_many_41 : decode cX9_many 41 = .ok (.iload_n 1, 1) := dk_27 (dk_at dksX9_many_1 18 rfl rfl)
theorem dX9_many_42 : decode cX9_many 42 = .ok (.iload_n 2, 1) := dk_28 (dk_at dksX9_many_1 19 rfl rfl)
theorem dX9_many_43 : decode cX9_many 43 = .ok (.invokestatic 441, 3) := dk_184 1 185 (dk_at dksX9_many_1 20 rfl rfl)
theorem dX9_many_46 : decode cX9_many 46 = .ok (.ifCond .eq 6, 3) := dk_153 0 6 (dk_at dksX9_many_2 0 rfl rfl)
theorem dX9_many_49 : decode cX9_many 49 = .ok (.iinc 3 1, 3) := dk_132 3 1 (dk_at dksX9_many_2 3 rfl rfl)
theorem dX9_many_52 : decode cX9_many 52 = .ok (.iinc 4 1, 3) := dk_132 4 1 (dk_at dksX9_many_2 6 rfl rfl)
theorem dX9_many_55 : decode cX9_many 55 = .ok (.goto (-30), 3) := dk_167 255 226 (dk_at dksX9_many_2 9 rfl rfl)
theorem dX9_many_58 : decode cX9_many 58 = .ok (.iload_n 3, 1) := dk_29 (dk_at dksX9_many_2 12 rfl rfl)
theorem dX9_many_59 : decode cX9_many 59 = .ok (.ireturn, 1) := dk_172 (dk_at dksX9_many_2 13 rfl rfl)
abbrev cX9_sum : ByteArray := prog_20_method_99_code
def yX9_sum : MethodName := ⟨RX9, "sum", "(II)I"⟩
def dkwX9_sum_2 : List UInt8 := [153, 0, 13, 29, 42, 180, 0, 101, 21, 4, 46, 96, 62, 132, 4, 1, 167, 255, 219, 29, 172]
abbrev dktX9_sum_2 : List UInt8 := dkwX9_sum_2 ++ []
def dkwX9_sum_1 : List UInt8 := [54, 4, 21, 4, 42, 180, 1, 13, 162, 0, 34, 42, 180, 0, 98, 21, 4, 46, 27, 28, 184, 1, 185]
abbrev dktX9_sum_1 : List UInt8 := dkwX9_sum_1 ++ dktX9_sum_2
def dkwX9_sum_0 : List UInt8 := [27, 184, 1, 192, 153, 0, 10, 28, 184, 1, 192, 154, 0, 5, 3, 172, 42, 182, 1, 10, 3, 62, 3]
abbrev dktX9_sum_0 : List UInt8 := dkwX9_sum_0 ++ dktX9_sum_1
theorem dksX9_sum_0 : cX9_sum.data.toList.drop 0 = dktX9_sum_0 := by decide +kernel
theorem dksX9_sum_1 : cX9_sum.data.toList.drop 23 = dktX9_sum_1 := dk_seg dksX9_sum_0 23 rfl rfl
theorem dksX9_sum_2 : cX9_sum.data.toList.drop 46 = dktX9_sum_2 := dk_seg dksX9_sum_1 23 rfl rfl
theorem dX9_sum_0 : decode cX9_sum 0 = .ok (.iload_n 1, 1) := dk_27 (dk_at dksX9_sum_0 0 rfl rfl)
theorem dX9_sum_1 : decode cX9_sum 1 = .ok (.invokestatic 448, 3) := dk_184 1 192 (dk_at dksX9_sum_0 1 rfl rfl)
theorem dX9_sum_4 : decode cX9_sum 4 = .ok (.ifCond .eq 10, 3) := dk_153 0 10 (dk_at dksX9_sum_0 4 rfl rfl)
theorem dX9_sum_7 : decode cX9_sum 7 = .ok (.iload_n 2, 1) := dk_28 (dk_at dksX9_sum_0 7 rfl rfl)
theorem dX9_sum_8 : decode cX9_sum 8 = .ok (.invokestatic 448, 3) := dk_184 1 192 (dk_at dksX9_sum_0 8 rfl rfl)
theorem dX9_sum_11 : decode cX9_sum 11 = .ok (.ifCond .ne 5, 3) := dk_154 0 5 (dk_at dksX9_sum_0 11 rfl rfl)
theorem dX9_sum_14 : decode cX9_sum 14 = .ok (.iconst 0, 1) := dk_3 (dk_at dksX9_sum_0 14 rfl rfl)
theorem dX9_sum_15 : decode cX9_sum 15 = .ok (.ireturn, 1) := dk_172 (dk_at dksX9_sum_0 15 rfl rfl)
theorem dX9_sum_16 : decode cX9_sum 16 = .ok (.aload_n 0, 1) := dk_42 (dk_at dksX9_sum_0 16 rfl rfl)
theorem dX9_sum_17 : decode cX9_sum 17 = .ok (.invokevirtual 266, 3) := dk_182 1 10 (dk_at dksX9_sum_0 17 rfl rfl)
theorem dX9_sum_20 : decode cX9_sum 20 = .ok (.iconst 0, 1) := dk_3 (dk_at dksX9_sum_0 20 rfl rfl)
theorem dX9_sum_21 : decode cX9_sum 21 = .ok (.istore_n 3, 1) := dk_62 (dk_at dksX9_sum_0 21 rfl rfl)
theorem dX9_sum_22 : decode cX9_sum 22 = .ok (.iconst 0, 1) := dk_3 (dk_at dksX9_sum_0 22 rfl rfl)
theorem dX9_sum_23 : decode cX9_sum 23 = .ok (.istore 4, 2) := dk_54 4 (dk_at dksX9_sum_1 0 rfl rfl)
theorem dX9_sum_25 : decode cX9_sum 25 = .ok (.iload 4, 2) := dk_21 4 (dk_at dksX9_sum_1 2 rfl rfl)
theorem dX9_sum_27 : decode cX9_sum 27 = .ok (.aload_n 0, 1) := dk_42 (dk_at dksX9_sum_1 4 rfl rfl)
theorem dX9_sum_28 : decode cX9_sum 28 = .ok (.getfield 269, 3) := dk_180 1 13 (dk_at dksX9_sum_1 5 rfl rfl)
theorem dX9_sum_31 : decode cX9_sum 31 = .ok (.if_icmp .ge 34, 3) := dk_162 0 34 (dk_at dksX9_sum_1 8 rfl rfl)
theorem dX9_sum_34 : decode cX9_sum 34 = .ok (.aload_n 0, 1) := dk_42 (dk_at dksX9_sum_1 11 rfl rfl)
theorem dX9_sum_35 : decode cX9_sum 35 = .ok (.getfield 98, 3) := dk_180 0 98 (dk_at dksX9_sum_1 12 rfl rfl)
theorem dX9_sum_38 : decode cX9_sum 38 = .ok (.iload 4, 2) := dk_21 4 (dk_at dksX9_sum_1 15 rfl rfl)
theorem dX9_sum_40 : decode cX9_sum 40 = .ok (.iaload, 1) := dk_46 (dk_at dksX9_sum_1 17 rfl rfl)
theorem dX9_sum_41 : decode cX9_sum 41 = .ok (.iload_n 1, 1) := dk_27 (dk_at dksX9_sum_1 18 rfl rfl)
theorem dX9_sum_42 : decode cX9_sum 42 = .ok (.iload_n 2, 1) := dk_28 (dk_at dksX9_sum_1 19 rfl rfl)
theorem dX9_sum_43 : decode cX9_sum 43 = .ok (.invokestatic 441, 3) := dk_184 1 185 (dk_at dksX9_sum_1 20 rfl rfl)
theorem dX9_sum_46 : decode cX9_sum 46 = .ok (.ifCond .eq 13, 3) := dk_153 0 13 (dk_at dksX9_sum_2 0 rfl rfl)
theorem dX9_sum_49 : decode cX9_sum 49 = .ok (.iload_n 3, 1) := dk_29 (dk_at dksX9_sum_2 3 rfl rfl)
theorem dX9_sum_50 : decode cX9_sum 50 = .ok (.aload_n 0, 1) := dk_42 (dk_at dksX9_sum_2 4 rfl rfl)
theorem dX9_sum_51 : decode cX9_sum 51 = .ok (.getfield 101, 3) := dk_180 0 101 (dk_at dksX9_sum_2 5 rfl rfl)
theorem dX9_sum_54 : decode cX9_sum 54 = .ok (.iload 4, 2) := dk_21 4 (dk_at dksX9_sum_2 8 rfl rfl)
theorem dX9_sum_56 : decode cX9_sum 56 = .ok (.iaload, 1) := dk_46 (dk_at dksX9_sum_2 10 rfl rfl)
theorem dX9_sum_57 : decode cX9_sum 57 = .ok (.iadd, 1) := dk_96 (dk_at dksX9_sum_2 11 rfl rfl)
theorem dX9_sum_58 : decode cX9_sum 58 = .ok (.istore_n 3, 1) := dk_62 (dk_at dksX9_sum_2 12 rfl rfl)
theorem dX9_sum_59 : decode cX9_sum 59 = .ok (.iinc 4 1, 3) := dk_132 4 1 (dk_at dksX9_sum_2 13 rfl rfl)
theorem dX9_sum_62 : decode cX9_sum 62 = .ok (.goto (-37), 3) := dk_167 255 219 (dk_at dksX9_sum_2 16 rfl rfl)
theorem dX9_sum_65 : decode cX9_sum 65 = .ok (.iload_n 3, 1) := dk_29 (dk_at dksX9_sum_2 19 rfl rfl)
theorem dX9_sum_66 : decode cX9_sum 66 = .ok (.ireturn, 1) := dk_172 (dk_at dksX9_sum_2 20 rfl rfl)
abbrev cX9_nth : ByteArray := prog_20_method_100_code
def yX9_nth : MethodName := ⟨RX9, "nth", "(I)I"⟩
def dkwX9_nth_1 : List UInt8 := [167, 0, 5, 16, 254, 172]
abbrev dktX9_nth_1 : List UInt8 := dkwX9_nth_1 ++ []
def dkwX9_nth_0 : List UInt8 := [27, 156, 0, 5, 2, 172, 42, 182, 1, 10, 27, 42, 180, 1, 13, 162, 0, 12, 42, 180, 0, 98, 27, 46]
abbrev dktX9_nth_0 : List UInt8 := dkwX9_nth_0 ++ dktX9_nth_1
theorem dksX9_nth_0 : cX9_nth.data.toList.drop 0 = dktX9_nth_0 := by decide +kernel
theorem dksX9_nth_1 : cX9_nth.data.toList.drop 24 = dktX9_nth_1 := dk_seg dksX9_nth_0 24 rfl rfl
theorem dX9_nth_0 : decode cX9_nth 0 = .ok (.iload_n 1, 1) := dk_27 (dk_at dksX9_nth_0 0 rfl rfl)
theorem dX9_nth_1 : decode cX9_nth 1 = .ok (.ifCond .ge 5, 3) := dk_156 0 5 (dk_at dksX9_nth_0 1 rfl rfl)
theorem dX9_nth_4 : decode cX9_nth 4 = .ok (.iconst (-1), 1) := dk_2 (dk_at dksX9_nth_0 4 rfl rfl)
theorem dX9_nth_5 : decode cX9_nth 5 = .ok (.ireturn, 1) := dk_172 (dk_at dksX9_nth_0 5 rfl rfl)
theorem dX9_nth_6 : decode cX9_nth 6 = .ok (.aload_n 0, 1) := dk_42 (dk_at dksX9_nth_0 6 rfl rfl)
theorem dX9_nth_7 : decode cX9_nth 7 = .ok (.invokevirtual 266, 3) := dk_182 1 10 (dk_at dksX9_nth_0 7 rfl rfl)
theorem dX9_nth_10 : decode cX9_nth 10 = .ok (.iload_n 1, 1) := dk_27 (dk_at dksX9_nth_0 10 rfl rfl)
theorem dX9_nth_11 : decode cX9_nth 11 = .ok (.aload_n 0, 1) := dk_42 (dk_at dksX9_nth_0 11 rfl rfl)
theorem dX9_nth_12 : decode cX9_nth 12 = .ok (.getfield 269, 3) := dk_180 1 13 (dk_at dksX9_nth_0 12 rfl rfl)
theorem dX9_nth_15 : decode cX9_nth 15 = .ok (.if_icmp .ge 12, 3) := dk_162 0 12 (dk_at dksX9_nth_0 15 rfl rfl)
theorem dX9_nth_18 : decode cX9_nth 18 = .ok (.aload_n 0, 1) := dk_42 (dk_at dksX9_nth_0 18 rfl rfl)
theorem dX9_nth_19 : decode cX9_nth 19 = .ok (.getfield 98, 3) := dk_180 0 98 (dk_at dksX9_nth_0 19 rfl rfl)
theorem dX9_nth_22 : decode cX9_nth 22 = .ok (.iload_n 1, 1) := dk_27 (dk_at dksX9_nth_0 22 rfl rfl)
theorem dX9_nth_23 : decode cX9_nth 23 = .ok (.iaload, 1) := dk_46 (dk_at dksX9_nth_0 23 rfl rfl)
theorem dX9_nth_24 : decode cX9_nth 24 = .ok (.goto 5, 3) := dk_167 0 5 (dk_at dksX9_nth_1 0 rfl rfl)
theorem dX9_nth_27 : decode cX9_nth 27 = .ok (.bipush (-2), 2) := dk_16 254 (dk_at dksX9_nth_1 3 rfl rfl)
theorem dX9_nth_29 : decode cX9_nth 29 = .ok (.ireturn, 1) := dk_172 (dk_at dksX9_nth_1 5 rfl rfl)
abbrev cX9_page : ByteArray := prog_20_method_101_code
def yX9_page : MethodName := ⟨RX9, "page", "(II)I"⟩
def dkwX9_page_6 : List UInt8 := [167, 0, 4, 3, 172, 2, 172]
abbrev dktX9_page_6 : List UInt8 := dkwX9_page_6 ++ []
def dkwX9_page_5 : List UInt8 := [154, 0, 7, 27, 154, 0, 8, 16, 254, 167, 0, 7, 42, 180, 1, 71, 172, 29, 153, 0, 7, 4]
abbrev dktX9_page_5 : List UInt8 := dkwX9_page_5 ++ dktX9_page_6
def dkwX9_page_4 : List UInt8 := [180, 1, 53, 172, 29, 154, 0, 7, 27, 154, 0, 7, 3, 167, 0, 7, 42, 180, 1, 68, 172, 29]
abbrev dktX9_page_4 : List UInt8 := dkwX9_page_4 ++ dktX9_page_5
def dkwX9_page_3 : List UInt8 := [42, 27, 182, 1, 44, 172, 42, 180, 1, 47, 4, 100, 172, 29, 153, 0, 7, 3, 167, 0, 7, 42]
abbrev dktX9_page_3 : List UInt8 := dkwX9_page_3 ++ dktX9_page_4
def dkwX9_page_2 : List UInt8 := [170, 0, 0, 0, 0, 109, 0, 0, 0, 0, 0, 0, 0, 5, 0, 0, 0, 38, 0, 0, 0, 44, 0, 0, 0, 51, 0, 0, 0, 64, 0, 0, 0, 81, 0, 0, 0, 99]
abbrev dktX9_page_2 : List UInt8 := dkwX9_page_2 ++ dktX9_page_3
def dkwX9_page_1 : List UInt8 := [27, 182, 1, 95, 62, 28]
abbrev dktX9_page_1 : List UInt8 := dkwX9_page_1 ++ dktX9_page_2
def dkwX9_page_0 : List UInt8 := [27, 3, 42, 180, 0, 80, 4, 46, 4, 100, 184, 1, 185, 154, 0, 5, 2, 172, 42, 27, 182, 1, 83, 42]
abbrev dktX9_page_0 : List UInt8 := dkwX9_page_0 ++ dktX9_page_1
theorem dksX9_page_0 : cX9_page.data.toList.drop 0 = dktX9_page_0 := by decide +kernel
theorem dksX9_page_1 : cX9_page.data.toList.drop 24 = dktX9_page_1 := dk_seg dksX9_page_0 24 rfl rfl
theorem dksX9_page_2 : cX9_page.data.toList.drop 30 = dktX9_page_2 := dk_seg dksX9_page_1 6 rfl rfl
theorem dksX9_page_3 : cX9_page.data.toList.drop 68 = dktX9_page_3 := dk_seg dksX9_page_2 38 rfl rfl
theorem dksX9_page_4 : cX9_page.data.toList.drop 90 = dktX9_page_4 := dk_seg dksX9_page_3 22 rfl rfl
theorem dksX9_page_5 : cX9_page.data.toList.drop 112 = dktX9_page_5 := dk_seg dksX9_page_4 22 rfl rfl
theorem dksX9_page_6 : cX9_page.data.toList.drop 134 = dktX9_page_6 := dk_seg dksX9_page_5 22 rfl rfl
theorem dX9_page_0 : decode cX9_page 0 = .ok (.iload_n 1, 1) := dk_27 (dk_at dksX9_page_0 0 rfl rfl)
theorem dX9_page_1 : decode cX9_page 1 = .ok (.iconst 0, 1) := dk_3 (dk_at dksX9_page_0 1 rfl rfl)
theorem dX9_page_2 : decode cX9_page 2 = .ok (.aload_n 0, 1) := dk_42 (dk_at dksX9_page_0 2 rfl rfl)
theorem dX9_page_3 : decode cX9_page 3 = .ok (.getfield 80, 3) := dk_180 0 80 (dk_at dksX9_page_0 3 rfl rfl)
theorem dX9_page_6 : decode cX9_page 6 = .ok (.iconst 1, 1) := dk_4 (dk_at dksX9_page_0 6 rfl rfl)
theorem dX9_page_7 : decode cX9_page 7 = .ok (.iaload, 1) := dk_46 (dk_at dksX9_page_0 7 rfl rfl)
theorem dX9_page_8 : decode cX9_page 8 = .ok (.iconst 1, 1) := dk_4 (dk_at dksX9_page_0 8 rfl rfl)
theorem dX9_page_9 : decode cX9_page 9 = .ok (.isub, 1) := dk_100 (dk_at dksX9_page_0 9 rfl rfl)
theorem dX9_page_10 : decode cX9_page 10 = .ok (.invokestatic 441, 3) := dk_184 1 185 (dk_at dksX9_page_0 10 rfl rfl)
theorem dX9_page_13 : decode cX9_page 13 = .ok (.ifCond .ne 5, 3) := dk_154 0 5 (dk_at dksX9_page_0 13 rfl rfl)
theorem dX9_page_16 : decode cX9_page 16 = .ok (.iconst (-1), 1) := dk_2 (dk_at dksX9_page_0 16 rfl rfl)
theorem dX9_page_17 : decode cX9_page 17 = .ok (.ireturn, 1) := dk_172 (dk_at dksX9_page_0 17 rfl rfl)
theorem dX9_page_18 : decode cX9_page 18 = .ok (.aload_n 0, 1) := dk_42 (dk_at dksX9_page_0 18 rfl rfl)
theorem dX9_page_19 : decode cX9_page 19 = .ok (.iload_n 1, 1) := dk_27 (dk_at dksX9_page_0 19 rfl rfl)
theorem dX9_page_20 : decode cX9_page 20 = .ok (.invokevirtual 339, 3) := dk_182 1 83 (dk_at dksX9_page_0 20 rfl rfl)
theorem dX9_page_23 : decode cX9_page 23 = .ok (.aload_n 0, 1) := dk_42 (dk_at dksX9_page_0 23 rfl rfl)
theorem dX9_page_24 : decode cX9_page 24 = .ok (.iload_n 1, 1) := dk_27 (dk_at dksX9_page_1 0 rfl rfl)
theorem dX9_page_25 : decode cX9_page 25 = .ok (.invokevirtual 351, 3) := dk_182 1 95 (dk_at dksX9_page_1 1 rfl rfl)
theorem dX9_page_28 : decode cX9_page 28 = .ok (.istore_n 3, 1) := dk_62 (dk_at dksX9_page_1 4 rfl rfl)
theorem dX9_page_29 : decode cX9_page 29 = .ok (.iload_n 2, 1) := dk_28 (dk_at dksX9_page_1 5 rfl rfl)
theorem dX9_page_30 : decode cX9_page 30 = .ok (.tableswitch 109 0 5 #[38, 44, 51, 64, 81, 99], 38) := by decide +kernel
theorem dX9_page_68 : decode cX9_page 68 = .ok (.aload_n 0, 1) := dk_42 (dk_at dksX9_page_3 0 rfl rfl)
theorem dX9_page_69 : decode cX9_page 69 = .ok (.iload_n 1, 1) := dk_27 (dk_at dksX9_page_3 1 rfl rfl)
theorem dX9_page_70 : decode cX9_page 70 = .ok (.invokevirtual 300, 3) := dk_182 1 44 (dk_at dksX9_page_3 2 rfl rfl)
theorem dX9_page_73 : decode cX9_page 73 = .ok (.ireturn, 1) := dk_172 (dk_at dksX9_page_3 5 rfl rfl)
theorem dX9_page_74 : decode cX9_page 74 = .ok (.aload_n 0, 1) := dk_42 (dk_at dksX9_page_3 6 rfl rfl)
theorem dX9_page_75 : decode cX9_page 75 = .ok (.getfield 303, 3) := dk_180 1 47 (dk_at dksX9_page_3 7 rfl rfl)
theorem dX9_page_78 : decode cX9_page 78 = .ok (.iconst 1, 1) := dk_4 (dk_at dksX9_page_3 10 rfl rfl)
theorem dX9_page_79 : decode cX9_page 79 = .ok (.isub, 1) := dk_100 (dk_at dksX9_page_3 11 rfl rfl)
theorem dX9_page_80 : decode cX9_page 80 = .ok (.ireturn, 1) := dk_172 (dk_at dksX9_page_3 12 rfl rfl)
theorem dX9_page_81 : decode cX9_page 81 = .ok (.iload_n 3, 1) := dk_29 (dk_at dksX9_page_3 13 rfl rfl)
theorem dX9_page_82 : decode cX9_page 82 = .ok (.ifCond .eq 7, 3) := dk_153 0 7 (dk_at dksX9_page_3 14 rfl rfl)
theorem dX9_page_85 : decode cX9_page 85 = .ok (.iconst 0, 1) := dk_3 (dk_at dksX9_page_3 17 rfl rfl)
theorem dX9_page_86 : decode cX9_page 86 = .ok (.goto 7, 3) := dk_167 0 7 (dk_at dksX9_page_3 18 rfl rfl)
theorem dX9_page_89 : decode cX9_page 89 = .ok (.aload_n 0, 1) := dk_42 (dk_at dksX9_page_3 21 rfl rfl)
theorem dX9_page_90 : decode cX9_page 90 = .ok (.getfield 309, 3) := dk_180 1 53 (dk_at dksX9_page_4 0 rfl rfl)
theorem dX9_page_93 : decode cX9_page 93 = .ok (.ireturn, 1) := dk_172 (dk_at dksX9_page_4 3 rfl rfl)
theorem dX9_page_94 : decode cX9_page 94 = .ok (.iload_n 3, 1) := dk_29 (dk_at dksX9_page_4 4 rfl rfl)
theorem dX9_page_95 : decode cX9_page 95 = .ok (.ifCond .ne 7, 3) := dk_154 0 7 (dk_at dksX9_page_4 5 rfl rfl)
theorem dX9_page_98 : decode cX9_page 98 = .ok (.iload_n 1, 1) := dk_27 (dk_at dksX9_page_4 8 rfl rfl)
theorem dX9_page_99 : decode cX9_page 99 = .ok (.ifCond .ne 7, 3) := dk_154 0 7 (dk_at dksX9_page_4 9 rfl rfl)
theorem dX9_page_102 : decode cX9_page 102 = .ok (.iconst 0, 1) := dk_3 (dk_at dksX9_page_4 12 rfl rfl)
theorem dX9_page_103 : decode cX9_page 103 = .ok (.goto 7, 3) := dk_167 0 7 (dk_at dksX9_page_4 13 rfl rfl)
theorem dX9_page_106 : decode cX9_page 106 = .ok (.aload_n 0, 1) := dk_42 (dk_at dksX9_page_4 16 rfl rfl)
theorem dX9_page_107 : decode cX9_page 107 = .ok (.getfield 324, 3) := dk_180 1 68 (dk_at dksX9_page_4 17 rfl rfl)
theorem dX9_page_110 : decode cX9_page 110 = .ok (.ireturn, 1) := dk_172 (dk_at dksX9_page_4 20 rfl rfl)
theorem dX9_page_111 : decode cX9_page 111 = .ok (.iload_n 3, 1) := dk_29 (dk_at dksX9_page_4 21 rfl rfl)
theorem dX9_page_112 : decode cX9_page 112 = .ok (.ifCond .ne 7, 3) := dk_154 0 7 (dk_at dksX9_page_5 0 rfl rfl)
theorem dX9_page_115 : decode cX9_page 115 = .ok (.iload_n 1, 1) := dk_27 (dk_at dksX9_page_5 3 rfl rfl)
theorem dX9_page_116 : decode cX9_page 116 = .ok (.ifCond .ne 8, 3) := dk_154 0 8 (dk_at dksX9_page_5 4 rfl rfl)
theorem dX9_page_119 : decode cX9_page 119 = .ok (.bipush (-2), 2) := dk_16 254 (dk_at dksX9_page_5 7 rfl rfl)
theorem dX9_page_121 : decode cX9_page 121 = .ok (.goto 7, 3) := dk_167 0 7 (dk_at dksX9_page_5 9 rfl rfl)
theorem dX9_page_124 : decode cX9_page 124 = .ok (.aload_n 0, 1) := dk_42 (dk_at dksX9_page_5 12 rfl rfl)
theorem dX9_page_125 : decode cX9_page 125 = .ok (.getfield 327, 3) := dk_180 1 71 (dk_at dksX9_page_5 13 rfl rfl)
theorem dX9_page_128 : decode cX9_page 128 = .ok (.ireturn, 1) := dk_172 (dk_at dksX9_page_5 16 rfl rfl)
theorem dX9_page_129 : decode cX9_page 129 = .ok (.iload_n 3, 1) := dk_29 (dk_at dksX9_page_5 17 rfl rfl)
theorem dX9_page_130 : decode cX9_page 130 = .ok (.ifCond .eq 7, 3) := dk_153 0 7 (dk_at dksX9_page_5 18 rfl rfl)
theorem dX9_page_133 : decode cX9_page 133 = .ok (.iconst 1, 1) := dk_4 (dk_at dksX9_page_5 21 rfl rfl)
theorem dX9_page_134 : decode cX9_page 134 = .ok (.goto 4, 3) := dk_167 0 4 (dk_at dksX9_page_6 0 rfl rfl)
theorem dX9_page_137 : decode cX9_page 137 = .ok (.iconst 0, 1) := dk_3 (dk_at dksX9_page_6 3 rfl rfl)
theorem dX9_page_138 : decode cX9_page 138 = .ok (.ireturn, 1) := dk_172 (dk_at dksX9_page_6 4 rfl rfl)
theorem dX9_page_139 : decode cX9_page 139 = .ok (.iconst (-1), 1) := dk_2 (dk_at dksX9_page_6 5 rfl rfl)
theorem dX9_page_140 : decode cX9_page 140 = .ok (.ireturn, 1) := dk_172 (dk_at dksX9_page_6 6 rfl rfl)
abbrev cX9_bound : ByteArray := prog_20_method_102_code
def yX9_bound : MethodName := ⟨RX9, "bound", "(II)I"⟩
def dkwX9_bound_2 : List UInt8 := [172]
abbrev dktX9_bound_2 : List UInt8 := dkwX9_bound_2 ++ []
def dkwX9_bound_1 : List UInt8 := [154, 0, 5, 2, 172, 28, 154, 0, 12, 42, 180, 0, 92, 27, 46, 167, 0, 9, 42, 180, 0, 95, 27, 46]
abbrev dktX9_bound_1 : List UInt8 := dkwX9_bound_1 ++ dktX9_bound_2
def dkwX9_bound_0 : List UInt8 := [42, 182, 1, 89, 27, 3, 42, 180, 1, 86, 4, 100, 184, 1, 185, 153, 0, 12, 28, 3, 4, 184, 1, 185]
abbrev dktX9_bound_0 : List UInt8 := dkwX9_bound_0 ++ dktX9_bound_1
theorem dksX9_bound_0 : cX9_bound.data.toList.drop 0 = dktX9_bound_0 := by decide +kernel
theorem dksX9_bound_1 : cX9_bound.data.toList.drop 24 = dktX9_bound_1 := dk_seg dksX9_bound_0 24 rfl rfl
theorem dksX9_bound_2 : cX9_bound.data.toList.drop 48 = dktX9_bound_2 := dk_seg dksX9_bound_1 24 rfl rfl
theorem dX9_bound_0 : decode cX9_bound 0 = .ok (.aload_n 0, 1) := dk_42 (dk_at dksX9_bound_0 0 rfl rfl)
theorem dX9_bound_1 : decode cX9_bound 1 = .ok (.invokevirtual 345, 3) := dk_182 1 89 (dk_at dksX9_bound_0 1 rfl rfl)
theorem dX9_bound_4 : decode cX9_bound 4 = .ok (.iload_n 1, 1) := dk_27 (dk_at dksX9_bound_0 4 rfl rfl)
theorem dX9_bound_5 : decode cX9_bound 5 = .ok (.iconst 0, 1) := dk_3 (dk_at dksX9_bound_0 5 rfl rfl)
theorem dX9_bound_6 : decode cX9_bound 6 = .ok (.aload_n 0, 1) := dk_42 (dk_at dksX9_bound_0 6 rfl rfl)
theorem dX9_bound_7 : decode cX9_bound 7 = .ok (.getfield 342, 3) := dk_180 1 86 (dk_at dksX9_bound_0 7 rfl rfl)
theorem dX9_bound_10 : decode cX9_bound 10 = .ok (.iconst 1, 1) := dk_4 (dk_at dksX9_bound_0 10 rfl rfl)
theorem dX9_bound_11 : decode cX9_bound 11 = .ok (.isub, 1) := dk_100 (dk_at dksX9_bound_0 11 rfl rfl)
theorem dX9_bound_12 : decode cX9_bound 12 = .ok (.invokestatic 441, 3) := dk_184 1 185 (dk_at dksX9_bound_0 12 rfl rfl)
theorem dX9_bound_15 : decode cX9_bound 15 = .ok (.ifCond .eq 12, 3) := dk_153 0 12 (dk_at dksX9_bound_0 15 rfl rfl)
theorem dX9_bound_18 : decode cX9_bound 18 = .ok (.iload_n 2, 1) := dk_28 (dk_at dksX9_bound_0 18 rfl rfl)
theorem dX9_bound_19 : decode cX9_bound 19 = .ok (.iconst 0, 1) := dk_3 (dk_at dksX9_bound_0 19 rfl rfl)
theorem dX9_bound_20 : decode cX9_bound 20 = .ok (.iconst 1, 1) := dk_4 (dk_at dksX9_bound_0 20 rfl rfl)
theorem dX9_bound_21 : decode cX9_bound 21 = .ok (.invokestatic 441, 3) := dk_184 1 185 (dk_at dksX9_bound_0 21 rfl rfl)
theorem dX9_bound_24 : decode cX9_bound 24 = .ok (.ifCond .ne 5, 3) := dk_154 0 5 (dk_at dksX9_bound_1 0 rfl rfl)
theorem dX9_bound_27 : decode cX9_bound 27 = .ok (.iconst (-1), 1) := dk_2 (dk_at dksX9_bound_1 3 rfl rfl)
theorem dX9_bound_28 : decode cX9_bound 28 = .ok (.ireturn, 1) := dk_172 (dk_at dksX9_bound_1 4 rfl rfl)
theorem dX9_bound_29 : decode cX9_bound 29 = .ok (.iload_n 2, 1) := dk_28 (dk_at dksX9_bound_1 5 rfl rfl)
theorem dX9_bound_30 : decode cX9_bound 30 = .ok (.ifCond .ne 12, 3) := dk_154 0 12 (dk_at dksX9_bound_1 6 rfl rfl)
theorem dX9_bound_33 : decode cX9_bound 33 = .ok (.aload_n 0, 1) := dk_42 (dk_at dksX9_bound_1 9 rfl rfl)
theorem dX9_bound_34 : decode cX9_bound 34 = .ok (.getfield 92, 3) := dk_180 0 92 (dk_at dksX9_bound_1 10 rfl rfl)
theorem dX9_bound_37 : decode cX9_bound 37 = .ok (.iload_n 1, 1) := dk_27 (dk_at dksX9_bound_1 13 rfl rfl)
theorem dX9_bound_38 : decode cX9_bound 38 = .ok (.iaload, 1) := dk_46 (dk_at dksX9_bound_1 14 rfl rfl)
theorem dX9_bound_39 : decode cX9_bound 39 = .ok (.goto 9, 3) := dk_167 0 9 (dk_at dksX9_bound_1 15 rfl rfl)
theorem dX9_bound_42 : decode cX9_bound 42 = .ok (.aload_n 0, 1) := dk_42 (dk_at dksX9_bound_1 18 rfl rfl)
theorem dX9_bound_43 : decode cX9_bound 43 = .ok (.getfield 95, 3) := dk_180 0 95 (dk_at dksX9_bound_1 19 rfl rfl)
theorem dX9_bound_46 : decode cX9_bound 46 = .ok (.iload_n 1, 1) := dk_27 (dk_at dksX9_bound_1 22 rfl rfl)
theorem dX9_bound_47 : decode cX9_bound 47 = .ok (.iaload, 1) := dk_46 (dk_at dksX9_bound_1 23 rfl rfl)
theorem dX9_bound_48 : decode cX9_bound 48 = .ok (.ireturn, 1) := dk_172 (dk_at dksX9_bound_2 0 rfl rfl)
abbrev cX9_record : ByteArray := prog_20_method_104_code
def yX9_record : MethodName := ⟨RX9, "record", "(II)I"⟩
def dkwX9_record_1 : List UInt8 := [167, 0, 6, 17, 252, 24, 172]
abbrev dktX9_record_1 : List UInt8 := dkwX9_record_1 ++ []
def dkwX9_record_0 : List UInt8 := [42, 27, 182, 1, 198, 153, 0, 22, 28, 3, 16, 6, 184, 1, 185, 153, 0, 12, 42, 27, 28, 182, 1, 32]
abbrev dktX9_record_0 : List UInt8 := dkwX9_record_0 ++ dktX9_record_1
theorem dksX9_record_0 : cX9_record.data.toList.drop 0 = dktX9_record_0 := by decide +kernel
theorem dksX9_record_1 : cX9_record.data.toList.drop 24 = dktX9_record_1 := dk_seg dksX9_record_0 24 rfl rfl
theorem dX9_record_0 : decode cX9_record 0 = .ok (.aload_n 0, 1) := dk_42 (dk_at dksX9_record_0 0 rfl rfl)
theorem dX9_record_1 : decode cX9_record 1 = .ok (.iload_n 1, 1) := dk_27 (dk_at dksX9_record_0 1 rfl rfl)
theorem dX9_record_2 : decode cX9_record 2 = .ok (.invokevirtual 454, 3) := dk_182 1 198 (dk_at dksX9_record_0 2 rfl rfl)
theorem dX9_record_5 : decode cX9_record 5 = .ok (.ifCond .eq 22, 3) := dk_153 0 22 (dk_at dksX9_record_0 5 rfl rfl)
theorem dX9_record_8 : decode cX9_record 8 = .ok (.iload_n 2, 1) := dk_28 (dk_at dksX9_record_0 8 rfl rfl)
theorem dX9_record_9 : decode cX9_record 9 = .ok (.iconst 0, 1) := dk_3 (dk_at dksX9_record_0 9 rfl rfl)
theorem dX9_record_10 : decode cX9_record 10 = .ok (.bipush 6, 2) := dk_16 6 (dk_at dksX9_record_0 10 rfl rfl)
theorem dX9_record_12 : decode cX9_record 12 = .ok (.invokestatic 441, 3) := dk_184 1 185 (dk_at dksX9_record_0 12 rfl rfl)
theorem dX9_record_15 : decode cX9_record 15 = .ok (.ifCond .eq 12, 3) := dk_153 0 12 (dk_at dksX9_record_0 15 rfl rfl)
theorem dX9_record_18 : decode cX9_record 18 = .ok (.aload_n 0, 1) := dk_42 (dk_at dksX9_record_0 18 rfl rfl)
theorem dX9_record_19 : decode cX9_record 19 = .ok (.iload_n 1, 1) := dk_27 (dk_at dksX9_record_0 19 rfl rfl)
theorem dX9_record_20 : decode cX9_record 20 = .ok (.iload_n 2, 1) := dk_28 (dk_at dksX9_record_0 20 rfl rfl)
theorem dX9_record_21 : decode cX9_record 21 = .ok (.invokevirtual 288, 3) := dk_182 1 32 (dk_at dksX9_record_0 21 rfl rfl)
theorem dX9_record_24 : decode cX9_record 24 = .ok (.goto 6, 3) := dk_167 0 6 (dk_at dksX9_record_1 0 rfl rfl)
theorem dX9_record_27 : decode cX9_record 27 = .ok (.sipush (-1000), 3) := dk_17 252 24 (dk_at dksX9_record_1 3 rfl rfl)
theorem dX9_record_30 : decode cX9_record 30 = .ok (.ireturn, 1) := dk_172 (dk_at dksX9_record_1 6 rfl rfl)
abbrev cX9_isRecord : ByteArray := prog_20_method_103_code
def yX9_isRecord : MethodName := ⟨RX9, "isRecord", "(I)Z"⟩
def dkwX9_isRecord_0 : List UInt8 := [27, 3, 42, 180, 0, 80, 3, 46, 4, 100, 184, 1, 185, 172]
abbrev dktX9_isRecord_0 : List UInt8 := dkwX9_isRecord_0 ++ []
theorem dksX9_isRecord_0 : cX9_isRecord.data.toList.drop 0 = dktX9_isRecord_0 := by decide +kernel
theorem dX9_isRecord_0 : decode cX9_isRecord 0 = .ok (.iload_n 1, 1) := dk_27 (dk_at dksX9_isRecord_0 0 rfl rfl)
theorem dX9_isRecord_1 : decode cX9_isRecord 1 = .ok (.iconst 0, 1) := dk_3 (dk_at dksX9_isRecord_0 1 rfl rfl)
theorem dX9_isRecord_2 : decode cX9_isRecord 2 = .ok (.aload_n 0, 1) := dk_42 (dk_at dksX9_isRecord_0 2 rfl rfl)
theorem dX9_isRecord_3 : decode cX9_isRecord 3 = .ok (.getfield 80, 3) := dk_180 0 80 (dk_at dksX9_isRecord_0 3 rfl rfl)
theorem dX9_isRecord_6 : decode cX9_isRecord 6 = .ok (.iconst 0, 1) := dk_3 (dk_at dksX9_isRecord_0 6 rfl rfl)
theorem dX9_isRecord_7 : decode cX9_isRecord 7 = .ok (.iaload, 1) := dk_46 (dk_at dksX9_isRecord_0 7 rfl rfl)
theorem dX9_isRecord_8 : decode cX9_isRecord 8 = .ok (.iconst 1, 1) := dk_4 (dk_at dksX9_isRecord_0 8 rfl rfl)
theorem dX9_isRecord_9 : decode cX9_isRecord 9 = .ok (.isub, 1) := dk_100 (dk_at dksX9_isRecord_0 9 rfl rfl)
theorem dX9_isRecord_10 : decode cX9_isRecord 10 = .ok (.invokestatic 441, 3) := dk_184 1 185 (dk_at dksX9_isRecord_0 10 rfl rfl)
theorem dX9_isRecord_13 : decode cX9_isRecord 13 = .ok (.ireturn, 1) := dk_172 (dk_at dksX9_isRecord_0 13 rfl rfl)
abbrev cX9_base : ByteArray := prog_20_method_105_code
def yX9_base : MethodName := ⟨RX9, "base", "(III)I"⟩
def dkwX9_base_2 : List UInt8 := [167, 0, 6, 17, 252, 24, 172]
abbrev dktX9_base_2 : List UInt8 := dkwX9_base_2 ++ []
def dkwX9_base_1 : List UInt8 := [153, 0, 27, 29, 3, 4, 184, 1, 185, 153, 0, 18, 42, 180, 0, 80, 27, 28, 184, 1, 62, 29, 96, 46]
abbrev dktX9_base_1 : List UInt8 := dkwX9_base_1 ++ dktX9_base_2
def dkwX9_base_0 : List UInt8 := [42, 27, 182, 1, 198, 153, 0, 44, 28, 3, 42, 27, 16, 6, 182, 1, 32, 4, 100, 184, 1, 185]
abbrev dktX9_base_0 : List UInt8 := dkwX9_base_0 ++ dktX9_base_1
theorem dksX9_base_0 : cX9_base.data.toList.drop 0 = dktX9_base_0 := by decide +kernel
theorem dksX9_base_1 : cX9_base.data.toList.drop 22 = dktX9_base_1 := dk_seg dksX9_base_0 22 rfl rfl
theorem dksX9_base_2 : cX9_base.data.toList.drop 46 = dktX9_base_2 := dk_seg dksX9_base_1 24 rfl rfl
theorem dX9_base_0 : decode cX9_base 0 = .ok (.aload_n 0, 1) := dk_42 (dk_at dksX9_base_0 0 rfl rfl)
theorem dX9_base_1 : decode cX9_base 1 = .ok (.iload_n 1, 1) := dk_27 (dk_at dksX9_base_0 1 rfl rfl)
theorem dX9_base_2 : decode cX9_base 2 = .ok (.invokevirtual 454, 3) := dk_182 1 198 (dk_at dksX9_base_0 2 rfl rfl)
theorem dX9_base_5 : decode cX9_base 5 = .ok (.ifCond .eq 44, 3) := dk_153 0 44 (dk_at dksX9_base_0 5 rfl rfl)
theorem dX9_base_8 : decode cX9_base 8 = .ok (.iload_n 2, 1) := dk_28 (dk_at dksX9_base_0 8 rfl rfl)
theorem dX9_base_9 : decode cX9_base 9 = .ok (.iconst 0, 1) := dk_3 (dk_at dksX9_base_0 9 rfl rfl)
theorem dX9_base_10 : decode cX9_base 10 = .ok (.aload_n 0, 1) := dk_42 (dk_at dksX9_base_0 10 rfl rfl)
theorem dX9_base_11 : decode cX9_base 11 = .ok (.iload_n 1, 1) := dk_27 (dk_at dksX9_base_0 11 rfl rfl)
theorem dX9_base_12 : decode cX9_base 12 = .ok (.bipush 6, 2) := dk_16 6 (dk_at dksX9_base_0 12 rfl rfl)
theorem dX9_base_14 : decode cX9_base 14 = .ok (.invokevirtual 288, 3) := dk_182 1 32 (dk_at dksX9_base_0 14 rfl rfl)
theorem dX9_base_17 : decode cX9_base 17 = .ok (.iconst 1, 1) := dk_4 (dk_at dksX9_base_0 17 rfl rfl)
theorem dX9_base_18 : decode cX9_base 18 = .ok (.isub, 1) := dk_100 (dk_at dksX9_base_0 18 rfl rfl)
theorem dX9_base_19 : decode cX9_base 19 = .ok (.invokestatic 441, 3) := dk_184 1 185 (dk_at dksX9_base_0 19 rfl rfl)
theorem dX9_base_22 : decode cX9_base 22 = .ok (.ifCond .eq 27, 3) := dk_153 0 27 (dk_at dksX9_base_1 0 rfl rfl)
theorem dX9_base_25 : decode cX9_base 25 = .ok (.iload_n 3, 1) := dk_29 (dk_at dksX9_base_1 3 rfl rfl)
theorem dX9_base_26 : decode cX9_base 26 = .ok (.iconst 0, 1) := dk_3 (dk_at dksX9_base_1 4 rfl rfl)
theorem dX9_base_27 : decode cX9_base 27 = .ok (.iconst 1, 1) := dk_4 (dk_at dksX9_base_1 5 rfl rfl)
theorem dX9_base_28 : decode cX9_base 28 = .ok (.invokestatic 441, 3) := dk_184 1 185 (dk_at dksX9_base_1 6 rfl rfl)
theorem dX9_base_31 : decode cX9_base 31 = .ok (.ifCond .eq 18, 3) := dk_153 0 18 (dk_at dksX9_base_1 9 rfl rfl)
theorem dX9_base_34 : decode cX9_base 34 = .ok (.aload_n 0, 1) := dk_42 (dk_at dksX9_base_1 12 rfl rfl)
theorem dX9_base_35 : decode cX9_base 35 = .ok (.getfield 80, 3) := dk_180 0 80 (dk_at dksX9_base_1 13 rfl rfl)
theorem dX9_base_38 : decode cX9_base 38 = .ok (.iload_n 1, 1) := dk_27 (dk_at dksX9_base_1 16 rfl rfl)
theorem dX9_base_39 : decode cX9_base 39 = .ok (.iload_n 2, 1) := dk_28 (dk_at dksX9_base_1 17 rfl rfl)
theorem dX9_base_40 : decode cX9_base 40 = .ok (.invokestatic 318, 3) := dk_184 1 62 (dk_at dksX9_base_1 18 rfl rfl)
theorem dX9_base_43 : decode cX9_base 43 = .ok (.iload_n 3, 1) := dk_29 (dk_at dksX9_base_1 21 rfl rfl)
theorem dX9_base_44 : decode cX9_base 44 = .ok (.iadd, 1) := dk_96 (dk_at dksX9_base_1 22 rfl rfl)
theorem dX9_base_45 : decode cX9_base 45 = .ok (.iaload, 1) := dk_46 (dk_at dksX9_base_1 23 rfl rfl)
theorem dX9_base_46 : decode cX9_base 46 = .ok (.goto 6, 3) := dk_167 0 6 (dk_at dksX9_base_2 0 rfl rfl)
theorem dX9_base_49 : decode cX9_base 49 = .ok (.sipush (-1000), 3) := dk_17 252 24 (dk_at dksX9_base_2 3 rfl rfl)
theorem dX9_base_52 : decode cX9_base 52 = .ok (.ireturn, 1) := dk_172 (dk_at dksX9_base_2 6 rfl rfl)
abbrev cX9_hand : ByteArray := prog_20_method_106_code
def yX9_hand : MethodName := ⟨RX9, "hand", "(II)I"⟩
def dkwX9_hand_2 : List UInt8 := [184, 1, 35, 28, 96, 46, 172]
abbrev dktX9_hand_2 : List UInt8 := dkwX9_hand_2 ++ []
def dkwX9_hand_1 : List UInt8 := [42, 180, 0, 80, 27, 184, 1, 35, 4, 96, 46, 154, 0, 8, 16, 254, 167, 0, 14, 42, 180, 0, 80, 27]
abbrev dktX9_hand_1 : List UInt8 := dkwX9_hand_1 ++ dktX9_hand_2
def dkwX9_hand_0 : List UInt8 := [27, 184, 1, 189, 153, 0, 13, 28, 3, 16, 6, 184, 1, 185, 154, 0, 5, 2, 172, 28, 8, 160, 0, 22]
abbrev dktX9_hand_0 : List UInt8 := dkwX9_hand_0 ++ dktX9_hand_1
theorem dksX9_hand_0 : cX9_hand.data.toList.drop 0 = dktX9_hand_0 := by decide +kernel
theorem dksX9_hand_1 : cX9_hand.data.toList.drop 24 = dktX9_hand_1 := dk_seg dksX9_hand_0 24 rfl rfl
theorem dksX9_hand_2 : cX9_hand.data.toList.drop 48 = dktX9_hand_2 := dk_seg dksX9_hand_1 24 rfl rfl
theorem dX9_hand_0 : decode cX9_hand 0 = .ok (.iload_n 1, 1) := dk_27 (dk_at dksX9_hand_0 0 rfl rfl)
theorem dX9_hand_1 : decode cX9_hand 1 = .ok (.invokestatic 445, 3) := dk_184 1 189 (dk_at dksX9_hand_0 1 rfl rfl)
theorem dX9_hand_4 : decode cX9_hand 4 = .ok (.ifCond .eq 13, 3) := dk_153 0 13 (dk_at dksX9_hand_0 4 rfl rfl)
theorem dX9_hand_7 : decode cX9_hand 7 = .ok (.iload_n 2, 1) := dk_28 (dk_at dksX9_hand_0 7 rfl rfl)
theorem dX9_hand_8 : decode cX9_hand 8 = .ok (.iconst 0, 1) := dk_3 (dk_at dksX9_hand_0 8 rfl rfl)
theorem dX9_hand_9 : decode cX9_hand 9 = .ok (.bipush 6, 2) := dk_16 6 (dk_at dksX9_hand_0 9 rfl rfl)
theorem dX9_hand_11 : decode cX9_hand 11 = .ok (.invokestatic 441, 3) := dk_184 1 185 (dk_at dksX9_hand_0 11 rfl rfl)
theorem dX9_hand_14 : decode cX9_hand 14 = .ok (.ifCond .ne 5, 3) := dk_154 0 5 (dk_at dksX9_hand_0 14 rfl rfl)
theorem dX9_hand_17 : decode cX9_hand 17 = .ok (.iconst (-1), 1) := dk_2 (dk_at dksX9_hand_0 17 rfl rfl)
theorem dX9_hand_18 : decode cX9_hand 18 = .ok (.ireturn, 1) := dk_172 (dk_at dksX9_hand_0 18 rfl rfl)
theorem dX9_hand_19 : decode cX9_hand 19 = .ok (.iload_n 2, 1) := dk_28 (dk_at dksX9_hand_0 19 rfl rfl)
theorem dX9_hand_20 : decode cX9_hand 20 = .ok (.iconst 5, 1) := dk_8 (dk_at dksX9_hand_0 20 rfl rfl)
theorem dX9_hand_21 : decode cX9_hand 21 = .ok (.if_icmp .ne 22, 3) := dk_160 0 22 (dk_at dksX9_hand_0 21 rfl rfl)
theorem dX9_hand_24 : decode cX9_hand 24 = .ok (.aload_n 0, 1) := dk_42 (dk_at dksX9_hand_1 0 rfl rfl)
theorem dX9_hand_25 : decode cX9_hand 25 = .ok (.getfield 80, 3) := dk_180 0 80 (dk_at dksX9_hand_1 1 rfl rfl)
theorem dX9_hand_28 : decode cX9_hand 28 = .ok (.iload_n 1, 1) := dk_27 (dk_at dksX9_hand_1 4 rfl rfl)
theorem dX9_hand_29 : decode cX9_hand 29 = .ok (.invokestatic 291, 3) := dk_184 1 35 (dk_at dksX9_hand_1 5 rfl rfl)
theorem dX9_hand_32 : decode cX9_hand 32 = .ok (.iconst 1, 1) := dk_4 (dk_at dksX9_hand_1 8 rfl rfl)
theorem dX9_hand_33 : decode cX9_hand 33 = .ok (.iadd, 1) := dk_96 (dk_at dksX9_hand_1 9 rfl rfl)
theorem dX9_hand_34 : decode cX9_hand 34 = .ok (.iaload, 1) := dk_46 (dk_at dksX9_hand_1 10 rfl rfl)
theorem dX9_hand_35 : decode cX9_hand 35 = .ok (.ifCond .ne 8, 3) := dk_154 0 8 (dk_at dksX9_hand_1 11 rfl rfl)
theorem dX9_hand_38 : decode cX9_hand 38 = .ok (.bipush (-2), 2) := dk_16 254 (dk_at dksX9_hand_1 14 rfl rfl)
theorem dX9_hand_40 : decode cX9_hand 40 = .ok (.goto 14, 3) := dk_167 0 14 (dk_at dksX9_hand_1 16 rfl rfl)
theorem dX9_hand_43 : decode cX9_hand 43 = .ok (.aload_n 0, 1) := dk_42 (dk_at dksX9_hand_1 19 rfl rfl)
theorem dX9_hand_44 : decode cX9_hand 44 = .ok (.getfield 80, 3) := dk_180 0 80 (dk_at dksX9_hand_1 20 rfl rfl)
theorem dX9_hand_47 : decode cX9_hand 47 = .ok (.iload_n 1, 1) := dk_27 (dk_at dksX9_hand_1 23 rfl rfl)
theorem dX9_hand_48 : decode cX9_hand 48 = .ok (.invokestatic 291, 3) := dk_184 1 35 (dk_at dksX9_hand_2 0 rfl rfl)
theorem dX9_hand_51 : decode cX9_hand 51 = .ok (.iload_n 2, 1) := dk_28 (dk_at dksX9_hand_2 3 rfl rfl)
theorem dX9_hand_52 : decode cX9_hand 52 = .ok (.iadd, 1) := dk_96 (dk_at dksX9_hand_2 4 rfl rfl)
theorem dX9_hand_53 : decode cX9_hand 53 = .ok (.iaload, 1) := dk_46 (dk_at dksX9_hand_2 5 rfl rfl)
theorem dX9_hand_54 : decode cX9_hand 54 = .ok (.ireturn, 1) := dk_172 (dk_at dksX9_hand_2 6 rfl rfl)
abbrev cX9_result : ByteArray := prog_20_method_107_code
def yX9_result : MethodName := ⟨RX9, "result", "(I)I"⟩
def dkwX9_result_1 : List UInt8 := [180, 0, 80, 27, 184, 1, 35, 16, 8, 96, 46, 167, 0, 4, 3, 172]
abbrev dktX9_result_1 : List UInt8 := dkwX9_result_1 ++ []
def dkwX9_result_0 : List UInt8 := [27, 184, 1, 189, 153, 0, 34, 42, 180, 0, 80, 27, 184, 1, 35, 16, 9, 96, 46, 4, 160, 0, 18, 42]
abbrev dktX9_result_0 : List UInt8 := dkwX9_result_0 ++ dktX9_result_1
theorem dksX9_result_0 : cX9_result.data.toList.drop 0 = dktX9_result_0 := by decide +kernel
theorem dksX9_result_1 : cX9_result.data.toList.drop 24 = dktX9_result_1 := dk_seg dksX9_result_0 24 rfl rfl
theorem dX9_result_0 : decode cX9_result 0 = .ok (.iload_n 1, 1) := dk_27 (dk_at dksX9_result_0 0 rfl rfl)
theorem dX9_result_1 : decode cX9_result 1 = .ok (.invokestatic 445, 3) := dk_184 1 189 (dk_at dksX9_result_0 1 rfl rfl)
theorem dX9_result_4 : decode cX9_result 4 = .ok (.ifCond .eq 34, 3) := dk_153 0 34 (dk_at dksX9_result_0 4 rfl rfl)
theorem dX9_result_7 : decode cX9_result 7 = .ok (.aload_n 0, 1) := dk_42 (dk_at dksX9_result_0 7 rfl rfl)
theorem dX9_result_8 : decode cX9_result 8 = .ok (.getfield 80, 3) := dk_180 0 80 (dk_at dksX9_result_0 8 rfl rfl)
theorem dX9_result_11 : decode cX9_result 11 = .ok (.iload_n 1, 1) := dk_27 (dk_at dksX9_result_0 11 rfl rfl)
theorem dX9_result_12 : decode cX9_result 12 = .ok (.invokestatic 291, 3) := dk_184 1 35 (dk_at dksX9_result_0 12 rfl rfl)
theorem dX9_result_15 : decode cX9_result 15 = .ok (.bipush 9, 2) := dk_16 9 (dk_at dksX9_result_0 15 rfl rfl)
theorem dX9_result_17 : decode cX9_result 17 = .ok (.iadd, 1) := dk_96 (dk_at dksX9_result_0 17 rfl rfl)
theorem dX9_result_18 : decode cX9_result 18 = .ok (.iaload, 1) := dk_46 (dk_at dksX9_result_0 18 rfl rfl)
theorem dX9_result_19 : decode cX9_result 19 = .ok (.iconst 1, 1) := dk_4 (dk_at dksX9_result_0 19 rfl rfl)
theorem dX9_result_20 : decode cX9_result 20 = .ok (.if_icmp .ne 18, 3) := dk_160 0 18 (dk_at dksX9_result_0 20 rfl rfl)
theorem dX9_result_23 : decode cX9_result 23 = .ok (.aload_n 0, 1) := dk_42 (dk_at dksX9_result_0 23 rfl rfl)
theorem dX9_result_24 : decode cX9_result 24 = .ok (.getfield 80, 3) := dk_180 0 80 (dk_at dksX9_result_1 0 rfl rfl)
theorem dX9_result_27 : decode cX9_result 27 = .ok (.iload_n 1, 1) := dk_27 (dk_at dksX9_result_1 3 rfl rfl)
theorem dX9_result_28 : decode cX9_result 28 = .ok (.invokestatic 291, 3) := dk_184 1 35 (dk_at dksX9_result_1 4 rfl rfl)
theorem dX9_result_31 : decode cX9_result 31 = .ok (.bipush 8, 2) := dk_16 8 (dk_at dksX9_result_1 7 rfl rfl)
theorem dX9_result_33 : decode cX9_result 33 = .ok (.iadd, 1) := dk_96 (dk_at dksX9_result_1 9 rfl rfl)
theorem dX9_result_34 : decode cX9_result 34 = .ok (.iaload, 1) := dk_46 (dk_at dksX9_result_1 10 rfl rfl)
theorem dX9_result_35 : decode cX9_result 35 = .ok (.goto 4, 3) := dk_167 0 4 (dk_at dksX9_result_1 11 rfl rfl)
theorem dX9_result_38 : decode cX9_result 38 = .ok (.iconst 0, 1) := dk_3 (dk_at dksX9_result_1 14 rfl rfl)
theorem dX9_result_39 : decode cX9_result 39 = .ok (.ireturn, 1) := dk_172 (dk_at dksX9_result_1 15 rfl rfl)
abbrev cX9_halves : ByteArray := prog_20_method_110_code
def yX9_halves : MethodName := ⟨RX9, "halves", "(I)I"⟩
def dkwX9_halves_1 : List UInt8 := [172]
abbrev dktX9_halves_1 : List UInt8 := dkwX9_halves_1 ++ []
def dkwX9_halves_0 : List UInt8 := [27, 154, 0, 10, 42, 182, 1, 201, 167, 0, 16, 27, 4, 160, 0, 10, 42, 182, 1, 204, 167, 0, 4, 2]
abbrev dktX9_halves_0 : List UInt8 := dkwX9_halves_0 ++ dktX9_halves_1
theorem dksX9_halves_0 : cX9_halves.data.toList.drop 0 = dktX9_halves_0 := by decide +kernel
theorem dksX9_halves_1 : cX9_halves.data.toList.drop 24 = dktX9_halves_1 := dk_seg dksX9_halves_0 24 rfl rfl
theorem dX9_halves_0 : decode cX9_halves 0 = .ok (.iload_n 1, 1) := dk_27 (dk_at dksX9_halves_0 0 rfl rfl)
theorem dX9_halves_1 : decode cX9_halves 1 = .ok (.ifCond .ne 10, 3) := dk_154 0 10 (dk_at dksX9_halves_0 1 rfl rfl)
theorem dX9_halves_4 : decode cX9_halves 4 = .ok (.aload_n 0, 1) := dk_42 (dk_at dksX9_halves_0 4 rfl rfl)
theorem dX9_halves_5 : decode cX9_halves 5 = .ok (.invokevirtual 457, 3) := dk_182 1 201 (dk_at dksX9_halves_0 5 rfl rfl)
theorem dX9_halves_8 : decode cX9_halves 8 = .ok (.goto 16, 3) := dk_167 0 16 (dk_at dksX9_halves_0 8 rfl rfl)
theorem dX9_halves_11 : decode cX9_halves 11 = .ok (.iload_n 1, 1) := dk_27 (dk_at dksX9_halves_0 11 rfl rfl)
theorem dX9_halves_12 : decode cX9_halves 12 = .ok (.iconst 1, 1) := dk_4 (dk_at dksX9_halves_0 12 rfl rfl)
theorem dX9_halves_13 : decode cX9_halves 13 = .ok (.if_icmp .ne 10, 3) := dk_160 0 10 (dk_at dksX9_halves_0 13 rfl rfl)
theorem dX9_halves_16 : decode cX9_halves 16 = .ok (.aload_n 0, 1) := dk_42 (dk_at dksX9_halves_0 16 rfl rfl)
theorem dX9_halves_17 : decode cX9_halves 17 = .ok (.invokevirtual 460, 3) := dk_182 1 204 (dk_at dksX9_halves_0 17 rfl rfl)
theorem dX9_halves_20 : decode cX9_halves 20 = .ok (.goto 4, 3) := dk_167 0 4 (dk_at dksX9_halves_0 20 rfl rfl)
theorem dX9_halves_23 : decode cX9_halves 23 = .ok (.iconst (-1), 1) := dk_2 (dk_at dksX9_halves_0 23 rfl rfl)
theorem dX9_halves_24 : decode cX9_halves 24 = .ok (.ireturn, 1) := dk_172 (dk_at dksX9_halves_1 0 rfl rfl)
abbrev cX9_halfSplits : ByteArray := prog_20_method_108_code
def yX9_halfSplits : MethodName := ⟨RX9, "halfSplits", "()I"⟩
def dkwX9_halfSplits_2 : List UInt8 := [132, 1, 1, 42, 180, 1, 71, 61, 167, 255, 209, 27, 172]
abbrev dktX9_halfSplits_2 : List UInt8 := dkwX9_halfSplits_2 ++ []
def dkwX9_halfSplits_1 : List UInt8 := [42, 28, 182, 1, 95, 154, 0, 21, 42, 42, 180, 1, 68, 182, 1, 101, 42, 180, 1, 71, 159, 0, 6]
abbrev dktX9_halfSplits_1 : List UInt8 := dkwX9_halfSplits_1 ++ dktX9_halfSplits_2
def dkwX9_halfSplits_0 : List UInt8 := [42, 182, 1, 89, 3, 60, 4, 61, 28, 155, 0, 49, 42, 28, 182, 1, 83, 42, 180, 1, 71, 155, 0, 29]
abbrev dktX9_halfSplits_0 : List UInt8 := dkwX9_halfSplits_0 ++ dktX9_halfSplits_1
theorem dksX9_halfSplits_0 : cX9_halfSplits.data.toList.drop 0 = dktX9_halfSplits_0 := by decide +kernel
theorem dksX9_halfSplits_1 : cX9_halfSplits.data.toList.drop 24 = dktX9_halfSplits_1 := dk_seg dksX9_halfSplits_0 24 rfl rfl
theorem dksX9_halfSplits_2 : cX9_halfSplits.data.toList.drop 47 = dktX9_halfSplits_2 := dk_seg dksX9_halfSplits_1 23 rfl rfl
theorem dX9_halfSplits_0 : decode cX9_halfSplits 0 = .ok (.aload_n 0, 1) := dk_42 (dk_at dksX9_halfSplits_0 0 rfl rfl)
theorem dX9_halfSplits_1 : decode cX9_halfSplits 1 = .ok (.invokevirtual 345, 3) := dk_182 1 89 (dk_at dksX9_halfSplits_0 1 rfl rfl)
theorem dX9_halfSplits_4 : decode cX9_halfSplits 4 = .ok (.iconst 0, 1) := dk_3 (dk_at dksX9_halfSplits_0 4 rfl rfl)
theorem dX9_halfSplits_5 : decode cX9_halfSplits 5 = .ok (.istore_n 1, 1) := dk_60 (dk_at dksX9_halfSplits_0 5 rfl rfl)
theorem dX9_halfSplits_6 : decode cX9_halfSplits 6 = .ok (.iconst 1, 1) := dk_4 (dk_at dksX9_halfSplits_0 6 rfl rfl)
theorem dX9_halfSplits_7 : decode cX9_halfSplits 7 = .ok (.istore_n 2, 1) := dk_61 (dk_at dksX9_halfSplits_0 7 rfl rfl)
theorem dX9_halfSplits_8 : decode cX9_halfSplits 8 = .ok (.iload_n 2, 1) := dk_28 (dk_at dksX9_halfSplits_0 8 rfl rfl)
theorem dX9_halfSplits_9 : decode cX9_halfSplits 9 = .ok (.ifCond .lt 49, 3) := dk_155 0 49 (dk_at dksX9_halfSplits_0 9 rfl rfl)
theorem dX9_halfSplits_12 : decode cX9_halfSplits 12 = .ok (.aload_n 0, 1) := dk_42 (dk_at dksX9_halfSplits_0 12 rfl rfl)
theorem dX9_halfSplits_13 : decode cX9_halfSplits 13 = .ok (.iload_n 2, 1) := dk_28 (dk_at dksX9_halfSplits_0 13 rfl rfl)
theorem dX9_halfSplits_14 : decode cX9_halfSplits 14 = .ok (.invokevirtual 339, 3) := dk_182 1 83 (dk_at dksX9_halfSplits_0 14 rfl rfl)
theorem dX9_halfSplits_17 : decode cX9_halfSplits 17 = .ok (.aload_n 0, 1) := dk_42 (dk_at dksX9_halfSplits_0 17 rfl rfl)
theorem dX9_halfSplits_18 : decode cX9_halfSplits 18 = .ok (.getfield 327, 3) := dk_180 1 71 (dk_at dksX9_halfSplits_0 18 rfl rfl)
theorem dX9_halfSplits_21 : decode cX9_halfSplits 21 = .ok (.ifCond .lt 29, 3) := dk_155 0 29 (dk_at dksX9_halfSplits_0 21 rfl rfl)
theorem dX9_halfSplits_24 : decode cX9_halfSplits 24 = .ok (.aload_n 0, 1) := dk_42 (dk_at dksX9_halfSplits_1 0 rfl rfl)
theorem dX9_halfSplits_25 : decode cX9_halfSplits 25 = .ok (.iload_n 2, 1) := dk_28 (dk_at dksX9_halfSplits_1 1 rfl rfl)
theorem dX9_halfSplits_26 : decode cX9_halfSplits 26 = .ok (.invokevirtual 351, 3) := dk_182 1 95 (dk_at dksX9_halfSplits_1 2 rfl rfl)
theorem dX9_halfSplits_29 : decode cX9_halfSplits 29 = .ok (.ifCond .ne 21, 3) := dk_154 0 21 (dk_at dksX9_halfSplits_1 5 rfl rfl)
theorem dX9_halfSplits_32 : decode cX9_halfSplits 32 = .ok (.aload_n 0, 1) := dk_42 (dk_at dksX9_halfSplits_1 8 rfl rfl)
theorem dX9_halfSplits_33 : decode cX9_halfSplits 33 = .ok (.aload_n 0, 1) := dk_42 (dk_at dksX9_halfSplits_1 9 rfl rfl)
theorem dX9_halfSplits_34 : decode cX9_halfSplits 34 = .ok (.getfield 324, 3) := dk_180 1 68 (dk_at dksX9_halfSplits_1 10 rfl rfl)
theorem dX9_halfSplits_37 : decode cX9_halfSplits 37 = .ok (.invokevirtual 357, 3) := dk_182 1 101 (dk_at dksX9_halfSplits_1 13 rfl rfl)
theorem dX9_halfSplits_40 : decode cX9_halfSplits 40 = .ok (.aload_n 0, 1) := dk_42 (dk_at dksX9_halfSplits_1 16 rfl rfl)
theorem dX9_halfSplits_41 : decode cX9_halfSplits 41 = .ok (.getfield 327, 3) := dk_180 1 71 (dk_at dksX9_halfSplits_1 17 rfl rfl)
theorem dX9_halfSplits_44 : decode cX9_halfSplits 44 = .ok (.if_icmp .eq 6, 3) := dk_159 0 6 (dk_at dksX9_halfSplits_1 20 rfl rfl)
theorem dX9_halfSplits_47 : decode cX9_halfSplits 47 = .ok (.iinc 1 1, 3) := dk_132 1 1 (dk_at dksX9_halfSplits_2 0 rfl rfl)
theorem dX9_halfSplits_50 : decode cX9_halfSplits 50 = .ok (.aload_n 0, 1) := dk_42 (dk_at dksX9_halfSplits_2 3 rfl rfl)
theorem dX9_halfSplits_51 : decode cX9_halfSplits 51 = .ok (.getfield 327, 3) := dk_180 1 71 (dk_at dksX9_halfSplits_2 4 rfl rfl)
theorem dX9_halfSplits_54 : decode cX9_halfSplits 54 = .ok (.istore_n 2, 1) := dk_61 (dk_at dksX9_halfSplits_2 7 rfl rfl)
theorem dX9_halfSplits_55 : decode cX9_halfSplits 55 = .ok (.goto (-47), 3) := dk_167 255 209 (dk_at dksX9_halfSplits_2 8 rfl rfl)
theorem dX9_halfSplits_58 : decode cX9_halfSplits 58 = .ok (.iload_n 1, 1) := dk_27 (dk_at dksX9_halfSplits_2 11 rfl rfl)
theorem dX9_halfSplits_59 : decode cX9_halfSplits 59 = .ok (.ireturn, 1) := dk_172 (dk_at dksX9_halfSplits_2 12 rfl rfl)
abbrev cX9_halfGone : ByteArray := prog_20_method_109_code
def yX9_halfGone : MethodName := ⟨RX9, "halfGone", "()I"⟩
def dkwX9_halfGone_1 : List UInt8 := [153, 0, 14, 42, 28, 182, 1, 140, 155, 0, 6, 132, 1, 1, 132, 2, 1, 167, 255, 224, 27, 172]
abbrev dktX9_halfGone_1 : List UInt8 := dkwX9_halfGone_1 ++ []
def dkwX9_halfGone_0 : List UInt8 := [42, 182, 1, 89, 3, 60, 3, 61, 28, 42, 180, 0, 80, 4, 46, 162, 0, 28, 42, 28, 182, 1, 95]
abbrev dktX9_halfGone_0 : List UInt8 := dkwX9_halfGone_0 ++ dktX9_halfGone_1
theorem dksX9_halfGone_0 : cX9_halfGone.data.toList.drop 0 = dktX9_halfGone_0 := by decide +kernel
theorem dksX9_halfGone_1 : cX9_halfGone.data.toList.drop 23 = dktX9_halfGone_1 := dk_seg dksX9_halfGone_0 23 rfl rfl
theorem dX9_halfGone_0 : decode cX9_halfGone 0 = .ok (.aload_n 0, 1) := dk_42 (dk_at dksX9_halfGone_0 0 rfl rfl)
theorem dX9_halfGone_1 : decode cX9_halfGone 1 = .ok (.invokevirtual 345, 3) := dk_182 1 89 (dk_at dksX9_halfGone_0 1 rfl rfl)
theorem dX9_halfGone_4 : decode cX9_halfGone 4 = .ok (.iconst 0, 1) := dk_3 (dk_at dksX9_halfGone_0 4 rfl rfl)
theorem dX9_halfGone_5 : decode cX9_halfGone 5 = .ok (.istore_n 1, 1) := dk_60 (dk_at dksX9_halfGone_0 5 rfl rfl)
theorem dX9_halfGone_6 : decode cX9_halfGone 6 = .ok (.iconst 0, 1) := dk_3 (dk_at dksX9_halfGone_0 6 rfl rfl)
theorem dX9_halfGone_7 : decode cX9_halfGone 7 = .ok (.istore_n 2, 1) := dk_61 (dk_at dksX9_halfGone_0 7 rfl rfl)
theorem dX9_halfGone_8 : decode cX9_halfGone 8 = .ok (.iload_n 2, 1) := dk_28 (dk_at dksX9_halfGone_0 8 rfl rfl)
theorem dX9_halfGone_9 : decode cX9_halfGone 9 = .ok (.aload_n 0, 1) := dk_42 (dk_at dksX9_halfGone_0 9 rfl rfl)
theorem dX9_halfGone_10 : decode cX9_halfGone 10 = .ok (.getfield 80, 3) := dk_180 0 80 (dk_at dksX9_halfGone_0 10 rfl rfl)
theorem dX9_halfGone_13 : decode cX9_halfGone 13 = .ok (.iconst 1, 1) := dk_4 (dk_at dksX9_halfGone_0 13 rfl rfl)
theorem dX9_halfGone_14 : decode cX9_halfGone 14 = .ok (.iaload, 1) := dk_46 (dk_at dksX9_halfGone_0 14 rfl rfl)
theorem dX9_halfGone_15 : decode cX9_halfGone 15 = .ok (.if_icmp .ge 28, 3) := dk_162 0 28 (dk_at dksX9_halfGone_0 15 rfl rfl)
theorem dX9_halfGone_18 : decode cX9_halfGone 18 = .ok (.aload_n 0, 1) := dk_42 (dk_at dksX9_halfGone_0 18 rfl rfl)
theorem dX9_halfGone_19 : decode cX9_halfGone 19 = .ok (.iload_n 2, 1) := dk_28 (dk_at dksX9_halfGone_0 19 rfl rfl)
theorem dX9_halfGone_20 : decode cX9_halfGone 20 = .ok (.invokevirtual 351, 3) := dk_182 1 95 (dk_at dksX9_halfGone_0 20 rfl rfl)
theorem dX9_halfGone_23 : decode cX9_halfGone 23 = .ok (.ifCond .eq 14, 3) := dk_153 0 14 (dk_at dksX9_halfGone_1 0 rfl rfl)
theorem dX9_halfGone_26 : decode cX9_halfGone 26 = .ok (.aload_n 0, 1) := dk_42 (dk_at dksX9_halfGone_1 3 rfl rfl)
theorem dX9_halfGone_27 : decode cX9_halfGone 27 = .ok (.iload_n 2, 1) := dk_28 (dk_at dksX9_halfGone_1 4 rfl rfl)
theorem dX9_halfGone_28 : decode cX9_halfGone 28 = .ok (.invokevirtual 396, 3) := dk_182 1 140 (dk_at dksX9_halfGone_1 5 rfl rfl)
theorem dX9_halfGone_31 : decode cX9_halfGone 31 = .ok (.ifCond .lt 6, 3) := dk_155 0 6 (dk_at dksX9_halfGone_1 8 rfl rfl)
theorem dX9_halfGone_34 : decode cX9_halfGone 34 = .ok (.iinc 1 1, 3) := dk_132 1 1 (dk_at dksX9_halfGone_1 11 rfl rfl)
theorem dX9_halfGone_37 : decode cX9_halfGone 37 = .ok (.iinc 2 1, 3) := dk_132 2 1 (dk_at dksX9_halfGone_1 14 rfl rfl)
theorem dX9_halfGone_40 : decode cX9_halfGone 40 = .ok (.goto (-32), 3) := dk_167 255 224 (dk_at dksX9_halfGone_1 17 rfl rfl)
theorem dX9_halfGone_43 : decode cX9_halfGone 43 = .ok (.iload_n 1, 1) := dk_27 (dk_at dksX9_halfGone_1 20 rfl rfl)
theorem dX9_halfGone_44 : decode cX9_halfGone 44 = .ok (.ireturn, 1) := dk_172 (dk_at dksX9_halfGone_1 21 rfl rfl)
abbrev cX9_replay : ByteArray := prog_20_method_116_code
def yX9_replay : MethodName := ⟨RX9, "replay", "(IIII)I"⟩
def dkwX9_replay_8 : List UInt8 := [160, 0, 8, 21, 7, 167, 0, 5, 21, 8, 172]
abbrev dktX9_replay_8 : List UInt8 := dkwX9_replay_8 ++ []
def dkwX9_replay_7 : List UInt8 := [154, 0, 8, 21, 5, 167, 0, 27, 21, 4, 4, 160, 0, 8, 21, 6, 167, 0, 16, 21, 4, 5]
abbrev dktX9_replay_7 : List UInt8 := dkwX9_replay_7 ++ dktX9_replay_8
def dkwX9_replay_6 : List UInt8 := [21, 11, 21, 8, 162, 0, 7, 21, 11, 54, 8, 42, 182, 1, 222, 132, 9, 1, 167, 255, 157, 21, 4]
abbrev dktX9_replay_6 : List UInt8 := dkwX9_replay_6 ++ dktX9_replay_7
def dkwX9_replay_5 : List UInt8 := [42, 180, 0, 104, 3, 46, 100, 54, 11, 21, 10, 21, 6, 164, 0, 11, 21, 10, 54, 6, 21, 9, 54, 7]
abbrev dktX9_replay_5 : List UInt8 := dkwX9_replay_5 ++ dktX9_replay_6
def dkwX9_replay_4 : List UInt8 := [132, 5, 1, 42, 180, 0, 80, 6, 46, 42, 180, 0, 104, 6, 46, 100, 54, 10, 42, 180, 0, 80, 3, 46]
abbrev dktX9_replay_4 : List UInt8 := dkwX9_replay_4 ++ dktX9_replay_5
def dkwX9_replay_3 : List UInt8 := [27, 28, 29, 21, 9, 182, 1, 213, 21, 9, 154, 0, 7, 42, 182, 1, 216, 42, 182, 1, 219, 153, 0, 6]
abbrev dktX9_replay_3 : List UInt8 := dkwX9_replay_3 ++ dktX9_replay_4
def dkwX9_replay_2 : List UInt8 := [3, 54, 7, 17, 39, 15, 54, 8, 42, 182, 1, 210, 3, 54, 9, 21, 9, 4, 29, 120, 162, 0, 97, 42]
abbrev dktX9_replay_2 : List UInt8 := dkwX9_replay_2 ++ dktX9_replay_3
def dkwX9_replay_1 : List UInt8 := [184, 1, 185, 153, 0, 13, 21, 4, 3, 6, 184, 1, 185, 154, 0, 5, 2, 172, 3, 54, 5, 2, 54, 6]
abbrev dktX9_replay_1 : List UInt8 := dkwX9_replay_1 ++ dktX9_replay_2
def dkwX9_replay_0 : List UInt8 := [27, 184, 1, 189, 153, 0, 35, 28, 184, 1, 189, 153, 0, 28, 27, 28, 159, 0, 23, 29, 3, 16, 8]
abbrev dktX9_replay_0 : List UInt8 := dkwX9_replay_0 ++ dktX9_replay_1
theorem dksX9_replay_0 : cX9_replay.data.toList.drop 0 = dktX9_replay_0 := by decide +kernel
theorem dksX9_replay_1 : cX9_replay.data.toList.drop 23 = dktX9_replay_1 := dk_seg dksX9_replay_0 23 rfl rfl
theorem dksX9_replay_2 : cX9_replay.data.toList.drop 47 = dktX9_replay_2 := dk_seg dksX9_replay_1 24 rfl rfl
theorem dksX9_replay_3 : cX9_replay.data.toList.drop 71 = dktX9_replay_3 := dk_seg dksX9_replay_2 24 rfl rfl
theorem dksX9_replay_4 : cX9_replay.data.toList.drop 95 = dktX9_replay_4 := dk_seg dksX9_replay_3 24 rfl rfl
theorem dksX9_replay_5 : cX9_replay.data.toList.drop 119 = dktX9_replay_5 := dk_seg dksX9_replay_4 24 rfl rfl
theorem dksX9_replay_6 : cX9_replay.data.toList.drop 143 = dktX9_replay_6 := dk_seg dksX9_replay_5 24 rfl rfl
theorem dksX9_replay_7 : cX9_replay.data.toList.drop 166 = dktX9_replay_7 := dk_seg dksX9_replay_6 23 rfl rfl
theorem dksX9_replay_8 : cX9_replay.data.toList.drop 188 = dktX9_replay_8 := dk_seg dksX9_replay_7 22 rfl rfl
theorem dX9_replay_0 : decode cX9_replay 0 = .ok (.iload_n 1, 1) := dk_27 (dk_at dksX9_replay_0 0 rfl rfl)
theorem dX9_replay_1 : decode cX9_replay 1 = .ok (.invokestatic 445, 3) := dk_184 1 189 (dk_at dksX9_replay_0 1 rfl rfl)
theorem dX9_replay_4 : decode cX9_replay 4 = .ok (.ifCond .eq 35, 3) := dk_153 0 35 (dk_at dksX9_replay_0 4 rfl rfl)
theorem dX9_replay_7 : decode cX9_replay 7 = .ok (.iload_n 2, 1) := dk_28 (dk_at dksX9_replay_0 7 rfl rfl)
theorem dX9_replay_8 : decode cX9_replay 8 = .ok (.invokestatic 445, 3) := dk_184 1 189 (dk_at dksX9_replay_0 8 rfl rfl)
theorem dX9_replay_11 : decode cX9_replay 11 = .ok (.ifCond .eq 28, 3) := dk_153 0 28 (dk_at dksX9_replay_0 11 rfl rfl)
theorem dX9_replay_14 : decode cX9_replay 14 = .ok (.iload_n 1, 1) := dk_27 (dk_at dksX9_replay_0 14 rfl rfl)
theorem dX9_replay_15 : decode cX9_replay 15 = .ok (.iload_n 2, 1) := dk_28 (dk_at dksX9_replay_0 15 rfl rfl)
theorem dX9_replay_16 : decode cX9_replay 16 = .ok (.if_icmp .eq 23, 3) := dk_159 0 23 (dk_at dksX9_replay_0 16 rfl rfl)
theorem dX9_replay_19 : decode cX9_replay 19 = .ok (.iload_n 3, 1) := dk_29 (dk_at dksX9_replay_0 19 rfl rfl)
theorem dX9_replay_20 : decode cX9_replay 20 = .ok (.iconst 0, 1) := dk_3 (dk_at dksX9_replay_0 20 rfl rfl)
theorem dX9_replay_21 : decode cX9_replay 21 = .ok (.bipush 8, 2) := dk_16 8 (dk_at dksX9_replay_0 21 rfl rfl)
theorem dX9_replay_23 : decode cX9_replay 23 = .ok (.invokestatic 441, 3) := dk_184 1 185 (dk_at dksX9_replay_1 0 rfl rfl)
theorem dX9_replay_26 : decode cX9_replay 26 = .ok (.ifCond .eq 13, 3) := dk_153 0 13 (dk_at dksX9_replay_1 3 rfl rfl)
theorem dX9_replay_29 : decode cX9_replay 29 = .ok (.iload 4, 2) := dk_21 4 (dk_at dksX9_replay_1 6 rfl rfl)
theorem dX9_replay_31 : decode cX9_replay 31 = .ok (.iconst 0, 1) := dk_3 (dk_at dksX9_replay_1 8 rfl rfl)
theorem dX9_replay_32 : decode cX9_replay 32 = .ok (.iconst 3, 1) := dk_6 (dk_at dksX9_replay_1 9 rfl rfl)
theorem dX9_replay_33 : decode cX9_replay 33 = .ok (.invokestatic 441, 3) := dk_184 1 185 (dk_at dksX9_replay_1 10 rfl rfl)
theorem dX9_replay_36 : decode cX9_replay 36 = .ok (.ifCond .ne 5, 3) := dk_154 0 5 (dk_at dksX9_replay_1 13 rfl rfl)
theorem dX9_replay_39 : decode cX9_replay 39 = .ok (.iconst (-1), 1) := dk_2 (dk_at dksX9_replay_1 16 rfl rfl)
theorem dX9_replay_40 : decode cX9_replay 40 = .ok (.ireturn, 1) := dk_172 (dk_at dksX9_replay_1 17 rfl rfl)
theorem dX9_replay_41 : decode cX9_replay 41 = .ok (.iconst 0, 1) := dk_3 (dk_at dksX9_replay_1 18 rfl rfl)
theorem dX9_replay_42 : decode cX9_replay 42 = .ok (.istore 5, 2) := dk_54 5 (dk_at dksX9_replay_1 19 rfl rfl)
theorem dX9_replay_44 : decode cX9_replay 44 = .ok (.iconst (-1), 1) := dk_2 (dk_at dksX9_replay_1 21 rfl rfl)
theorem dX9_replay_45 : decode cX9_replay 45 = .ok (.istore 6, 2) := dk_54 6 (dk_at dksX9_replay_1 22 rfl rfl)
theorem dX9_replay_47 : decode cX9_replay 47 = .ok (.iconst 0, 1) := dk_3 (dk_at dksX9_replay_2 0 rfl rfl)
theorem dX9_replay_48 : decode cX9_replay 48 = .ok (.istore 7, 2) := dk_54 7 (dk_at dksX9_replay_2 1 rfl rfl)
theorem dX9_replay_50 : decode cX9_replay 50 = .ok (.sipush 9999, 3) := dk_17 39 15 (dk_at dksX9_replay_2 3 rfl rfl)
theorem dX9_replay_53 : decode cX9_replay 53 = .ok (.istore 8, 2) := dk_54 8 (dk_at dksX9_replay_2 6 rfl rfl)
theorem dX9_replay_55 : decode cX9_replay 55 = .ok (.aload_n 0, 1) := dk_42 (dk_at dksX9_replay_2 8 rfl rfl)
theorem dX9_replay_56 : decode cX9_replay 56 = .ok (.invokevirtual 466, 3) := dk_182 1 210 (dk_at dksX9_replay_2 9 rfl rfl)
theorem dX9_replay_59 : decode cX9_replay 59 = .ok (.iconst 0, 1) := dk_3 (dk_at dksX9_replay_2 12 rfl rfl)
theorem dX9_replay_60 : decode cX9_replay 60 = .ok (.istore 9, 2) := dk_54 9 (dk_at dksX9_replay_2 13 rfl rfl)
theorem dX9_replay_62 : decode cX9_replay 62 = .ok (.iload 9, 2) := dk_21 9 (dk_at dksX9_replay_2 15 rfl rfl)
theorem dX9_replay_64 : decode cX9_replay 64 = .ok (.iconst 1, 1) := dk_4 (dk_at dksX9_replay_2 17 rfl rfl)
theorem dX9_replay_65 : decode cX9_replay 65 = .ok (.iload_n 3, 1) := dk_29 (dk_at dksX9_replay_2 18 rfl rfl)
theorem dX9_replay_66 : decode cX9_replay 66 = .ok (.ishl, 1) := dk_120 (dk_at dksX9_replay_2 19 rfl rfl)
theorem dX9_replay_67 : decode cX9_replay 67 = .ok (.if_icmp .ge 97, 3) := dk_162 0 97 (dk_at dksX9_replay_2 20 rfl rfl)
theorem dX9_replay_70 : decode cX9_replay 70 = .ok (.aload_n 0, 1) := dk_42 (dk_at dksX9_replay_2 23 rfl rfl)
theorem dX9_replay_71 : decode cX9_replay 71 = .ok (.iload_n 1, 1) := dk_27 (dk_at dksX9_replay_3 0 rfl rfl)
theorem dX9_replay_72 : decode cX9_replay 72 = .ok (.iload_n 2, 1) := dk_28 (dk_at dksX9_replay_3 1 rfl rfl)
theorem dX9_replay_73 : decode cX9_replay 73 = .ok (.iload_n 3, 1) := dk_29 (dk_at dksX9_replay_3 2 rfl rfl)
theorem dX9_replay_74 : decode cX9_replay 74 = .ok (.iload 9, 2) := dk_21 9 (dk_at dksX9_replay_3 3 rfl rfl)
theorem dX9_replay_76 : decode cX9_replay 76 = .ok (.invokevirtual 469, 3) := dk_182 1 213 (dk_at dksX9_replay_3 5 rfl rfl)
theorem dX9_replay_79 : decode cX9_replay 79 = .ok (.iload 9, 2) := dk_21 9 (dk_at dksX9_replay_3 8 rfl rfl)
theorem dX9_replay_81 : decode cX9_replay 81 = .ok (.ifCond .ne 7, 3) := dk_154 0 7 (dk_at dksX9_replay_3 10 rfl rfl)
theorem dX9_replay_84 : decode cX9_replay 84 = .ok (.aload_n 0, 1) := dk_42 (dk_at dksX9_replay_3 13 rfl rfl)
theorem dX9_replay_85 : decode cX9_replay 85 = .ok (.invokevirtual 472, 3) := dk_182 1 216 (dk_at dksX9_replay_3 14 rfl rfl)
theorem dX9_replay_88 : decode cX9_replay 88 = .ok (.aload_n 0, 1) := dk_42 (dk_at dksX9_replay_3 17 rfl rfl)
theorem dX9_replay_89 : decode cX9_replay 89 = .ok (.invokevirtual 475, 3) := dk_182 1 219 (dk_at dksX9_replay_3 18 rfl rfl)
theorem dX9_replay_92 : decode cX9_replay 92 = .ok (.ifCond .eq 6, 3) := dk_153 0 6 (dk_at dksX9_replay_3 21 rfl rfl)
theorem dX9_replay_95 : decode cX9_replay 95 = .ok (.iinc 5 1, 3) := dk_132 5 1 (dk_at dksX9_replay_4 0 rfl rfl)
theorem dX9_replay_98 : decode cX9_replay 98 = .ok (.aload_n 0, 1) := dk_42 (dk_at dksX9_replay_4 3 rfl rfl)
theorem dX9_replay_99 : decode cX9_replay 99 = .ok (.getfield 80, 3) := dk_180 0 80 (dk_at dksX9_replay_4 4 rfl rfl)
theorem dX9_replay_102 : decode cX9_replay 102 = .ok (.iconst 3, 1) := dk_6 (dk_at dksX9_replay_4 7 rfl rfl)
theorem dX9_replay_103 : decode cX9_replay 103 = .ok (.iaload, 1) := dk_46 (dk_at dksX9_replay_4 8 rfl rfl)
theorem dX9_replay_104 : decode cX9_replay 104 = .ok (.aload_n 0, 1) := dk_42 (dk_at dksX9_replay_4 9 rfl rfl)
theorem dX9_replay_105 : decode cX9_replay 105 = .ok (.getfield 104, 3) := dk_180 0 104 (dk_at dksX9_replay_4 10 rfl rfl)
theorem dX9_replay_108 : decode cX9_replay 108 = .ok (.iconst 3, 1) := dk_6 (dk_at dksX9_replay_4 13 rfl rfl)
theorem dX9_replay_109 : decode cX9_replay 109 = .ok (.iaload, 1) := dk_46 (dk_at dksX9_replay_4 14 rfl rfl)
theorem dX9_replay_110 : decode cX9_replay 110 = .ok (.isub, 1) := dk_100 (dk_at dksX9_replay_4 15 rfl rfl)
theorem dX9_replay_111 : decode cX9_replay 111 = .ok (.istore 10, 2) := dk_54 10 (dk_at dksX9_replay_4 16 rfl rfl)
theorem dX9_replay_113 : decode cX9_replay 113 = .ok (.aload_n 0, 1) := dk_42 (dk_at dksX9_replay_4 18 rfl rfl)
theorem dX9_replay_114 : decode cX9_replay 114 = .ok (.getfield 80, 3) := dk_180 0 80 (dk_at dksX9_replay_4 19 rfl rfl)
theorem dX9_replay_117 : decode cX9_replay 117 = .ok (.iconst 0, 1) := dk_3 (dk_at dksX9_replay_4 22 rfl rfl)
theorem dX9_replay_118 : decode cX9_replay 118 = .ok (.iaload, 1) := dk_46 (dk_at dksX9_replay_4 23 rfl rfl)
theorem dX9_replay_119 : decode cX9_replay 119 = .ok (.aload_n 0, 1) := dk_42 (dk_at dksX9_replay_5 0 rfl rfl)
theorem dX9_replay_120 : decode cX9_replay 120 = .ok (.getfield 104, 3) := dk_180 0 104 (dk_at dksX9_replay_5 1 rfl rfl)
theorem dX9_replay_123 : decode cX9_replay 123 = .ok (.iconst 0, 1) := dk_3 (dk_at dksX9_replay_5 4 rfl rfl)
theorem dX9_replay_124 : decode cX9_replay 124 = .ok (.iaload, 1) := dk_46 (dk_at dksX9_replay_5 5 rfl rfl)
theorem dX9_replay_125 : decode cX9_replay 125 = .ok (.isub, 1) := dk_100 (dk_at dksX9_replay_5 6 rfl rfl)
theorem dX9_replay_126 : decode cX9_replay 126 = .ok (.istore 11, 2) := dk_54 11 (dk_at dksX9_replay_5 7 rfl rfl)
theorem dX9_replay_128 : decode cX9_replay 128 = .ok (.iload 10, 2) := dk_21 10 (dk_at dksX9_replay_5 9 rfl rfl)
theorem dX9_replay_130 : decode cX9_replay 130 = .ok (.iload 6, 2) := dk_21 6 (dk_at dksX9_replay_5 11 rfl rfl)
theorem dX9_replay_132 : decode cX9_replay 132 = .ok (.if_icmp .le 11, 3) := dk_164 0 11 (dk_at dksX9_replay_5 13 rfl rfl)
theorem dX9_replay_135 : decode cX9_replay 135 = .ok (.iload 10, 2) := dk_21 10 (dk_at dksX9_replay_5 16 rfl rfl)
theorem dX9_replay_137 : decode cX9_replay 137 = .ok (.istore 6, 2) := dk_54 6 (dk_at dksX9_replay_5 18 rfl rfl)
theorem dX9_replay_139 : decode cX9_replay 139 = .ok (.iload 9, 2) := dk_21 9 (dk_at dksX9_replay_5 20 rfl rfl)
theorem dX9_replay_141 : decode cX9_replay 141 = .ok (.istore 7, 2) := dk_54 7 (dk_at dksX9_replay_5 22 rfl rfl)
theorem dX9_replay_143 : decode cX9_replay 143 = .ok (.iload 11, 2) := dk_21 11 (dk_at dksX9_replay_6 0 rfl rfl)
theorem dX9_replay_145 : decode cX9_replay 145 = .ok (.iload 8, 2) := dk_21 8 (dk_at dksX9_replay_6 2 rfl rfl)
theorem dX9_replay_147 : decode cX9_replay 147 = .ok (.if_icmp .ge 7, 3) := dk_162 0 7 (dk_at dksX9_replay_6 4 rfl rfl)
theorem dX9_replay_150 : decode cX9_replay 150 = .ok (.iload 11, 2) := dk_21 11 (dk_at dksX9_replay_6 7 rfl rfl)
theorem dX9_replay_152 : decode cX9_replay 152 = .ok (.istore 8, 2) := dk_54 8 (dk_at dksX9_replay_6 9 rfl rfl)
theorem dX9_replay_154 : decode cX9_replay 154 = .ok (.aload_n 0, 1) := dk_42 (dk_at dksX9_replay_6 11 rfl rfl)
theorem dX9_replay_155 : decode cX9_replay 155 = .ok (.invokevirtual 478, 3) := dk_182 1 222 (dk_at dksX9_replay_6 12 rfl rfl)
theorem dX9_replay_158 : decode cX9_replay 158 = .ok (.iinc 9 1, 3) := dk_132 9 1 (dk_at dksX9_replay_6 15 rfl rfl)
theorem dX9_replay_161 : decode cX9_replay 161 = .ok (.goto (-99), 3) := dk_167 255 157 (dk_at dksX9_replay_6 18 rfl rfl)
theorem dX9_replay_164 : decode cX9_replay 164 = .ok (.iload 4, 2) := dk_21 4 (dk_at dksX9_replay_6 21 rfl rfl)
theorem dX9_replay_166 : decode cX9_replay 166 = .ok (.ifCond .ne 8, 3) := dk_154 0 8 (dk_at dksX9_replay_7 0 rfl rfl)
theorem dX9_replay_169 : decode cX9_replay 169 = .ok (.iload 5, 2) := dk_21 5 (dk_at dksX9_replay_7 3 rfl rfl)
theorem dX9_replay_171 : decode cX9_replay 171 = .ok (.goto 27, 3) := dk_167 0 27 (dk_at dksX9_replay_7 5 rfl rfl)
theorem dX9_replay_174 : decode cX9_replay 174 = .ok (.iload 4, 2) := dk_21 4 (dk_at dksX9_replay_7 8 rfl rfl)
theorem dX9_replay_176 : decode cX9_replay 176 = .ok (.iconst 1, 1) := dk_4 (dk_at dksX9_replay_7 10 rfl rfl)
theorem dX9_replay_177 : decode cX9_replay 177 = .ok (.if_icmp .ne 8, 3) := dk_160 0 8 (dk_at dksX9_replay_7 11 rfl rfl)
theorem dX9_replay_180 : decode cX9_replay 180 = .ok (.iload 6, 2) := dk_21 6 (dk_at dksX9_replay_7 14 rfl rfl)
theorem dX9_replay_182 : decode cX9_replay 182 = .ok (.goto 16, 3) := dk_167 0 16 (dk_at dksX9_replay_7 16 rfl rfl)
theorem dX9_replay_185 : decode cX9_replay 185 = .ok (.iload 4, 2) := dk_21 4 (dk_at dksX9_replay_7 19 rfl rfl)
theorem dX9_replay_187 : decode cX9_replay 187 = .ok (.iconst 2, 1) := dk_5 (dk_at dksX9_replay_7 21 rfl rfl)
theorem dX9_replay_188 : decode cX9_replay 188 = .ok (.if_icmp .ne 8, 3) := dk_160 0 8 (dk_at dksX9_replay_8 0 rfl rfl)
theorem dX9_replay_191 : decode cX9_replay 191 = .ok (.iload 7, 2) := dk_21 7 (dk_at dksX9_replay_8 3 rfl rfl)
theorem dX9_replay_193 : decode cX9_replay 193 = .ok (.goto 5, 3) := dk_167 0 5 (dk_at dksX9_replay_8 5 rfl rfl)
theorem dX9_replay_196 : decode cX9_replay 196 = .ok (.iload 8, 2) := dk_21 8 (dk_at dksX9_replay_8 8 rfl rfl)
theorem dX9_replay_198 : decode cX9_replay 198 = .ok (.ireturn, 1) := dk_172 (dk_at dksX9_replay_8 10 rfl rfl)
abbrev cX9_keeps : ByteArray := prog_20_method_111_code
def yX9_keeps : MethodName := ⟨RX9, "keeps", "()V"⟩
def dkwX9_keeps_1 : List UInt8 := [167, 255, 234, 177]
abbrev dktX9_keeps_1 : List UInt8 := dkwX9_keeps_1 ++ []
def dkwX9_keeps_0 : List UInt8 := [3, 60, 27, 17, 55, 20, 162, 0, 21, 42, 180, 0, 104, 27, 42, 180, 0, 80, 27, 46, 79, 132, 1, 1]
abbrev dktX9_keeps_0 : List UInt8 := dkwX9_keeps_0 ++ dktX9_keeps_1
theorem dksX9_keeps_0 : cX9_keeps.data.toList.drop 0 = dktX9_keeps_0 := by decide +kernel
theorem dksX9_keeps_1 : cX9_keeps.data.toList.drop 24 = dktX9_keeps_1 := dk_seg dksX9_keeps_0 24 rfl rfl
theorem dX9_keeps_0 : decode cX9_keeps 0 = .ok (.iconst 0, 1) := dk_3 (dk_at dksX9_keeps_0 0 rfl rfl)
theorem dX9_keeps_1 : decode cX9_keeps 1 = .ok (.istore_n 1, 1) := dk_60 (dk_at dksX9_keeps_0 1 rfl rfl)
theorem dX9_keeps_2 : decode cX9_keeps 2 = .ok (.iload_n 1, 1) := dk_27 (dk_at dksX9_keeps_0 2 rfl rfl)
theorem dX9_keeps_3 : decode cX9_keeps 3 = .ok (.sipush 14100, 3) := dk_17 55 20 (dk_at dksX9_keeps_0 3 rfl rfl)
theorem dX9_keeps_6 : decode cX9_keeps 6 = .ok (.if_icmp .ge 21, 3) := dk_162 0 21 (dk_at dksX9_keeps_0 6 rfl rfl)
theorem dX9_keeps_9 : decode cX9_keeps 9 = .ok (.aload_n 0, 1) := dk_42 (dk_at dksX9_keeps_0 9 rfl rfl)
theorem dX9_keeps_10 : decode cX9_keeps 10 = .ok (.getfield 104, 3) := dk_180 0 104 (dk_at dksX9_keeps_0 10 rfl rfl)
theorem dX9_keeps_13 : decode cX9_keeps 13 = .ok (.iload_n 1, 1) := dk_27 (dk_at dksX9_keeps_0 13 rfl rfl)
theorem dX9_keeps_14 : decode cX9_keeps 14 = .ok (.aload_n 0, 1) := dk_42 (dk_at dksX9_keeps_0 14 rfl rfl)
theorem dX9_keeps_15 : decode cX9_keeps 15 = .ok (.getfield 80, 3) := dk_180 0 80 (dk_at dksX9_keeps_0 15 rfl rfl)
theorem dX9_keeps_18 : decode cX9_keeps 18 = .ok (.iload_n 1, 1) := dk_27 (dk_at dksX9_keeps_0 18 rfl rfl)
theorem dX9_keeps_19 : decode cX9_keeps 19 = .ok (.iaload, 1) := dk_46 (dk_at dksX9_keeps_0 19 rfl rfl)
theorem dX9_keeps_20 : decode cX9_keeps 20 = .ok (.iastore, 1) := dk_79 (dk_at dksX9_keeps_0 20 rfl rfl)
theorem dX9_keeps_21 : decode cX9_keeps 21 = .ok (.iinc 1 1, 3) := dk_132 1 1 (dk_at dksX9_keeps_0 21 rfl rfl)
theorem dX9_keeps_24 : decode cX9_keeps 24 = .ok (.goto (-22), 3) := dk_167 255 234 (dk_at dksX9_keeps_1 0 rfl rfl)
theorem dX9_keeps_27 : decode cX9_keeps 27 = .ok (.return_, 1) := dk_177 (dk_at dksX9_keeps_1 3 rfl rfl)
abbrev cX9_rowDone : ByteArray := prog_20_method_113_code
def yX9_rowDone : MethodName := ⟨RX9, "rowDone", "(IIII)V"⟩
def dkwX9_rowDone_2 : List UInt8 := [182, 1, 10, 177]
abbrev dktX9_rowDone_2 : List UInt8 := dkwX9_rowDone_2 ++ []
def dkwX9_rowDone_1 : List UInt8 := [28, 182, 1, 1, 132, 5, 1, 167, 255, 228, 42, 27, 182, 1, 4, 87, 42, 28, 182, 1, 4, 87, 42]
abbrev dktX9_rowDone_1 : List UInt8 := dkwX9_rowDone_1 ++ dktX9_rowDone_2
def dkwX9_rowDone_0 : List UInt8 := [3, 54, 5, 21, 5, 29, 162, 0, 28, 42, 21, 4, 21, 5, 122, 4, 126, 154, 0, 7, 27, 167, 0, 4]
abbrev dktX9_rowDone_0 : List UInt8 := dkwX9_rowDone_0 ++ dktX9_rowDone_1
theorem dksX9_rowDone_0 : cX9_rowDone.data.toList.drop 0 = dktX9_rowDone_0 := by decide +kernel
theorem dksX9_rowDone_1 : cX9_rowDone.data.toList.drop 24 = dktX9_rowDone_1 := dk_seg dksX9_rowDone_0 24 rfl rfl
theorem dksX9_rowDone_2 : cX9_rowDone.data.toList.drop 47 = dktX9_rowDone_2 := dk_seg dksX9_rowDone_1 23 rfl rfl
theorem dX9_rowDone_0 : decode cX9_rowDone 0 = .ok (.iconst 0, 1) := dk_3 (dk_at dksX9_rowDone_0 0 rfl rfl)
theorem dX9_rowDone_1 : decode cX9_rowDone 1 = .ok (.istore 5, 2) := dk_54 5 (dk_at dksX9_rowDone_0 1 rfl rfl)
theorem dX9_rowDone_3 : decode cX9_rowDone 3 = .ok (.iload 5, 2) := dk_21 5 (dk_at dksX9_rowDone_0 3 rfl rfl)
theorem dX9_rowDone_5 : decode cX9_rowDone 5 = .ok (.iload_n 3, 1) := dk_29 (dk_at dksX9_rowDone_0 5 rfl rfl)
theorem dX9_rowDone_6 : decode cX9_rowDone 6 = .ok (.if_icmp .ge 28, 3) := dk_162 0 28 (dk_at dksX9_rowDone_0 6 rfl rfl)
theorem dX9_rowDone_9 : decode cX9_rowDone 9 = .ok (.aload_n 0, 1) := dk_42 (dk_at dksX9_rowDone_0 9 rfl rfl)
theorem dX9_rowDone_10 : decode cX9_rowDone 10 = .ok (.iload 4, 2) := dk_21 4 (dk_at dksX9_rowDone_0 10 rfl rfl)
theorem dX9_rowDone_12 : decode cX9_rowDone 12 = .ok (.iload 5, 2) := dk_21 5 (dk_at dksX9_rowDone_0 12 rfl rfl)
theorem dX9_rowDone_14 : decode cX9_rowDone 14 = .ok (.ishr, 1) := dk_122 (dk_at dksX9_rowDone_0 14 rfl rfl)
theorem dX9_rowDone_15 : decode cX9_rowDone 15 = .ok (.iconst 1, 1) := dk_4 (dk_at dksX9_rowDone_0 15 rfl rfl)
theorem dX9_rowDone_16 : decode cX9_rowDone 16 = .ok (.iand, 1) := dk_126 (dk_at dksX9_rowDone_0 16 rfl rfl)
theorem dX9_rowDone_17 : decode cX9_rowDone 17 = .ok (.ifCond .ne 7, 3) := dk_154 0 7 (dk_at dksX9_rowDone_0 17 rfl rfl)
theorem dX9_rowDone_20 : decode cX9_rowDone 20 = .ok (.iload_n 1, 1) := dk_27 (dk_at dksX9_rowDone_0 20 rfl rfl)
theorem dX9_rowDone_21 : decode cX9_rowDone 21 = .ok (.goto 4, 3) := dk_167 0 4 (dk_at dksX9_rowDone_0 21 rfl rfl)
theorem dX9_rowDone_24 : decode cX9_rowDone 24 = .ok (.iload_n 2, 1) := dk_28 (dk_at dksX9_rowDone_1 0 rfl rfl)
theorem dX9_rowDone_25 : decode cX9_rowDone 25 = .ok (.invokevirtual 257, 3) := dk_182 1 1 (dk_at dksX9_rowDone_1 1 rfl rfl)
theorem dX9_rowDone_28 : decode cX9_rowDone 28 = .ok (.iinc 5 1, 3) := dk_132 5 1 (dk_at dksX9_rowDone_1 4 rfl rfl)
theorem dX9_rowDone_31 : decode cX9_rowDone 31 = .ok (.goto (-28), 3) := dk_167 255 228 (dk_at dksX9_rowDone_1 7 rfl rfl)
theorem dX9_rowDone_34 : decode cX9_rowDone 34 = .ok (.aload_n 0, 1) := dk_42 (dk_at dksX9_rowDone_1 10 rfl rfl)
theorem dX9_rowDone_35 : decode cX9_rowDone 35 = .ok (.iload_n 1, 1) := dk_27 (dk_at dksX9_rowDone_1 11 rfl rfl)
theorem dX9_rowDone_36 : decode cX9_rowDone 36 = .ok (.invokevirtual 260, 3) := dk_182 1 4 (dk_at dksX9_rowDone_1 12 rfl rfl)
theorem dX9_rowDone_39 : decode cX9_rowDone 39 = .ok (.pop, 1) := dk_87 (dk_at dksX9_rowDone_1 15 rfl rfl)
theorem dX9_rowDone_40 : decode cX9_rowDone 40 = .ok (.aload_n 0, 1) := dk_42 (dk_at dksX9_rowDone_1 16 rfl rfl)
theorem dX9_rowDone_41 : decode cX9_rowDone 41 = .ok (.iload_n 2, 1) := dk_28 (dk_at dksX9_rowDone_1 17 rfl rfl)
theorem dX9_rowDone_42 : decode cX9_rowDone 42 = .ok (.invokevirtual 260, 3) := dk_182 1 4 (dk_at dksX9_rowDone_1 18 rfl rfl)
theorem dX9_rowDone_45 : decode cX9_rowDone 45 = .ok (.pop, 1) := dk_87 (dk_at dksX9_rowDone_1 21 rfl rfl)
theorem dX9_rowDone_46 : decode cX9_rowDone 46 = .ok (.aload_n 0, 1) := dk_42 (dk_at dksX9_rowDone_1 22 rfl rfl)
theorem dX9_rowDone_47 : decode cX9_rowDone 47 = .ok (.invokevirtual 266, 3) := dk_182 1 10 (dk_at dksX9_rowDone_2 0 rfl rfl)
theorem dX9_rowDone_50 : decode cX9_rowDone 50 = .ok (.return_, 1) := dk_177 (dk_at dksX9_rowDone_2 3 rfl rfl)
abbrev cX9_keepsFirst : ByteArray := prog_20_method_114_code
def yX9_keepsFirst : MethodName := ⟨RX9, "keepsFirst", "()V"⟩
def dkwX9_keepsFirst_2 : List UInt8 := [177]
abbrev dktX9_keepsFirst_2 : List UInt8 := dkwX9_keepsFirst_2 ++ []
def dkwX9_keepsFirst_1 : List UInt8 := [180, 0, 98, 27, 46, 79, 42, 180, 0, 110, 27, 42, 180, 0, 101, 27, 46, 79, 132, 1, 1, 167, 255, 221]
abbrev dktX9_keepsFirst_1 : List UInt8 := dkwX9_keepsFirst_1 ++ dktX9_keepsFirst_2
def dkwX9_keepsFirst_0 : List UInt8 := [42, 42, 180, 1, 13, 181, 1, 207, 3, 60, 27, 42, 180, 1, 13, 162, 0, 33, 42, 180, 0, 107, 27, 42]
abbrev dktX9_keepsFirst_0 : List UInt8 := dkwX9_keepsFirst_0 ++ dktX9_keepsFirst_1
theorem dksX9_keepsFirst_0 : cX9_keepsFirst.data.toList.drop 0 = dktX9_keepsFirst_0 := by decide +kernel
theorem dksX9_keepsFirst_1 : cX9_keepsFirst.data.toList.drop 24 = dktX9_keepsFirst_1 := dk_seg dksX9_keepsFirst_0 24 rfl rfl
theorem dksX9_keepsFirst_2 : cX9_keepsFirst.data.toList.drop 48 = dktX9_keepsFirst_2 := dk_seg dksX9_keepsFirst_1 24 rfl rfl
theorem dX9_keepsFirst_0 : decode cX9_keepsFirst 0 = .ok (.aload_n 0, 1) := dk_42 (dk_at dksX9_keepsFirst_0 0 rfl rfl)
theorem dX9_keepsFirst_1 : decode cX9_keepsFirst 1 = .ok (.aload_n 0, 1) := dk_42 (dk_at dksX9_keepsFirst_0 1 rfl rfl)
theorem dX9_keepsFirst_2 : decode cX9_keepsFirst 2 = .ok (.getfield 269, 3) := dk_180 1 13 (dk_at dksX9_keepsFirst_0 2 rfl rfl)
theorem dX9_keepsFirst_5 : decode cX9_keepsFirst 5 = .ok (.putfield 463, 3) := dk_181 1 207 (dk_at dksX9_keepsFirst_0 5 rfl rfl)
theorem dX9_keepsFirst_8 : decode cX9_keepsFirst 8 = .ok (.iconst 0, 1) := dk_3 (dk_at dksX9_keepsFirst_0 8 rfl rfl)
theorem dX9_keepsFirst_9 : decode cX9_keepsFirst 9 = .ok (.istore_n 1, 1) := dk_60 (dk_at dksX9_keepsFirst_0 9 rfl rfl)
theorem dX9_keepsFirst_10 : decode cX9_keepsFirst 10 = .ok (.iload_n 1, 1) := dk_27 (dk_at dksX9_keepsFirst_0 10 rfl rfl)
theorem dX9_keepsFirst_11 : decode cX9_keepsFirst 11 = .ok (.aload_n 0, 1) := dk_42 (dk_at dksX9_keepsFirst_0 11 rfl rfl)
theorem dX9_keepsFirst_12 : decode cX9_keepsFirst 12 = .ok (.getfield 269, 3) := dk_180 1 13 (dk_at dksX9_keepsFirst_0 12 rfl rfl)
theorem dX9_keepsFirst_15 : decode cX9_keepsFirst 15 = .ok (.if_icmp .ge 33, 3) := dk_162 0 33 (dk_at dksX9_keepsFirst_0 15 rfl rfl)
theorem dX9_keepsFirst_18 : decode cX9_keepsFirst 18 = .ok (.aload_n 0, 1) := dk_42 (dk_at dksX9_keepsFirst_0 18 rfl rfl)
theorem dX9_keepsFirst_19 : decode cX9_keepsFirst 19 = .ok (.getfield 107, 3) := dk_180 0 107 (dk_at dksX9_keepsFirst_0 19 rfl rfl)
theorem dX9_keepsFirst_22 : decode cX9_keepsFirst 22 = .ok (.iload_n 1, 1) := dk_27 (dk_at dksX9_keepsFirst_0 22 rfl rfl)
theorem dX9_keepsFirst_23 : decode cX9_keepsFirst 23 = .ok (.aload_n 0, 1) := dk_42 (dk_at dksX9_keepsFirst_0 23 rfl rfl)
theorem dX9_keepsFirst_24 : decode cX9_keepsFirst 24 = .ok (.getfield 98, 3) := dk_180 0 98 (dk_at dksX9_keepsFirst_1 0 rfl rfl)
theorem dX9_keepsFirst_27 : decode cX9_keepsFirst 27 = .ok (.iload_n 1, 1) := dk_27 (dk_at dksX9_keepsFirst_1 3 rfl rfl)
theorem dX9_keepsFirst_28 : decode cX9_keepsFirst 28 = .ok (.iaload, 1) := dk_46 (dk_at dksX9_keepsFirst_1 4 rfl rfl)
theorem dX9_keepsFirst_29 : decode cX9_keepsFirst 29 = .ok (.iastore, 1) := dk_79 (dk_at dksX9_keepsFirst_1 5 rfl rfl)
theorem dX9_keepsFirst_30 : decode cX9_keepsFirst 30 = .ok (.aload_n 0, 1) := dk_42 (dk_at dksX9_keepsFirst_1 6 rfl rfl)
theorem dX9_keepsFirst_31 : decode cX9_keepsFirst 31 = .ok (.getfield 110, 3) := dk_180 0 110 (dk_at dksX9_keepsFirst_1 7 rfl rfl)
theorem dX9_keepsFirst_34 : decode cX9_keepsFirst 34 = .ok (.iload_n 1, 1) := dk_27 (dk_at dksX9_keepsFirst_1 10 rfl rfl)
theorem dX9_keepsFirst_35 : decode cX9_keepsFirst 35 = .ok (.aload_n 0, 1) := dk_42 (dk_at dksX9_keepsFirst_1 11 rfl rfl)
theorem dX9_keepsFirst_36 : decode cX9_keepsFirst 36 = .ok (.getfield 101, 3) := dk_180 0 101 (dk_at dksX9_keepsFirst_1 12 rfl rfl)
theorem dX9_keepsFirst_39 : decode cX9_keepsFirst 39 = .ok (.iload_n 1, 1) := dk_27 (dk_at dksX9_keepsFirst_1 15 rfl rfl)
theorem dX9_keepsFirst_40 : decode cX9_keepsFirst 40 = .ok (.iaload, 1) := dk_46 (dk_at dksX9_keepsFirst_1 16 rfl rfl)
theorem dX9_keepsFirst_41 : decode cX9_keepsFirst 41 = .ok (.iastore, 1) := dk_79 (dk_at dksX9_keepsFirst_1 17 rfl rfl)
theorem dX9_keepsFirst_42 : decode cX9_keepsFirst 42 = .ok (.iinc 1 1, 3) := dk_132 1 1 (dk_at dksX9_keepsFirst_1 18 rfl rfl)
theorem dX9_keepsFirst_45 : decode cX9_keepsFirst 45 = .ok (.goto (-35), 3) := dk_167 255 221 (dk_at dksX9_keepsFirst_1 21 rfl rfl)
theorem dX9_keepsFirst_48 : decode cX9_keepsFirst 48 = .ok (.return_, 1) := dk_177 (dk_at dksX9_keepsFirst_2 0 rfl rfl)
abbrev cX9_isAsFirst : ByteArray := prog_20_method_115_code
def yX9_isAsFirst : MethodName := ⟨RX9, "isAsFirst", "()Z"⟩
def dkwX9_isAsFirst_2 : List UInt8 := [27, 46, 159, 0, 5, 3, 172, 132, 1, 1, 167, 255, 213, 4, 172]
abbrev dktX9_isAsFirst_2 : List UInt8 := dkwX9_isAsFirst_2 ++ []
def dkwX9_isAsFirst_1 : List UInt8 := [180, 0, 98, 27, 46, 42, 180, 0, 107, 27, 46, 160, 0, 18, 42, 180, 0, 101, 27, 46, 42, 180, 0, 110]
abbrev dktX9_isAsFirst_1 : List UInt8 := dkwX9_isAsFirst_1 ++ dktX9_isAsFirst_2
def dkwX9_isAsFirst_0 : List UInt8 := [42, 180, 1, 13, 42, 180, 1, 207, 159, 0, 5, 3, 172, 3, 60, 27, 42, 180, 1, 13, 162, 0, 41, 42]
abbrev dktX9_isAsFirst_0 : List UInt8 := dkwX9_isAsFirst_0 ++ dktX9_isAsFirst_1
theorem dksX9_isAsFirst_0 : cX9_isAsFirst.data.toList.drop 0 = dktX9_isAsFirst_0 := by decide +kernel
theorem dksX9_isAsFirst_1 : cX9_isAsFirst.data.toList.drop 24 = dktX9_isAsFirst_1 := dk_seg dksX9_isAsFirst_0 24 rfl rfl
theorem dksX9_isAsFirst_2 : cX9_isAsFirst.data.toList.drop 48 = dktX9_isAsFirst_2 := dk_seg dksX9_isAsFirst_1 24 rfl rfl
theorem dX9_isAsFirst_0 : decode cX9_isAsFirst 0 = .ok (.aload_n 0, 1) := dk_42 (dk_at dksX9_isAsFirst_0 0 rfl rfl)
theorem dX9_isAsFirst_1 : decode cX9_isAsFirst 1 = .ok (.getfield 269, 3) := dk_180 1 13 (dk_at dksX9_isAsFirst_0 1 rfl rfl)
theorem dX9_isAsFirst_4 : decode cX9_isAsFirst 4 = .ok (.aload_n 0, 1) := dk_42 (dk_at dksX9_isAsFirst_0 4 rfl rfl)
theorem dX9_isAsFirst_5 : decode cX9_isAsFirst 5 = .ok (.getfield 463, 3) := dk_180 1 207 (dk_at dksX9_isAsFirst_0 5 rfl rfl)
theorem dX9_isAsFirst_8 : decode cX9_isAsFirst 8 = .ok (.if_icmp .eq 5, 3) := dk_159 0 5 (dk_at dksX9_isAsFirst_0 8 rfl rfl)
theorem dX9_isAsFirst_11 : decode cX9_isAsFirst 11 = .ok (.iconst 0, 1) := dk_3 (dk_at dksX9_isAsFirst_0 11 rfl rfl)
theorem dX9_isAsFirst_12 : decode cX9_isAsFirst 12 = .ok (.ireturn, 1) := dk_172 (dk_at dksX9_isAsFirst_0 12 rfl rfl)
theorem dX9_isAsFirst_13 : decode cX9_isAsFirst 13 = .ok (.iconst 0, 1) := dk_3 (dk_at dksX9_isAsFirst_0 13 rfl rfl)
theorem dX9_isAsFirst_14 : decode cX9_isAsFirst 14 = .ok (.istore_n 1, 1) := dk_60 (dk_at dksX9_isAsFirst_0 14 rfl rfl)
theorem dX9_isAsFirst_15 : decode cX9_isAsFirst 15 = .ok (.iload_n 1, 1) := dk_27 (dk_at dksX9_isAsFirst_0 15 rfl rfl)
theorem dX9_isAsFirst_16 : decode cX9_isAsFirst 16 = .ok (.aload_n 0, 1) := dk_42 (dk_at dksX9_isAsFirst_0 16 rfl rfl)
theorem dX9_isAsFirst_17 : decode cX9_isAsFirst 17 = .ok (.getfield 269, 3) := dk_180 1 13 (dk_at dksX9_isAsFirst_0 17 rfl rfl)
theorem dX9_isAsFirst_20 : decode cX9_isAsFirst 20 = .ok (.if_icmp .ge 41, 3) := dk_162 0 41 (dk_at dksX9_isAsFirst_0 20 rfl rfl)
theorem dX9_isAsFirst_23 : decode cX9_isAsFirst 23 = .ok (.aload_n 0, 1) := dk_42 (dk_at dksX9_isAsFirst_0 23 rfl rfl)
theorem dX9_isAsFirst_24 : decode cX9_isAsFirst 24 = .ok (.getfield 98, 3) := dk_180 0 98 (dk_at dksX9_isAsFirst_1 0 rfl rfl)
theorem dX9_isAsFirst_27 : decode cX9_isAsFirst 27 = .ok (.iload_n 1, 1) := dk_27 (dk_at dksX9_isAsFirst_1 3 rfl rfl)
theorem dX9_isAsFirst_28 : decode cX9_isAsFirst 28 = .ok (.iaload, 1) := dk_46 (dk_at dksX9_isAsFirst_1 4 rfl rfl)
theorem dX9_isAsFirst_29 : decode cX9_isAsFirst 29 = .ok (.aload_n 0, 1) := dk_42 (dk_at dksX9_isAsFirst_1 5 rfl rfl)
theorem dX9_isAsFirst_30 : decode cX9_isAsFirst 30 = .ok (.getfield 107, 3) := dk_180 0 107 (dk_at dksX9_isAsFirst_1 6 rfl rfl)
theorem dX9_isAsFirst_33 : decode cX9_isAsFirst 33 = .ok (.iload_n 1, 1) := dk_27 (dk_at dksX9_isAsFirst_1 9 rfl rfl)
theorem dX9_isAsFirst_34 : decode cX9_isAsFirst 34 = .ok (.iaload, 1) := dk_46 (dk_at dksX9_isAsFirst_1 10 rfl rfl)
theorem dX9_isAsFirst_35 : decode cX9_isAsFirst 35 = .ok (.if_icmp .ne 18, 3) := dk_160 0 18 (dk_at dksX9_isAsFirst_1 11 rfl rfl)
theorem dX9_isAsFirst_38 : decode cX9_isAsFirst 38 = .ok (.aload_n 0, 1) := dk_42 (dk_at dksX9_isAsFirst_1 14 rfl rfl)
theorem dX9_isAsFirst_39 : decode cX9_isAsFirst 39 = .ok (.getfield 101, 3) := dk_180 0 101 (dk_at dksX9_isAsFirst_1 15 rfl rfl)
theorem dX9_isAsFirst_42 : decode cX9_isAsFirst 42 = .ok (.iload_n 1, 1) := dk_27 (dk_at dksX9_isAsFirst_1 18 rfl rfl)
theorem dX9_isAsFirst_43 : decode cX9_isAsFirst 43 = .ok (.iaload, 1) := dk_46 (dk_at dksX9_isAsFirst_1 19 rfl rfl)
theorem dX9_isAsFirst_44 : decode cX9_isAsFirst 44 = .ok (.aload_n 0, 1) := dk_42 (dk_at dksX9_isAsFirst_1 20 rfl rfl)
theorem dX9_isAsFirst_45 : decode cX9_isAsFirst 45 = .ok (.getfield 110, 3) := dk_180 0 110 (dk_at dksX9_isAsFirst_1 21 rfl rfl)
theorem dX9_isAsFirst_48 : decode cX9_isAsFirst 48 = .ok (.iload_n 1, 1) := dk_27 (dk_at dksX9_isAsFirst_2 0 rfl rfl)
theorem dX9_isAsFirst_49 : decode cX9_isAsFirst 49 = .ok (.iaload, 1) := dk_46 (dk_at dksX9_isAsFirst_2 1 rfl rfl)
theorem dX9_isAsFirst_50 : decode cX9_isAsFirst 50 = .ok (.if_icmp .eq 5, 3) := dk_159 0 5 (dk_at dksX9_isAsFirst_2 2 rfl rfl)
theorem dX9_isAsFirst_53 : decode cX9_isAsFirst 53 = .ok (.iconst 0, 1) := dk_3 (dk_at dksX9_isAsFirst_2 5 rfl rfl)
theorem dX9_isAsFirst_54 : decode cX9_isAsFirst 54 = .ok (.ireturn, 1) := dk_172 (dk_at dksX9_isAsFirst_2 6 rfl rfl)
theorem dX9_isAsFirst_55 : decode cX9_isAsFirst 55 = .ok (.iinc 1 1, 3) := dk_132 1 1 (dk_at dksX9_isAsFirst_2 7 rfl rfl)
theorem dX9_isAsFirst_58 : decode cX9_isAsFirst 58 = .ok (.goto (-43), 3) := dk_167 255 213 (dk_at dksX9_isAsFirst_2 10 rfl rfl)
theorem dX9_isAsFirst_61 : decode cX9_isAsFirst 61 = .ok (.iconst 1, 1) := dk_4 (dk_at dksX9_isAsFirst_2 13 rfl rfl)
theorem dX9_isAsFirst_62 : decode cX9_isAsFirst 62 = .ok (.ireturn, 1) := dk_172 (dk_at dksX9_isAsFirst_2 14 rfl rfl)
abbrev cX9_givesBack : ByteArray := prog_20_method_112_code
def yX9_givesBack : MethodName := ⟨RX9, "givesBack", "()V"⟩
def dkwX9_givesBack_1 : List UInt8 := [167, 255, 234, 177]
abbrev dktX9_givesBack_1 : List UInt8 := dkwX9_givesBack_1 ++ []
def dkwX9_givesBack_0 : List UInt8 := [3, 60, 27, 17, 55, 20, 162, 0, 21, 42, 180, 0, 80, 27, 42, 180, 0, 104, 27, 46, 79, 132, 1, 1]
abbrev dktX9_givesBack_0 : List UInt8 := dkwX9_givesBack_0 ++ dktX9_givesBack_1
theorem dksX9_givesBack_0 : cX9_givesBack.data.toList.drop 0 = dktX9_givesBack_0 := by decide +kernel
theorem dksX9_givesBack_1 : cX9_givesBack.data.toList.drop 24 = dktX9_givesBack_1 := dk_seg dksX9_givesBack_0 24 rfl rfl
theorem dX9_givesBack_0 : decode cX9_givesBack 0 = .ok (.iconst 0, 1) := dk_3 (dk_at dksX9_givesBack_0 0 rfl rfl)
theorem dX9_givesBack_1 : decode cX9_givesBack 1 = .ok (.istore_n 1, 1) := dk_60 (dk_at dksX9_givesBack_0 1 rfl rfl)
theorem dX9_givesBack_2 : decode cX9_givesBack 2 = .ok (.iload_n 1, 1) := dk_27 (dk_at dksX9_givesBack_0 2 rfl rfl)
theorem dX9_givesBack_3 : decode cX9_givesBack 3 = .ok (.sipush 14100, 3) := dk_17 55 20 (dk_at dksX9_givesBack_0 3 rfl rfl)
theorem dX9_givesBack_6 : decode cX9_givesBack 6 = .ok (.if_icmp .ge 21, 3) := dk_162 0 21 (dk_at dksX9_givesBack_0 6 rfl rfl)
theorem dX9_givesBack_9 : decode cX9_givesBack 9 = .ok (.aload_n 0, 1) := dk_42 (dk_at dksX9_givesBack_0 9 rfl rfl)
theorem dX9_givesBack_10 : decode cX9_givesBack 10 = .ok (.getfield 80, 3) := dk_180 0 80 (dk_at dksX9_givesBack_0 10 rfl rfl)
theorem dX9_givesBack_13 : decode cX9_givesBack 13 = .ok (.iload_n 1, 1) := dk_27 (dk_at dksX9_givesBack_0 13 rfl rfl)
theorem dX9_givesBack_14 : decode cX9_givesBack 14 = .ok (.aload_n 0, 1) := dk_42 (dk_at dksX9_givesBack_0 14 rfl rfl)
theorem dX9_givesBack_15 : decode cX9_givesBack 15 = .ok (.getfield 104, 3) := dk_180 0 104 (dk_at dksX9_givesBack_0 15 rfl rfl)
theorem dX9_givesBack_18 : decode cX9_givesBack 18 = .ok (.iload_n 1, 1) := dk_27 (dk_at dksX9_givesBack_0 18 rfl rfl)
theorem dX9_givesBack_19 : decode cX9_givesBack 19 = .ok (.iaload, 1) := dk_46 (dk_at dksX9_givesBack_0 19 rfl rfl)
theorem dX9_givesBack_20 : decode cX9_givesBack 20 = .ok (.iastore, 1) := dk_79 (dk_at dksX9_givesBack_0 20 rfl rfl)
theorem dX9_givesBack_21 : decode cX9_givesBack 21 = .ok (.iinc 1 1, 3) := dk_132 1 1 (dk_at dksX9_givesBack_0 21 rfl rfl)
theorem dX9_givesBack_24 : decode cX9_givesBack 24 = .ok (.goto (-22), 3) := dk_167 255 234 (dk_at dksX9_givesBack_1 0 rfl rfl)
theorem dX9_givesBack_27 : decode cX9_givesBack 27 = .ok (.return_, 1) := dk_177 (dk_at dksX9_givesBack_1 3 rfl rfl)
abbrev cX9_hold : ByteArray := prog_20_method_117_code
def yX9_hold : MethodName := ⟨RX9, "hold", "(I)Z"⟩
def dkwX9_hold_2 : List UInt8 := [167, 255, 230, 4, 172]
abbrev dktX9_hold_2 : List UInt8 := dkwX9_hold_2 ++ []
def dkwX9_hold_1 : List UInt8 := [162, 0, 26, 42, 180, 0, 118, 18, 79, 27, 104, 28, 96, 42, 180, 0, 80, 28, 46, 79, 132, 2, 1]
abbrev dktX9_hold_1 : List UInt8 := dkwX9_hold_1 ++ dktX9_hold_2
def dkwX9_hold_0 : List UInt8 := [27, 3, 5, 184, 1, 185, 154, 0, 5, 3, 172, 42, 180, 0, 113, 27, 4, 84, 3, 61, 28, 18, 79]
abbrev dktX9_hold_0 : List UInt8 := dkwX9_hold_0 ++ dktX9_hold_1
theorem dksX9_hold_0 : cX9_hold.data.toList.drop 0 = dktX9_hold_0 := by decide +kernel
theorem dksX9_hold_1 : cX9_hold.data.toList.drop 23 = dktX9_hold_1 := dk_seg dksX9_hold_0 23 rfl rfl
theorem dksX9_hold_2 : cX9_hold.data.toList.drop 46 = dktX9_hold_2 := dk_seg dksX9_hold_1 23 rfl rfl
theorem dX9_hold_0 : decode cX9_hold 0 = .ok (.iload_n 1, 1) := dk_27 (dk_at dksX9_hold_0 0 rfl rfl)
theorem dX9_hold_1 : decode cX9_hold 1 = .ok (.iconst 0, 1) := dk_3 (dk_at dksX9_hold_0 1 rfl rfl)
theorem dX9_hold_2 : decode cX9_hold 2 = .ok (.iconst 2, 1) := dk_5 (dk_at dksX9_hold_0 2 rfl rfl)
theorem dX9_hold_3 : decode cX9_hold 3 = .ok (.invokestatic 441, 3) := dk_184 1 185 (dk_at dksX9_hold_0 3 rfl rfl)
theorem dX9_hold_6 : decode cX9_hold 6 = .ok (.ifCond .ne 5, 3) := dk_154 0 5 (dk_at dksX9_hold_0 6 rfl rfl)
theorem dX9_hold_9 : decode cX9_hold 9 = .ok (.iconst 0, 1) := dk_3 (dk_at dksX9_hold_0 9 rfl rfl)
theorem dX9_hold_10 : decode cX9_hold 10 = .ok (.ireturn, 1) := dk_172 (dk_at dksX9_hold_0 10 rfl rfl)
theorem dX9_hold_11 : decode cX9_hold 11 = .ok (.aload_n 0, 1) := dk_42 (dk_at dksX9_hold_0 11 rfl rfl)
theorem dX9_hold_12 : decode cX9_hold 12 = .ok (.getfield 113, 3) := dk_180 0 113 (dk_at dksX9_hold_0 12 rfl rfl)
theorem dX9_hold_15 : decode cX9_hold 15 = .ok (.iload_n 1, 1) := dk_27 (dk_at dksX9_hold_0 15 rfl rfl)
theorem dX9_hold_16 : decode cX9_hold 16 = .ok (.iconst 1, 1) := dk_4 (dk_at dksX9_hold_0 16 rfl rfl)
theorem dX9_hold_17 : decode cX9_hold 17 = .ok (.bastore, 1) := dk_84 (dk_at dksX9_hold_0 17 rfl rfl)
theorem dX9_hold_18 : decode cX9_hold 18 = .ok (.iconst 0, 1) := dk_3 (dk_at dksX9_hold_0 18 rfl rfl)
theorem dX9_hold_19 : decode cX9_hold 19 = .ok (.istore_n 2, 1) := dk_61 (dk_at dksX9_hold_0 19 rfl rfl)
theorem dX9_hold_20 : decode cX9_hold 20 = .ok (.iload_n 2, 1) := dk_28 (dk_at dksX9_hold_0 20 rfl rfl)
theorem dX9_hold_21 : decode cX9_hold 21 = .ok (.ldc 79, 2) := dk_18 79 (dk_at dksX9_hold_0 21 rfl rfl)
theorem dX9_hold_23 : decode cX9_hold 23 = .ok (.if_icmp .ge 26, 3) := dk_162 0 26 (dk_at dksX9_hold_1 0 rfl rfl)
theorem dX9_hold_26 : decode cX9_hold 26 = .ok (.aload_n 0, 1) := dk_42 (dk_at dksX9_hold_1 3 rfl rfl)
theorem dX9_hold_27 : decode cX9_hold 27 = .ok (.getfield 118, 3) := dk_180 0 118 (dk_at dksX9_hold_1 4 rfl rfl)
theorem dX9_hold_30 : decode cX9_hold 30 = .ok (.ldc 79, 2) := dk_18 79 (dk_at dksX9_hold_1 7 rfl rfl)
theorem dX9_hold_32 : decode cX9_hold 32 = .ok (.iload_n 1, 1) := dk_27 (dk_at dksX9_hold_1 9 rfl rfl)
theorem dX9_hold_33 : decode cX9_hold 33 = .ok (.imul, 1) := dk_104 (dk_at dksX9_hold_1 10 rfl rfl)
theorem dX9_hold_34 : decode cX9_hold 34 = .ok (.iload_n 2, 1) := dk_28 (dk_at dksX9_hold_1 11 rfl rfl)
theorem dX9_hold_35 : decode cX9_hold 35 = .ok (.iadd, 1) := dk_96 (dk_at dksX9_hold_1 12 rfl rfl)
theorem dX9_hold_36 : decode cX9_hold 36 = .ok (.aload_n 0, 1) := dk_42 (dk_at dksX9_hold_1 13 rfl rfl)
theorem dX9_hold_37 : decode cX9_hold 37 = .ok (.getfield 80, 3) := dk_180 0 80 (dk_at dksX9_hold_1 14 rfl rfl)
theorem dX9_hold_40 : decode cX9_hold 40 = .ok (.iload_n 2, 1) := dk_28 (dk_at dksX9_hold_1 17 rfl rfl)
theorem dX9_hold_41 : decode cX9_hold 41 = .ok (.iaload, 1) := dk_46 (dk_at dksX9_hold_1 18 rfl rfl)
theorem dX9_hold_42 : decode cX9_hold 42 = .ok (.iastore, 1) := dk_79 (dk_at dksX9_hold_1 19 rfl rfl)
theorem dX9_hold_43 : decode cX9_hold 43 = .ok (.iinc 2 1, 3) := dk_132 2 1 (dk_at dksX9_hold_1 20 rfl rfl)
theorem dX9_hold_46 : decode cX9_hold 46 = .ok (.goto (-26), 3) := dk_167 255 230 (dk_at dksX9_hold_2 0 rfl rfl)
theorem dX9_hold_49 : decode cX9_hold 49 = .ok (.iconst 1, 1) := dk_4 (dk_at dksX9_hold_2 3 rfl rfl)
theorem dX9_hold_50 : decode cX9_hold 50 = .ok (.ireturn, 1) := dk_172 (dk_at dksX9_hold_2 4 rfl rfl)
abbrev cX9_restore : ByteArray := prog_20_method_118_code
def yX9_restore : MethodName := ⟨RX9, "restore", "(I)Z"⟩
def dkwX9_restore_2 : List UInt8 := [132, 2, 1, 167, 255, 230, 4, 172]
abbrev dktX9_restore_2 : List UInt8 := dkwX9_restore_2 ++ []
def dkwX9_restore_1 : List UInt8 := [18, 79, 162, 0, 26, 42, 180, 0, 80, 28, 42, 180, 0, 118, 18, 79, 27, 104, 28, 96, 46, 79]
abbrev dktX9_restore_1 : List UInt8 := dkwX9_restore_1 ++ dktX9_restore_2
def dkwX9_restore_0 : List UInt8 := [27, 3, 5, 184, 1, 185, 153, 0, 12, 42, 180, 0, 113, 27, 51, 154, 0, 5, 3, 172, 3, 61, 28]
abbrev dktX9_restore_0 : List UInt8 := dkwX9_restore_0 ++ dktX9_restore_1
theorem dksX9_restore_0 : cX9_restore.data.toList.drop 0 = dktX9_restore_0 := by decide +kernel
theorem dksX9_restore_1 : cX9_restore.data.toList.drop 23 = dktX9_restore_1 := dk_seg dksX9_restore_0 23 rfl rfl
theorem dksX9_restore_2 : cX9_restore.data.toList.drop 45 = dktX9_restore_2 := dk_seg dksX9_restore_1 22 rfl rfl
theorem dX9_restore_0 : decode cX9_restore 0 = .ok (.iload_n 1, 1) := dk_27 (dk_at dksX9_restore_0 0 rfl rfl)
theorem dX9_restore_1 : decode cX9_restore 1 = .ok (.iconst 0, 1) := dk_3 (dk_at dksX9_restore_0 1 rfl rfl)
theorem dX9_restore_2 : decode cX9_restore 2 = .ok (.iconst 2, 1) := dk_5 (dk_at dksX9_restore_0 2 rfl rfl)
theorem dX9_restore_3 : decode cX9_restore 3 = .ok (.invokestatic 441, 3) := dk_184 1 185 (dk_at dksX9_restore_0 3 rfl rfl)
theorem dX9_restore_6 : decode cX9_restore 6 = .ok (.ifCond .eq 12, 3) := dk_153 0 12 (dk_at dksX9_restore_0 6 rfl rfl)
theorem dX9_restore_9 : decode cX9_restore 9 = .ok (.aload_n 0, 1) := dk_42 (dk_at dksX9_restore_0 9 rfl rfl)
theorem dX9_restore_10 : decode cX9_restore 10 = .ok (.getfield 113, 3) := dk_180 0 113 (dk_at dksX9_restore_0 10 rfl rfl)
theorem dX9_restore_13 : decode cX9_restore 13 = .ok (.iload_n 1, 1) := dk_27 (dk_at dksX9_restore_0 13 rfl rfl)
theorem dX9_restore_14 : decode cX9_restore 14 = .ok (.baload, 1) := dk_51 (dk_at dksX9_restore_0 14 rfl rfl)
theorem dX9_restore_15 : decode cX9_restore 15 = .ok (.ifCond .ne 5, 3) := dk_154 0 5 (dk_at dksX9_restore_0 15 rfl rfl)
theorem dX9_restore_18 : decode cX9_restore 18 = .ok (.iconst 0, 1) := dk_3 (dk_at dksX9_restore_0 18 rfl rfl)
theorem dX9_restore_19 : decode cX9_restore 19 = .ok (.ireturn, 1) := dk_172 (dk_at dksX9_restore_0 19 rfl rfl)
theorem dX9_restore_20 : decode cX9_restore 20 = .ok (.iconst 0, 1) := dk_3 (dk_at dksX9_restore_0 20 rfl rfl)
theorem dX9_restore_21 : decode cX9_restore 21 = .ok (.istore_n 2, 1) := dk_61 (dk_at dksX9_restore_0 21 rfl rfl)
theorem dX9_restore_22 : decode cX9_restore 22 = .ok (.iload_n 2, 1) := dk_28 (dk_at dksX9_restore_0 22 rfl rfl)
theorem dX9_restore_23 : decode cX9_restore 23 = .ok (.ldc 79, 2) := dk_18 79 (dk_at dksX9_restore_1 0 rfl rfl)
theorem dX9_restore_25 : decode cX9_restore 25 = .ok (.if_icmp .ge 26, 3) := dk_162 0 26 (dk_at dksX9_restore_1 2 rfl rfl)
theorem dX9_restore_28 : decode cX9_restore 28 = .ok (.aload_n 0, 1) := dk_42 (dk_at dksX9_restore_1 5 rfl rfl)
theorem dX9_restore_29 : decode cX9_restore 29 = .ok (.getfield 80, 3) := dk_180 0 80 (dk_at dksX9_restore_1 6 rfl rfl)
theorem dX9_restore_32 : decode cX9_restore 32 = .ok (.iload_n 2, 1) := dk_28 (dk_at dksX9_restore_1 9 rfl rfl)
theorem dX9_restore_33 : decode cX9_restore 33 = .ok (.aload_n 0, 1) := dk_42 (dk_at dksX9_restore_1 10 rfl rfl)
theorem dX9_restore_34 : decode cX9_restore 34 = .ok (.getfield 118, 3) := dk_180 0 118 (dk_at dksX9_restore_1 11 rfl rfl)
theorem dX9_restore_37 : decode cX9_restore 37 = .ok (.ldc 79, 2) := dk_18 79 (dk_at dksX9_restore_1 14 rfl rfl)
theorem dX9_restore_39 : decode cX9_restore 39 = .ok (.iload_n 1, 1) := dk_27 (dk_at dksX9_restore_1 16 rfl rfl)
theorem dX9_restore_40 : decode cX9_restore 40 = .ok (.imul, 1) := dk_104 (dk_at dksX9_restore_1 17 rfl rfl)
theorem dX9_restore_41 : decode cX9_restore 41 = .ok (.iload_n 2, 1) := dk_28 (dk_at dksX9_restore_1 18 rfl rfl)
theorem dX9_restore_42 : decode cX9_restore 42 = .ok (.iadd, 1) := dk_96 (dk_at dksX9_restore_1 19 rfl rfl)
theorem dX9_restore_43 : decode cX9_restore 43 = .ok (.iaload, 1) := dk_46 (dk_at dksX9_restore_1 20 rfl rfl)
theorem dX9_restore_44 : decode cX9_restore 44 = .ok (.iastore, 1) := dk_79 (dk_at dksX9_restore_1 21 rfl rfl)
theorem dX9_restore_45 : decode cX9_restore 45 = .ok (.iinc 2 1, 3) := dk_132 2 1 (dk_at dksX9_restore_2 0 rfl rfl)
theorem dX9_restore_48 : decode cX9_restore 48 = .ok (.goto (-26), 3) := dk_167 255 230 (dk_at dksX9_restore_2 3 rfl rfl)
theorem dX9_restore_51 : decode cX9_restore 51 = .ok (.iconst 1, 1) := dk_4 (dk_at dksX9_restore_2 6 rfl rfl)
theorem dX9_restore_52 : decode cX9_restore 52 = .ok (.ireturn, 1) := dk_172 (dk_at dksX9_restore_2 7 rfl rfl)
abbrev cX9_count : ByteArray := prog_20_method_120_code
def yX9_count : MethodName := ⟨RX9, "count", "(I)I"⟩
def dkwX9_count_9 : List UInt8 := [172]
abbrev dktX9_count_9 : List UInt8 := dkwX9_count_9 ++ []
def dkwX9_count_8 : List UInt8 := [42, 180, 0, 80, 16, 6, 46, 172, 42, 180, 0, 80, 16, 7, 46, 172, 42, 180, 0, 80, 7, 46, 172, 2]
abbrev dktX9_count_8 : List UInt8 := dkwX9_count_8 ++ dktX9_count_9
def dkwX9_count_7 : List UInt8 := [96, 42, 180, 0, 113, 5, 51, 153, 0, 7, 4, 167, 0, 4, 3, 96, 172, 42, 180, 0, 80, 8, 46, 172]
abbrev dktX9_count_7 : List UInt8 := dkwX9_count_7 ++ dktX9_count_8
def dkwX9_count_6 : List UInt8 := [3, 51, 153, 0, 7, 4, 167, 0, 4, 3, 42, 180, 0, 113, 4, 51, 153, 0, 7, 4, 167, 0, 4, 3]
abbrev dktX9_count_6 : List UInt8 := dkwX9_count_6 ++ dktX9_count_7
def dkwX9_count_5 : List UInt8 := [132, 3, 1, 167, 255, 228, 28, 172, 42, 180, 0, 80, 6, 46, 172, 42, 180, 0, 129, 172, 42, 180, 0, 113]
abbrev dktX9_count_5 : List UInt8 := dkwX9_count_5 ++ dktX9_count_6
def dkwX9_count_4 : List UInt8 := [162, 0, 29, 42, 180, 0, 80, 29, 184, 1, 35, 4, 96, 46, 158, 0, 9, 28, 4, 29, 120, 128, 61]
abbrev dktX9_count_4 : List UInt8 := dkwX9_count_4 ++ dktX9_count_5
def dkwX9_count_3 : List UInt8 := [180, 0, 80, 5, 46, 172, 42, 7, 182, 1, 225, 172, 42, 8, 182, 1, 225, 172, 3, 62, 29, 7]
abbrev dktX9_count_3 : List UInt8 := dkwX9_count_3 ++ dktX9_count_4
def dkwX9_count_2 : List UInt8 := [42, 182, 1, 10, 42, 180, 1, 13, 172, 42, 180, 0, 80, 3, 46, 172, 42, 180, 0, 80, 4, 46, 172, 42]
abbrev dktX9_count_2 : List UInt8 := dkwX9_count_2 ++ dktX9_count_3
def dkwX9_count_1 : List UInt8 := [170, 0, 0, 0, 233, 0, 0, 0, 0, 0, 0, 0, 13, 0, 0, 0, 69, 0, 0, 0, 78, 0, 0, 0, 85, 0, 0, 0, 92, 0, 0, 0, 99, 0, 0, 0, 105, 0, 0, 0, 111, 0, 0, 0, 146, 0, 0, 0, 153, 0, 0, 0, 158, 0, 0, 0, 203, 0, 0, 0, 210, 0, 0, 0, 218, 0, 0, 0, 226]
abbrev dktX9_count_1 : List UInt8 := dkwX9_count_1 ++ dktX9_count_2
def dkwX9_count_0 : List UInt8 := [3, 61, 27]
abbrev dktX9_count_0 : List UInt8 := dkwX9_count_0 ++ dktX9_count_1
theorem dksX9_count_0 : cX9_count.data.toList.drop 0 = dktX9_count_0 := by decide +kernel
theorem dksX9_count_1 : cX9_count.data.toList.drop 3 = dktX9_count_1 := dk_seg dksX9_count_0 3 rfl rfl
theorem dksX9_count_2 : cX9_count.data.toList.drop 72 = dktX9_count_2 := dk_seg dksX9_count_1 69 rfl rfl
theorem dksX9_count_3 : cX9_count.data.toList.drop 96 = dktX9_count_3 := dk_seg dksX9_count_2 24 rfl rfl
theorem dksX9_count_4 : cX9_count.data.toList.drop 118 = dktX9_count_4 := dk_seg dksX9_count_3 22 rfl rfl
theorem dksX9_count_5 : cX9_count.data.toList.drop 141 = dktX9_count_5 := dk_seg dksX9_count_4 23 rfl rfl
theorem dksX9_count_6 : cX9_count.data.toList.drop 165 = dktX9_count_6 := dk_seg dksX9_count_5 24 rfl rfl
theorem dksX9_count_7 : cX9_count.data.toList.drop 189 = dktX9_count_7 := dk_seg dksX9_count_6 24 rfl rfl
theorem dksX9_count_8 : cX9_count.data.toList.drop 213 = dktX9_count_8 := dk_seg dksX9_count_7 24 rfl rfl
theorem dksX9_count_9 : cX9_count.data.toList.drop 237 = dktX9_count_9 := dk_seg dksX9_count_8 24 rfl rfl
theorem dX9_count_0 : decode cX9_count 0 = .ok (.iconst 0, 1) := dk_3 (dk_at dksX9_count_0 0 rfl rfl)
theorem dX9_count_1 : decode cX9_count 1 = .ok (.istore_n 2, 1) := dk_61 (dk_at dksX9_count_0 1 rfl rfl)
theorem dX9_count_2 : decode cX9_count 2 = .ok (.iload_n 1, 1) := dk_27 (dk_at dksX9_count_0 2 rfl rfl)
theorem dX9_count_3 : decode cX9_count 3 = .ok (.tableswitch 233 0 13 #[69, 78, 85, 92, 99, 105, 111, 146, 153, 158, 203, 210, 218, 226], 69) := by decide +kernel
theorem dX9_count_72 : decode cX9_count 72 = .ok (.aload_n 0, 1) := dk_42 (dk_at dksX9_count_2 0 rfl rfl)
theorem dX9_count_73 : decode cX9_count 73 = .ok (.invokevirtual 266, 3) := dk_182 1 10 (dk_at dksX9_count_2 1 rfl rfl)
theorem dX9_count_76 : decode cX9_count 76 = .ok (.aload_n 0, 1) := dk_42 (dk_at dksX9_count_2 4 rfl rfl)
theorem dX9_count_77 : decode cX9_count 77 = .ok (.getfield 269, 3) := dk_180 1 13 (dk_at dksX9_count_2 5 rfl rfl)
theorem dX9_count_80 : decode cX9_count 80 = .ok (.ireturn, 1) := dk_172 (dk_at dksX9_count_2 8 rfl rfl)
theorem dX9_count_81 : decode cX9_count 81 = .ok (.aload_n 0, 1) := dk_42 (dk_at dksX9_count_2 9 rfl rfl)
theorem dX9_count_82 : decode cX9_count 82 = .ok (.getfield 80, 3) := dk_180 0 80 (dk_at dksX9_count_2 10 rfl rfl)
theorem dX9_count_85 : decode cX9_count 85 = .ok (.iconst 0, 1) := dk_3 (dk_at dksX9_count_2 13 rfl rfl)
theorem dX9_count_86 : decode cX9_count 86 = .ok (.iaload, 1) := dk_46 (dk_at dksX9_count_2 14 rfl rfl)
theorem dX9_count_87 : decode cX9_count 87 = .ok (.ireturn, 1) := dk_172 (dk_at dksX9_count_2 15 rfl rfl)
theorem dX9_count_88 : decode cX9_count 88 = .ok (.aload_n 0, 1) := dk_42 (dk_at dksX9_count_2 16 rfl rfl)
theorem dX9_count_89 : decode cX9_count 89 = .ok (.getfield 80, 3) := dk_180 0 80 (dk_at dksX9_count_2 17 rfl rfl)
theorem dX9_count_92 : decode cX9_count 92 = .ok (.iconst 1, 1) := dk_4 (dk_at dksX9_count_2 20 rfl rfl)
theorem dX9_count_93 : decode cX9_count 93 = .ok (.iaload, 1) := dk_46 (dk_at dksX9_count_2 21 rfl rfl)
theorem dX9_count_94 : decode cX9_count 94 = .ok (.ireturn, 1) := dk_172 (dk_at dksX9_count_2 22 rfl rfl)
theorem dX9_count_95 : decode cX9_count 95 = .ok (.aload_n 0, 1) := dk_42 (dk_at dksX9_count_2 23 rfl rfl)
theorem dX9_count_96 : decode cX9_count 96 = .ok (.getfield 80, 3) := dk_180 0 80 (dk_at dksX9_count_3 0 rfl rfl)
theorem dX9_count_99 : decode cX9_count 99 = .ok (.iconst 2, 1) := dk_5 (dk_at dksX9_count_3 3 rfl rfl)
theorem dX9_count_100 : decode cX9_count 100 = .ok (.iaload, 1) := dk_46 (dk_at dksX9_count_3 4 rfl rfl)
theorem dX9_count_101 : decode cX9_count 101 = .ok (.ireturn, 1) := dk_172 (dk_at dksX9_count_3 5 rfl rfl)
theorem dX9_count_102 : decode cX9_count 102 = .ok (.aload_n 0, 1) := dk_42 (dk_at dksX9_count_3 6 rfl rfl)
theorem dX9_count_103 : decode cX9_count 103 = .ok (.iconst 4, 1) := dk_7 (dk_at dksX9_count_3 7 rfl rfl)
theorem dX9_count_104 : decode cX9_count 104 = .ok (.invokevirtual 481, 3) := dk_182 1 225 (dk_at dksX9_count_3 8 rfl rfl)
theorem dX9_count_107 : decode cX9_count 107 = .ok (.ireturn, 1) := dk_172 (dk_at dksX9_count_3 11 rfl rfl)
theorem dX9_count_108 : decode cX9_count 108 = .ok (.aload_n 0, 1) := dk_42 (dk_at dksX9_count_3 12 rfl rfl)
theorem dX9_count_109 : decode cX9_count 109 = .ok (.iconst 5, 1) := dk_8 (dk_at dksX9_count_3 13 rfl rfl)
theorem dX9_count_110 : decode cX9_count 110 = .ok (.invokevirtual 481, 3) := dk_182 1 225 (dk_at dksX9_count_3 14 rfl rfl)
theorem dX9_count_113 : decode cX9_count 113 = .ok (.ireturn, 1) := dk_172 (dk_at dksX9_count_3 17 rfl rfl)
theorem dX9_count_114 : decode cX9_count 114 = .ok (.iconst 0, 1) := dk_3 (dk_at dksX9_count_3 18 rfl rfl)
theorem dX9_count_115 : decode cX9_count 115 = .ok (.istore_n 3, 1) := dk_62 (dk_at dksX9_count_3 19 rfl rfl)
theorem dX9_count_116 : decode cX9_count 116 = .ok (.iload_n 3, 1) := dk_29 (dk_at dksX9_count_3 20 rfl rfl)
theorem dX9_count_117 : decode cX9_count 117 = .ok (.iconst 4, 1) := dk_7 (dk_at dksX9_count_3 21 rfl rfl)
theorem dX9_count_118 : decode cX9_count 118 = .ok (.if_icmp .ge 29, 3) := dk_162 0 29 (dk_at dksX9_count_4 0 rfl rfl)
theorem dX9_count_121 : decode cX9_count 121 = .ok (.aload_n 0, 1) := dk_42 (dk_at dksX9_count_4 3 rfl rfl)
theorem dX9_count_122 : decode cX9_count 122 = .ok (.getfield 80, 3) := dk_180 0 80 (dk_at dksX9_count_4 4 rfl rfl)
theorem dX9_count_125 : decode cX9_count 125 = .ok (.iload_n 3, 1) := dk_29 (dk_at dksX9_count_4 7 rfl rfl)
theorem dX9_count_126 : decode cX9_count 126 = .ok (.invokestatic 291, 3) := dk_184 1 35 (dk_at dksX9_count_4 8 rfl rfl)
theorem dX9_count_129 : decode cX9_count 129 = .ok (.iconst 1, 1) := dk_4 (dk_at dksX9_count_4 11 rfl rfl)
theorem dX9_count_130 : decode cX9_count 130 = .ok (.iadd, 1) := dk_96 (dk_at dksX9_count_4 12 rfl rfl)
theorem dX9_count_131 : decode cX9_count 131 = .ok (.iaload, 1) := dk_46 (dk_at dksX9_count_4 13 rfl rfl)
theorem dX9_count_132 : decode cX9_count 132 = .ok (.ifCond .le 9, 3) := dk_158 0 9 (dk_at dksX9_count_4 14 rfl rfl)
theorem dX9_count_135 : decode cX9_count 135 = .ok (.iload_n 2, 1) := dk_28 (dk_at dksX9_count_4 17 rfl rfl)
theorem dX9_count_136 : decode cX9_count 136 = .ok (.iconst 1, 1) := dk_4 (dk_at dksX9_count_4 18 rfl rfl)
theorem dX9_count_137 : decode cX9_count 137 = .ok (.iload_n 3, 1) := dk_29 (dk_at dksX9_count_4 19 rfl rfl)
theorem dX9_count_138 : decode cX9_count 138 = .ok (.ishl, 1) := dk_120 (dk_at dksX9_count_4 20 rfl rfl)
theorem dX9_count_139 : decode cX9_count 139 = .ok (.ior, 1) := dk_128 (dk_at dksX9_count_4 21 rfl rfl)
theorem dX9_count_140 : decode cX9_count 140 = .ok (.istore_n 2, 1) := dk_61 (dk_at dksX9_count_4 22 rfl rfl)
theorem dX9_count_141 : decode cX9_count 141 = .ok (.iinc 3 1, 3) := dk_132 3 1 (dk_at dksX9_count_5 0 rfl rfl)
theorem dX9_count_144 : decode cX9_count 144 = .ok (.goto (-28), 3) := dk_167 255 228 (dk_at dksX9_count_5 3 rfl rfl)
theorem dX9_count_147 : decode cX9_count 147 = .ok (.iload_n 2, 1) := dk_28 (dk_at dksX9_count_5 6 rfl rfl)
theorem dX9_count_148 : decode cX9_count 148 = .ok (.ireturn, 1) := dk_172 (dk_at dksX9_count_5 7 rfl rfl)
theorem dX9_count_149 : decode cX9_count 149 = .ok (.aload_n 0, 1) := dk_42 (dk_at dksX9_count_5 8 rfl rfl)
theorem dX9_count_150 : decode cX9_count 150 = .ok (.getfield 80, 3) := dk_180 0 80 (dk_at dksX9_count_5 9 rfl rfl)
theorem dX9_count_153 : decode cX9_count 153 = .ok (.iconst 3, 1) := dk_6 (dk_at dksX9_count_5 12 rfl rfl)
theorem dX9_count_154 : decode cX9_count 154 = .ok (.iaload, 1) := dk_46 (dk_at dksX9_count_5 13 rfl rfl)
theorem dX9_count_155 : decode cX9_count 155 = .ok (.ireturn, 1) := dk_172 (dk_at dksX9_count_5 14 rfl rfl)
theorem dX9_count_156 : decode cX9_count 156 = .ok (.aload_n 0, 1) := dk_42 (dk_at dksX9_count_5 15 rfl rfl)
theorem dX9_count_157 : decode cX9_count 157 = .ok (.getfield 129, 3) := dk_180 0 129 (dk_at dksX9_count_5 16 rfl rfl)
theorem dX9_count_160 : decode cX9_count 160 = .ok (.ireturn, 1) := dk_172 (dk_at dksX9_count_5 19 rfl rfl)
theorem dX9_count_161 : decode cX9_count 161 = .ok (.aload_n 0, 1) := dk_42 (dk_at dksX9_count_5 20 rfl rfl)
theorem dX9_count_162 : decode cX9_count 162 = .ok (.getfield 113, 3) := dk_180 0 113 (dk_at dksX9_count_5 21 rfl rfl)
theorem dX9_count_165 : decode cX9_count 165 = .ok (.iconst 0, 1) := dk_3 (dk_at dksX9_count_6 0 rfl rfl)
theorem dX9_count_166 : decode cX9_count 166 = .ok (.baload, 1) := dk_51 (dk_at dksX9_count_6 1 rfl rfl)
theorem dX9_count_167 : decode cX9_count 167 = .ok (.ifCond .eq 7, 3) := dk_153 0 7 (dk_at dksX9_count_6 2 rfl rfl)
theorem dX9_count_170 : decode cX9_count 170 = .ok (.iconst 1, 1) := dk_4 (dk_at dksX9_count_6 5 rfl rfl)
theorem dX9_count_171 : decode cX9_count 171 = .ok (.goto 4, 3) := dk_167 0 4 (dk_at dksX9_count_6 6 rfl rfl)
theorem dX9_count_174 : decode cX9_count 174 = .ok (.iconst 0, 1) := dk_3 (dk_at dksX9_count_6 9 rfl rfl)
theorem dX9_count_175 : decode cX9_count 175 = .ok (.aload_n 0, 1) := dk_42 (dk_at dksX9_count_6 10 rfl rfl)
theorem dX9_count_176 : decode cX9_count 176 = .ok (.getfield 113, 3) := dk_180 0 113 (dk_at dksX9_count_6 11 rfl rfl)
theorem dX9_count_179 : decode cX9_count 179 = .ok (.iconst 1, 1) := dk_4 (dk_at dksX9_count_6 14 rfl rfl)
theorem dX9_count_180 : decode cX9_count 180 = .ok (.baload, 1) := dk_51 (dk_at dksX9_count_6 15 rfl rfl)
theorem dX9_count_181 : decode cX9_count 181 = .ok (.ifCond .eq 7, 3) := dk_153 0 7 (dk_at dksX9_count_6 16 rfl rfl)
theorem dX9_count_184 : decode cX9_count 184 = .ok (.iconst 1, 1) := dk_4 (dk_at dksX9_count_6 19 rfl rfl)
theorem dX9_count_185 : decode cX9_count 185 = .ok (.goto 4, 3) := dk_167 0 4 (dk_at dksX9_count_6 20 rfl rfl)
theorem dX9_count_188 : decode cX9_count 188 = .ok (.iconst 0, 1) := dk_3 (dk_at dksX9_count_6 23 rfl rfl)
theorem dX9_count_189 : decode cX9_count 189 = .ok (.iadd, 1) := dk_96 (dk_at dksX9_count_7 0 rfl rfl)
theorem dX9_count_190 : decode cX9_count 190 = .ok (.aload_n 0, 1) := dk_42 (dk_at dksX9_count_7 1 rfl rfl)
theorem dX9_count_191 : decode cX9_count 191 = .ok (.getfield 113, 3) := dk_180 0 113 (dk_at dksX9_count_7 2 rfl rfl)
theorem dX9_count_194 : decode cX9_count 194 = .ok (.iconst 2, 1) := dk_5 (dk_at dksX9_count_7 5 rfl rfl)
theorem dX9_count_195 : decode cX9_count 195 = .ok (.baload, 1) := dk_51 (dk_at dksX9_count_7 6 rfl rfl)
theorem dX9_count_196 : decode cX9_count 196 = .ok (.ifCond .eq 7, 3) := dk_153 0 7 (dk_at dksX9_count_7 7 rfl rfl)
theorem dX9_count_199 : decode cX9_count 199 = .ok (.iconst 1, 1) := dk_4 (dk_at dksX9_count_7 10 rfl rfl)
theorem dX9_count_200 : decode cX9_count 200 = .ok (.goto 4, 3) := dk_167 0 4 (dk_at dksX9_count_7 11 rfl rfl)
theorem dX9_count_203 : decode cX9_count 203 = .ok (.iconst 0, 1) := dk_3 (dk_at dksX9_count_7 14 rfl rfl)
theorem dX9_count_204 : decode cX9_count 204 = .ok (.iadd, 1) := dk_96 (dk_at dksX9_count_7 15 rfl rfl)
theorem dX9_count_205 : decode cX9_count 205 = .ok (.ireturn, 1) := dk_172 (dk_at dksX9_count_7 16 rfl rfl)
theorem dX9_count_206 : decode cX9_count 206 = .ok (.aload_n 0, 1) := dk_42 (dk_at dksX9_count_7 17 rfl rfl)
theorem dX9_count_207 : decode cX9_count 207 = .ok (.getfield 80, 3) := dk_180 0 80 (dk_at dksX9_count_7 18 rfl rfl)
theorem dX9_count_210 : decode cX9_count 210 = .ok (.iconst 5, 1) := dk_8 (dk_at dksX9_count_7 21 rfl rfl)
theorem dX9_count_211 : decode cX9_count 211 = .ok (.iaload, 1) := dk_46 (dk_at dksX9_count_7 22 rfl rfl)
theorem dX9_count_212 : decode cX9_count 212 = .ok (.ireturn, 1) := dk_172 (dk_at dksX9_count_7 23 rfl rfl)
theorem dX9_count_213 : decode cX9_count 213 = .ok (.aload_n 0, 1) := dk_42 (dk_at dksX9_count_8 0 rfl rfl)
theorem dX9_count_214 : decode cX9_count 214 = .ok (.getfield 80, 3) := dk_180 0 80 (dk_at dksX9_count_8 1 rfl rfl)
theorem dX9_count_217 : decode cX9_count 217 = .ok (.bipush 6, 2) := dk_16 6 (dk_at dksX9_count_8 4 rfl rfl)
theorem dX9_count_219 : decode cX9_count 219 = .ok (.iaload, 1) := dk_46 (dk_at dksX9_count_8 6 rfl rfl)
theorem dX9_count_220 : decode cX9_count 220 = .ok (.ireturn, 1) := dk_172 (dk_at dksX9_count_8 7 rfl rfl)
theorem dX9_count_221 : decode cX9_count 221 = .ok (.aload_n 0, 1) := dk_42 (dk_at dksX9_count_8 8 rfl rfl)
theorem dX9_count_222 : decode cX9_count 222 = .ok (.getfield 80, 3) := dk_180 0 80 (dk_at dksX9_count_8 9 rfl rfl)
theorem dX9_count_225 : decode cX9_count 225 = .ok (.bipush 7, 2) := dk_16 7 (dk_at dksX9_count_8 12 rfl rfl)
theorem dX9_count_227 : decode cX9_count 227 = .ok (.iaload, 1) := dk_46 (dk_at dksX9_count_8 14 rfl rfl)
theorem dX9_count_228 : decode cX9_count 228 = .ok (.ireturn, 1) := dk_172 (dk_at dksX9_count_8 15 rfl rfl)
theorem dX9_count_229 : decode cX9_count 229 = .ok (.aload_n 0, 1) := dk_42 (dk_at dksX9_count_8 16 rfl rfl)
theorem dX9_count_230 : decode cX9_count 230 = .ok (.getfield 80, 3) := dk_180 0 80 (dk_at dksX9_count_8 17 rfl rfl)
theorem dX9_count_233 : decode cX9_count 233 = .ok (.iconst 4, 1) := dk_7 (dk_at dksX9_count_8 20 rfl rfl)
theorem dX9_count_234 : decode cX9_count 234 = .ok (.iaload, 1) := dk_46 (dk_at dksX9_count_8 21 rfl rfl)
theorem dX9_count_235 : decode cX9_count 235 = .ok (.ireturn, 1) := dk_172 (dk_at dksX9_count_8 22 rfl rfl)
theorem dX9_count_236 : decode cX9_count 236 = .ok (.iconst (-1), 1) := dk_2 (dk_at dksX9_count_8 23 rfl rfl)
theorem dX9_count_237 : decode cX9_count 237 = .ok (.ireturn, 1) := dk_172 (dk_at dksX9_count_9 0 rfl rfl)
abbrev cX9_sumOf : ByteArray := prog_20_method_119_code
def yX9_sumOf : MethodName := ⟨RX9, "sumOf", "(I)I"⟩
def dkwX9_sumOf_2 : List UInt8 := [132, 3, 1, 167, 255, 213, 28, 172]
abbrev dktX9_sumOf_2 : List UInt8 := dkwX9_sumOf_2 ++ []
def dkwX9_sumOf_1 : List UInt8 := [182, 1, 32, 155, 0, 19, 167, 0, 13, 42, 29, 8, 182, 1, 32, 4, 160, 0, 6, 132, 2, 1]
abbrev dktX9_sumOf_1 : List UInt8 := dkwX9_sumOf_1 ++ dktX9_sumOf_2
def dkwX9_sumOf_0 : List UInt8 := [3, 61, 3, 62, 29, 42, 180, 0, 80, 3, 46, 162, 0, 39, 27, 7, 160, 0, 15, 42, 29, 7]
abbrev dktX9_sumOf_0 : List UInt8 := dkwX9_sumOf_0 ++ dktX9_sumOf_1
theorem dksX9_sumOf_0 : cX9_sumOf.data.toList.drop 0 = dktX9_sumOf_0 := by decide +kernel
theorem dksX9_sumOf_1 : cX9_sumOf.data.toList.drop 22 = dktX9_sumOf_1 := dk_seg dksX9_sumOf_0 22 rfl rfl
theorem dksX9_sumOf_2 : cX9_sumOf.data.toList.drop 44 = dktX9_sumOf_2 := dk_seg dksX9_sumOf_1 22 rfl rfl
theorem dX9_sumOf_0 : decode cX9_sumOf 0 = .ok (.iconst 0, 1) := dk_3 (dk_at dksX9_sumOf_0 0 rfl rfl)
theorem dX9_sumOf_1 : decode cX9_sumOf 1 = .ok (.istore_n 2, 1) := dk_61 (dk_at dksX9_sumOf_0 1 rfl rfl)
theorem dX9_sumOf_2 : decode cX9_sumOf 2 = .ok (.iconst 0, 1) := dk_3 (dk_at dksX9_sumOf_0 2 rfl rfl)
theorem dX9_sumOf_3 : decode cX9_sumOf 3 = .ok (.istore_n 3, 1) := dk_62 (dk_at dksX9_sumOf_0 3 rfl rfl)
theorem dX9_sumOf_4 : decode cX9_sumOf 4 = .ok (.iload_n 3, 1) := dk_29 (dk_at dksX9_sumOf_0 4 rfl rfl)
theorem dX9_sumOf_5 : decode cX9_sumOf 5 = .ok (.aload_n 0, 1) := dk_42 (dk_at dksX9_sumOf_0 5 rfl rfl)
theorem dX9_sumOf_6 : decode cX9_sumOf 6 = .ok (.getfield 80, 3) := dk_180 0 80 (dk_at dksX9_sumOf_0 6 rfl rfl)
theorem dX9_sumOf_9 : decode cX9_sumOf 9 = .ok (.iconst 0, 1) := dk_3 (dk_at dksX9_sumOf_0 9 rfl rfl)
theorem dX9_sumOf_10 : decode cX9_sumOf 10 = .ok (.iaload, 1) := dk_46 (dk_at dksX9_sumOf_0 10 rfl rfl)
theorem dX9_sumOf_11 : decode cX9_sumOf 11 = .ok (.if_icmp .ge 39, 3) := dk_162 0 39 (dk_at dksX9_sumOf_0 11 rfl rfl)
theorem dX9_sumOf_14 : decode cX9_sumOf 14 = .ok (.iload_n 1, 1) := dk_27 (dk_at dksX9_sumOf_0 14 rfl rfl)
theorem dX9_sumOf_15 : decode cX9_sumOf 15 = .ok (.iconst 4, 1) := dk_7 (dk_at dksX9_sumOf_0 15 rfl rfl)
theorem dX9_sumOf_16 : decode cX9_sumOf 16 = .ok (.if_icmp .ne 15, 3) := dk_160 0 15 (dk_at dksX9_sumOf_0 16 rfl rfl)
theorem dX9_sumOf_19 : decode cX9_sumOf 19 = .ok (.aload_n 0, 1) := dk_42 (dk_at dksX9_sumOf_0 19 rfl rfl)
theorem dX9_sumOf_20 : decode cX9_sumOf 20 = .ok (.iload_n 3, 1) := dk_29 (dk_at dksX9_sumOf_0 20 rfl rfl)
theorem dX9_sumOf_21 : decode cX9_sumOf 21 = .ok (.iconst 4, 1) := dk_7 (dk_at dksX9_sumOf_0 21 rfl rfl)
theorem dX9_sumOf_22 : decode cX9_sumOf 22 = .ok (.invokevirtual 288, 3) := dk_182 1 32 (dk_at dksX9_sumOf_1 0 rfl rfl)
theorem dX9_sumOf_25 : decode cX9_sumOf 25 = .ok (.ifCond .lt 19, 3) := dk_155 0 19 (dk_at dksX9_sumOf_1 3 rfl rfl)
theorem dX9_sumOf_28 : decode cX9_sumOf 28 = .ok (.goto 13, 3) := dk_167 0 13 (dk_at dksX9_sumOf_1 6 rfl rfl)
theorem dX9_sumOf_31 : decode cX9_sumOf 31 = .ok (.aload_n 0, 1) := dk_42 (dk_at dksX9_sumOf_1 9 rfl rfl)
theorem dX9_sumOf_32 : decode cX9_sumOf 32 = .ok (.iload_n 3, 1) := dk_29 (dk_at dksX9_sumOf_1 10 rfl rfl)
theorem dX9_sumOf_33 : decode cX9_sumOf 33 = .ok (.iconst 5, 1) := dk_8 (dk_at dksX9_sumOf_1 11 rfl rfl)
theorem dX9_sumOf_34 : decode cX9_sumOf 34 = .ok (.invokevirtual 288, 3) := dk_182 1 32 (dk_at dksX9_sumOf_1 12 rfl rfl)
theorem dX9_sumOf_37 : decode cX9_sumOf 37 = .ok (.iconst 1, 1) := dk_4 (dk_at dksX9_sumOf_1 15 rfl rfl)
theorem dX9_sumOf_38 : decode cX9_sumOf 38 = .ok (.if_icmp .ne 6, 3) := dk_160 0 6 (dk_at dksX9_sumOf_1 16 rfl rfl)
theorem dX9_sumOf_41 : decode cX9_sumOf 41 = .ok (.iinc 2 1, 3) := dk_132 2 1 (dk_at dksX9_sumOf_1 19 rfl rfl)
theorem dX9_sumOf_44 : decode cX9_sumOf 44 = .ok (.iinc 3 1, 3) := dk_132 3 1 (dk_at dksX9_sumOf_2 0 rfl rfl)
theorem dX9_sumOf_47 : decode cX9_sumOf 47 = .ok (.goto (-43), 3) := dk_167 255 213 (dk_at dksX9_sumOf_2 3 rfl rfl)
theorem dX9_sumOf_50 : decode cX9_sumOf 50 = .ok (.iload_n 2, 1) := dk_28 (dk_at dksX9_sumOf_2 6 rfl rfl)
theorem dX9_sumOf_51 : decode cX9_sumOf 51 = .ok (.ireturn, 1) := dk_172 (dk_at dksX9_sumOf_2 7 rfl rfl)
theorem q158 : (Jvm.Cond.initialized "DeltaIndexModel") ∈ lw_all := lw_g (lw_at lw_m1 16 rfl) rfl
theorem q1246 : (Jvm.Cond.selects "DeltaIndexModel" ({ cls := "java/lang/Object", name := "getClass", desc := "()Ljava/lang/Class;" } : Jvm.MethodName) ({ cls := "java/lang/Object", name := "getClass", desc := "()Ljava/lang/Class;" } : Jvm.MethodName)) ∈ lw_all := lw_g (lw_at lw_m5 144 rfl) rfl
theorem q1715 : (Jvm.Cond.instantiable "DeltaIndexModel" (55 : Nat)) ∈ lw_all := lw_g (lw_at lw_m7 133 rfl) rfl
theorem q1717 : (Jvm.Cond.instanceMethod ({ cls := "DeltaIndexModel", name := "<init>", desc := "()V" } : Jvm.MethodName)) ∈ lw_all := lw_g (lw_at lw_m7 135 rfl) rfl
theorem q1718 : (Jvm.Cond.code ({ cls := "DeltaIndexModel", name := "<init>", desc := "()V" } : Jvm.MethodName) prog_20_method_2_code (1 : Nat) (Option.none : Option Jvm.ClassFile.FieldType)) ∈ lw_all := lw_g (lw_at lw_m7 136 rfl) rfl
theorem q1719 : (Jvm.Cond.methodLink "DeltaIndexModel" (7 : Nat) ({ cls := "java/lang/Object", name := "<init>", desc := "()V" } : Jvm.MethodName)) ∈ lw_all := lw_g (lw_at lw_m7 137 rfl) rfl
theorem q1720 : (Jvm.Cond.constant "DeltaIndexModel" (79 : Nat) (137300 : Int32)) ∈ lw_all := lw_g (lw_at lw_m7 138 rfl) rfl
theorem q1721 : (Jvm.Cond.constant "DeltaIndexModel" (117 : Nat) (411900 : Int32)) ∈ lw_all := lw_g (lw_at lw_m7 139 rfl) rfl
theorem q1722 : (Jvm.Cond.methodLink "DeltaIndexModel" (121 : Nat) ({ cls := "DeltaIndexModel", name := "letters", desc := "(IIIIIII)J" } : Jvm.MethodName)) ∈ lw_all := lw_g (lw_at lw_m7 140 rfl) rfl
theorem q1723 : (Jvm.Cond.static ({ cls := "DeltaIndexModel", name := "letters", desc := "(IIIIIII)J" } : Jvm.MethodName)) ∈ lw_all := lw_g (lw_at lw_m7 141 rfl) rfl
theorem q1724 : (Jvm.Cond.code ({ cls := "DeltaIndexModel", name := "letters", desc := "(IIIIIII)J" } : Jvm.MethodName) prog_20_method_10_code (7 : Nat) (Option.some Jvm.ClassFile.FieldType.long)) ∈ lw_all := lw_g (lw_at lw_m7 142 rfl) rfl
theorem q1725 : (Jvm.Cond.methodLink "DeltaIndexModel" (141 : Nat) ({ cls := "DeltaIndexModel", name := "appends", desc := "(JI)J" } : Jvm.MethodName)) ∈ lw_all := lw_g (lw_at lw_m7 143 rfl) rfl
theorem q1726 : (Jvm.Cond.static ({ cls := "DeltaIndexModel", name := "appends", desc := "(JI)J" } : Jvm.MethodName)) ∈ lw_all := lw_g (lw_at lw_m7 144 rfl) rfl
theorem q1727 : (Jvm.Cond.code ({ cls := "DeltaIndexModel", name := "appends", desc := "(JI)J" } : Jvm.MethodName) prog_20_method_9_code (3 : Nat) (Option.some Jvm.ClassFile.FieldType.long)) ∈ lw_all := lw_g (lw_at lw_m7 145 rfl) rfl
theorem q1728 : (Jvm.Cond.constantLong "DeltaIndexModel" (139 : Nat) (27 : Int64)) ∈ lw_all := lw_g (lw_at lw_m7 146 rfl) rfl
theorem q1729 : (Jvm.Cond.methodLink "DeltaIndexModel" (125 : Nat) ({ cls := "DeltaIndexModel", name := "begins", desc := "(III)V" } : Jvm.MethodName)) ∈ lw_all := lw_g (lw_at lw_m7 147 rfl) rfl
theorem q1730 : (Jvm.Cond.privateMethod ({ cls := "DeltaIndexModel", name := "begins", desc := "(III)V" } : Jvm.MethodName)) ∈ lw_tbl := lw_at lw_m7 148 rfl
theorem q1731 : (Jvm.Cond.instanceMethod ({ cls := "DeltaIndexModel", name := "begins", desc := "(III)V" } : Jvm.MethodName)) ∈ lw_all := lw_g (lw_at lw_m7 149 rfl) rfl
theorem q1732 : (Jvm.Cond.code ({ cls := "DeltaIndexModel", name := "begins", desc := "(III)V" } : Jvm.MethodName) prog_20_method_44_code (5 : Nat) (Option.none : Option Jvm.ClassFile.FieldType)) ∈ lw_all := lw_g (lw_at lw_m7 150 rfl) rfl
theorem q1733 : (Jvm.Cond.methodLink "DeltaIndexModel" (291 : Nat) ({ cls := "DeltaIndexModel", name := "hand0", desc := "(I)I" } : Jvm.MethodName)) ∈ lw_all := lw_g (lw_at lw_m7 151 rfl) rfl
theorem q1734 : (Jvm.Cond.static ({ cls := "DeltaIndexModel", name := "hand0", desc := "(I)I" } : Jvm.MethodName)) ∈ lw_all := lw_g (lw_at lw_m7 152 rfl) rfl
theorem q1735 : (Jvm.Cond.code ({ cls := "DeltaIndexModel", name := "hand0", desc := "(I)I" } : Jvm.MethodName) prog_20_method_36_code (1 : Nat) (Option.some Jvm.ClassFile.FieldType.int)) ∈ lw_all := lw_g (lw_at lw_m7 153 rfl) rfl
theorem q1736 : (Jvm.Cond.methodLink "DeltaIndexModel" (294 : Nat) ({ cls := "DeltaIndexModel", name := "newBase", desc := "(II)I" } : Jvm.MethodName)) ∈ lw_all := lw_g (lw_at lw_m7 154 rfl) rfl
theorem q1737 : (Jvm.Cond.privateMethod ({ cls := "DeltaIndexModel", name := "newBase", desc := "(II)I" } : Jvm.MethodName)) ∈ lw_tbl := lw_at lw_m7 155 rfl
theorem q1738 : (Jvm.Cond.instanceMethod ({ cls := "DeltaIndexModel", name := "newBase", desc := "(II)I" } : Jvm.MethodName)) ∈ lw_all := lw_g (lw_at lw_m7 156 rfl) rfl
theorem q1739 : (Jvm.Cond.code ({ cls := "DeltaIndexModel", name := "newBase", desc := "(II)I" } : Jvm.MethodName) prog_20_method_41_code (4 : Nat) (Option.some Jvm.ClassFile.FieldType.int)) ∈ lw_all := lw_g (lw_at lw_m7 157 rfl) rfl
theorem q1740 : (Jvm.Cond.methodLink "DeltaIndexModel" (285 : Nat) ({ cls := "DeltaIndexModel", name := "newRecord", desc := "(IIII)I" } : Jvm.MethodName)) ∈ lw_all := lw_g (lw_at lw_m7 158 rfl) rfl
theorem q1741 : (Jvm.Cond.privateMethod ({ cls := "DeltaIndexModel", name := "newRecord", desc := "(IIII)I" } : Jvm.MethodName)) ∈ lw_tbl := lw_at lw_m7 159 rfl
theorem q1742 : (Jvm.Cond.instanceMethod ({ cls := "DeltaIndexModel", name := "newRecord", desc := "(IIII)I" } : Jvm.MethodName)) ∈ lw_all := lw_g (lw_at lw_m7 160 rfl) rfl
theorem q1743 : (Jvm.Cond.code ({ cls := "DeltaIndexModel", name := "newRecord", desc := "(IIII)I" } : Jvm.MethodName) prog_20_method_40_code (7 : Nat) (Option.some Jvm.ClassFile.FieldType.int)) ∈ lw_all := lw_g (lw_at lw_m7 161 rfl) rfl
theorem q1744 : (Jvm.Cond.methodLink "DeltaIndexModel" (282 : Nat) ({ cls := "DeltaIndexModel", name := "record0", desc := "(I)I" } : Jvm.MethodName)) ∈ lw_all := lw_g (lw_at lw_m7 162 rfl) rfl
theorem q1745 : (Jvm.Cond.static ({ cls := "DeltaIndexModel", name := "record0", desc := "(I)I" } : Jvm.MethodName)) ∈ lw_all := lw_g (lw_at lw_m7 163 rfl) rfl
theorem q1746 : (Jvm.Cond.code ({ cls := "DeltaIndexModel", name := "record0", desc := "(I)I" } : Jvm.MethodName) prog_20_method_37_code (1 : Nat) (Option.some Jvm.ClassFile.FieldType.int)) ∈ lw_all := lw_g (lw_at lw_m7 164 rfl) rfl
theorem q1747 : (Jvm.Cond.methodLink "DeltaIndexModel" (297 : Nat) ({ cls := "DeltaIndexModel", name := "adds", desc := "(III)V" } : Jvm.MethodName)) ∈ lw_all := lw_g (lw_at lw_m7 165 rfl) rfl
theorem q1748 : (Jvm.Cond.privateMethod ({ cls := "DeltaIndexModel", name := "adds", desc := "(III)V" } : Jvm.MethodName)) ∈ lw_tbl := lw_at lw_m7 166 rfl
theorem q1749 : (Jvm.Cond.instanceMethod ({ cls := "DeltaIndexModel", name := "adds", desc := "(III)V" } : Jvm.MethodName)) ∈ lw_all := lw_g (lw_at lw_m7 167 rfl) rfl
theorem q1750 : (Jvm.Cond.code ({ cls := "DeltaIndexModel", name := "adds", desc := "(III)V" } : Jvm.MethodName) prog_20_method_42_code (5 : Nat) (Option.none : Option Jvm.ClassFile.FieldType)) ∈ lw_all := lw_g (lw_at lw_m7 168 rfl) rfl
theorem q1751 : (Jvm.Cond.methodLink "DeltaIndexModel" (288 : Nat) ({ cls := "DeltaIndexModel", name := "ofRecord", desc := "(II)I" } : Jvm.MethodName)) ∈ lw_all := lw_g (lw_at lw_m7 169 rfl) rfl
theorem q1752 : (Jvm.Cond.privateMethod ({ cls := "DeltaIndexModel", name := "ofRecord", desc := "(II)I" } : Jvm.MethodName)) ∈ lw_tbl := lw_at lw_m7 170 rfl
theorem q1753 : (Jvm.Cond.instanceMethod ({ cls := "DeltaIndexModel", name := "ofRecord", desc := "(II)I" } : Jvm.MethodName)) ∈ lw_all := lw_g (lw_at lw_m7 171 rfl) rfl
theorem q1754 : (Jvm.Cond.code ({ cls := "DeltaIndexModel", name := "ofRecord", desc := "(II)I" } : Jvm.MethodName) prog_20_method_38_code (3 : Nat) (Option.some Jvm.ClassFile.FieldType.int)) ∈ lw_all := lw_g (lw_at lw_m7 172 rfl) rfl
theorem q1755 : (Jvm.Cond.fieldLink "DeltaIndexModel" (13 : Nat) "DeltaIndexModel" "tape" "[B") ∈ lw_all := lw_g (lw_at lw_m7 173 rfl) rfl
theorem q1756 : (Jvm.Cond.fieldLink "DeltaIndexModel" (129 : Nat) "DeltaIndexModel" "taped" "I") ∈ lw_all := lw_g (lw_at lw_m7 174 rfl) rfl
theorem q1757 : (Jvm.Cond.fieldLink "DeltaIndexModel" (17 : Nat) "DeltaIndexModel" "text" "[B") ∈ lw_all := lw_g (lw_at lw_m7 175 rfl) rfl
theorem q1758 : (Jvm.Cond.fieldLink "DeltaIndexModel" (136 : Nat) "DeltaIndexModel" "size" "I") ∈ lw_all := lw_g (lw_at lw_m7 176 rfl) rfl
theorem q1759 : (Jvm.Cond.fieldLink "DeltaIndexModel" (20 : Nat) "DeltaIndexModel" "tKind" "[I") ∈ lw_all := lw_g (lw_at lw_m7 177 rfl) rfl
theorem q1760 : (Jvm.Cond.fieldLink "DeltaIndexModel" (24 : Nat) "DeltaIndexModel" "tPlace" "[I") ∈ lw_all := lw_g (lw_at lw_m7 178 rfl) rfl
theorem q1761 : (Jvm.Cond.fieldLink "DeltaIndexModel" (27 : Nat) "DeltaIndexModel" "tValue" "[I") ∈ lw_all := lw_g (lw_at lw_m7 179 rfl) rfl
theorem q1762 : (Jvm.Cond.fieldLink "DeltaIndexModel" (30 : Nat) "DeltaIndexModel" "tName" "[J") ∈ lw_all := lw_g (lw_at lw_m7 180 rfl) rfl
theorem q1763 : (Jvm.Cond.fieldLink "DeltaIndexModel" (34 : Nat) "DeltaIndexModel" "keys" "[J") ∈ lw_all := lw_g (lw_at lw_m7 181 rfl) rfl
theorem q1764 : (Jvm.Cond.fieldLink "DeltaIndexModel" (145 : Nat) "DeltaIndexModel" "tokens" "I") ∈ lw_all := lw_g (lw_at lw_m7 182 rfl) rfl
theorem q1765 : (Jvm.Cond.fieldLink "DeltaIndexModel" (170 : Nat) "DeltaIndexModel" "t" "I") ∈ lw_all := lw_g (lw_at lw_m7 183 rfl) rfl
theorem q1766 : (Jvm.Cond.fieldLink "DeltaIndexModel" (194 : Nat) "DeltaIndexModel" "open" "I") ∈ lw_all := lw_g (lw_at lw_m7 184 rfl) rfl
theorem q1767 : (Jvm.Cond.fieldLink "DeltaIndexModel" (167 : Nat) "DeltaIndexModel" "fault" "I") ∈ lw_all := lw_g (lw_at lw_m7 185 rfl) rfl
theorem q1768 : (Jvm.Cond.fieldLink "DeltaIndexModel" (173 : Nat) "DeltaIndexModel" "faultPlace" "I") ∈ lw_all := lw_g (lw_at lw_m7 186 rfl) rfl
theorem q1769 : (Jvm.Cond.fieldLink "DeltaIndexModel" (176 : Nat) "DeltaIndexModel" "worst" "I") ∈ lw_all := lw_g (lw_at lw_m7 187 rfl) rfl
theorem q1770 : (Jvm.Cond.fieldLink "DeltaIndexModel" (179 : Nat) "DeltaIndexModel" "worstPlace" "I") ∈ lw_all := lw_g (lw_at lw_m7 188 rfl) rfl
theorem q1771 : (Jvm.Cond.fieldLink "DeltaIndexModel" (37 : Nat) "DeltaIndexModel" "place" "I") ∈ lw_all := lw_g (lw_at lw_m7 189 rfl) rfl
theorem q1772 : (Jvm.Cond.fieldLink "DeltaIndexModel" (197 : Nat) "DeltaIndexModel" "tells" "I") ∈ lw_all := lw_g (lw_at lw_m7 190 rfl) rfl
theorem q1773 : (Jvm.Cond.fieldLink "DeltaIndexModel" (40 : Nat) "DeltaIndexModel" "tellSort" "[I") ∈ lw_all := lw_g (lw_at lw_m7 191 rfl) rfl
theorem q1774 : (Jvm.Cond.fieldLink "DeltaIndexModel" (43 : Nat) "DeltaIndexModel" "tellHand" "[I") ∈ lw_all := lw_g (lw_at lw_m7 192 rfl) rfl
theorem q1775 : (Jvm.Cond.fieldLink "DeltaIndexModel" (46 : Nat) "DeltaIndexModel" "tellFrom" "[I") ∈ lw_all := lw_g (lw_at lw_m7 193 rfl) rfl
theorem q1776 : (Jvm.Cond.fieldLink "DeltaIndexModel" (49 : Nat) "DeltaIndexModel" "tellMid" "[I") ∈ lw_all := lw_g (lw_at lw_m7 194 rfl) rfl
theorem q1777 : (Jvm.Cond.fieldLink "DeltaIndexModel" (52 : Nat) "DeltaIndexModel" "tellTo" "[I") ∈ lw_all := lw_g (lw_at lw_m7 195 rfl) rfl
theorem q1778 : (Jvm.Cond.fieldLink "DeltaIndexModel" (55 : Nat) "DeltaIndexModel" "tellMate" "[I") ∈ lw_all := lw_g (lw_at lw_m7 196 rfl) rfl
theorem q1779 : (Jvm.Cond.fieldLink "DeltaIndexModel" (200 : Nat) "DeltaIndexModel" "within" "I") ∈ lw_all := lw_g (lw_at lw_m7 197 rfl) rfl
theorem q1780 : (Jvm.Cond.fieldLink "DeltaIndexModel" (58 : Nat) "DeltaIndexModel" "aboutBy" "[I") ∈ lw_all := lw_g (lw_at lw_m7 198 rfl) rfl
theorem q1781 : (Jvm.Cond.fieldLink "DeltaIndexModel" (203 : Nat) "DeltaIndexModel" "codes" "I") ∈ lw_all := lw_g (lw_at lw_m7 199 rfl) rfl
theorem q1782 : (Jvm.Cond.fieldLink "DeltaIndexModel" (61 : Nat) "DeltaIndexModel" "code" "[I") ∈ lw_all := lw_g (lw_at lw_m7 200 rfl) rfl
theorem q1783 : (Jvm.Cond.fieldLink "DeltaIndexModel" (64 : Nat) "DeltaIndexModel" "codeInt" "[I") ∈ lw_all := lw_g (lw_at lw_m7 201 rfl) rfl
theorem q1784 : (Jvm.Cond.fieldLink "DeltaIndexModel" (67 : Nat) "DeltaIndexModel" "waits" "[I") ∈ lw_all := lw_g (lw_at lw_m7 202 rfl) rfl
theorem q1785 : (Jvm.Cond.fieldLink "DeltaIndexModel" (241 : Nat) "DeltaIndexModel" "waiting" "I") ∈ lw_all := lw_g (lw_at lw_m7 203 rfl) rfl
theorem q1786 : (Jvm.Cond.fieldLink "DeltaIndexModel" (70 : Nat) "DeltaIndexModel" "variables" "[I") ∈ lw_all := lw_g (lw_at lw_m7 204 rfl) rfl
theorem q1787 : (Jvm.Cond.fieldLink "DeltaIndexModel" (73 : Nat) "DeltaIndexModel" "pile" "[I") ∈ lw_all := lw_g (lw_at lw_m7 205 rfl) rfl
theorem q1788 : (Jvm.Cond.fieldLink "DeltaIndexModel" (76 : Nat) "DeltaIndexModel" "roundNow" "[I") ∈ lw_all := lw_g (lw_at lw_m7 206 rfl) rfl
theorem q1789 : (Jvm.Cond.fieldLink "DeltaIndexModel" (80 : Nat) "DeltaIndexModel" "now" "[I") ∈ lw_all := lw_g (lw_at lw_m7 207 rfl) rfl
theorem q1790 : (Jvm.Cond.fieldLink "DeltaIndexModel" (83 : Nat) "DeltaIndexModel" "chainAt" "[I") ∈ lw_all := lw_g (lw_at lw_m7 208 rfl) rfl
theorem q1791 : (Jvm.Cond.fieldLink "DeltaIndexModel" (303 : Nat) "DeltaIndexModel" "chainMany" "I") ∈ lw_all := lw_g (lw_at lw_m7 209 rfl) rfl
theorem q1792 : (Jvm.Cond.fieldLink "DeltaIndexModel" (86 : Nat) "DeltaIndexModel" "hasKey" "[I") ∈ lw_all := lw_g (lw_at lw_m7 210 rfl) rfl
theorem q1793 : (Jvm.Cond.fieldLink "DeltaIndexModel" (89 : Nat) "DeltaIndexModel" "hasValue" "[I") ∈ lw_all := lw_g (lw_at lw_m7 211 rfl) rfl
theorem q1794 : (Jvm.Cond.fieldLink "DeltaIndexModel" (309 : Nat) "DeltaIndexModel" "hasMany" "I") ∈ lw_all := lw_g (lw_at lw_m7 212 rfl) rfl
theorem q1795 : (Jvm.Cond.fieldLink "DeltaIndexModel" (324 : Nat) "DeltaIndexModel" "hasHigh" "I") ∈ lw_all := lw_g (lw_at lw_m7 213 rfl) rfl
theorem q1796 : (Jvm.Cond.fieldLink "DeltaIndexModel" (327 : Nat) "DeltaIndexModel" "hasRight" "I") ∈ lw_all := lw_g (lw_at lw_m7 214 rfl) rfl
theorem q1797 : (Jvm.Cond.fieldLink "DeltaIndexModel" (92 : Nat) "DeltaIndexModel" "boundKey" "[I") ∈ lw_all := lw_g (lw_at lw_m7 215 rfl) rfl
theorem q1798 : (Jvm.Cond.fieldLink "DeltaIndexModel" (95 : Nat) "DeltaIndexModel" "boundPage" "[I") ∈ lw_all := lw_g (lw_at lw_m7 216 rfl) rfl
theorem q1799 : (Jvm.Cond.fieldLink "DeltaIndexModel" (342 : Nat) "DeltaIndexModel" "boundMany" "I") ∈ lw_all := lw_g (lw_at lw_m7 217 rfl) rfl
theorem q1800 : (Jvm.Cond.fieldLink "DeltaIndexModel" (98 : Nat) "DeltaIndexModel" "allKey" "[I") ∈ lw_all := lw_g (lw_at lw_m7 218 rfl) rfl
theorem q1801 : (Jvm.Cond.fieldLink "DeltaIndexModel" (101 : Nat) "DeltaIndexModel" "allValue" "[I") ∈ lw_all := lw_g (lw_at lw_m7 219 rfl) rfl
theorem q1802 : (Jvm.Cond.fieldLink "DeltaIndexModel" (269 : Nat) "DeltaIndexModel" "allMany" "I") ∈ lw_all := lw_g (lw_at lw_m7 220 rfl) rfl
theorem q1803 : (Jvm.Cond.fieldLink "DeltaIndexModel" (104 : Nat) "DeltaIndexModel" "kept" "[I") ∈ lw_all := lw_g (lw_at lw_m7 221 rfl) rfl
theorem q1804 : (Jvm.Cond.fieldLink "DeltaIndexModel" (107 : Nat) "DeltaIndexModel" "firstKey" "[I") ∈ lw_all := lw_g (lw_at lw_m7 222 rfl) rfl
theorem q1805 : (Jvm.Cond.fieldLink "DeltaIndexModel" (110 : Nat) "DeltaIndexModel" "firstValue" "[I") ∈ lw_all := lw_g (lw_at lw_m7 223 rfl) rfl
theorem q1806 : (Jvm.Cond.fieldLink "DeltaIndexModel" (463 : Nat) "DeltaIndexModel" "firstMany" "I") ∈ lw_all := lw_g (lw_at lw_m7 224 rfl) rfl
theorem q1807 : (Jvm.Cond.fieldLink "DeltaIndexModel" (113 : Nat) "DeltaIndexModel" "isHeld" "[Z") ∈ lw_all := lw_g (lw_at lw_m7 225 rfl) rfl
theorem q1808 : (Jvm.Cond.fieldLink "DeltaIndexModel" (118 : Nat) "DeltaIndexModel" "heldRows" "[I") ∈ lw_all := lw_g (lw_at lw_m7 226 rfl) rfl
theorem q1809 : (Jvm.Cond.lays "DeltaIndexModel" "DeltaIndexModel" "thrown" "I") ∈ lw_all := lw_g (lw_at lw_m7 227 rfl) rfl
theorem q1810 : (Jvm.Cond.soleField "DeltaIndexModel" "thrown") ∈ lw_all := lw_g (lw_at lw_m7 228 rfl) rfl
theorem q1811 : (Jvm.Cond.laysFinal "DeltaIndexModel" "DeltaIndexModel" "tape" "[B") ∈ lw_all := lw_g (lw_at lw_m7 229 rfl) rfl
theorem q1812 : (Jvm.Cond.soleField "DeltaIndexModel" "tape") ∈ lw_all := lw_g (lw_at lw_m7 230 rfl) rfl
theorem q1813 : (Jvm.Cond.lays "DeltaIndexModel" "DeltaIndexModel" "taped" "I") ∈ lw_all := lw_g (lw_at lw_m7 231 rfl) rfl
theorem q1814 : (Jvm.Cond.soleField "DeltaIndexModel" "taped") ∈ lw_all := lw_g (lw_at lw_m7 232 rfl) rfl
theorem q1815 : (Jvm.Cond.laysFinal "DeltaIndexModel" "DeltaIndexModel" "text" "[B") ∈ lw_all := lw_g (lw_at lw_m7 233 rfl) rfl
theorem q1816 : (Jvm.Cond.soleField "DeltaIndexModel" "text") ∈ lw_all := lw_g (lw_at lw_m7 234 rfl) rfl
theorem q1817 : (Jvm.Cond.lays "DeltaIndexModel" "DeltaIndexModel" "size" "I") ∈ lw_all := lw_g (lw_at lw_m7 235 rfl) rfl
theorem q1818 : (Jvm.Cond.soleField "DeltaIndexModel" "size") ∈ lw_all := lw_g (lw_at lw_m7 236 rfl) rfl
theorem q1819 : (Jvm.Cond.laysFinal "DeltaIndexModel" "DeltaIndexModel" "tKind" "[I") ∈ lw_all := lw_g (lw_at lw_m7 237 rfl) rfl
theorem q1820 : (Jvm.Cond.soleField "DeltaIndexModel" "tKind") ∈ lw_all := lw_g (lw_at lw_m7 238 rfl) rfl
theorem q1821 : (Jvm.Cond.laysFinal "DeltaIndexModel" "DeltaIndexModel" "tPlace" "[I") ∈ lw_all := lw_g (lw_at lw_m7 239 rfl) rfl
theorem q1822 : (Jvm.Cond.soleField "DeltaIndexModel" "tPlace") ∈ lw_all := lw_g (lw_at lw_m8 0 rfl) rfl
theorem q1823 : (Jvm.Cond.laysFinal "DeltaIndexModel" "DeltaIndexModel" "tValue" "[I") ∈ lw_all := lw_g (lw_at lw_m8 1 rfl) rfl
theorem q1824 : (Jvm.Cond.soleField "DeltaIndexModel" "tValue") ∈ lw_all := lw_g (lw_at lw_m8 2 rfl) rfl
theorem q1825 : (Jvm.Cond.laysFinal "DeltaIndexModel" "DeltaIndexModel" "tName" "[J") ∈ lw_all := lw_g (lw_at lw_m8 3 rfl) rfl
theorem q1826 : (Jvm.Cond.soleField "DeltaIndexModel" "tName") ∈ lw_all := lw_g (lw_at lw_m8 4 rfl) rfl
theorem q1827 : (Jvm.Cond.laysFinal "DeltaIndexModel" "DeltaIndexModel" "keys" "[J") ∈ lw_all := lw_g (lw_at lw_m8 5 rfl) rfl
theorem q1828 : (Jvm.Cond.soleField "DeltaIndexModel" "keys") ∈ lw_all := lw_g (lw_at lw_m8 6 rfl) rfl
theorem q1829 : (Jvm.Cond.lays "DeltaIndexModel" "DeltaIndexModel" "tokens" "I") ∈ lw_all := lw_g (lw_at lw_m8 7 rfl) rfl
theorem q1830 : (Jvm.Cond.soleField "DeltaIndexModel" "tokens") ∈ lw_all := lw_g (lw_at lw_m8 8 rfl) rfl
theorem q1831 : (Jvm.Cond.lays "DeltaIndexModel" "DeltaIndexModel" "t" "I") ∈ lw_all := lw_g (lw_at lw_m8 9 rfl) rfl
theorem q1832 : (Jvm.Cond.soleField "DeltaIndexModel" "t") ∈ lw_all := lw_g (lw_at lw_m8 10 rfl) rfl
theorem q1833 : (Jvm.Cond.lays "DeltaIndexModel" "DeltaIndexModel" "open" "I") ∈ lw_all := lw_g (lw_at lw_m8 11 rfl) rfl
theorem q1834 : (Jvm.Cond.soleField "DeltaIndexModel" "open") ∈ lw_all := lw_g (lw_at lw_m8 12 rfl) rfl
theorem q1835 : (Jvm.Cond.lays "DeltaIndexModel" "DeltaIndexModel" "fault" "I") ∈ lw_all := lw_g (lw_at lw_m8 13 rfl) rfl
theorem q1836 : (Jvm.Cond.soleField "DeltaIndexModel" "fault") ∈ lw_all := lw_g (lw_at lw_m8 14 rfl) rfl
theorem q1837 : (Jvm.Cond.lays "DeltaIndexModel" "DeltaIndexModel" "faultPlace" "I") ∈ lw_all := lw_g (lw_at lw_m8 15 rfl) rfl
theorem q1838 : (Jvm.Cond.soleField "DeltaIndexModel" "faultPlace") ∈ lw_all := lw_g (lw_at lw_m8 16 rfl) rfl
theorem q1839 : (Jvm.Cond.lays "DeltaIndexModel" "DeltaIndexModel" "worst" "I") ∈ lw_all := lw_g (lw_at lw_m8 17 rfl) rfl
theorem q1840 : (Jvm.Cond.soleField "DeltaIndexModel" "worst") ∈ lw_all := lw_g (lw_at lw_m8 18 rfl) rfl
theorem q1841 : (Jvm.Cond.lays "DeltaIndexModel" "DeltaIndexModel" "worstPlace" "I") ∈ lw_all := lw_g (lw_at lw_m8 19 rfl) rfl
theorem q1842 : (Jvm.Cond.soleField "DeltaIndexModel" "worstPlace") ∈ lw_all := lw_g (lw_at lw_m8 20 rfl) rfl
theorem q1843 : (Jvm.Cond.lays "DeltaIndexModel" "DeltaIndexModel" "place" "I") ∈ lw_all := lw_g (lw_at lw_m8 21 rfl) rfl
theorem q1844 : (Jvm.Cond.soleField "DeltaIndexModel" "place") ∈ lw_all := lw_g (lw_at lw_m8 22 rfl) rfl
theorem q1845 : (Jvm.Cond.lays "DeltaIndexModel" "DeltaIndexModel" "tells" "I") ∈ lw_all := lw_g (lw_at lw_m8 23 rfl) rfl
theorem q1846 : (Jvm.Cond.soleField "DeltaIndexModel" "tells") ∈ lw_all := lw_g (lw_at lw_m8 24 rfl) rfl
theorem q1847 : (Jvm.Cond.laysFinal "DeltaIndexModel" "DeltaIndexModel" "tellSort" "[I") ∈ lw_all := lw_g (lw_at lw_m8 25 rfl) rfl
theorem q1848 : (Jvm.Cond.soleField "DeltaIndexModel" "tellSort") ∈ lw_all := lw_g (lw_at lw_m8 26 rfl) rfl
theorem q1849 : (Jvm.Cond.laysFinal "DeltaIndexModel" "DeltaIndexModel" "tellHand" "[I") ∈ lw_all := lw_g (lw_at lw_m8 27 rfl) rfl
theorem q1850 : (Jvm.Cond.soleField "DeltaIndexModel" "tellHand") ∈ lw_all := lw_g (lw_at lw_m8 28 rfl) rfl
theorem q1851 : (Jvm.Cond.laysFinal "DeltaIndexModel" "DeltaIndexModel" "tellFrom" "[I") ∈ lw_all := lw_g (lw_at lw_m8 29 rfl) rfl
theorem q1852 : (Jvm.Cond.soleField "DeltaIndexModel" "tellFrom") ∈ lw_all := lw_g (lw_at lw_m8 30 rfl) rfl
theorem q1853 : (Jvm.Cond.laysFinal "DeltaIndexModel" "DeltaIndexModel" "tellMid" "[I") ∈ lw_all := lw_g (lw_at lw_m8 31 rfl) rfl
theorem q1854 : (Jvm.Cond.soleField "DeltaIndexModel" "tellMid") ∈ lw_all := lw_g (lw_at lw_m8 32 rfl) rfl
theorem q1855 : (Jvm.Cond.laysFinal "DeltaIndexModel" "DeltaIndexModel" "tellTo" "[I") ∈ lw_all := lw_g (lw_at lw_m8 33 rfl) rfl
theorem q1856 : (Jvm.Cond.soleField "DeltaIndexModel" "tellTo") ∈ lw_all := lw_g (lw_at lw_m8 34 rfl) rfl
theorem q1857 : (Jvm.Cond.laysFinal "DeltaIndexModel" "DeltaIndexModel" "tellMate" "[I") ∈ lw_all := lw_g (lw_at lw_m8 35 rfl) rfl
theorem q1858 : (Jvm.Cond.soleField "DeltaIndexModel" "tellMate") ∈ lw_all := lw_g (lw_at lw_m8 36 rfl) rfl
theorem q1859 : (Jvm.Cond.lays "DeltaIndexModel" "DeltaIndexModel" "within" "I") ∈ lw_all := lw_g (lw_at lw_m8 37 rfl) rfl
theorem q1860 : (Jvm.Cond.soleField "DeltaIndexModel" "within") ∈ lw_all := lw_g (lw_at lw_m8 38 rfl) rfl
theorem q1861 : (Jvm.Cond.laysFinal "DeltaIndexModel" "DeltaIndexModel" "aboutBy" "[I") ∈ lw_all := lw_g (lw_at lw_m8 39 rfl) rfl
theorem q1862 : (Jvm.Cond.soleField "DeltaIndexModel" "aboutBy") ∈ lw_all := lw_g (lw_at lw_m8 40 rfl) rfl
theorem q1863 : (Jvm.Cond.lays "DeltaIndexModel" "DeltaIndexModel" "codes" "I") ∈ lw_all := lw_g (lw_at lw_m8 41 rfl) rfl
theorem q1864 : (Jvm.Cond.soleField "DeltaIndexModel" "codes") ∈ lw_all := lw_g (lw_at lw_m8 42 rfl) rfl
theorem q1865 : (Jvm.Cond.laysFinal "DeltaIndexModel" "DeltaIndexModel" "code" "[I") ∈ lw_all := lw_g (lw_at lw_m8 43 rfl) rfl
theorem q1866 : (Jvm.Cond.soleField "DeltaIndexModel" "code") ∈ lw_all := lw_g (lw_at lw_m8 44 rfl) rfl
theorem q1867 : (Jvm.Cond.laysFinal "DeltaIndexModel" "DeltaIndexModel" "codeInt" "[I") ∈ lw_all := lw_g (lw_at lw_m8 45 rfl) rfl
theorem q1868 : (Jvm.Cond.soleField "DeltaIndexModel" "codeInt") ∈ lw_all := lw_g (lw_at lw_m8 46 rfl) rfl
theorem q1869 : (Jvm.Cond.laysFinal "DeltaIndexModel" "DeltaIndexModel" "waits" "[I") ∈ lw_all := lw_g (lw_at lw_m8 47 rfl) rfl
theorem q1870 : (Jvm.Cond.soleField "DeltaIndexModel" "waits") ∈ lw_all := lw_g (lw_at lw_m8 48 rfl) rfl
theorem q1871 : (Jvm.Cond.lays "DeltaIndexModel" "DeltaIndexModel" "waiting" "I") ∈ lw_all := lw_g (lw_at lw_m8 49 rfl) rfl
theorem q1872 : (Jvm.Cond.soleField "DeltaIndexModel" "waiting") ∈ lw_all := lw_g (lw_at lw_m8 50 rfl) rfl
theorem q1873 : (Jvm.Cond.laysFinal "DeltaIndexModel" "DeltaIndexModel" "variables" "[I") ∈ lw_all := lw_g (lw_at lw_m8 51 rfl) rfl
theorem q1874 : (Jvm.Cond.soleField "DeltaIndexModel" "variables") ∈ lw_all := lw_g (lw_at lw_m8 52 rfl) rfl
theorem q1875 : (Jvm.Cond.laysFinal "DeltaIndexModel" "DeltaIndexModel" "pile" "[I") ∈ lw_all := lw_g (lw_at lw_m8 53 rfl) rfl
theorem q1876 : (Jvm.Cond.soleField "DeltaIndexModel" "pile") ∈ lw_all := lw_g (lw_at lw_m8 54 rfl) rfl
theorem q1877 : (Jvm.Cond.laysFinal "DeltaIndexModel" "DeltaIndexModel" "roundNow" "[I") ∈ lw_all := lw_g (lw_at lw_m8 55 rfl) rfl
theorem q1878 : (Jvm.Cond.soleField "DeltaIndexModel" "roundNow") ∈ lw_all := lw_g (lw_at lw_m8 56 rfl) rfl
theorem q1879 : (Jvm.Cond.laysFinal "DeltaIndexModel" "DeltaIndexModel" "now" "[I") ∈ lw_all := lw_g (lw_at lw_m8 57 rfl) rfl
theorem q1880 : (Jvm.Cond.soleField "DeltaIndexModel" "now") ∈ lw_all := lw_g (lw_at lw_m8 58 rfl) rfl
theorem q1881 : (Jvm.Cond.laysFinal "DeltaIndexModel" "DeltaIndexModel" "chainAt" "[I") ∈ lw_all := lw_g (lw_at lw_m8 59 rfl) rfl
theorem q1882 : (Jvm.Cond.soleField "DeltaIndexModel" "chainAt") ∈ lw_all := lw_g (lw_at lw_m8 60 rfl) rfl
theorem q1883 : (Jvm.Cond.lays "DeltaIndexModel" "DeltaIndexModel" "chainMany" "I") ∈ lw_all := lw_g (lw_at lw_m8 61 rfl) rfl
theorem q1884 : (Jvm.Cond.soleField "DeltaIndexModel" "chainMany") ∈ lw_all := lw_g (lw_at lw_m8 62 rfl) rfl
theorem q1885 : (Jvm.Cond.laysFinal "DeltaIndexModel" "DeltaIndexModel" "hasKey" "[I") ∈ lw_all := lw_g (lw_at lw_m8 63 rfl) rfl
theorem q1886 : (Jvm.Cond.soleField "DeltaIndexModel" "hasKey") ∈ lw_all := lw_g (lw_at lw_m8 64 rfl) rfl
theorem q1887 : (Jvm.Cond.laysFinal "DeltaIndexModel" "DeltaIndexModel" "hasValue" "[I") ∈ lw_all := lw_g (lw_at lw_m8 65 rfl) rfl
theorem q1888 : (Jvm.Cond.soleField "DeltaIndexModel" "hasValue") ∈ lw_all := lw_g (lw_at lw_m8 66 rfl) rfl
theorem q1889 : (Jvm.Cond.lays "DeltaIndexModel" "DeltaIndexModel" "hasMany" "I") ∈ lw_all := lw_g (lw_at lw_m8 67 rfl) rfl
theorem q1890 : (Jvm.Cond.soleField "DeltaIndexModel" "hasMany") ∈ lw_all := lw_g (lw_at lw_m8 68 rfl) rfl
theorem q1891 : (Jvm.Cond.lays "DeltaIndexModel" "DeltaIndexModel" "hasHigh" "I") ∈ lw_all := lw_g (lw_at lw_m8 69 rfl) rfl
theorem q1892 : (Jvm.Cond.soleField "DeltaIndexModel" "hasHigh") ∈ lw_all := lw_g (lw_at lw_m8 70 rfl) rfl
theorem q1893 : (Jvm.Cond.lays "DeltaIndexModel" "DeltaIndexModel" "hasRight" "I") ∈ lw_all := lw_g (lw_at lw_m8 71 rfl) rfl
theorem q1894 : (Jvm.Cond.soleField "DeltaIndexModel" "hasRight") ∈ lw_all := lw_g (lw_at lw_m8 72 rfl) rfl
theorem q1895 : (Jvm.Cond.laysFinal "DeltaIndexModel" "DeltaIndexModel" "boundKey" "[I") ∈ lw_all := lw_g (lw_at lw_m8 73 rfl) rfl
theorem q1896 : (Jvm.Cond.soleField "DeltaIndexModel" "boundKey") ∈ lw_all := lw_g (lw_at lw_m8 74 rfl) rfl
theorem q1897 : (Jvm.Cond.laysFinal "DeltaIndexModel" "DeltaIndexModel" "boundPage" "[I") ∈ lw_all := lw_g (lw_at lw_m8 75 rfl) rfl
theorem q1898 : (Jvm.Cond.soleField "DeltaIndexModel" "boundPage") ∈ lw_all := lw_g (lw_at lw_m8 76 rfl) rfl
theorem q1899 : (Jvm.Cond.lays "DeltaIndexModel" "DeltaIndexModel" "boundMany" "I") ∈ lw_all := lw_g (lw_at lw_m8 77 rfl) rfl
theorem q1900 : (Jvm.Cond.soleField "DeltaIndexModel" "boundMany") ∈ lw_all := lw_g (lw_at lw_m8 78 rfl) rfl
theorem q1901 : (Jvm.Cond.laysFinal "DeltaIndexModel" "DeltaIndexModel" "allKey" "[I") ∈ lw_all := lw_g (lw_at lw_m8 79 rfl) rfl
theorem q1902 : (Jvm.Cond.soleField "DeltaIndexModel" "allKey") ∈ lw_all := lw_g (lw_at lw_m8 80 rfl) rfl
theorem q1903 : (Jvm.Cond.laysFinal "DeltaIndexModel" "DeltaIndexModel" "allValue" "[I") ∈ lw_all := lw_g (lw_at lw_m8 81 rfl) rfl
theorem q1904 : (Jvm.Cond.soleField "DeltaIndexModel" "allValue") ∈ lw_all := lw_g (lw_at lw_m8 82 rfl) rfl
theorem q1905 : (Jvm.Cond.lays "DeltaIndexModel" "DeltaIndexModel" "allMany" "I") ∈ lw_all := lw_g (lw_at lw_m8 83 rfl) rfl
theorem q1906 : (Jvm.Cond.soleField "DeltaIndexModel" "allMany") ∈ lw_all := lw_g (lw_at lw_m8 84 rfl) rfl
theorem q1907 : (Jvm.Cond.laysFinal "DeltaIndexModel" "DeltaIndexModel" "kept" "[I") ∈ lw_all := lw_g (lw_at lw_m8 85 rfl) rfl
theorem q1908 : (Jvm.Cond.soleField "DeltaIndexModel" "kept") ∈ lw_all := lw_g (lw_at lw_m8 86 rfl) rfl
theorem q1909 : (Jvm.Cond.laysFinal "DeltaIndexModel" "DeltaIndexModel" "firstKey" "[I") ∈ lw_all := lw_g (lw_at lw_m8 87 rfl) rfl
theorem q1910 : (Jvm.Cond.soleField "DeltaIndexModel" "firstKey") ∈ lw_all := lw_g (lw_at lw_m8 88 rfl) rfl
theorem q1911 : (Jvm.Cond.laysFinal "DeltaIndexModel" "DeltaIndexModel" "firstValue" "[I") ∈ lw_all := lw_g (lw_at lw_m8 89 rfl) rfl
theorem q1912 : (Jvm.Cond.soleField "DeltaIndexModel" "firstValue") ∈ lw_all := lw_g (lw_at lw_m8 90 rfl) rfl
theorem q1913 : (Jvm.Cond.lays "DeltaIndexModel" "DeltaIndexModel" "firstMany" "I") ∈ lw_all := lw_g (lw_at lw_m8 91 rfl) rfl
theorem q1914 : (Jvm.Cond.soleField "DeltaIndexModel" "firstMany") ∈ lw_all := lw_g (lw_at lw_m8 92 rfl) rfl
theorem q1915 : (Jvm.Cond.laysFinal "DeltaIndexModel" "DeltaIndexModel" "isHeld" "[Z") ∈ lw_all := lw_g (lw_at lw_m8 93 rfl) rfl
theorem q1916 : (Jvm.Cond.soleField "DeltaIndexModel" "isHeld") ∈ lw_all := lw_g (lw_at lw_m8 94 rfl) rfl
theorem q1917 : (Jvm.Cond.laysFinal "DeltaIndexModel" "DeltaIndexModel" "heldRows" "[I") ∈ lw_all := lw_g (lw_at lw_m8 95 rfl) rfl
theorem q1918 : (Jvm.Cond.soleField "DeltaIndexModel" "heldRows") ∈ lw_all := lw_g (lw_at lw_m8 96 rfl) rfl
theorem q1919 : (Jvm.Cond.superclass "DeltaIndexModel" "java/lang/Object") ∈ lw_all := lw_g (lw_at lw_m8 97 rfl) rfl
theorem q1922 : (Jvm.Cond.instanceMethod ({ cls := "DeltaIndexModel", name := "feed", desc := "(IIIII)I" } : Jvm.MethodName)) ∈ lw_all := lw_g (lw_at lw_m8 100 rfl) rfl
theorem q1923 : (Jvm.Cond.selects "DeltaIndexModel" ({ cls := "DeltaIndexModel", name := "feed", desc := "(IIIII)I" } : Jvm.MethodName) ({ cls := "DeltaIndexModel", name := "feed", desc := "(IIIII)I" } : Jvm.MethodName)) ∈ lw_all := lw_g (lw_at lw_m8 101 rfl) rfl
theorem q1924 : (Jvm.Cond.code ({ cls := "DeltaIndexModel", name := "feed", desc := "(IIIII)I" } : Jvm.MethodName) prog_20_method_3_code (6 : Nat) (Option.some Jvm.ClassFile.FieldType.int)) ∈ lw_all := lw_g (lw_at lw_m8 102 rfl) rfl
theorem q1925 : (Jvm.Cond.methodLink "DeltaIndexModel" (132 : Nat) ({ cls := "DeltaIndexModel", name := "lays", desc := "(I)V" } : Jvm.MethodName)) ∈ lw_all := lw_g (lw_at lw_m8 103 rfl) rfl
theorem q1926 : (Jvm.Cond.privateMethod ({ cls := "DeltaIndexModel", name := "lays", desc := "(I)V" } : Jvm.MethodName)) ∈ lw_tbl := lw_at lw_m8 104 rfl
theorem q1927 : (Jvm.Cond.instanceMethod ({ cls := "DeltaIndexModel", name := "lays", desc := "(I)V" } : Jvm.MethodName)) ∈ lw_all := lw_g (lw_at lw_m8 105 rfl) rfl
theorem q1928 : (Jvm.Cond.code ({ cls := "DeltaIndexModel", name := "lays", desc := "(I)V" } : Jvm.MethodName) prog_20_method_4_code (3 : Nat) (Option.none : Option Jvm.ClassFile.FieldType)) ∈ lw_all := lw_g (lw_at lw_m8 106 rfl) rfl
theorem q1930 : (Jvm.Cond.instanceMethod ({ cls := "DeltaIndexModel", name := "back", desc := "(I)I" } : Jvm.MethodName)) ∈ lw_all := lw_g (lw_at lw_m8 108 rfl) rfl
theorem q1931 : (Jvm.Cond.selects "DeltaIndexModel" ({ cls := "DeltaIndexModel", name := "back", desc := "(I)I" } : Jvm.MethodName) ({ cls := "DeltaIndexModel", name := "back", desc := "(I)I" } : Jvm.MethodName)) ∈ lw_all := lw_g (lw_at lw_m8 109 rfl) rfl
theorem q1932 : (Jvm.Cond.code ({ cls := "DeltaIndexModel", name := "back", desc := "(I)I" } : Jvm.MethodName) prog_20_method_5_code (2 : Nat) (Option.some Jvm.ClassFile.FieldType.int)) ∈ lw_all := lw_g (lw_at lw_m8 110 rfl) rfl
theorem q1934 : (Jvm.Cond.instanceMethod ({ cls := "DeltaIndexModel", name := "read", desc := "()I" } : Jvm.MethodName)) ∈ lw_all := lw_g (lw_at lw_m8 112 rfl) rfl
theorem q1935 : (Jvm.Cond.selects "DeltaIndexModel" ({ cls := "DeltaIndexModel", name := "read", desc := "()I" } : Jvm.MethodName) ({ cls := "DeltaIndexModel", name := "read", desc := "()I" } : Jvm.MethodName)) ∈ lw_all := lw_g (lw_at lw_m8 113 rfl) rfl
theorem q1936 : (Jvm.Cond.code ({ cls := "DeltaIndexModel", name := "read", desc := "()I" } : Jvm.MethodName) prog_20_method_19_code (5 : Nat) (Option.some Jvm.ClassFile.FieldType.int)) ∈ lw_all := lw_g (lw_at lw_m8 114 rfl) rfl
theorem q1937 : (Jvm.Cond.methodLink "DeltaIndexModel" (191 : Nat) ({ cls := "DeltaIndexModel", name := "cutsUp", desc := "()V" } : Jvm.MethodName)) ∈ lw_all := lw_g (lw_at lw_m8 115 rfl) rfl
theorem q1938 : (Jvm.Cond.privateMethod ({ cls := "DeltaIndexModel", name := "cutsUp", desc := "()V" } : Jvm.MethodName)) ∈ lw_tbl := lw_at lw_m8 116 rfl
theorem q1939 : (Jvm.Cond.instanceMethod ({ cls := "DeltaIndexModel", name := "cutsUp", desc := "()V" } : Jvm.MethodName)) ∈ lw_all := lw_g (lw_at lw_m8 117 rfl) rfl
theorem q1940 : (Jvm.Cond.code ({ cls := "DeltaIndexModel", name := "cutsUp", desc := "()V" } : Jvm.MethodName) prog_20_method_12_code (8 : Nat) (Option.none : Option Jvm.ClassFile.FieldType)) ∈ lw_all := lw_g (lw_at lw_m8 118 rfl) rfl
theorem q1941 : (Jvm.Cond.methodLink "DeltaIndexModel" (148 : Nat) ({ cls := "DeltaIndexModel", name := "byteAt", desc := "(I)I" } : Jvm.MethodName)) ∈ lw_all := lw_g (lw_at lw_m8 119 rfl) rfl
theorem q1942 : (Jvm.Cond.privateMethod ({ cls := "DeltaIndexModel", name := "byteAt", desc := "(I)I" } : Jvm.MethodName)) ∈ lw_tbl := lw_at lw_m8 120 rfl
theorem q1943 : (Jvm.Cond.instanceMethod ({ cls := "DeltaIndexModel", name := "byteAt", desc := "(I)I" } : Jvm.MethodName)) ∈ lw_all := lw_g (lw_at lw_m8 121 rfl) rfl
theorem q1944 : (Jvm.Cond.code ({ cls := "DeltaIndexModel", name := "byteAt", desc := "(I)I" } : Jvm.MethodName) prog_20_method_6_code (2 : Nat) (Option.some Jvm.ClassFile.FieldType.int)) ∈ lw_all := lw_g (lw_at lw_m8 122 rfl) rfl
theorem q1945 : (Jvm.Cond.methodLink "DeltaIndexModel" (152 : Nat) ({ cls := "DeltaIndexModel", name := "token", desc := "(IIIJ)V" } : Jvm.MethodName)) ∈ lw_all := lw_g (lw_at lw_m8 123 rfl) rfl
theorem q1946 : (Jvm.Cond.privateMethod ({ cls := "DeltaIndexModel", name := "token", desc := "(IIIJ)V" } : Jvm.MethodName)) ∈ lw_tbl := lw_at lw_m8 124 rfl
theorem q1947 : (Jvm.Cond.instanceMethod ({ cls := "DeltaIndexModel", name := "token", desc := "(IIIJ)V" } : Jvm.MethodName)) ∈ lw_all := lw_g (lw_at lw_m8 125 rfl) rfl
theorem q1948 : (Jvm.Cond.code ({ cls := "DeltaIndexModel", name := "token", desc := "(IIIJ)V" } : Jvm.MethodName) prog_20_method_11_code (6 : Nat) (Option.none : Option Jvm.ClassFile.FieldType)) ∈ lw_all := lw_g (lw_at lw_m8 126 rfl) rfl
theorem q1949 : (Jvm.Cond.methodLink "DeltaIndexModel" (156 : Nat) ({ cls := "DeltaIndexModel", name := "isLetter", desc := "(I)Z" } : Jvm.MethodName)) ∈ lw_all := lw_g (lw_at lw_m8 127 rfl) rfl
theorem q1950 : (Jvm.Cond.static ({ cls := "DeltaIndexModel", name := "isLetter", desc := "(I)Z" } : Jvm.MethodName)) ∈ lw_all := lw_g (lw_at lw_m8 128 rfl) rfl
theorem q1951 : (Jvm.Cond.code ({ cls := "DeltaIndexModel", name := "isLetter", desc := "(I)Z" } : Jvm.MethodName) prog_20_method_8_code (1 : Nat) (Option.some Jvm.ClassFile.FieldType.boolean)) ∈ lw_all := lw_g (lw_at lw_m8 129 rfl) rfl
theorem q1952 : (Jvm.Cond.methodLink "DeltaIndexModel" (160 : Nat) ({ cls := "DeltaIndexModel", name := "isDigit", desc := "(I)Z" } : Jvm.MethodName)) ∈ lw_all := lw_g (lw_at lw_m8 130 rfl) rfl
theorem q1953 : (Jvm.Cond.static ({ cls := "DeltaIndexModel", name := "isDigit", desc := "(I)Z" } : Jvm.MethodName)) ∈ lw_all := lw_g (lw_at lw_m8 131 rfl) rfl
theorem q1954 : (Jvm.Cond.code ({ cls := "DeltaIndexModel", name := "isDigit", desc := "(I)Z" } : Jvm.MethodName) prog_20_method_7_code (1 : Nat) (Option.some Jvm.ClassFile.FieldType.boolean)) ∈ lw_all := lw_g (lw_at lw_m8 132 rfl) rfl
theorem q1955 : (Jvm.Cond.methodLink "DeltaIndexModel" (163 : Nat) ({ cls := "DeltaIndexModel", name := "sign", desc := "(III)I" } : Jvm.MethodName)) ∈ lw_all := lw_g (lw_at lw_m8 133 rfl) rfl
theorem q1956 : (Jvm.Cond.privateMethod ({ cls := "DeltaIndexModel", name := "sign", desc := "(III)I" } : Jvm.MethodName)) ∈ lw_tbl := lw_at lw_m8 134 rfl
theorem q1957 : (Jvm.Cond.instanceMethod ({ cls := "DeltaIndexModel", name := "sign", desc := "(III)I" } : Jvm.MethodName)) ∈ lw_all := lw_g (lw_at lw_m8 135 rfl) rfl
theorem q1958 : (Jvm.Cond.code ({ cls := "DeltaIndexModel", name := "sign", desc := "(III)I" } : Jvm.MethodName) prog_20_method_13_code (5 : Nat) (Option.some Jvm.ClassFile.FieldType.int)) ∈ lw_all := lw_g (lw_at lw_m8 136 rfl) rfl
theorem q1959 : (Jvm.Cond.methodLink "DeltaIndexModel" (206 : Nat) ({ cls := "DeltaIndexModel", name := "toldOr", desc := "(IIII)I" } : Jvm.MethodName)) ∈ lw_all := lw_g (lw_at lw_m8 137 rfl) rfl
theorem q1960 : (Jvm.Cond.privateMethod ({ cls := "DeltaIndexModel", name := "toldOr", desc := "(IIII)I" } : Jvm.MethodName)) ∈ lw_tbl := lw_at lw_m8 138 rfl
theorem q1961 : (Jvm.Cond.instanceMethod ({ cls := "DeltaIndexModel", name := "toldOr", desc := "(IIII)I" } : Jvm.MethodName)) ∈ lw_all := lw_g (lw_at lw_m8 139 rfl) rfl
theorem q1962 : (Jvm.Cond.code ({ cls := "DeltaIndexModel", name := "toldOr", desc := "(IIII)I" } : Jvm.MethodName) prog_20_method_22_code (6 : Nat) (Option.some Jvm.ClassFile.FieldType.int)) ∈ lw_all := lw_g (lw_at lw_m8 140 rfl) rfl
theorem q1963 : (Jvm.Cond.methodLink "DeltaIndexModel" (185 : Nat) ({ cls := "DeltaIndexModel", name := "is", desc := "(I)Z" } : Jvm.MethodName)) ∈ lw_all := lw_g (lw_at lw_m8 141 rfl) rfl
theorem q1964 : (Jvm.Cond.privateMethod ({ cls := "DeltaIndexModel", name := "is", desc := "(I)Z" } : Jvm.MethodName)) ∈ lw_tbl := lw_at lw_m8 142 rfl
theorem q1965 : (Jvm.Cond.instanceMethod ({ cls := "DeltaIndexModel", name := "is", desc := "(I)Z" } : Jvm.MethodName)) ∈ lw_all := lw_g (lw_at lw_m8 143 rfl) rfl
theorem q1966 : (Jvm.Cond.code ({ cls := "DeltaIndexModel", name := "is", desc := "(I)Z" } : Jvm.MethodName) prog_20_method_14_code (2 : Nat) (Option.some Jvm.ClassFile.FieldType.boolean)) ∈ lw_all := lw_g (lw_at lw_m8 144 rfl) rfl
theorem q1967 : (Jvm.Cond.methodLink "DeltaIndexModel" (188 : Nat) ({ cls := "DeltaIndexModel", name := "goesOn", desc := "()V" } : Jvm.MethodName)) ∈ lw_all := lw_g (lw_at lw_m8 145 rfl) rfl
theorem q1968 : (Jvm.Cond.privateMethod ({ cls := "DeltaIndexModel", name := "goesOn", desc := "()V" } : Jvm.MethodName)) ∈ lw_tbl := lw_at lw_m8 146 rfl
theorem q1969 : (Jvm.Cond.instanceMethod ({ cls := "DeltaIndexModel", name := "goesOn", desc := "()V" } : Jvm.MethodName)) ∈ lw_all := lw_g (lw_at lw_m8 147 rfl) rfl
theorem q1970 : (Jvm.Cond.code ({ cls := "DeltaIndexModel", name := "goesOn", desc := "()V" } : Jvm.MethodName) prog_20_method_17_code (1 : Nat) (Option.none : Option Jvm.ClassFile.FieldType)) ∈ lw_all := lw_g (lw_at lw_m8 148 rfl) rfl
theorem q1971 : (Jvm.Cond.methodLink "DeltaIndexModel" (182 : Nat) ({ cls := "DeltaIndexModel", name := "fail", desc := "(I)V" } : Jvm.MethodName)) ∈ lw_all := lw_g (lw_at lw_m8 149 rfl) rfl
theorem q1972 : (Jvm.Cond.privateMethod ({ cls := "DeltaIndexModel", name := "fail", desc := "(I)V" } : Jvm.MethodName)) ∈ lw_tbl := lw_at lw_m8 150 rfl
theorem q1973 : (Jvm.Cond.instanceMethod ({ cls := "DeltaIndexModel", name := "fail", desc := "(I)V" } : Jvm.MethodName)) ∈ lw_all := lw_g (lw_at lw_m8 151 rfl) rfl
theorem q1974 : (Jvm.Cond.code ({ cls := "DeltaIndexModel", name := "fail", desc := "(I)V" } : Jvm.MethodName) prog_20_method_15_code (2 : Nat) (Option.none : Option Jvm.ClassFile.FieldType)) ∈ lw_all := lw_g (lw_at lw_m8 152 rfl) rfl
theorem q1975 : (Jvm.Cond.methodLink "DeltaIndexModel" (220 : Nat) ({ cls := "DeltaIndexModel", name := "bounded", desc := "(II)I" } : Jvm.MethodName)) ∈ lw_all := lw_g (lw_at lw_m8 153 rfl) rfl
theorem q1976 : (Jvm.Cond.privateMethod ({ cls := "DeltaIndexModel", name := "bounded", desc := "(II)I" } : Jvm.MethodName)) ∈ lw_tbl := lw_at lw_m8 154 rfl
theorem q1977 : (Jvm.Cond.instanceMethod ({ cls := "DeltaIndexModel", name := "bounded", desc := "(II)I" } : Jvm.MethodName)) ∈ lw_all := lw_g (lw_at lw_m8 155 rfl) rfl
theorem q1978 : (Jvm.Cond.code ({ cls := "DeltaIndexModel", name := "bounded", desc := "(II)I" } : Jvm.MethodName) prog_20_method_21_code (4 : Nat) (Option.some Jvm.ClassFile.FieldType.int)) ∈ lw_all := lw_g (lw_at lw_m8 156 rfl) rfl
theorem q1979 : (Jvm.Cond.methodLink "DeltaIndexModel" (216 : Nat) ({ cls := "DeltaIndexModel", name := "wrong", desc := "(II)V" } : Jvm.MethodName)) ∈ lw_all := lw_g (lw_at lw_m8 157 rfl) rfl
theorem q1980 : (Jvm.Cond.privateMethod ({ cls := "DeltaIndexModel", name := "wrong", desc := "(II)V" } : Jvm.MethodName)) ∈ lw_tbl := lw_at lw_m8 158 rfl
theorem q1981 : (Jvm.Cond.instanceMethod ({ cls := "DeltaIndexModel", name := "wrong", desc := "(II)V" } : Jvm.MethodName)) ∈ lw_all := lw_g (lw_at lw_m8 159 rfl) rfl
theorem q1982 : (Jvm.Cond.code ({ cls := "DeltaIndexModel", name := "wrong", desc := "(II)V" } : Jvm.MethodName) prog_20_method_16_code (4 : Nat) (Option.none : Option Jvm.ClassFile.FieldType)) ∈ lw_all := lw_g (lw_at lw_m8 160 rfl) rfl
theorem q1983 : (Jvm.Cond.methodLink "DeltaIndexModel" (224 : Nat) ({ cls := "DeltaIndexModel", name := "must", desc := "(I)V" } : Jvm.MethodName)) ∈ lw_all := lw_g (lw_at lw_m8 161 rfl) rfl
theorem q1984 : (Jvm.Cond.privateMethod ({ cls := "DeltaIndexModel", name := "must", desc := "(I)V" } : Jvm.MethodName)) ∈ lw_tbl := lw_at lw_m8 162 rfl
theorem q1985 : (Jvm.Cond.instanceMethod ({ cls := "DeltaIndexModel", name := "must", desc := "(I)V" } : Jvm.MethodName)) ∈ lw_all := lw_g (lw_at lw_m8 163 rfl) rfl
theorem q1986 : (Jvm.Cond.code ({ cls := "DeltaIndexModel", name := "must", desc := "(I)V" } : Jvm.MethodName) prog_20_method_18_code (2 : Nat) (Option.none : Option Jvm.ClassFile.FieldType)) ∈ lw_all := lw_g (lw_at lw_m8 164 rfl) rfl
theorem q1987 : (Jvm.Cond.methodLink "DeltaIndexModel" (210 : Nat) ({ cls := "DeltaIndexModel", name := "tellOne", desc := "()V" } : Jvm.MethodName)) ∈ lw_all := lw_g (lw_at lw_m8 165 rfl) rfl
theorem q1988 : (Jvm.Cond.privateMethod ({ cls := "DeltaIndexModel", name := "tellOne", desc := "()V" } : Jvm.MethodName)) ∈ lw_tbl := lw_at lw_m8 166 rfl
theorem q1989 : (Jvm.Cond.instanceMethod ({ cls := "DeltaIndexModel", name := "tellOne", desc := "()V" } : Jvm.MethodName)) ∈ lw_all := lw_g (lw_at lw_m8 167 rfl) rfl
theorem q1990 : (Jvm.Cond.code ({ cls := "DeltaIndexModel", name := "tellOne", desc := "()V" } : Jvm.MethodName) prog_20_method_26_code (2 : Nat) (Option.none : Option Jvm.ClassFile.FieldType)) ∈ lw_all := lw_g (lw_at lw_m8 168 rfl) rfl
theorem q1991 : (Jvm.Cond.methodLink "DeltaIndexModel" (234 : Nat) ({ cls := "DeltaIndexModel", name := "handTold", desc := "()I" } : Jvm.MethodName)) ∈ lw_all := lw_g (lw_at lw_m8 169 rfl) rfl
theorem q1992 : (Jvm.Cond.privateMethod ({ cls := "DeltaIndexModel", name := "handTold", desc := "()I" } : Jvm.MethodName)) ∈ lw_tbl := lw_at lw_m8 170 rfl
theorem q1993 : (Jvm.Cond.instanceMethod ({ cls := "DeltaIndexModel", name := "handTold", desc := "()I" } : Jvm.MethodName)) ∈ lw_all := lw_g (lw_at lw_m8 171 rfl) rfl
theorem q1994 : (Jvm.Cond.code ({ cls := "DeltaIndexModel", name := "handTold", desc := "()I" } : Jvm.MethodName) prog_20_method_25_code (1 : Nat) (Option.some Jvm.ClassFile.FieldType.int)) ∈ lw_all := lw_g (lw_at lw_m8 172 rfl) rfl
theorem q1995 : (Jvm.Cond.methodLink "DeltaIndexModel" (238 : Nat) ({ cls := "DeltaIndexModel", name := "actTold", desc := "(I)V" } : Jvm.MethodName)) ∈ lw_all := lw_g (lw_at lw_m8 173 rfl) rfl
theorem q1996 : (Jvm.Cond.privateMethod ({ cls := "DeltaIndexModel", name := "actTold", desc := "(I)V" } : Jvm.MethodName)) ∈ lw_tbl := lw_at lw_m8 174 rfl
theorem q1997 : (Jvm.Cond.instanceMethod ({ cls := "DeltaIndexModel", name := "actTold", desc := "(I)V" } : Jvm.MethodName)) ∈ lw_all := lw_g (lw_at lw_m8 175 rfl) rfl
theorem q1998 : (Jvm.Cond.code ({ cls := "DeltaIndexModel", name := "actTold", desc := "(I)V" } : Jvm.MethodName) prog_20_method_23_code (3 : Nat) (Option.none : Option Jvm.ClassFile.FieldType)) ∈ lw_all := lw_g (lw_at lw_m8 176 rfl) rfl
theorem q1999 : (Jvm.Cond.methodLink "DeltaIndexModel" (227 : Nat) ({ cls := "DeltaIndexModel", name := "termsTold", desc := "(IZ)V" } : Jvm.MethodName)) ∈ lw_all := lw_g (lw_at lw_m8 177 rfl) rfl
theorem q2000 : (Jvm.Cond.privateMethod ({ cls := "DeltaIndexModel", name := "termsTold", desc := "(IZ)V" } : Jvm.MethodName)) ∈ lw_tbl := lw_at lw_m8 178 rfl
theorem q2001 : (Jvm.Cond.instanceMethod ({ cls := "DeltaIndexModel", name := "termsTold", desc := "(IZ)V" } : Jvm.MethodName)) ∈ lw_all := lw_g (lw_at lw_m8 179 rfl) rfl
theorem q2002 : (Jvm.Cond.code ({ cls := "DeltaIndexModel", name := "termsTold", desc := "(IZ)V" } : Jvm.MethodName) prog_20_method_24_code (3 : Nat) (Option.none : Option Jvm.ClassFile.FieldType)) ∈ lw_all := lw_g (lw_at lw_m8 180 rfl) rfl
theorem q2003 : (Jvm.Cond.methodLink "DeltaIndexModel" (231 : Nat) ({ cls := "DeltaIndexModel", name := "expression", desc := "()V" } : Jvm.MethodName)) ∈ lw_all := lw_g (lw_at lw_m8 181 rfl) rfl
theorem q2004 : (Jvm.Cond.privateMethod ({ cls := "DeltaIndexModel", name := "expression", desc := "()V" } : Jvm.MethodName)) ∈ lw_tbl := lw_at lw_m8 182 rfl
theorem q2005 : (Jvm.Cond.instanceMethod ({ cls := "DeltaIndexModel", name := "expression", desc := "()V" } : Jvm.MethodName)) ∈ lw_all := lw_g (lw_at lw_m8 183 rfl) rfl
theorem q2006 : (Jvm.Cond.code ({ cls := "DeltaIndexModel", name := "expression", desc := "()V" } : Jvm.MethodName) prog_20_method_29_code (3 : Nat) (Option.none : Option Jvm.ClassFile.FieldType)) ∈ lw_all := lw_g (lw_at lw_m8 184 rfl) rfl
theorem q2007 : (Jvm.Cond.methodLink "DeltaIndexModel" (247 : Nat) ({ cls := "DeltaIndexModel", name := "unit", desc := "()V" } : Jvm.MethodName)) ∈ lw_all := lw_g (lw_at lw_m8 185 rfl) rfl
theorem q2008 : (Jvm.Cond.privateMethod ({ cls := "DeltaIndexModel", name := "unit", desc := "()V" } : Jvm.MethodName)) ∈ lw_tbl := lw_at lw_m8 186 rfl
theorem q2009 : (Jvm.Cond.instanceMethod ({ cls := "DeltaIndexModel", name := "unit", desc := "()V" } : Jvm.MethodName)) ∈ lw_all := lw_g (lw_at lw_m8 187 rfl) rfl
theorem q2010 : (Jvm.Cond.code ({ cls := "DeltaIndexModel", name := "unit", desc := "()V" } : Jvm.MethodName) prog_20_method_30_code (1 : Nat) (Option.none : Option Jvm.ClassFile.FieldType)) ∈ lw_all := lw_g (lw_at lw_m8 188 rfl) rfl
theorem q2011 : (Jvm.Cond.methodLink "DeltaIndexModel" (244 : Nat) ({ cls := "DeltaIndexModel", name := "emit", desc := "(II)V" } : Jvm.MethodName)) ∈ lw_all := lw_g (lw_at lw_m8 189 rfl) rfl
theorem q2012 : (Jvm.Cond.privateMethod ({ cls := "DeltaIndexModel", name := "emit", desc := "(II)V" } : Jvm.MethodName)) ∈ lw_tbl := lw_at lw_m8 190 rfl
theorem q2013 : (Jvm.Cond.instanceMethod ({ cls := "DeltaIndexModel", name := "emit", desc := "(II)V" } : Jvm.MethodName)) ∈ lw_all := lw_g (lw_at lw_m8 191 rfl) rfl
theorem q2014 : (Jvm.Cond.code ({ cls := "DeltaIndexModel", name := "emit", desc := "(II)V" } : Jvm.MethodName) prog_20_method_27_code (3 : Nat) (Option.none : Option Jvm.ClassFile.FieldType)) ∈ lw_all := lw_g (lw_at lw_m8 192 rfl) rfl
theorem q2015 : (Jvm.Cond.methodLink "DeltaIndexModel" (250 : Nat) ({ cls := "DeltaIndexModel", name := "comesOut", desc := "(Z)V" } : Jvm.MethodName)) ∈ lw_all := lw_g (lw_at lw_m8 193 rfl) rfl
theorem q2016 : (Jvm.Cond.privateMethod ({ cls := "DeltaIndexModel", name := "comesOut", desc := "(Z)V" } : Jvm.MethodName)) ∈ lw_tbl := lw_at lw_m8 194 rfl
theorem q2017 : (Jvm.Cond.instanceMethod ({ cls := "DeltaIndexModel", name := "comesOut", desc := "(Z)V" } : Jvm.MethodName)) ∈ lw_all := lw_g (lw_at lw_m8 195 rfl) rfl
theorem q2018 : (Jvm.Cond.code ({ cls := "DeltaIndexModel", name := "comesOut", desc := "(Z)V" } : Jvm.MethodName) prog_20_method_28_code (3 : Nat) (Option.none : Option Jvm.ClassFile.FieldType)) ∈ lw_all := lw_g (lw_at lw_m8 196 rfl) rfl
theorem q2019 : (Jvm.Cond.methodLink "DeltaIndexModel" (213 : Nat) ({ cls := "DeltaIndexModel", name := "runs", desc := "()V" } : Jvm.MethodName)) ∈ lw_all := lw_g (lw_at lw_m8 197 rfl) rfl
theorem q2020 : (Jvm.Cond.privateMethod ({ cls := "DeltaIndexModel", name := "runs", desc := "()V" } : Jvm.MethodName)) ∈ lw_tbl := lw_at lw_m8 198 rfl
theorem q2021 : (Jvm.Cond.instanceMethod ({ cls := "DeltaIndexModel", name := "runs", desc := "()V" } : Jvm.MethodName)) ∈ lw_all := lw_g (lw_at lw_m8 199 rfl) rfl
theorem q2022 : (Jvm.Cond.code ({ cls := "DeltaIndexModel", name := "runs", desc := "()V" } : Jvm.MethodName) prog_20_method_32_code (5 : Nat) (Option.none : Option Jvm.ClassFile.FieldType)) ∈ lw_all := lw_g (lw_at lw_m8 200 rfl) rfl
theorem q2023 : (Jvm.Cond.methodLink "DeltaIndexModel" (254 : Nat) ({ cls := "DeltaIndexModel", name := "actDone", desc := "(II)I" } : Jvm.MethodName)) ∈ lw_all := lw_g (lw_at lw_m8 201 rfl) rfl
theorem q2024 : (Jvm.Cond.privateMethod ({ cls := "DeltaIndexModel", name := "actDone", desc := "(II)I" } : Jvm.MethodName)) ∈ lw_tbl := lw_at lw_m8 202 rfl
theorem q2025 : (Jvm.Cond.instanceMethod ({ cls := "DeltaIndexModel", name := "actDone", desc := "(II)I" } : Jvm.MethodName)) ∈ lw_all := lw_g (lw_at lw_m8 203 rfl) rfl
theorem q2026 : (Jvm.Cond.code ({ cls := "DeltaIndexModel", name := "actDone", desc := "(II)I" } : Jvm.MethodName) prog_20_method_33_code (8 : Nat) (Option.some Jvm.ClassFile.FieldType.int)) ∈ lw_all := lw_g (lw_at lw_m8 204 rfl) rfl
theorem q2027 : (Jvm.Cond.methodLink "DeltaIndexModel" (266 : Nat) ({ cls := "DeltaIndexModel", name := "fillsAll", desc := "()V" } : Jvm.MethodName)) ∈ lw_all := lw_g (lw_at lw_m8 205 rfl) rfl
theorem q2028 : (Jvm.Cond.privateMethod ({ cls := "DeltaIndexModel", name := "fillsAll", desc := "()V" } : Jvm.MethodName)) ∈ lw_tbl := lw_at lw_m8 206 rfl
theorem q2029 : (Jvm.Cond.instanceMethod ({ cls := "DeltaIndexModel", name := "fillsAll", desc := "()V" } : Jvm.MethodName)) ∈ lw_all := lw_g (lw_at lw_m8 207 rfl) rfl
theorem q2030 : (Jvm.Cond.code ({ cls := "DeltaIndexModel", name := "fillsAll", desc := "()V" } : Jvm.MethodName) prog_20_method_59_code (3 : Nat) (Option.none : Option Jvm.ClassFile.FieldType)) ∈ lw_all := lw_g (lw_at lw_m8 208 rfl) rfl
theorem q2031 : (Jvm.Cond.methodLink "DeltaIndexModel" (339 : Nat) ({ cls := "DeltaIndexModel", name := "fillsHas", desc := "(I)V" } : Jvm.MethodName)) ∈ lw_all := lw_g (lw_at lw_m8 209 rfl) rfl
theorem q2032 : (Jvm.Cond.privateMethod ({ cls := "DeltaIndexModel", name := "fillsHas", desc := "(I)V" } : Jvm.MethodName)) ∈ lw_tbl := lw_at lw_m8 210 rfl
theorem q2033 : (Jvm.Cond.instanceMethod ({ cls := "DeltaIndexModel", name := "fillsHas", desc := "(I)V" } : Jvm.MethodName)) ∈ lw_all := lw_g (lw_at lw_m8 211 rfl) rfl
theorem q2034 : (Jvm.Cond.code ({ cls := "DeltaIndexModel", name := "fillsHas", desc := "(I)V" } : Jvm.MethodName) prog_20_method_55_code (3 : Nat) (Option.none : Option Jvm.ClassFile.FieldType)) ∈ lw_all := lw_g (lw_at lw_m8 212 rfl) rfl
theorem q2035 : (Jvm.Cond.methodLink "DeltaIndexModel" (306 : Nat) ({ cls := "DeltaIndexModel", name := "fillsChain", desc := "(I)V" } : Jvm.MethodName)) ∈ lw_all := lw_g (lw_at lw_m8 213 rfl) rfl
theorem q2036 : (Jvm.Cond.privateMethod ({ cls := "DeltaIndexModel", name := "fillsChain", desc := "(I)V" } : Jvm.MethodName)) ∈ lw_tbl := lw_at lw_m8 214 rfl
theorem q2037 : (Jvm.Cond.instanceMethod ({ cls := "DeltaIndexModel", name := "fillsChain", desc := "(I)V" } : Jvm.MethodName)) ∈ lw_all := lw_g (lw_at lw_m8 215 rfl) rfl
theorem q2038 : (Jvm.Cond.code ({ cls := "DeltaIndexModel", name := "fillsChain", desc := "(I)V" } : Jvm.MethodName) prog_20_method_45_code (3 : Nat) (Option.none : Option Jvm.ClassFile.FieldType)) ∈ lw_all := lw_g (lw_at lw_m8 216 rfl) rfl
theorem q2039 : (Jvm.Cond.methodLink "DeltaIndexModel" (300 : Nat) ({ cls := "DeltaIndexModel", name := "topOf", desc := "(I)I" } : Jvm.MethodName)) ∈ lw_all := lw_g (lw_at lw_m8 217 rfl) rfl
theorem q2040 : (Jvm.Cond.privateMethod ({ cls := "DeltaIndexModel", name := "topOf", desc := "(I)I" } : Jvm.MethodName)) ∈ lw_tbl := lw_at lw_m8 218 rfl
theorem q2041 : (Jvm.Cond.instanceMethod ({ cls := "DeltaIndexModel", name := "topOf", desc := "(I)I" } : Jvm.MethodName)) ∈ lw_all := lw_g (lw_at lw_m8 219 rfl) rfl
theorem q2042 : (Jvm.Cond.code ({ cls := "DeltaIndexModel", name := "topOf", desc := "(I)I" } : Jvm.MethodName) prog_20_method_39_code (2 : Nat) (Option.some Jvm.ClassFile.FieldType.int)) ∈ lw_all := lw_g (lw_at lw_m8 220 rfl) rfl
theorem q2043 : (Jvm.Cond.methodLink "DeltaIndexModel" (336 : Nat) ({ cls := "DeltaIndexModel", name := "applies", desc := "(I)V" } : Jvm.MethodName)) ∈ lw_all := lw_g (lw_at lw_m8 221 rfl) rfl
theorem q2044 : (Jvm.Cond.privateMethod ({ cls := "DeltaIndexModel", name := "applies", desc := "(I)V" } : Jvm.MethodName)) ∈ lw_tbl := lw_at lw_m8 222 rfl
theorem q2045 : (Jvm.Cond.instanceMethod ({ cls := "DeltaIndexModel", name := "applies", desc := "(I)V" } : Jvm.MethodName)) ∈ lw_all := lw_g (lw_at lw_m8 223 rfl) rfl
theorem q2046 : (Jvm.Cond.code ({ cls := "DeltaIndexModel", name := "applies", desc := "(I)V" } : Jvm.MethodName) prog_20_method_54_code (4 : Nat) (Option.none : Option Jvm.ClassFile.FieldType)) ∈ lw_all := lw_g (lw_at lw_m8 224 rfl) rfl
theorem q2047 : (Jvm.Cond.methodLink "DeltaIndexModel" (330 : Nat) ({ cls := "DeltaIndexModel", name := "takesIn", desc := "(I)V" } : Jvm.MethodName)) ∈ lw_all := lw_g (lw_at lw_m8 225 rfl) rfl
theorem q2048 : (Jvm.Cond.privateMethod ({ cls := "DeltaIndexModel", name := "takesIn", desc := "(I)V" } : Jvm.MethodName)) ∈ lw_tbl := lw_at lw_m8 226 rfl
theorem q2049 : (Jvm.Cond.instanceMethod ({ cls := "DeltaIndexModel", name := "takesIn", desc := "(I)V" } : Jvm.MethodName)) ∈ lw_all := lw_g (lw_at lw_m8 227 rfl) rfl
theorem q2050 : (Jvm.Cond.code ({ cls := "DeltaIndexModel", name := "takesIn", desc := "(I)V" } : Jvm.MethodName) prog_20_method_53_code (3 : Nat) (Option.none : Option Jvm.ClassFile.FieldType)) ∈ lw_all := lw_g (lw_at lw_m8 228 rfl) rfl
theorem q2051 : (Jvm.Cond.methodLink "DeltaIndexModel" (318 : Nat) ({ cls := "DeltaIndexModel", name := "baseAt", desc := "(II)I" } : Jvm.MethodName)) ∈ lw_all := lw_g (lw_at lw_m8 229 rfl) rfl
theorem q2052 : (Jvm.Cond.static ({ cls := "DeltaIndexModel", name := "baseAt", desc := "(II)I" } : Jvm.MethodName)) ∈ lw_all := lw_g (lw_at lw_m8 230 rfl) rfl
theorem q2053 : (Jvm.Cond.code ({ cls := "DeltaIndexModel", name := "baseAt", desc := "(II)I" } : Jvm.MethodName) prog_20_method_43_code (2 : Nat) (Option.some Jvm.ClassFile.FieldType.int)) ∈ lw_all := lw_g (lw_at lw_m8 231 rfl) rfl
theorem q2054 : (Jvm.Cond.methodLink "DeltaIndexModel" (321 : Nat) ({ cls := "DeltaIndexModel", name := "setsIn", desc := "(II)V" } : Jvm.MethodName)) ∈ lw_all := lw_g (lw_at lw_m8 232 rfl) rfl
theorem q2055 : (Jvm.Cond.privateMethod ({ cls := "DeltaIndexModel", name := "setsIn", desc := "(II)V" } : Jvm.MethodName)) ∈ lw_tbl := lw_at lw_m8 233 rfl
theorem q2056 : (Jvm.Cond.instanceMethod ({ cls := "DeltaIndexModel", name := "setsIn", desc := "(II)V" } : Jvm.MethodName)) ∈ lw_all := lw_g (lw_at lw_m8 234 rfl) rfl
theorem q2057 : (Jvm.Cond.code ({ cls := "DeltaIndexModel", name := "setsIn", desc := "(II)V" } : Jvm.MethodName) prog_20_method_51_code (5 : Nat) (Option.none : Option Jvm.ClassFile.FieldType)) ∈ lw_all := lw_g (lw_at lw_m8 235 rfl) rfl
theorem q2058 : (Jvm.Cond.methodLink "DeltaIndexModel" (312 : Nat) ({ cls := "DeltaIndexModel", name := "whereOf", desc := "(I)I" } : Jvm.MethodName)) ∈ lw_all := lw_g (lw_at lw_m8 236 rfl) rfl
theorem q2059 : (Jvm.Cond.privateMethod ({ cls := "DeltaIndexModel", name := "whereOf", desc := "(I)I" } : Jvm.MethodName)) ∈ lw_tbl := lw_at lw_m8 237 rfl
theorem q2060 : (Jvm.Cond.instanceMethod ({ cls := "DeltaIndexModel", name := "whereOf", desc := "(I)I" } : Jvm.MethodName)) ∈ lw_all := lw_g (lw_at lw_m8 238 rfl) rfl
theorem q2061 : (Jvm.Cond.code ({ cls := "DeltaIndexModel", name := "whereOf", desc := "(I)I" } : Jvm.MethodName) prog_20_method_49_code (3 : Nat) (Option.some Jvm.ClassFile.FieldType.int)) ∈ lw_all := lw_g (lw_at lw_m8 239 rfl) rfl
theorem q2062 : (Jvm.Cond.methodLink "DeltaIndexModel" (315 : Nat) ({ cls := "DeltaIndexModel", name := "isThere", desc := "(I)Z" } : Jvm.MethodName)) ∈ lw_all := lw_g (lw_at lw_m9 0 rfl) rfl
theorem q2063 : (Jvm.Cond.privateMethod ({ cls := "DeltaIndexModel", name := "isThere", desc := "(I)Z" } : Jvm.MethodName)) ∈ lw_tbl := lw_at lw_m9 1 rfl
theorem q2064 : (Jvm.Cond.instanceMethod ({ cls := "DeltaIndexModel", name := "isThere", desc := "(I)Z" } : Jvm.MethodName)) ∈ lw_all := lw_g (lw_at lw_m9 2 rfl) rfl
theorem q2065 : (Jvm.Cond.code ({ cls := "DeltaIndexModel", name := "isThere", desc := "(I)Z" } : Jvm.MethodName) prog_20_method_50_code (3 : Nat) (Option.some Jvm.ClassFile.FieldType.boolean)) ∈ lw_all := lw_g (lw_at lw_m9 3 rfl) rfl
theorem q2066 : (Jvm.Cond.methodLink "DeltaIndexModel" (333 : Nat) ({ cls := "DeltaIndexModel", name := "takesOut", desc := "(I)V" } : Jvm.MethodName)) ∈ lw_all := lw_g (lw_at lw_m9 4 rfl) rfl
theorem q2067 : (Jvm.Cond.privateMethod ({ cls := "DeltaIndexModel", name := "takesOut", desc := "(I)V" } : Jvm.MethodName)) ∈ lw_tbl := lw_at lw_m9 5 rfl
theorem q2068 : (Jvm.Cond.instanceMethod ({ cls := "DeltaIndexModel", name := "takesOut", desc := "(I)V" } : Jvm.MethodName)) ∈ lw_all := lw_g (lw_at lw_m9 6 rfl) rfl
theorem q2069 : (Jvm.Cond.code ({ cls := "DeltaIndexModel", name := "takesOut", desc := "(I)V" } : Jvm.MethodName) prog_20_method_52_code (3 : Nat) (Option.none : Option Jvm.ClassFile.FieldType)) ∈ lw_all := lw_g (lw_at lw_m9 7 rfl) rfl
theorem q2070 : (Jvm.Cond.methodLink "DeltaIndexModel" (272 : Nat) ({ cls := "DeltaIndexModel", name := "termOf", desc := "(II)I" } : Jvm.MethodName)) ∈ lw_all := lw_g (lw_at lw_m9 8 rfl) rfl
theorem q2071 : (Jvm.Cond.privateMethod ({ cls := "DeltaIndexModel", name := "termOf", desc := "(II)I" } : Jvm.MethodName)) ∈ lw_tbl := lw_at lw_m9 9 rfl
theorem q2072 : (Jvm.Cond.instanceMethod ({ cls := "DeltaIndexModel", name := "termOf", desc := "(II)I" } : Jvm.MethodName)) ∈ lw_all := lw_g (lw_at lw_m9 10 rfl) rfl
theorem q2073 : (Jvm.Cond.code ({ cls := "DeltaIndexModel", name := "termOf", desc := "(II)I" } : Jvm.MethodName) prog_20_method_31_code (8 : Nat) (Option.some Jvm.ClassFile.FieldType.int)) ∈ lw_all := lw_g (lw_at lw_m9 11 rfl) rfl
theorem q2074 : (Jvm.Cond.methodLink "DeltaIndexModel" (275 : Nat) ({ cls := "DeltaIndexModel", name := "keyOf", desc := "(I)I" } : Jvm.MethodName)) ∈ lw_all := lw_g (lw_at lw_m9 12 rfl) rfl
theorem q2075 : (Jvm.Cond.static ({ cls := "DeltaIndexModel", name := "keyOf", desc := "(I)I" } : Jvm.MethodName)) ∈ lw_all := lw_g (lw_at lw_m9 13 rfl) rfl
theorem q2076 : (Jvm.Cond.code ({ cls := "DeltaIndexModel", name := "keyOf", desc := "(I)I" } : Jvm.MethodName) prog_20_method_34_code (2 : Nat) (Option.some Jvm.ClassFile.FieldType.int)) ∈ lw_all := lw_g (lw_at lw_m9 14 rfl) rfl
theorem q2077 : (Jvm.Cond.methodLink "DeltaIndexModel" (278 : Nat) ({ cls := "DeltaIndexModel", name := "starts", desc := "(IIII)Z" } : Jvm.MethodName)) ∈ lw_all := lw_g (lw_at lw_m9 15 rfl) rfl
theorem q2078 : (Jvm.Cond.privateMethod ({ cls := "DeltaIndexModel", name := "starts", desc := "(IIII)Z" } : Jvm.MethodName)) ∈ lw_tbl := lw_at lw_m9 16 rfl
theorem q2079 : (Jvm.Cond.instanceMethod ({ cls := "DeltaIndexModel", name := "starts", desc := "(IIII)Z" } : Jvm.MethodName)) ∈ lw_all := lw_g (lw_at lw_m9 17 rfl) rfl
theorem q2080 : (Jvm.Cond.code ({ cls := "DeltaIndexModel", name := "starts", desc := "(IIII)Z" } : Jvm.MethodName) prog_20_method_64_code (6 : Nat) (Option.some Jvm.ClassFile.FieldType.boolean)) ∈ lw_all := lw_g (lw_at lw_m9 18 rfl) rfl
theorem q2081 : (Jvm.Cond.methodLink "DeltaIndexModel" (260 : Nat) ({ cls := "DeltaIndexModel", name := "closes", desc := "(I)I" } : Jvm.MethodName)) ∈ lw_all := lw_g (lw_at lw_m9 19 rfl) rfl
theorem q2082 : (Jvm.Cond.privateMethod ({ cls := "DeltaIndexModel", name := "closes", desc := "(I)I" } : Jvm.MethodName)) ∈ lw_tbl := lw_at lw_m9 20 rfl
theorem q2083 : (Jvm.Cond.instanceMethod ({ cls := "DeltaIndexModel", name := "closes", desc := "(I)I" } : Jvm.MethodName)) ∈ lw_all := lw_g (lw_at lw_m9 21 rfl) rfl
theorem q2084 : (Jvm.Cond.code ({ cls := "DeltaIndexModel", name := "closes", desc := "(I)I" } : Jvm.MethodName) prog_20_method_87_code (3 : Nat) (Option.some Jvm.ClassFile.FieldType.int)) ∈ lw_all := lw_g (lw_at lw_m9 22 rfl) rfl
theorem q2085 : (Jvm.Cond.methodLink "DeltaIndexModel" (257 : Nat) ({ cls := "DeltaIndexModel", name := "steps", desc := "(I)V" } : Jvm.MethodName)) ∈ lw_all := lw_g (lw_at lw_m9 23 rfl) rfl
theorem q2086 : (Jvm.Cond.privateMethod ({ cls := "DeltaIndexModel", name := "steps", desc := "(I)V" } : Jvm.MethodName)) ∈ lw_tbl := lw_at lw_m9 24 rfl
theorem q2087 : (Jvm.Cond.instanceMethod ({ cls := "DeltaIndexModel", name := "steps", desc := "(I)V" } : Jvm.MethodName)) ∈ lw_all := lw_g (lw_at lw_m9 25 rfl) rfl
theorem q2088 : (Jvm.Cond.code ({ cls := "DeltaIndexModel", name := "steps", desc := "(I)V" } : Jvm.MethodName) prog_20_method_86_code (3 : Nat) (Option.none : Option Jvm.ClassFile.FieldType)) ∈ lw_all := lw_g (lw_at lw_m9 26 rfl) rfl
theorem q2089 : (Jvm.Cond.methodLink "DeltaIndexModel" (402 : Nat) ({ cls := "DeltaIndexModel", name := "finds", desc := "(I)V" } : Jvm.MethodName)) ∈ lw_all := lw_g (lw_at lw_m9 27 rfl) rfl
theorem q2090 : (Jvm.Cond.privateMethod ({ cls := "DeltaIndexModel", name := "finds", desc := "(I)V" } : Jvm.MethodName)) ∈ lw_tbl := lw_at lw_m9 28 rfl
theorem q2091 : (Jvm.Cond.instanceMethod ({ cls := "DeltaIndexModel", name := "finds", desc := "(I)V" } : Jvm.MethodName)) ∈ lw_all := lw_g (lw_at lw_m9 29 rfl) rfl
theorem q2092 : (Jvm.Cond.code ({ cls := "DeltaIndexModel", name := "finds", desc := "(I)V" } : Jvm.MethodName) prog_20_method_66_code (3 : Nat) (Option.none : Option Jvm.ClassFile.FieldType)) ∈ lw_all := lw_g (lw_at lw_m9 30 rfl) rfl
theorem q2093 : (Jvm.Cond.methodLink "DeltaIndexModel" (345 : Nat) ({ cls := "DeltaIndexModel", name := "fillsBounds", desc := "()V" } : Jvm.MethodName)) ∈ lw_all := lw_g (lw_at lw_m9 31 rfl) rfl
theorem q2094 : (Jvm.Cond.privateMethod ({ cls := "DeltaIndexModel", name := "fillsBounds", desc := "()V" } : Jvm.MethodName)) ∈ lw_tbl := lw_at lw_m9 32 rfl
theorem q2095 : (Jvm.Cond.instanceMethod ({ cls := "DeltaIndexModel", name := "fillsBounds", desc := "()V" } : Jvm.MethodName)) ∈ lw_all := lw_g (lw_at lw_m9 33 rfl) rfl
theorem q2096 : (Jvm.Cond.code ({ cls := "DeltaIndexModel", name := "fillsBounds", desc := "()V" } : Jvm.MethodName) prog_20_method_56_code (2 : Nat) (Option.none : Option Jvm.ClassFile.FieldType)) ∈ lw_all := lw_g (lw_at lw_m9 34 rfl) rfl
theorem q2097 : (Jvm.Cond.methodLink "DeltaIndexModel" (348 : Nat) ({ cls := "DeltaIndexModel", name := "stands", desc := "(II)V" } : Jvm.MethodName)) ∈ lw_all := lw_g (lw_at lw_m9 35 rfl) rfl
theorem q2098 : (Jvm.Cond.privateMethod ({ cls := "DeltaIndexModel", name := "stands", desc := "(II)V" } : Jvm.MethodName)) ∈ lw_tbl := lw_at lw_m9 36 rfl
theorem q2099 : (Jvm.Cond.instanceMethod ({ cls := "DeltaIndexModel", name := "stands", desc := "(II)V" } : Jvm.MethodName)) ∈ lw_all := lw_g (lw_at lw_m9 37 rfl) rfl
theorem q2100 : (Jvm.Cond.code ({ cls := "DeltaIndexModel", name := "stands", desc := "(II)V" } : Jvm.MethodName) prog_20_method_61_code (3 : Nat) (Option.none : Option Jvm.ClassFile.FieldType)) ∈ lw_all := lw_g (lw_at lw_m9 38 rfl) rfl
theorem q2101 : (Jvm.Cond.methodLink "DeltaIndexModel" (405 : Nat) ({ cls := "DeltaIndexModel", name := "reads", desc := "(I)V" } : Jvm.MethodName)) ∈ lw_all := lw_g (lw_at lw_m9 39 rfl) rfl
theorem q2102 : (Jvm.Cond.privateMethod ({ cls := "DeltaIndexModel", name := "reads", desc := "(I)V" } : Jvm.MethodName)) ∈ lw_tbl := lw_at lw_m9 40 rfl
theorem q2103 : (Jvm.Cond.instanceMethod ({ cls := "DeltaIndexModel", name := "reads", desc := "(I)V" } : Jvm.MethodName)) ∈ lw_all := lw_g (lw_at lw_m9 41 rfl) rfl
theorem q2104 : (Jvm.Cond.code ({ cls := "DeltaIndexModel", name := "reads", desc := "(I)V" } : Jvm.MethodName) prog_20_method_69_code (6 : Nat) (Option.none : Option Jvm.ClassFile.FieldType)) ∈ lw_all := lw_g (lw_at lw_m9 42 rfl) rfl
theorem q2105 : (Jvm.Cond.methodLink "DeltaIndexModel" (351 : Nat) ({ cls := "DeltaIndexModel", name := "isGone", desc := "(I)Z" } : Jvm.MethodName)) ∈ lw_all := lw_g (lw_at lw_m9 43 rfl) rfl
theorem q2106 : (Jvm.Cond.privateMethod ({ cls := "DeltaIndexModel", name := "isGone", desc := "(I)Z" } : Jvm.MethodName)) ∈ lw_tbl := lw_at lw_m9 44 rfl
theorem q2107 : (Jvm.Cond.instanceMethod ({ cls := "DeltaIndexModel", name := "isGone", desc := "(I)Z" } : Jvm.MethodName)) ∈ lw_all := lw_g (lw_at lw_m9 45 rfl) rfl
theorem q2108 : (Jvm.Cond.code ({ cls := "DeltaIndexModel", name := "isGone", desc := "(I)Z" } : Jvm.MethodName) prog_20_method_47_code (2 : Nat) (Option.some Jvm.ClassFile.FieldType.boolean)) ∈ lw_all := lw_g (lw_at lw_m9 46 rfl) rfl
theorem q2109 : (Jvm.Cond.methodLink "DeltaIndexModel" (354 : Nat) ({ cls := "DeltaIndexModel", name := "leaves", desc := "(II)V" } : Jvm.MethodName)) ∈ lw_all := lw_g (lw_at lw_m9 47 rfl) rfl
theorem q2110 : (Jvm.Cond.privateMethod ({ cls := "DeltaIndexModel", name := "leaves", desc := "(II)V" } : Jvm.MethodName)) ∈ lw_tbl := lw_at lw_m9 48 rfl
theorem q2111 : (Jvm.Cond.instanceMethod ({ cls := "DeltaIndexModel", name := "leaves", desc := "(II)V" } : Jvm.MethodName)) ∈ lw_all := lw_g (lw_at lw_m9 49 rfl) rfl
theorem q2112 : (Jvm.Cond.code ({ cls := "DeltaIndexModel", name := "leaves", desc := "(II)V" } : Jvm.MethodName) prog_20_method_68_code (3 : Nat) (Option.none : Option Jvm.ClassFile.FieldType)) ∈ lw_all := lw_g (lw_at lw_m9 50 rfl) rfl
theorem q2113 : (Jvm.Cond.methodLink "DeltaIndexModel" (357 : Nat) ({ cls := "DeltaIndexModel", name := "pageBy", desc := "(I)I" } : Jvm.MethodName)) ∈ lw_all := lw_g (lw_at lw_m9 51 rfl) rfl
theorem q2114 : (Jvm.Cond.privateMethod ({ cls := "DeltaIndexModel", name := "pageBy", desc := "(I)I" } : Jvm.MethodName)) ∈ lw_tbl := lw_at lw_m9 52 rfl
theorem q2115 : (Jvm.Cond.instanceMethod ({ cls := "DeltaIndexModel", name := "pageBy", desc := "(I)I" } : Jvm.MethodName)) ∈ lw_all := lw_g (lw_at lw_m9 53 rfl) rfl
theorem q2116 : (Jvm.Cond.code ({ cls := "DeltaIndexModel", name := "pageBy", desc := "(I)I" } : Jvm.MethodName) prog_20_method_58_code (3 : Nat) (Option.some Jvm.ClassFile.FieldType.int)) ∈ lw_all := lw_g (lw_at lw_m9 54 rfl) rfl
theorem q2117 : (Jvm.Cond.methodLink "DeltaIndexModel" (360 : Nat) ({ cls := "DeltaIndexModel", name := "notes", desc := "(III)V" } : Jvm.MethodName)) ∈ lw_all := lw_g (lw_at lw_m9 55 rfl) rfl
theorem q2118 : (Jvm.Cond.privateMethod ({ cls := "DeltaIndexModel", name := "notes", desc := "(III)V" } : Jvm.MethodName)) ∈ lw_tbl := lw_at lw_m9 56 rfl
theorem q2119 : (Jvm.Cond.instanceMethod ({ cls := "DeltaIndexModel", name := "notes", desc := "(III)V" } : Jvm.MethodName)) ∈ lw_all := lw_g (lw_at lw_m9 57 rfl) rfl
theorem q2120 : (Jvm.Cond.code ({ cls := "DeltaIndexModel", name := "notes", desc := "(III)V" } : Jvm.MethodName) prog_20_method_67_code (4 : Nat) (Option.none : Option Jvm.ClassFile.FieldType)) ∈ lw_all := lw_g (lw_at lw_m9 58 rfl) rfl
theorem q2121 : (Jvm.Cond.methodLink "DeltaIndexModel" (363 : Nat) ({ cls := "DeltaIndexModel", name := "rests", desc := "(II)V" } : Jvm.MethodName)) ∈ lw_all := lw_g (lw_at lw_m9 59 rfl) rfl
theorem q2122 : (Jvm.Cond.privateMethod ({ cls := "DeltaIndexModel", name := "rests", desc := "(II)V" } : Jvm.MethodName)) ∈ lw_tbl := lw_at lw_m9 60 rfl
theorem q2123 : (Jvm.Cond.instanceMethod ({ cls := "DeltaIndexModel", name := "rests", desc := "(II)V" } : Jvm.MethodName)) ∈ lw_all := lw_g (lw_at lw_m9 61 rfl) rfl
theorem q2124 : (Jvm.Cond.code ({ cls := "DeltaIndexModel", name := "rests", desc := "(II)V" } : Jvm.MethodName) prog_20_method_63_code (3 : Nat) (Option.none : Option Jvm.ClassFile.FieldType)) ∈ lw_all := lw_g (lw_at lw_m9 62 rfl) rfl
theorem q2125 : (Jvm.Cond.methodLink "DeltaIndexModel" (366 : Nat) ({ cls := "DeltaIndexModel", name := "isFull", desc := "()Z" } : Jvm.MethodName)) ∈ lw_all := lw_g (lw_at lw_m9 63 rfl) rfl
theorem q2126 : (Jvm.Cond.privateMethod ({ cls := "DeltaIndexModel", name := "isFull", desc := "()Z" } : Jvm.MethodName)) ∈ lw_tbl := lw_at lw_m9 64 rfl
theorem q2127 : (Jvm.Cond.instanceMethod ({ cls := "DeltaIndexModel", name := "isFull", desc := "()Z" } : Jvm.MethodName)) ∈ lw_all := lw_g (lw_at lw_m9 65 rfl) rfl
theorem q2128 : (Jvm.Cond.code ({ cls := "DeltaIndexModel", name := "isFull", desc := "()Z" } : Jvm.MethodName) prog_20_method_70_code (1 : Nat) (Option.some Jvm.ClassFile.FieldType.boolean)) ∈ lw_all := lw_g (lw_at lw_m9 66 rfl) rfl
theorem q2129 : (Jvm.Cond.methodLink "DeltaIndexModel" (370 : Nat) ({ cls := "DeltaIndexModel", name := "sees", desc := "(III)V" } : Jvm.MethodName)) ∈ lw_all := lw_g (lw_at lw_m9 67 rfl) rfl
theorem q2130 : (Jvm.Cond.privateMethod ({ cls := "DeltaIndexModel", name := "sees", desc := "(III)V" } : Jvm.MethodName)) ∈ lw_tbl := lw_at lw_m9 68 rfl
theorem q2131 : (Jvm.Cond.instanceMethod ({ cls := "DeltaIndexModel", name := "sees", desc := "(III)V" } : Jvm.MethodName)) ∈ lw_all := lw_g (lw_at lw_m9 69 rfl) rfl
theorem q2132 : (Jvm.Cond.code ({ cls := "DeltaIndexModel", name := "sees", desc := "(III)V" } : Jvm.MethodName) prog_20_method_71_code (4 : Nat) (Option.none : Option Jvm.ClassFile.FieldType)) ∈ lw_all := lw_g (lw_at lw_m9 70 rfl) rfl
theorem q2133 : (Jvm.Cond.methodLink "DeltaIndexModel" (408 : Nat) ({ cls := "DeltaIndexModel", name := "prepends", desc := "(I)V" } : Jvm.MethodName)) ∈ lw_all := lw_g (lw_at lw_m9 71 rfl) rfl
theorem q2134 : (Jvm.Cond.privateMethod ({ cls := "DeltaIndexModel", name := "prepends", desc := "(I)V" } : Jvm.MethodName)) ∈ lw_tbl := lw_at lw_m9 72 rfl
theorem q2135 : (Jvm.Cond.instanceMethod ({ cls := "DeltaIndexModel", name := "prepends", desc := "(I)V" } : Jvm.MethodName)) ∈ lw_all := lw_g (lw_at lw_m9 73 rfl) rfl
theorem q2136 : (Jvm.Cond.code ({ cls := "DeltaIndexModel", name := "prepends", desc := "(I)V" } : Jvm.MethodName) prog_20_method_73_code (5 : Nat) (Option.none : Option Jvm.ClassFile.FieldType)) ∈ lw_all := lw_g (lw_at lw_m9 74 rfl) rfl
theorem q2137 : (Jvm.Cond.methodLink "DeltaIndexModel" (373 : Nat) ({ cls := "DeltaIndexModel", name := "isSeen", desc := "(II)Z" } : Jvm.MethodName)) ∈ lw_all := lw_g (lw_at lw_m9 75 rfl) rfl
theorem q2138 : (Jvm.Cond.privateMethod ({ cls := "DeltaIndexModel", name := "isSeen", desc := "(II)Z" } : Jvm.MethodName)) ∈ lw_tbl := lw_at lw_m9 76 rfl
theorem q2139 : (Jvm.Cond.instanceMethod ({ cls := "DeltaIndexModel", name := "isSeen", desc := "(II)Z" } : Jvm.MethodName)) ∈ lw_all := lw_g (lw_at lw_m9 77 rfl) rfl
theorem q2140 : (Jvm.Cond.code ({ cls := "DeltaIndexModel", name := "isSeen", desc := "(II)Z" } : Jvm.MethodName) prog_20_method_72_code (3 : Nat) (Option.some Jvm.ClassFile.FieldType.boolean)) ∈ lw_all := lw_g (lw_at lw_m9 78 rfl) rfl
theorem q2141 : (Jvm.Cond.methodLink "DeltaIndexModel" (377 : Nat) ({ cls := "DeltaIndexModel", name := "loses", desc := "(I)V" } : Jvm.MethodName)) ∈ lw_all := lw_g (lw_at lw_m9 79 rfl) rfl
theorem q2142 : (Jvm.Cond.privateMethod ({ cls := "DeltaIndexModel", name := "loses", desc := "(I)V" } : Jvm.MethodName)) ∈ lw_tbl := lw_at lw_m9 80 rfl
theorem q2143 : (Jvm.Cond.instanceMethod ({ cls := "DeltaIndexModel", name := "loses", desc := "(I)V" } : Jvm.MethodName)) ∈ lw_all := lw_g (lw_at lw_m9 81 rfl) rfl
theorem q2144 : (Jvm.Cond.code ({ cls := "DeltaIndexModel", name := "loses", desc := "(I)V" } : Jvm.MethodName) prog_20_method_60_code (2 : Nat) (Option.none : Option Jvm.ClassFile.FieldType)) ∈ lw_all := lw_g (lw_at lw_m9 82 rfl) rfl
theorem q2145 : (Jvm.Cond.methodLink "DeltaIndexModel" (380 : Nat) ({ cls := "DeltaIndexModel", name := "laysTop", desc := "(II)V" } : Jvm.MethodName)) ∈ lw_all := lw_g (lw_at lw_m9 83 rfl) rfl
theorem q2146 : (Jvm.Cond.privateMethod ({ cls := "DeltaIndexModel", name := "laysTop", desc := "(II)V" } : Jvm.MethodName)) ∈ lw_tbl := lw_at lw_m9 84 rfl
theorem q2147 : (Jvm.Cond.instanceMethod ({ cls := "DeltaIndexModel", name := "laysTop", desc := "(II)V" } : Jvm.MethodName)) ∈ lw_all := lw_g (lw_at lw_m9 85 rfl) rfl
theorem q2148 : (Jvm.Cond.code ({ cls := "DeltaIndexModel", name := "laysTop", desc := "(II)V" } : Jvm.MethodName) prog_20_method_65_code (3 : Nat) (Option.none : Option Jvm.ClassFile.FieldType)) ∈ lw_all := lw_g (lw_at lw_m9 86 rfl) rfl
theorem q2149 : (Jvm.Cond.methodLink "DeltaIndexModel" (383 : Nat) ({ cls := "DeltaIndexModel", name := "lengthOf", desc := "(I)I" } : Jvm.MethodName)) ∈ lw_all := lw_g (lw_at lw_m9 87 rfl) rfl
theorem q2150 : (Jvm.Cond.privateMethod ({ cls := "DeltaIndexModel", name := "lengthOf", desc := "(I)I" } : Jvm.MethodName)) ∈ lw_tbl := lw_at lw_m9 88 rfl
theorem q2151 : (Jvm.Cond.instanceMethod ({ cls := "DeltaIndexModel", name := "lengthOf", desc := "(I)I" } : Jvm.MethodName)) ∈ lw_all := lw_g (lw_at lw_m9 89 rfl) rfl
theorem q2152 : (Jvm.Cond.code ({ cls := "DeltaIndexModel", name := "lengthOf", desc := "(I)I" } : Jvm.MethodName) prog_20_method_46_code (2 : Nat) (Option.some Jvm.ClassFile.FieldType.int)) ∈ lw_all := lw_g (lw_at lw_m9 90 rfl) rfl
theorem q2153 : (Jvm.Cond.methodLink "DeltaIndexModel" (411 : Nat) ({ cls := "DeltaIndexModel", name := "gathers", desc := "(I)V" } : Jvm.MethodName)) ∈ lw_all := lw_g (lw_at lw_m9 91 rfl) rfl
theorem q2154 : (Jvm.Cond.privateMethod ({ cls := "DeltaIndexModel", name := "gathers", desc := "(I)V" } : Jvm.MethodName)) ∈ lw_tbl := lw_at lw_m9 92 rfl
theorem q2155 : (Jvm.Cond.instanceMethod ({ cls := "DeltaIndexModel", name := "gathers", desc := "(I)V" } : Jvm.MethodName)) ∈ lw_all := lw_g (lw_at lw_m9 93 rfl) rfl
theorem q2156 : (Jvm.Cond.code ({ cls := "DeltaIndexModel", name := "gathers", desc := "(I)V" } : Jvm.MethodName) prog_20_method_74_code (3 : Nat) (Option.none : Option Jvm.ClassFile.FieldType)) ∈ lw_all := lw_g (lw_at lw_m9 94 rfl) rfl
theorem q2157 : (Jvm.Cond.methodLink "DeltaIndexModel" (386 : Nat) ({ cls := "DeltaIndexModel", name := "goOn", desc := "(I)V" } : Jvm.MethodName)) ∈ lw_all := lw_g (lw_at lw_m9 95 rfl) rfl
theorem q2158 : (Jvm.Cond.privateMethod ({ cls := "DeltaIndexModel", name := "goOn", desc := "(I)V" } : Jvm.MethodName)) ∈ lw_tbl := lw_at lw_m9 96 rfl
theorem q2159 : (Jvm.Cond.instanceMethod ({ cls := "DeltaIndexModel", name := "goOn", desc := "(I)V" } : Jvm.MethodName)) ∈ lw_all := lw_g (lw_at lw_m9 97 rfl) rfl
theorem q2160 : (Jvm.Cond.code ({ cls := "DeltaIndexModel", name := "goOn", desc := "(I)V" } : Jvm.MethodName) prog_20_method_62_code (2 : Nat) (Option.none : Option Jvm.ClassFile.FieldType)) ∈ lw_all := lw_g (lw_at lw_m9 98 rfl) rfl
theorem q2161 : (Jvm.Cond.methodLink "DeltaIndexModel" (414 : Nat) ({ cls := "DeltaIndexModel", name := "swaps", desc := "(I)V" } : Jvm.MethodName)) ∈ lw_all := lw_g (lw_at lw_m9 99 rfl) rfl
theorem q2162 : (Jvm.Cond.privateMethod ({ cls := "DeltaIndexModel", name := "swaps", desc := "(I)V" } : Jvm.MethodName)) ∈ lw_tbl := lw_at lw_m9 100 rfl
theorem q2163 : (Jvm.Cond.instanceMethod ({ cls := "DeltaIndexModel", name := "swaps", desc := "(I)V" } : Jvm.MethodName)) ∈ lw_all := lw_g (lw_at lw_m9 101 rfl) rfl
theorem q2164 : (Jvm.Cond.code ({ cls := "DeltaIndexModel", name := "swaps", desc := "(I)V" } : Jvm.MethodName) prog_20_method_76_code (5 : Nat) (Option.none : Option Jvm.ClassFile.FieldType)) ∈ lw_all := lw_g (lw_at lw_m9 102 rfl) rfl
theorem q2165 : (Jvm.Cond.methodLink "DeltaIndexModel" (389 : Nat) ({ cls := "DeltaIndexModel", name := "retires", desc := "(I)V" } : Jvm.MethodName)) ∈ lw_all := lw_g (lw_at lw_m9 103 rfl) rfl
theorem q2166 : (Jvm.Cond.privateMethod ({ cls := "DeltaIndexModel", name := "retires", desc := "(I)V" } : Jvm.MethodName)) ∈ lw_tbl := lw_at lw_m9 104 rfl
theorem q2167 : (Jvm.Cond.instanceMethod ({ cls := "DeltaIndexModel", name := "retires", desc := "(I)V" } : Jvm.MethodName)) ∈ lw_all := lw_g (lw_at lw_m9 105 rfl) rfl
theorem q2168 : (Jvm.Cond.code ({ cls := "DeltaIndexModel", name := "retires", desc := "(I)V" } : Jvm.MethodName) prog_20_method_75_code (2 : Nat) (Option.none : Option Jvm.ClassFile.FieldType)) ∈ lw_all := lw_g (lw_at lw_m9 106 rfl) rfl
theorem q2169 : (Jvm.Cond.methodLink "DeltaIndexModel" (417 : Nat) ({ cls := "DeltaIndexModel", name := "splits", desc := "(I)V" } : Jvm.MethodName)) ∈ lw_all := lw_g (lw_at lw_m9 107 rfl) rfl
theorem q2170 : (Jvm.Cond.privateMethod ({ cls := "DeltaIndexModel", name := "splits", desc := "(I)V" } : Jvm.MethodName)) ∈ lw_tbl := lw_at lw_m9 108 rfl
theorem q2171 : (Jvm.Cond.instanceMethod ({ cls := "DeltaIndexModel", name := "splits", desc := "(I)V" } : Jvm.MethodName)) ∈ lw_all := lw_g (lw_at lw_m9 109 rfl) rfl
theorem q2172 : (Jvm.Cond.code ({ cls := "DeltaIndexModel", name := "splits", desc := "(I)V" } : Jvm.MethodName) prog_20_method_77_code (7 : Nat) (Option.none : Option Jvm.ClassFile.FieldType)) ∈ lw_all := lw_g (lw_at lw_m9 110 rfl) rfl
theorem q2173 : (Jvm.Cond.methodLink "DeltaIndexModel" (420 : Nat) ({ cls := "DeltaIndexModel", name := "looksUp", desc := "(I)V" } : Jvm.MethodName)) ∈ lw_all := lw_g (lw_at lw_m9 111 rfl) rfl
theorem q2174 : (Jvm.Cond.privateMethod ({ cls := "DeltaIndexModel", name := "looksUp", desc := "(I)V" } : Jvm.MethodName)) ∈ lw_tbl := lw_at lw_m9 112 rfl
theorem q2175 : (Jvm.Cond.instanceMethod ({ cls := "DeltaIndexModel", name := "looksUp", desc := "(I)V" } : Jvm.MethodName)) ∈ lw_all := lw_g (lw_at lw_m9 113 rfl) rfl
theorem q2176 : (Jvm.Cond.code ({ cls := "DeltaIndexModel", name := "looksUp", desc := "(I)V" } : Jvm.MethodName) prog_20_method_78_code (3 : Nat) (Option.none : Option Jvm.ClassFile.FieldType)) ∈ lw_all := lw_g (lw_at lw_m9 114 rfl) rfl
theorem q2177 : (Jvm.Cond.methodLink "DeltaIndexModel" (423 : Nat) ({ cls := "DeltaIndexModel", name := "enters", desc := "(I)V" } : Jvm.MethodName)) ∈ lw_all := lw_g (lw_at lw_m9 115 rfl) rfl
theorem q2178 : (Jvm.Cond.privateMethod ({ cls := "DeltaIndexModel", name := "enters", desc := "(I)V" } : Jvm.MethodName)) ∈ lw_tbl := lw_at lw_m9 116 rfl
theorem q2179 : (Jvm.Cond.instanceMethod ({ cls := "DeltaIndexModel", name := "enters", desc := "(I)V" } : Jvm.MethodName)) ∈ lw_all := lw_g (lw_at lw_m9 117 rfl) rfl
theorem q2180 : (Jvm.Cond.code ({ cls := "DeltaIndexModel", name := "enters", desc := "(I)V" } : Jvm.MethodName) prog_20_method_80_code (2 : Nat) (Option.none : Option Jvm.ClassFile.FieldType)) ∈ lw_all := lw_g (lw_at lw_m9 118 rfl) rfl
theorem q2181 : (Jvm.Cond.methodLink "DeltaIndexModel" (392 : Nat) ({ cls := "DeltaIndexModel", name := "changes", desc := "(IIII)V" } : Jvm.MethodName)) ∈ lw_all := lw_g (lw_at lw_m9 119 rfl) rfl
theorem q2182 : (Jvm.Cond.privateMethod ({ cls := "DeltaIndexModel", name := "changes", desc := "(IIII)V" } : Jvm.MethodName)) ∈ lw_tbl := lw_at lw_m9 120 rfl
theorem q2183 : (Jvm.Cond.instanceMethod ({ cls := "DeltaIndexModel", name := "changes", desc := "(IIII)V" } : Jvm.MethodName)) ∈ lw_all := lw_g (lw_at lw_m9 121 rfl) rfl
theorem q2184 : (Jvm.Cond.code ({ cls := "DeltaIndexModel", name := "changes", desc := "(IIII)V" } : Jvm.MethodName) prog_20_method_79_code (5 : Nat) (Option.none : Option Jvm.ClassFile.FieldType)) ∈ lw_all := lw_g (lw_at lw_m9 122 rfl) rfl
theorem q2185 : (Jvm.Cond.methodLink "DeltaIndexModel" (426 : Nat) ({ cls := "DeltaIndexModel", name := "removes", desc := "(I)V" } : Jvm.MethodName)) ∈ lw_all := lw_g (lw_at lw_m9 123 rfl) rfl
theorem q2186 : (Jvm.Cond.privateMethod ({ cls := "DeltaIndexModel", name := "removes", desc := "(I)V" } : Jvm.MethodName)) ∈ lw_tbl := lw_at lw_m9 124 rfl
theorem q2187 : (Jvm.Cond.instanceMethod ({ cls := "DeltaIndexModel", name := "removes", desc := "(I)V" } : Jvm.MethodName)) ∈ lw_all := lw_g (lw_at lw_m9 125 rfl) rfl
theorem q2188 : (Jvm.Cond.code ({ cls := "DeltaIndexModel", name := "removes", desc := "(I)V" } : Jvm.MethodName) prog_20_method_81_code (4 : Nat) (Option.none : Option Jvm.ClassFile.FieldType)) ∈ lw_all := lw_g (lw_at lw_m9 126 rfl) rfl
theorem q2189 : (Jvm.Cond.methodLink "DeltaIndexModel" (396 : Nat) ({ cls := "DeltaIndexModel", name := "boundOf", desc := "(I)I" } : Jvm.MethodName)) ∈ lw_all := lw_g (lw_at lw_m9 127 rfl) rfl
theorem q2190 : (Jvm.Cond.privateMethod ({ cls := "DeltaIndexModel", name := "boundOf", desc := "(I)I" } : Jvm.MethodName)) ∈ lw_tbl := lw_at lw_m9 128 rfl
theorem q2191 : (Jvm.Cond.instanceMethod ({ cls := "DeltaIndexModel", name := "boundOf", desc := "(I)I" } : Jvm.MethodName)) ∈ lw_all := lw_g (lw_at lw_m9 129 rfl) rfl
theorem q2192 : (Jvm.Cond.code ({ cls := "DeltaIndexModel", name := "boundOf", desc := "(I)I" } : Jvm.MethodName) prog_20_method_57_code (3 : Nat) (Option.some Jvm.ClassFile.FieldType.int)) ∈ lw_all := lw_g (lw_at lw_m9 130 rfl) rfl
theorem q2193 : (Jvm.Cond.methodLink "DeltaIndexModel" (429 : Nat) ({ cls := "DeltaIndexModel", name := "goesLeft", desc := "(I)V" } : Jvm.MethodName)) ∈ lw_all := lw_g (lw_at lw_m9 131 rfl) rfl
theorem q2194 : (Jvm.Cond.privateMethod ({ cls := "DeltaIndexModel", name := "goesLeft", desc := "(I)V" } : Jvm.MethodName)) ∈ lw_tbl := lw_at lw_m9 132 rfl
theorem q2195 : (Jvm.Cond.instanceMethod ({ cls := "DeltaIndexModel", name := "goesLeft", desc := "(I)V" } : Jvm.MethodName)) ∈ lw_all := lw_g (lw_at lw_m9 133 rfl) rfl
theorem q2196 : (Jvm.Cond.code ({ cls := "DeltaIndexModel", name := "goesLeft", desc := "(I)V" } : Jvm.MethodName) prog_20_method_82_code (5 : Nat) (Option.none : Option Jvm.ClassFile.FieldType)) ∈ lw_all := lw_g (lw_at lw_m9 134 rfl) rfl
theorem q2197 : (Jvm.Cond.methodLink "DeltaIndexModel" (432 : Nat) ({ cls := "DeltaIndexModel", name := "merges", desc := "(I)V" } : Jvm.MethodName)) ∈ lw_all := lw_g (lw_at lw_m9 135 rfl) rfl
theorem q2198 : (Jvm.Cond.privateMethod ({ cls := "DeltaIndexModel", name := "merges", desc := "(I)V" } : Jvm.MethodName)) ∈ lw_tbl := lw_at lw_m9 136 rfl
theorem q2199 : (Jvm.Cond.instanceMethod ({ cls := "DeltaIndexModel", name := "merges", desc := "(I)V" } : Jvm.MethodName)) ∈ lw_all := lw_g (lw_at lw_m9 137 rfl) rfl
theorem q2200 : (Jvm.Cond.code ({ cls := "DeltaIndexModel", name := "merges", desc := "(I)V" } : Jvm.MethodName) prog_20_method_83_code (6 : Nat) (Option.none : Option Jvm.ClassFile.FieldType)) ∈ lw_all := lw_g (lw_at lw_m9 138 rfl) rfl
theorem q2201 : (Jvm.Cond.methodLink "DeltaIndexModel" (399 : Nat) ({ cls := "DeltaIndexModel", name := "baseOf", desc := "(I)I" } : Jvm.MethodName)) ∈ lw_all := lw_g (lw_at lw_m9 139 rfl) rfl
theorem q2202 : (Jvm.Cond.privateMethod ({ cls := "DeltaIndexModel", name := "baseOf", desc := "(I)I" } : Jvm.MethodName)) ∈ lw_tbl := lw_at lw_m9 140 rfl
theorem q2203 : (Jvm.Cond.instanceMethod ({ cls := "DeltaIndexModel", name := "baseOf", desc := "(I)I" } : Jvm.MethodName)) ∈ lw_all := lw_g (lw_at lw_m9 141 rfl) rfl
theorem q2204 : (Jvm.Cond.code ({ cls := "DeltaIndexModel", name := "baseOf", desc := "(I)I" } : Jvm.MethodName) prog_20_method_48_code (2 : Nat) (Option.some Jvm.ClassFile.FieldType.int)) ∈ lw_all := lw_g (lw_at lw_m9 142 rfl) rfl
theorem q2205 : (Jvm.Cond.methodLink "DeltaIndexModel" (435 : Nat) ({ cls := "DeltaIndexModel", name := "looksOn", desc := "(I)V" } : Jvm.MethodName)) ∈ lw_all := lw_g (lw_at lw_m9 143 rfl) rfl
theorem q2206 : (Jvm.Cond.privateMethod ({ cls := "DeltaIndexModel", name := "looksOn", desc := "(I)V" } : Jvm.MethodName)) ∈ lw_tbl := lw_at lw_m9 144 rfl
theorem q2207 : (Jvm.Cond.instanceMethod ({ cls := "DeltaIndexModel", name := "looksOn", desc := "(I)V" } : Jvm.MethodName)) ∈ lw_all := lw_g (lw_at lw_m9 145 rfl) rfl
theorem q2208 : (Jvm.Cond.code ({ cls := "DeltaIndexModel", name := "looksOn", desc := "(I)V" } : Jvm.MethodName) prog_20_method_84_code (2 : Nat) (Option.none : Option Jvm.ClassFile.FieldType)) ∈ lw_all := lw_g (lw_at lw_m9 146 rfl) rfl
theorem q2209 : (Jvm.Cond.methodLink "DeltaIndexModel" (438 : Nat) ({ cls := "DeltaIndexModel", name := "strikes", desc := "(I)V" } : Jvm.MethodName)) ∈ lw_all := lw_g (lw_at lw_m9 147 rfl) rfl
theorem q2210 : (Jvm.Cond.privateMethod ({ cls := "DeltaIndexModel", name := "strikes", desc := "(I)V" } : Jvm.MethodName)) ∈ lw_tbl := lw_at lw_m9 148 rfl
theorem q2211 : (Jvm.Cond.instanceMethod ({ cls := "DeltaIndexModel", name := "strikes", desc := "(I)V" } : Jvm.MethodName)) ∈ lw_all := lw_g (lw_at lw_m9 149 rfl) rfl
theorem q2212 : (Jvm.Cond.code ({ cls := "DeltaIndexModel", name := "strikes", desc := "(I)V" } : Jvm.MethodName) prog_20_method_85_code (4 : Nat) (Option.none : Option Jvm.ClassFile.FieldType)) ∈ lw_all := lw_g (lw_at lw_m9 150 rfl) rfl
theorem q2213 : (Jvm.Cond.methodLink "DeltaIndexModel" (263 : Nat) ({ cls := "DeltaIndexModel", name := "sweeps", desc := "()I" } : Jvm.MethodName)) ∈ lw_all := lw_g (lw_at lw_m9 151 rfl) rfl
theorem q2214 : (Jvm.Cond.privateMethod ({ cls := "DeltaIndexModel", name := "sweeps", desc := "()I" } : Jvm.MethodName)) ∈ lw_tbl := lw_at lw_m9 152 rfl
theorem q2215 : (Jvm.Cond.instanceMethod ({ cls := "DeltaIndexModel", name := "sweeps", desc := "()I" } : Jvm.MethodName)) ∈ lw_all := lw_g (lw_at lw_m9 153 rfl) rfl
theorem q2216 : (Jvm.Cond.code ({ cls := "DeltaIndexModel", name := "sweeps", desc := "()I" } : Jvm.MethodName) prog_20_method_88_code (5 : Nat) (Option.some Jvm.ClassFile.FieldType.int)) ∈ lw_all := lw_g (lw_at lw_m9 154 rfl) rfl
theorem q2218 : (Jvm.Cond.instanceMethod ({ cls := "DeltaIndexModel", name := "place", desc := "()I" } : Jvm.MethodName)) ∈ lw_all := lw_g (lw_at lw_m9 156 rfl) rfl
theorem q2219 : (Jvm.Cond.selects "DeltaIndexModel" ({ cls := "DeltaIndexModel", name := "place", desc := "()I" } : Jvm.MethodName) ({ cls := "DeltaIndexModel", name := "place", desc := "()I" } : Jvm.MethodName)) ∈ lw_all := lw_g (lw_at lw_m9 157 rfl) rfl
theorem q2220 : (Jvm.Cond.code ({ cls := "DeltaIndexModel", name := "place", desc := "()I" } : Jvm.MethodName) prog_20_method_20_code (1 : Nat) (Option.some Jvm.ClassFile.FieldType.int)) ∈ lw_all := lw_g (lw_at lw_m9 158 rfl) rfl
theorem q2222 : (Jvm.Cond.instanceMethod ({ cls := "DeltaIndexModel", name := "begin", desc := "(IIII)Z" } : Jvm.MethodName)) ∈ lw_all := lw_g (lw_at lw_m9 160 rfl) rfl
theorem q2223 : (Jvm.Cond.selects "DeltaIndexModel" ({ cls := "DeltaIndexModel", name := "begin", desc := "(IIII)Z" } : Jvm.MethodName) ({ cls := "DeltaIndexModel", name := "begin", desc := "(IIII)Z" } : Jvm.MethodName)) ∈ lw_all := lw_g (lw_at lw_m9 161 rfl) rfl
theorem q2224 : (Jvm.Cond.code ({ cls := "DeltaIndexModel", name := "begin", desc := "(IIII)Z" } : Jvm.MethodName) prog_20_method_91_code (5 : Nat) (Option.some Jvm.ClassFile.FieldType.boolean)) ∈ lw_all := lw_g (lw_at lw_m9 162 rfl) rfl
theorem q2225 : (Jvm.Cond.methodLink "DeltaIndexModel" (445 : Nat) ({ cls := "DeltaIndexModel", name := "isHand", desc := "(I)Z" } : Jvm.MethodName)) ∈ lw_all := lw_g (lw_at lw_m9 163 rfl) rfl
theorem q2226 : (Jvm.Cond.static ({ cls := "DeltaIndexModel", name := "isHand", desc := "(I)Z" } : Jvm.MethodName)) ∈ lw_all := lw_g (lw_at lw_m9 164 rfl) rfl
theorem q2227 : (Jvm.Cond.code ({ cls := "DeltaIndexModel", name := "isHand", desc := "(I)Z" } : Jvm.MethodName) prog_20_method_89_code (1 : Nat) (Option.some Jvm.ClassFile.FieldType.boolean)) ∈ lw_all := lw_g (lw_at lw_m9 165 rfl) rfl
theorem q2228 : (Jvm.Cond.methodLink "DeltaIndexModel" (441 : Nat) ({ cls := "DeltaIndexModel", name := "in", desc := "(III)Z" } : Jvm.MethodName)) ∈ lw_all := lw_g (lw_at lw_m9 166 rfl) rfl
theorem q2229 : (Jvm.Cond.static ({ cls := "DeltaIndexModel", name := "in", desc := "(III)Z" } : Jvm.MethodName)) ∈ lw_all := lw_g (lw_at lw_m9 167 rfl) rfl
theorem q2230 : (Jvm.Cond.code ({ cls := "DeltaIndexModel", name := "in", desc := "(III)Z" } : Jvm.MethodName) prog_20_method_35_code (3 : Nat) (Option.some Jvm.ClassFile.FieldType.boolean)) ∈ lw_all := lw_g (lw_at lw_m9 168 rfl) rfl
theorem q2231 : (Jvm.Cond.methodLink "DeltaIndexModel" (448 : Nat) ({ cls := "DeltaIndexModel", name := "isKey", desc := "(I)Z" } : Jvm.MethodName)) ∈ lw_all := lw_g (lw_at lw_m9 169 rfl) rfl
theorem q2232 : (Jvm.Cond.static ({ cls := "DeltaIndexModel", name := "isKey", desc := "(I)Z" } : Jvm.MethodName)) ∈ lw_all := lw_g (lw_at lw_m9 170 rfl) rfl
theorem q2233 : (Jvm.Cond.code ({ cls := "DeltaIndexModel", name := "isKey", desc := "(I)Z" } : Jvm.MethodName) prog_20_method_90_code (1 : Nat) (Option.some Jvm.ClassFile.FieldType.boolean)) ∈ lw_all := lw_g (lw_at lw_m9 171 rfl) rfl
theorem q2235 : (Jvm.Cond.instanceMethod ({ cls := "DeltaIndexModel", name := "step", desc := "(I)I" } : Jvm.MethodName)) ∈ lw_all := lw_g (lw_at lw_m9 173 rfl) rfl
theorem q2236 : (Jvm.Cond.selects "DeltaIndexModel" ({ cls := "DeltaIndexModel", name := "step", desc := "(I)I" } : Jvm.MethodName) ({ cls := "DeltaIndexModel", name := "step", desc := "(I)I" } : Jvm.MethodName)) ∈ lw_all := lw_g (lw_at lw_m9 174 rfl) rfl
theorem q2237 : (Jvm.Cond.code ({ cls := "DeltaIndexModel", name := "step", desc := "(I)I" } : Jvm.MethodName) prog_20_method_92_code (2 : Nat) (Option.some Jvm.ClassFile.FieldType.int)) ∈ lw_all := lw_g (lw_at lw_m9 175 rfl) rfl
theorem q2239 : (Jvm.Cond.instanceMethod ({ cls := "DeltaIndexModel", name := "close", desc := "(I)I" } : Jvm.MethodName)) ∈ lw_all := lw_g (lw_at lw_m9 177 rfl) rfl
theorem q2240 : (Jvm.Cond.selects "DeltaIndexModel" ({ cls := "DeltaIndexModel", name := "close", desc := "(I)I" } : Jvm.MethodName) ({ cls := "DeltaIndexModel", name := "close", desc := "(I)I" } : Jvm.MethodName)) ∈ lw_all := lw_g (lw_at lw_m9 178 rfl) rfl
theorem q2241 : (Jvm.Cond.code ({ cls := "DeltaIndexModel", name := "close", desc := "(I)I" } : Jvm.MethodName) prog_20_method_93_code (2 : Nat) (Option.some Jvm.ClassFile.FieldType.int)) ∈ lw_all := lw_g (lw_at lw_m9 179 rfl) rfl
theorem q2243 : (Jvm.Cond.instanceMethod ({ cls := "DeltaIndexModel", name := "sweep", desc := "()I" } : Jvm.MethodName)) ∈ lw_all := lw_g (lw_at lw_m9 181 rfl) rfl
theorem q2244 : (Jvm.Cond.selects "DeltaIndexModel" ({ cls := "DeltaIndexModel", name := "sweep", desc := "()I" } : Jvm.MethodName) ({ cls := "DeltaIndexModel", name := "sweep", desc := "()I" } : Jvm.MethodName)) ∈ lw_all := lw_g (lw_at lw_m9 182 rfl) rfl
theorem q2245 : (Jvm.Cond.code ({ cls := "DeltaIndexModel", name := "sweep", desc := "()I" } : Jvm.MethodName) prog_20_method_94_code (1 : Nat) (Option.some Jvm.ClassFile.FieldType.int)) ∈ lw_all := lw_g (lw_at lw_m9 183 rfl) rfl
theorem q2247 : (Jvm.Cond.instanceMethod ({ cls := "DeltaIndexModel", name := "has", desc := "(I)I" } : Jvm.MethodName)) ∈ lw_all := lw_g (lw_at lw_m9 185 rfl) rfl
theorem q2248 : (Jvm.Cond.selects "DeltaIndexModel" ({ cls := "DeltaIndexModel", name := "has", desc := "(I)I" } : Jvm.MethodName) ({ cls := "DeltaIndexModel", name := "has", desc := "(I)I" } : Jvm.MethodName)) ∈ lw_all := lw_g (lw_at lw_m9 186 rfl) rfl
theorem q2249 : (Jvm.Cond.code ({ cls := "DeltaIndexModel", name := "has", desc := "(I)I" } : Jvm.MethodName) prog_20_method_96_code (2 : Nat) (Option.some Jvm.ClassFile.FieldType.int)) ∈ lw_all := lw_g (lw_at lw_m9 187 rfl) rfl
theorem q2250 : (Jvm.Cond.methodLink "DeltaIndexModel" (451 : Nat) ({ cls := "DeltaIndexModel", name := "allAt", desc := "(I)I" } : Jvm.MethodName)) ∈ lw_all := lw_g (lw_at lw_m9 188 rfl) rfl
theorem q2251 : (Jvm.Cond.privateMethod ({ cls := "DeltaIndexModel", name := "allAt", desc := "(I)I" } : Jvm.MethodName)) ∈ lw_tbl := lw_at lw_m9 189 rfl
theorem q2252 : (Jvm.Cond.instanceMethod ({ cls := "DeltaIndexModel", name := "allAt", desc := "(I)I" } : Jvm.MethodName)) ∈ lw_all := lw_g (lw_at lw_m9 190 rfl) rfl
theorem q2253 : (Jvm.Cond.code ({ cls := "DeltaIndexModel", name := "allAt", desc := "(I)I" } : Jvm.MethodName) prog_20_method_95_code (3 : Nat) (Option.some Jvm.ClassFile.FieldType.int)) ∈ lw_all := lw_g (lw_at lw_m9 191 rfl) rfl
theorem q2255 : (Jvm.Cond.instanceMethod ({ cls := "DeltaIndexModel", name := "value", desc := "(I)I" } : Jvm.MethodName)) ∈ lw_all := lw_g (lw_at lw_m9 193 rfl) rfl
theorem q2256 : (Jvm.Cond.selects "DeltaIndexModel" ({ cls := "DeltaIndexModel", name := "value", desc := "(I)I" } : Jvm.MethodName) ({ cls := "DeltaIndexModel", name := "value", desc := "(I)I" } : Jvm.MethodName)) ∈ lw_all := lw_g (lw_at lw_m9 194 rfl) rfl
theorem q2257 : (Jvm.Cond.code ({ cls := "DeltaIndexModel", name := "value", desc := "(I)I" } : Jvm.MethodName) prog_20_method_97_code (2 : Nat) (Option.some Jvm.ClassFile.FieldType.int)) ∈ lw_all := lw_g (lw_at lw_m9 195 rfl) rfl
theorem q2259 : (Jvm.Cond.instanceMethod ({ cls := "DeltaIndexModel", name := "many", desc := "(II)I" } : Jvm.MethodName)) ∈ lw_all := lw_g (lw_at lw_m9 197 rfl) rfl
theorem q2260 : (Jvm.Cond.selects "DeltaIndexModel" ({ cls := "DeltaIndexModel", name := "many", desc := "(II)I" } : Jvm.MethodName) ({ cls := "DeltaIndexModel", name := "many", desc := "(II)I" } : Jvm.MethodName)) ∈ lw_all := lw_g (lw_at lw_m9 198 rfl) rfl
theorem q2261 : (Jvm.Cond.code ({ cls := "DeltaIndexModel", name := "many", desc := "(II)I" } : Jvm.MethodName) prog_20_method_98_code (5 : Nat) (Option.some Jvm.ClassFile.FieldType.int)) ∈ lw_all := lw_g (lw_at lw_m9 199 rfl) rfl
theorem q2263 : (Jvm.Cond.instanceMethod ({ cls := "DeltaIndexModel", name := "sum", desc := "(II)I" } : Jvm.MethodName)) ∈ lw_all := lw_g (lw_at lw_m9 201 rfl) rfl
theorem q2264 : (Jvm.Cond.selects "DeltaIndexModel" ({ cls := "DeltaIndexModel", name := "sum", desc := "(II)I" } : Jvm.MethodName) ({ cls := "DeltaIndexModel", name := "sum", desc := "(II)I" } : Jvm.MethodName)) ∈ lw_all := lw_g (lw_at lw_m9 202 rfl) rfl
theorem q2265 : (Jvm.Cond.code ({ cls := "DeltaIndexModel", name := "sum", desc := "(II)I" } : Jvm.MethodName) prog_20_method_99_code (5 : Nat) (Option.some Jvm.ClassFile.FieldType.int)) ∈ lw_all := lw_g (lw_at lw_m9 203 rfl) rfl
theorem q2267 : (Jvm.Cond.instanceMethod ({ cls := "DeltaIndexModel", name := "nth", desc := "(I)I" } : Jvm.MethodName)) ∈ lw_all := lw_g (lw_at lw_m9 205 rfl) rfl
theorem q2268 : (Jvm.Cond.selects "DeltaIndexModel" ({ cls := "DeltaIndexModel", name := "nth", desc := "(I)I" } : Jvm.MethodName) ({ cls := "DeltaIndexModel", name := "nth", desc := "(I)I" } : Jvm.MethodName)) ∈ lw_all := lw_g (lw_at lw_m9 206 rfl) rfl
theorem q2269 : (Jvm.Cond.code ({ cls := "DeltaIndexModel", name := "nth", desc := "(I)I" } : Jvm.MethodName) prog_20_method_100_code (2 : Nat) (Option.some Jvm.ClassFile.FieldType.int)) ∈ lw_all := lw_g (lw_at lw_m9 207 rfl) rfl
theorem q2271 : (Jvm.Cond.instanceMethod ({ cls := "DeltaIndexModel", name := "page", desc := "(II)I" } : Jvm.MethodName)) ∈ lw_all := lw_g (lw_at lw_m9 209 rfl) rfl
theorem q2272 : (Jvm.Cond.selects "DeltaIndexModel" ({ cls := "DeltaIndexModel", name := "page", desc := "(II)I" } : Jvm.MethodName) ({ cls := "DeltaIndexModel", name := "page", desc := "(II)I" } : Jvm.MethodName)) ∈ lw_all := lw_g (lw_at lw_m9 210 rfl) rfl
theorem q2273 : (Jvm.Cond.code ({ cls := "DeltaIndexModel", name := "page", desc := "(II)I" } : Jvm.MethodName) prog_20_method_101_code (4 : Nat) (Option.some Jvm.ClassFile.FieldType.int)) ∈ lw_all := lw_g (lw_at lw_m9 211 rfl) rfl
theorem q2275 : (Jvm.Cond.instanceMethod ({ cls := "DeltaIndexModel", name := "bound", desc := "(II)I" } : Jvm.MethodName)) ∈ lw_all := lw_g (lw_at lw_m9 213 rfl) rfl
theorem q2276 : (Jvm.Cond.selects "DeltaIndexModel" ({ cls := "DeltaIndexModel", name := "bound", desc := "(II)I" } : Jvm.MethodName) ({ cls := "DeltaIndexModel", name := "bound", desc := "(II)I" } : Jvm.MethodName)) ∈ lw_all := lw_g (lw_at lw_m9 214 rfl) rfl
theorem q2277 : (Jvm.Cond.code ({ cls := "DeltaIndexModel", name := "bound", desc := "(II)I" } : Jvm.MethodName) prog_20_method_102_code (3 : Nat) (Option.some Jvm.ClassFile.FieldType.int)) ∈ lw_all := lw_g (lw_at lw_m9 215 rfl) rfl
theorem q2279 : (Jvm.Cond.instanceMethod ({ cls := "DeltaIndexModel", name := "record", desc := "(II)I" } : Jvm.MethodName)) ∈ lw_all := lw_g (lw_at lw_m9 217 rfl) rfl
theorem q2280 : (Jvm.Cond.selects "DeltaIndexModel" ({ cls := "DeltaIndexModel", name := "record", desc := "(II)I" } : Jvm.MethodName) ({ cls := "DeltaIndexModel", name := "record", desc := "(II)I" } : Jvm.MethodName)) ∈ lw_all := lw_g (lw_at lw_m9 218 rfl) rfl
theorem q2281 : (Jvm.Cond.code ({ cls := "DeltaIndexModel", name := "record", desc := "(II)I" } : Jvm.MethodName) prog_20_method_104_code (3 : Nat) (Option.some Jvm.ClassFile.FieldType.int)) ∈ lw_all := lw_g (lw_at lw_m9 219 rfl) rfl
theorem q2282 : (Jvm.Cond.methodLink "DeltaIndexModel" (454 : Nat) ({ cls := "DeltaIndexModel", name := "isRecord", desc := "(I)Z" } : Jvm.MethodName)) ∈ lw_all := lw_g (lw_at lw_m9 220 rfl) rfl
theorem q2283 : (Jvm.Cond.privateMethod ({ cls := "DeltaIndexModel", name := "isRecord", desc := "(I)Z" } : Jvm.MethodName)) ∈ lw_tbl := lw_at lw_m9 221 rfl
theorem q2284 : (Jvm.Cond.instanceMethod ({ cls := "DeltaIndexModel", name := "isRecord", desc := "(I)Z" } : Jvm.MethodName)) ∈ lw_all := lw_g (lw_at lw_m9 222 rfl) rfl
theorem q2285 : (Jvm.Cond.code ({ cls := "DeltaIndexModel", name := "isRecord", desc := "(I)Z" } : Jvm.MethodName) prog_20_method_103_code (2 : Nat) (Option.some Jvm.ClassFile.FieldType.boolean)) ∈ lw_all := lw_g (lw_at lw_m9 223 rfl) rfl
theorem q2287 : (Jvm.Cond.instanceMethod ({ cls := "DeltaIndexModel", name := "base", desc := "(III)I" } : Jvm.MethodName)) ∈ lw_all := lw_g (lw_at lw_m9 225 rfl) rfl
theorem q2288 : (Jvm.Cond.selects "DeltaIndexModel" ({ cls := "DeltaIndexModel", name := "base", desc := "(III)I" } : Jvm.MethodName) ({ cls := "DeltaIndexModel", name := "base", desc := "(III)I" } : Jvm.MethodName)) ∈ lw_all := lw_g (lw_at lw_m9 226 rfl) rfl
theorem q2289 : (Jvm.Cond.code ({ cls := "DeltaIndexModel", name := "base", desc := "(III)I" } : Jvm.MethodName) prog_20_method_105_code (4 : Nat) (Option.some Jvm.ClassFile.FieldType.int)) ∈ lw_all := lw_g (lw_at lw_m9 227 rfl) rfl
theorem q2291 : (Jvm.Cond.instanceMethod ({ cls := "DeltaIndexModel", name := "hand", desc := "(II)I" } : Jvm.MethodName)) ∈ lw_all := lw_g (lw_at lw_m9 229 rfl) rfl
theorem q2292 : (Jvm.Cond.selects "DeltaIndexModel" ({ cls := "DeltaIndexModel", name := "hand", desc := "(II)I" } : Jvm.MethodName) ({ cls := "DeltaIndexModel", name := "hand", desc := "(II)I" } : Jvm.MethodName)) ∈ lw_all := lw_g (lw_at lw_m9 230 rfl) rfl
theorem q2293 : (Jvm.Cond.code ({ cls := "DeltaIndexModel", name := "hand", desc := "(II)I" } : Jvm.MethodName) prog_20_method_106_code (3 : Nat) (Option.some Jvm.ClassFile.FieldType.int)) ∈ lw_all := lw_g (lw_at lw_m9 231 rfl) rfl
theorem q2295 : (Jvm.Cond.instanceMethod ({ cls := "DeltaIndexModel", name := "result", desc := "(I)I" } : Jvm.MethodName)) ∈ lw_all := lw_g (lw_at lw_m9 233 rfl) rfl
theorem q2296 : (Jvm.Cond.selects "DeltaIndexModel" ({ cls := "DeltaIndexModel", name := "result", desc := "(I)I" } : Jvm.MethodName) ({ cls := "DeltaIndexModel", name := "result", desc := "(I)I" } : Jvm.MethodName)) ∈ lw_all := lw_g (lw_at lw_m9 234 rfl) rfl
theorem q2297 : (Jvm.Cond.code ({ cls := "DeltaIndexModel", name := "result", desc := "(I)I" } : Jvm.MethodName) prog_20_method_107_code (2 : Nat) (Option.some Jvm.ClassFile.FieldType.int)) ∈ lw_all := lw_g (lw_at lw_m9 235 rfl) rfl
theorem q2299 : (Jvm.Cond.instanceMethod ({ cls := "DeltaIndexModel", name := "halves", desc := "(I)I" } : Jvm.MethodName)) ∈ lw_all := lw_g (lw_at lw_m9 237 rfl) rfl
theorem q2300 : (Jvm.Cond.selects "DeltaIndexModel" ({ cls := "DeltaIndexModel", name := "halves", desc := "(I)I" } : Jvm.MethodName) ({ cls := "DeltaIndexModel", name := "halves", desc := "(I)I" } : Jvm.MethodName)) ∈ lw_all := lw_g (lw_at lw_m9 238 rfl) rfl
theorem q2301 : (Jvm.Cond.code ({ cls := "DeltaIndexModel", name := "halves", desc := "(I)I" } : Jvm.MethodName) prog_20_method_110_code (2 : Nat) (Option.some Jvm.ClassFile.FieldType.int)) ∈ lw_all := lw_g (lw_at lw_m9 239 rfl) rfl
theorem q2302 : (Jvm.Cond.methodLink "DeltaIndexModel" (457 : Nat) ({ cls := "DeltaIndexModel", name := "halfSplits", desc := "()I" } : Jvm.MethodName)) ∈ lw_all := lw_g (lw_at lw_m10 0 rfl) rfl
theorem q2303 : (Jvm.Cond.privateMethod ({ cls := "DeltaIndexModel", name := "halfSplits", desc := "()I" } : Jvm.MethodName)) ∈ lw_tbl := lw_at lw_m10 1 rfl
theorem q2304 : (Jvm.Cond.instanceMethod ({ cls := "DeltaIndexModel", name := "halfSplits", desc := "()I" } : Jvm.MethodName)) ∈ lw_all := lw_g (lw_at lw_m10 2 rfl) rfl
theorem q2305 : (Jvm.Cond.code ({ cls := "DeltaIndexModel", name := "halfSplits", desc := "()I" } : Jvm.MethodName) prog_20_method_108_code (3 : Nat) (Option.some Jvm.ClassFile.FieldType.int)) ∈ lw_all := lw_g (lw_at lw_m10 3 rfl) rfl
theorem q2306 : (Jvm.Cond.methodLink "DeltaIndexModel" (460 : Nat) ({ cls := "DeltaIndexModel", name := "halfGone", desc := "()I" } : Jvm.MethodName)) ∈ lw_all := lw_g (lw_at lw_m10 4 rfl) rfl
theorem q2307 : (Jvm.Cond.privateMethod ({ cls := "DeltaIndexModel", name := "halfGone", desc := "()I" } : Jvm.MethodName)) ∈ lw_tbl := lw_at lw_m10 5 rfl
theorem q2308 : (Jvm.Cond.instanceMethod ({ cls := "DeltaIndexModel", name := "halfGone", desc := "()I" } : Jvm.MethodName)) ∈ lw_all := lw_g (lw_at lw_m10 6 rfl) rfl
theorem q2309 : (Jvm.Cond.code ({ cls := "DeltaIndexModel", name := "halfGone", desc := "()I" } : Jvm.MethodName) prog_20_method_109_code (3 : Nat) (Option.some Jvm.ClassFile.FieldType.int)) ∈ lw_all := lw_g (lw_at lw_m10 7 rfl) rfl
theorem q2311 : (Jvm.Cond.instanceMethod ({ cls := "DeltaIndexModel", name := "replay", desc := "(IIII)I" } : Jvm.MethodName)) ∈ lw_all := lw_g (lw_at lw_m10 9 rfl) rfl
theorem q2312 : (Jvm.Cond.selects "DeltaIndexModel" ({ cls := "DeltaIndexModel", name := "replay", desc := "(IIII)I" } : Jvm.MethodName) ({ cls := "DeltaIndexModel", name := "replay", desc := "(IIII)I" } : Jvm.MethodName)) ∈ lw_all := lw_g (lw_at lw_m10 10 rfl) rfl
theorem q2313 : (Jvm.Cond.code ({ cls := "DeltaIndexModel", name := "replay", desc := "(IIII)I" } : Jvm.MethodName) prog_20_method_116_code (12 : Nat) (Option.some Jvm.ClassFile.FieldType.int)) ∈ lw_all := lw_g (lw_at lw_m10 11 rfl) rfl
theorem q2314 : (Jvm.Cond.methodLink "DeltaIndexModel" (466 : Nat) ({ cls := "DeltaIndexModel", name := "keeps", desc := "()V" } : Jvm.MethodName)) ∈ lw_all := lw_g (lw_at lw_m10 12 rfl) rfl
theorem q2315 : (Jvm.Cond.privateMethod ({ cls := "DeltaIndexModel", name := "keeps", desc := "()V" } : Jvm.MethodName)) ∈ lw_tbl := lw_at lw_m10 13 rfl
theorem q2316 : (Jvm.Cond.instanceMethod ({ cls := "DeltaIndexModel", name := "keeps", desc := "()V" } : Jvm.MethodName)) ∈ lw_all := lw_g (lw_at lw_m10 14 rfl) rfl
theorem q2317 : (Jvm.Cond.code ({ cls := "DeltaIndexModel", name := "keeps", desc := "()V" } : Jvm.MethodName) prog_20_method_111_code (2 : Nat) (Option.none : Option Jvm.ClassFile.FieldType)) ∈ lw_all := lw_g (lw_at lw_m10 15 rfl) rfl
theorem q2318 : (Jvm.Cond.methodLink "DeltaIndexModel" (469 : Nat) ({ cls := "DeltaIndexModel", name := "rowDone", desc := "(IIII)V" } : Jvm.MethodName)) ∈ lw_all := lw_g (lw_at lw_m10 16 rfl) rfl
theorem q2319 : (Jvm.Cond.privateMethod ({ cls := "DeltaIndexModel", name := "rowDone", desc := "(IIII)V" } : Jvm.MethodName)) ∈ lw_tbl := lw_at lw_m10 17 rfl
theorem q2320 : (Jvm.Cond.instanceMethod ({ cls := "DeltaIndexModel", name := "rowDone", desc := "(IIII)V" } : Jvm.MethodName)) ∈ lw_all := lw_g (lw_at lw_m10 18 rfl) rfl
theorem q2321 : (Jvm.Cond.code ({ cls := "DeltaIndexModel", name := "rowDone", desc := "(IIII)V" } : Jvm.MethodName) prog_20_method_113_code (6 : Nat) (Option.none : Option Jvm.ClassFile.FieldType)) ∈ lw_all := lw_g (lw_at lw_m10 19 rfl) rfl
theorem q2322 : (Jvm.Cond.methodLink "DeltaIndexModel" (472 : Nat) ({ cls := "DeltaIndexModel", name := "keepsFirst", desc := "()V" } : Jvm.MethodName)) ∈ lw_all := lw_g (lw_at lw_m10 20 rfl) rfl
theorem q2323 : (Jvm.Cond.privateMethod ({ cls := "DeltaIndexModel", name := "keepsFirst", desc := "()V" } : Jvm.MethodName)) ∈ lw_tbl := lw_at lw_m10 21 rfl
theorem q2324 : (Jvm.Cond.instanceMethod ({ cls := "DeltaIndexModel", name := "keepsFirst", desc := "()V" } : Jvm.MethodName)) ∈ lw_all := lw_g (lw_at lw_m10 22 rfl) rfl
theorem q2325 : (Jvm.Cond.code ({ cls := "DeltaIndexModel", name := "keepsFirst", desc := "()V" } : Jvm.MethodName) prog_20_method_114_code (2 : Nat) (Option.none : Option Jvm.ClassFile.FieldType)) ∈ lw_all := lw_g (lw_at lw_m10 23 rfl) rfl
theorem q2326 : (Jvm.Cond.methodLink "DeltaIndexModel" (475 : Nat) ({ cls := "DeltaIndexModel", name := "isAsFirst", desc := "()Z" } : Jvm.MethodName)) ∈ lw_all := lw_g (lw_at lw_m10 24 rfl) rfl
theorem q2327 : (Jvm.Cond.privateMethod ({ cls := "DeltaIndexModel", name := "isAsFirst", desc := "()Z" } : Jvm.MethodName)) ∈ lw_tbl := lw_at lw_m10 25 rfl
theorem q2328 : (Jvm.Cond.instanceMethod ({ cls := "DeltaIndexModel", name := "isAsFirst", desc := "()Z" } : Jvm.MethodName)) ∈ lw_all := lw_g (lw_at lw_m10 26 rfl) rfl
theorem q2329 : (Jvm.Cond.code ({ cls := "DeltaIndexModel", name := "isAsFirst", desc := "()Z" } : Jvm.MethodName) prog_20_method_115_code (2 : Nat) (Option.some Jvm.ClassFile.FieldType.boolean)) ∈ lw_all := lw_g (lw_at lw_m10 27 rfl) rfl
theorem q2330 : (Jvm.Cond.methodLink "DeltaIndexModel" (478 : Nat) ({ cls := "DeltaIndexModel", name := "givesBack", desc := "()V" } : Jvm.MethodName)) ∈ lw_all := lw_g (lw_at lw_m10 28 rfl) rfl
theorem q2331 : (Jvm.Cond.privateMethod ({ cls := "DeltaIndexModel", name := "givesBack", desc := "()V" } : Jvm.MethodName)) ∈ lw_tbl := lw_at lw_m10 29 rfl
theorem q2332 : (Jvm.Cond.instanceMethod ({ cls := "DeltaIndexModel", name := "givesBack", desc := "()V" } : Jvm.MethodName)) ∈ lw_all := lw_g (lw_at lw_m10 30 rfl) rfl
theorem q2333 : (Jvm.Cond.code ({ cls := "DeltaIndexModel", name := "givesBack", desc := "()V" } : Jvm.MethodName) prog_20_method_112_code (2 : Nat) (Option.none : Option Jvm.ClassFile.FieldType)) ∈ lw_all := lw_g (lw_at lw_m10 31 rfl) rfl
theorem q2335 : (Jvm.Cond.instanceMethod ({ cls := "DeltaIndexModel", name := "hold", desc := "(I)Z" } : Jvm.MethodName)) ∈ lw_all := lw_g (lw_at lw_m10 33 rfl) rfl
theorem q2336 : (Jvm.Cond.selects "DeltaIndexModel" ({ cls := "DeltaIndexModel", name := "hold", desc := "(I)Z" } : Jvm.MethodName) ({ cls := "DeltaIndexModel", name := "hold", desc := "(I)Z" } : Jvm.MethodName)) ∈ lw_all := lw_g (lw_at lw_m10 34 rfl) rfl
theorem q2337 : (Jvm.Cond.code ({ cls := "DeltaIndexModel", name := "hold", desc := "(I)Z" } : Jvm.MethodName) prog_20_method_117_code (3 : Nat) (Option.some Jvm.ClassFile.FieldType.boolean)) ∈ lw_all := lw_g (lw_at lw_m10 35 rfl) rfl
theorem q2339 : (Jvm.Cond.instanceMethod ({ cls := "DeltaIndexModel", name := "restore", desc := "(I)Z" } : Jvm.MethodName)) ∈ lw_all := lw_g (lw_at lw_m10 37 rfl) rfl
theorem q2340 : (Jvm.Cond.selects "DeltaIndexModel" ({ cls := "DeltaIndexModel", name := "restore", desc := "(I)Z" } : Jvm.MethodName) ({ cls := "DeltaIndexModel", name := "restore", desc := "(I)Z" } : Jvm.MethodName)) ∈ lw_all := lw_g (lw_at lw_m10 38 rfl) rfl
theorem q2341 : (Jvm.Cond.code ({ cls := "DeltaIndexModel", name := "restore", desc := "(I)Z" } : Jvm.MethodName) prog_20_method_118_code (3 : Nat) (Option.some Jvm.ClassFile.FieldType.boolean)) ∈ lw_all := lw_g (lw_at lw_m10 39 rfl) rfl
theorem q2343 : (Jvm.Cond.instanceMethod ({ cls := "DeltaIndexModel", name := "count", desc := "(I)I" } : Jvm.MethodName)) ∈ lw_all := lw_g (lw_at lw_m10 41 rfl) rfl
theorem q2344 : (Jvm.Cond.selects "DeltaIndexModel" ({ cls := "DeltaIndexModel", name := "count", desc := "(I)I" } : Jvm.MethodName) ({ cls := "DeltaIndexModel", name := "count", desc := "(I)I" } : Jvm.MethodName)) ∈ lw_all := lw_g (lw_at lw_m10 42 rfl) rfl
theorem q2345 : (Jvm.Cond.code ({ cls := "DeltaIndexModel", name := "count", desc := "(I)I" } : Jvm.MethodName) prog_20_method_120_code (4 : Nat) (Option.some Jvm.ClassFile.FieldType.int)) ∈ lw_all := lw_g (lw_at lw_m10 43 rfl) rfl
theorem q2346 : (Jvm.Cond.methodLink "DeltaIndexModel" (481 : Nat) ({ cls := "DeltaIndexModel", name := "sumOf", desc := "(I)I" } : Jvm.MethodName)) ∈ lw_all := lw_g (lw_at lw_m10 44 rfl) rfl
theorem q2347 : (Jvm.Cond.privateMethod ({ cls := "DeltaIndexModel", name := "sumOf", desc := "(I)I" } : Jvm.MethodName)) ∈ lw_tbl := lw_at lw_m10 45 rfl
theorem q2348 : (Jvm.Cond.instanceMethod ({ cls := "DeltaIndexModel", name := "sumOf", desc := "(I)I" } : Jvm.MethodName)) ∈ lw_all := lw_g (lw_at lw_m10 46 rfl) rfl
theorem q2349 : (Jvm.Cond.code ({ cls := "DeltaIndexModel", name := "sumOf", desc := "(I)I" } : Jvm.MethodName) prog_20_method_119_code (4 : Nat) (Option.some Jvm.ClassFile.FieldType.int)) ∈ lw_all := lw_g (lw_at lw_m10 47 rfl) rfl
theorem q2367 : (Jvm.Cond.castable "DeltaIndexModel" "java/lang/Object") ∈ lw_tbl := lw_at lw_m10 65 rfl
theorem in_X9 : ∀ w ∈ wsX90, w ∈ lw_all := lw_in wsX90 [1809, 1811, 1813, 1815, 1817, 1819, 1821, 1823, 1825, 1827, 1829, 1831, 1833, 1835, 1837, 1839, 1841, 1843, 1845, 1847, 1849, 1851, 1853, 1855, 1857, 1859, 1861, 1863, 1865, 1867, 1869, 1871, 1873, 1875, 1877, 1879, 1881, 1883, 1885, 1887, 1889, 1891, 1893, 1895, 1897, 1899, 1901, 1903, 1905, 1907, 1909, 1911, 1913, 1915, 1917] (by decide +kernel) (by decide +kernel)
