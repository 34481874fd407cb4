/-! DeltaIndex$Tokens -/
set_option maxRecDepth 100000
def RX2 : String := "DeltaIndex$Tokens"
def TX2 : u_T := fun k => match k with
  | 0 => ("DeltaIndex$Tokens", "words", "[Ljava/lang/String;", true)
  | 1 => ("DeltaIndex$Tokens", "tape", "[B", true)
  | 2 => ("DeltaIndex$Tokens", "taped", "I", false)
  | 3 => ("DeltaIndex$Tokens", "sort", "[B", true)
  | 4 => ("DeltaIndex$Tokens", "from", "[S", true)
  | 5 => ("DeltaIndex$Tokens", "to", "[S", true)
  | 6 => ("DeltaIndex$Tokens", "what", "[S", true)
  | _ => ("DeltaIndex$Tokens", "many", "I", false)
def tyX2 : Nat → FieldType := fun k => match k with
  | 0 => .array (.object "java/lang/String")
  | 1 => .array .byte
  | 2 => .int
  | 3 => .array .byte
  | 4 => .array .short
  | 5 => .array .short
  | 6 => .array .short
  | _ => .int
abbrev wsX20 : List Cond := u_ws RX2 TX2 8
theorem nmX2 : ∀ a, a < 8 → ∀ b, b < 8 → a ≠ b → (TX2 a).2.1 ≠ (TX2 b).2.1 := by decide +kernel
theorem tyX2_ok : ∀ k, k < 8 → parseFieldDescriptor (TX2 k).2.2.1 = some (tyX2 k) := by decide +kernel
abbrev cX2_init : ByteArray := prog_17_method_1_code
def yX2_init : MethodName := ⟨RX2, "<init>", "()V"⟩
def dkwX2_init_6 : List UInt8 := [17, 7, 209, 188, 9, 181, 0, 64, 42, 17, 7, 209, 188, 9, 181, 0, 67, 177]
abbrev dktX2_init_6 : List UInt8 := dkwX2_init_6 ++ []
def dkwX2_init_5 : List UInt8 := [188, 8, 181, 0, 53, 42, 17, 7, 209, 188, 8, 181, 0, 57, 42, 17, 7, 209, 188, 9, 181, 0, 60, 42]
abbrev dktX2_init_5 : List UInt8 := dkwX2_init_5 ++ dktX2_init_6
def dkwX2_init_4 : List UInt8 := [16, 15, 18, 41, 83, 89, 16, 16, 18, 43, 83, 89, 16, 17, 18, 45, 83, 181, 0, 47, 42, 17, 7, 208]
abbrev dktX2_init_4 : List UInt8 := dkwX2_init_4 ++ dktX2_init_5
def dkwX2_init_3 : List UInt8 := [16, 11, 18, 33, 83, 89, 16, 12, 18, 35, 83, 89, 16, 13, 18, 37, 83, 89, 16, 14, 18, 39, 83, 89]
abbrev dktX2_init_3 : List UInt8 := dkwX2_init_3 ++ dktX2_init_4
def dkwX2_init_2 : List UInt8 := [16, 7, 18, 25, 83, 89, 16, 8, 18, 27, 83, 89, 16, 9, 18, 29, 83, 89, 16, 10, 18, 31, 83, 89]
abbrev dktX2_init_2 : List UInt8 := dkwX2_init_2 ++ dktX2_init_3
def dkwX2_init_1 : List UInt8 := [83, 89, 6, 18, 17, 83, 89, 7, 18, 19, 83, 89, 8, 18, 21, 83, 89, 16, 6, 18, 23, 83, 89]
abbrev dktX2_init_1 : List UInt8 := dkwX2_init_1 ++ dktX2_init_2
def dkwX2_init_0 : List UInt8 := [42, 183, 0, 3, 42, 16, 18, 189, 0, 9, 89, 3, 18, 11, 83, 89, 4, 18, 13, 83, 89, 5, 18, 15]
abbrev dktX2_init_0 : List UInt8 := dkwX2_init_0 ++ dktX2_init_1
theorem dksX2_init_0 : cX2_init.data.toList.drop 0 = dktX2_init_0 := by decide +kernel
theorem dksX2_init_1 : cX2_init.data.toList.drop 24 = dktX2_init_1 := dk_seg dksX2_init_0 24 rfl rfl
theorem dksX2_init_2 : cX2_init.data.toList.drop 47 = dktX2_init_2 := dk_seg dksX2_init_1 23 rfl rfl
theorem dksX2_init_3 : cX2_init.data.toList.drop 71 = dktX2_init_3 := dk_seg dksX2_init_2 24 rfl rfl
theorem dksX2_init_4 : cX2_init.data.toList.drop 95 = dktX2_init_4 := dk_seg dksX2_init_3 24 rfl rfl
theorem dksX2_init_5 : cX2_init.data.toList.drop 119 = dktX2_init_5 := dk_seg dksX2_init_4 24 rfl rfl
theorem dksX2_init_6 : cX2_init.data.toList.drop 143 = dktX2_init_6 := dk_seg dksX2_init_5 24 rfl rfl
theorem dX2_init_0 : decode cX2_init 0 = .ok (.aload_n 0, 1) := dk_42 (dk_at dksX2_init_0 0 rfl rfl)
theorem dX2_init_1 : decode cX2_init 1 = .ok (.invokespecial 3, 3) := dk_183 0 3 (dk_at dksX2_init_0 1 rfl rfl)
theorem dX2_init_4 : decode cX2_init 4 = .ok (.aload_n 0, 1) := dk_42 (dk_at dksX2_init_0 4 rfl rfl)
theorem dX2_init_5 : decode cX2_init 5 = .ok (.bipush 18, 2) := dk_16 18 (dk_at dksX2_init_0 5 rfl rfl)
theorem dX2_init_7 : decode cX2_init 7 = .ok (.anewarray 9, 3) := dk_189 0 9 (dk_at dksX2_init_0 7 rfl rfl)
theorem dX2_init_10 : decode cX2_init 10 = .ok (.dup, 1) := dk_89 (dk_at dksX2_init_0 10 rfl rfl)
theorem dX2_init_11 : decode cX2_init 11 = .ok (.iconst 0, 1) := dk_3 (dk_at dksX2_init_0 11 rfl rfl)
theorem dX2_init_12 : decode cX2_init 12 = .ok (.ldc 11, 2) := dk_18 11 (dk_at dksX2_init_0 12 rfl rfl)
theorem dX2_init_14 : decode cX2_init 14 = .ok (.aastore, 1) := dk_83 (dk_at dksX2_init_0 14 rfl rfl)
theorem dX2_init_15 : decode cX2_init 15 = .ok (.dup, 1) := dk_89 (dk_at dksX2_init_0 15 rfl rfl)
theorem dX2_init_16 : decode cX2_init 16 = .ok (.iconst 1, 1) := dk_4 (dk_at dksX2_init_0 16 rfl rfl)
theorem dX2_init_17 : decode cX2_init 17 = .ok (.ldc 13, 2) := dk_18 13 (dk_at dksX2_init_0 17 rfl rfl)
theorem dX2_init_19 : decode cX2_init 19 = .ok (.aastore, 1) := dk_83 (dk_at dksX2_init_0 19 rfl rfl)
theorem dX2_init_20 : decode cX2_init 20 = .ok (.dup, 1) := dk_89 (dk_at dksX2_init_0 20 rfl rfl)
theorem dX2_init_21 : decode cX2_init 21 = .ok (.iconst 2, 1) := dk_5 (dk_at dksX2_init_0 21 rfl rfl)
theorem dX2_init_22 : decode cX2_init 22 = .ok (.ldc 15, 2) := dk_18 15 (dk_at dksX2_init_0 22 rfl rfl)
theorem dX2_init_24 : decode cX2_init 24 = .ok (.aastore, 1) := dk_83 (dk_at dksX2_init_1 0 rfl rfl)
theorem dX2_init_25 : decode cX2_init 25 = .ok (.dup, 1) := dk_89 (dk_at dksX2_init_1 1 rfl rfl)
theorem dX2_init_26 : decode cX2_init 26 = .ok (.iconst 3, 1) := dk_6 (dk_at dksX2_init_1 2 rfl rfl)
theorem dX2_init_27 : decode cX2_init 27 = .ok (.ldc 17, 2) := dk_18 17 (dk_at dksX2_init_1 3 rfl rfl)
theorem dX2_init_29 : decode cX2_init 29 = .ok (.aastore, 1) := dk_83 (dk_at dksX2_init_1 5 rfl rfl)
theorem dX2_init_30 : decode cX2_init 30 = .ok (.dup, 1) := dk_89 (dk_at dksX2_init_1 6 rfl rfl)
theorem dX2_init_31 : decode cX2_init 31 = .ok (.iconst 4, 1) := dk_7 (dk_at dksX2_init_1 7 rfl rfl)
theorem dX2_init_32 : decode cX2_init 32 = .ok (.ldc 19, 2) := dk_18 19 (dk_at dksX2_init_1 8 rfl rfl)
theorem dX2_init_34 : decode cX2_init 34 = .ok (.aastore, 1) := dk_83 (dk_at dksX2_init_1 10 rfl rfl)
theorem dX2_init_35 : decode cX2_init 35 = .ok (.dup, 1) := dk_89 (dk_at dksX2_init_1 11 rfl rfl)
theorem dX2_init_36 : decode cX2_init 36 = .ok (.iconst 5, 1) := dk_8 (dk_at dksX2_init_1 12 rfl rfl)
theorem dX2_init_37 : decode cX2_init 37 = .ok (.ldc 21, 2) := dk_18 21 (dk_at dksX2_init_1 13 rfl rfl)
theorem dX2_init_39 : decode cX2_init 39 = .ok (.aastore, 1) := dk_83 (dk_at dksX2_init_1 15 rfl rfl)
theorem dX2_init_40 : decode cX2_init 40 = .ok (.dup, 1) := dk_89 (dk_at dksX2_init_1 16 rfl rfl)
theorem dX2_init_41 : decode cX2_init 41 = .ok (.bipush 6, 2) := dk_16 6 (dk_at dksX2_init_1 17 rfl rfl)
theorem dX2_init_43 : decode cX2_init 43 = .ok (.ldc 23, 2) := dk_18 23 (dk_at dksX2_init_1 19 rfl rfl)
theorem dX2_init_45 : decode cX2_init 45 = .ok (.aastore, 1) := dk_83 (dk_at dksX2_init_1 21 rfl rfl)
theorem dX2_init_46 : decode cX2_init 46 = .ok (.dup, 1) := dk_89 (dk_at dksX2_init_1 22 rfl rfl)
theorem dX2_init_47 : decode cX2_init 47 = .ok (.bipush 7, 2) := dk_16 7 (dk_at dksX2_init_2 0 rfl rfl)
theorem dX2_init_49 : decode cX2_init 49 = .ok (.ldc 25, 2) := dk_18 25 (dk_at dksX2_init_2 2 rfl rfl)
theorem dX2_init_51 : decode cX2_init 51 = .ok (.aastore, 1) := dk_83 (dk_at dksX2_init_2 4 rfl rfl)
theorem dX2_init_52 : decode cX2_init 52 = .ok (.dup, 1) := dk_89 (dk_at dksX2_init_2 5 rfl rfl)
theorem dX2_init_53 : decode cX2_init 53 = .ok (.bipush 8, 2) := dk_16 8 (dk_at dksX2_init_2 6 rfl rfl)
theorem dX2_init_55 : decode cX2_init 55 = .ok (.ldc 27, 2) := dk_18 27 (dk_at dksX2_init_2 8 rfl rfl)
theorem dX2_init_57 : decode cX2_init 57 = .ok (.aastore, 1) := dk_83 (dk_at dksX2_init_2 10 rfl rfl)
theorem dX2_init_58 : decode cX2_init 58 = .ok (.dup, 1) := dk_89 (dk_at dksX2_init_2 11 rfl rfl)
theorem dX2_init_59 : decode cX2_init 59 = .ok (.bipush 9, 2) := dk_16 9 (dk_at dksX2_init_2 12 rfl rfl)
theorem dX2_init_61 : decode cX2_init 61 = .ok (.ldc 29, 2) := dk_18 29 (dk_at dksX2_init_2 14 rfl rfl)
theorem dX2_init_63 : decode cX2_init 63 = .ok (.aastore, 1) := dk_83 (dk_at dksX2_init_2 16 rfl rfl)
theorem dX2_init_64 : decode cX2_init 64 = .ok (.dup, 1) := dk_89 (dk_at dksX2_init_2 17 rfl rfl)
theorem dX2_init_65 : decode cX2_init 65 = .ok (.bipush 10, 2) := dk_16 10 (dk_at dksX2_init_2 18 rfl rfl)
theorem dX2_init_67 : decode cX2_init 67 = .ok (.ldc 31, 2) := dk_18 31 (dk_at dksX2_init_2 20 rfl rfl)
theorem dX2_init_69 : decode cX2_init 69 = .ok (.aastore, 1) := dk_83 (dk_at dksX2_init_2 22 rfl rfl)
theorem dX2_init_70 : decode cX2_init 70 = .ok (.dup, 1) := dk_89 (dk_at dksX2_init_2 23 rfl rfl)
theorem dX2_init_71 : decode cX2_init 71 = .ok (.bipush 11, 2) := dk_16 11 (dk_at dksX2_init_3 0 rfl rfl)
theorem dX2_init_73 : decode cX2_init 73 = .ok (.ldc 33, 2) := dk_18 33 (dk_at dksX2_init_3 2 rfl rfl)
theorem dX2_init_75 : decode cX2_init 75 = .ok (.aastore, 1) := dk_83 (dk_at dksX2_init_3 4 rfl rfl)
theorem dX2_init_76 : decode cX2_init 76 = .ok (.dup, 1) := dk_89 (dk_at dksX2_init_3 5 rfl rfl)
theorem dX2_init_77 : decode cX2_init 77 = .ok (.bipush 12, 2) := dk_16 12 (dk_at dksX2_init_3 6 rfl rfl)
theorem dX2_init_79 : decode cX2_init 79 = .ok (.ldc 35, 2) := dk_18 35 (dk_at dksX2_init_3 8 rfl rfl)
theorem dX2_init_81 : decode cX2_init 81 = .ok (.aastore, 1) := dk_83 (dk_at dksX2_init_3 10 rfl rfl)
theorem dX2_init_82 : decode cX2_init 82 = .ok (.dup, 1) := dk_89 (dk_at dksX2_init_3 11 rfl rfl)
theorem dX2_init_83 : decode cX2_init 83 = .ok (.bipush 13, 2) := dk_16 13 (dk_at dksX2_init_3 12 rfl rfl)
theorem dX2_init_85 : decode cX2_init 85 = .ok (.ldc 37, 2) := dk_18 37 (dk_at dksX2_init_3 14 rfl rfl)
theorem dX2_init_87 : decode cX2_init 87 = .ok (.aastore, 1) := dk_83 (dk_at dksX2_init_3 16 rfl rfl)
theorem dX2_init_88 : decode cX2_init 88 = .ok (.dup, 1) := dk_89 (dk_at dksX2_init_3 17 rfl rfl)
theorem dX2_init_89 : decode cX2_init 89 = .ok (.bipush 14, 2) := dk_16 14 (dk_at dksX2_init_3 18 rfl rfl)
theorem dX2_init_91 : decode cX2_init 91 = .ok (.ldc 39, 2) := dk_18 39 (dk_at dksX2_init_3 20 rfl rfl)
theorem dX2_init_93 : decode cX2_init 93 = .ok (.aastore, 1) := dk_83 (dk_at dksX2_init_3 22 rfl rfl)
theorem dX2_init_94 : decode cX2_init 94 = .ok (.dup, 1) := dk_89 (dk_at dksX2_init_3 23 rfl rfl)
theorem dX2_init_95 : decode cX2_init 95 = .ok (.bipush 15, 2) := dk_16 15 (dk_at dksX2_init_4 0 rfl rfl)
theorem dX2_init_97 : decode cX2_init 97 = .ok (.ldc 41, 2) := dk_18 41 (dk_at dksX2_init_4 2 rfl rfl)
theorem dX2_init_99 : decode cX2_init 99 = .ok (.aastore, 1) := dk_83 (dk_at dksX2_init_4 4 rfl rfl)
theorem dX2_init_100 : decode cX2_init 100 = .ok (.dup, 1) := dk_89 (dk_at dksX2_init_4 5 rfl rfl)
theorem dX2_init_101 : decode cX2_init 101 = .ok (.bipush 16, 2) := dk_16 16 (dk_at dksX2_init_4 6 rfl rfl)
theorem dX2_init_103 : decode cX2_init 103 = .ok (.ldc 43, 2) := dk_18 43 (dk_at dksX2_init_4 8 rfl rfl)
theorem dX2_init_105 : decode cX2_init 105 = .ok (.aastore, 1) := dk_83 (dk_at dksX2_init_4 10 rfl rfl)
theorem dX2_init_106 : decode cX2_init 106 = .ok (.dup, 1) := dk_89 (dk_at dksX2_init_4 11 rfl rfl)
theorem dX2_init_107 : decode cX2_init 107 = .ok (.bipush 17, 2) := dk_16 17 (dk_at dksX2_init_4 12 rfl rfl)
theorem dX2_init_109 : decode cX2_init 109 = .ok (.ldc 45, 2) := dk_18 45 (dk_at dksX2_init_4 14 rfl rfl)
theorem dX2_init_111 : decode cX2_init 111 = .ok (.aastore, 1) := dk_83 (dk_at dksX2_init_4 16 rfl rfl)
theorem dX2_init_112 : decode cX2_init 112 = .ok (.putfield 47, 3) := dk_181 0 47 (dk_at dksX2_init_4 17 rfl rfl)
theorem dX2_init_115 : decode cX2_init 115 = .ok (.aload_n 0, 1) := dk_42 (dk_at dksX2_init_4 20 rfl rfl)
theorem dX2_init_116 : decode cX2_init 116 = .ok (.sipush 2000, 3) := dk_17 7 208 (dk_at dksX2_init_4 21 rfl rfl)
theorem dX2_init_119 : decode cX2_init 119 = .ok (.newarray .byte, 2) := dk_188_8 (dk_at dksX2_init_5 0 rfl rfl)
theorem dX2_init_121 : decode cX2_init 121 = .ok (.putfield 53, 3) := dk_181 0 53 (dk_at dksX2_init_5 2 rfl rfl)
theorem dX2_init_124 : decode cX2_init 124 = .ok (.aload_n 0, 1) := dk_42 (dk_at dksX2_init_5 5 rfl rfl)
theorem dX2_init_125 : decode cX2_init 125 = .ok (.sipush 2001, 3) := dk_17 7 209 (dk_at dksX2_init_5 6 rfl rfl)
theorem dX2_init_128 : decode cX2_init 128 = .ok (.newarray .byte, 2) := dk_188_8 (dk_at dksX2_init_5 9 rfl rfl)
theorem dX2_init_130 : decode cX2_init 130 = .ok (.putfield 57, 3) := dk_181 0 57 (dk_at dksX2_init_5 11 rfl rfl)
theorem dX2_init_133 : decode cX2_init 133 = .ok (.aload_n 0, 1) := dk_42 (dk_at dksX2_init_5 14 rfl rfl)
theorem dX2_init_134 : decode cX2_init 134 = .ok (.sipush 2001, 3) := dk_17 7 209 (dk_at dksX2_init_5 15 rfl rfl)
theorem dX2_init_137 : decode cX2_init 137 = .ok (.newarray .short, 2) := dk_188_9 (dk_at dksX2_init_5 18 rfl rfl)
theorem dX2_init_139 : decode cX2_init 139 = .ok (.putfield 60, 3) := dk_181 0 60 (dk_at dksX2_init_5 20 rfl rfl)
theorem dX2_init_142 : decode cX2_init 142 = .ok (.aload_n 0, 1) := dk_42 (dk_at dksX2_init_5 23 rfl rfl)
theorem dX2_init_143 : decode cX2_init 143 = .ok (.sipush 2001, 3) := dk_17 7 209 (dk_at dksX2_init_6 0 rfl rfl)
theorem dX2_init_146 : decode cX2_init 146 = .ok (.newarray .short, 2) := dk_188_9 (dk_at dksX2_init_6 3 rfl rfl)
theorem dX2_init_148 : decode cX2_init 148 = .ok (.putfield 64, 3) := dk_181 0 64 (dk_at dksX2_init_6 5 rfl rfl)
theorem dX2_init_151 : decode cX2_init 151 = .ok (.aload_n 0, 1) := dk_42 (dk_at dksX2_init_6 8 rfl rfl)
theorem dX2_init_152 : decode cX2_init 152 = .ok (.sipush 2001, 3) := dk_17 7 209 (dk_at dksX2_init_6 9 rfl rfl)
theorem dX2_init_155 : decode cX2_init 155 = .ok (.newarray .short, 2) := dk_188_9 (dk_at dksX2_init_6 12 rfl rfl)
theorem dX2_init_157 : decode cX2_init 157 = .ok (.putfield 67, 3) := dk_181 0 67 (dk_at dksX2_init_6 14 rfl rfl)
theorem dX2_init_160 : decode cX2_init 160 = .ok (.return_, 1) := dk_177 (dk_at dksX2_init_6 17 rfl rfl)
abbrev cX2_read : ByteArray := prog_17_method_8_code
def yX2_read : MethodName := ⟨RX2, "read", "()V"⟩
def dkwX2_read_9 : List UInt8 := [61, 21, 4, 60, 167, 255, 53, 28, 153, 0, 11, 42, 7, 27, 27, 3, 182, 0, 103, 177]
abbrev dktX2_read_9 : List UInt8 := dkwX2_read_9 ++ []
def dkwX2_read_8 : List UInt8 := [54, 5, 42, 21, 5, 27, 21, 4, 21, 6, 182, 0, 103, 21, 5, 8, 159, 0, 7, 4, 167, 0, 4, 3]
abbrev dktX2_read_8 : List UInt8 := dkwX2_read_8 ++ dktX2_read_9
def dkwX2_read_7 : List UInt8 := [4, 54, 5, 167, 0, 22, 42, 27, 182, 0, 100, 54, 6, 21, 6, 154, 0, 7, 8, 167, 0, 4, 5]
abbrev dktX2_read_7 : List UInt8 := dkwX2_read_7 ++ dktX2_read_8
def dkwX2_read_6 : List UInt8 := [182, 0, 97, 153, 0, 9, 132, 4, 1, 167, 255, 244, 21, 4, 27, 100, 7, 164, 0, 7, 8, 167, 0, 4]
abbrev dktX2_read_6 : List UInt8 := dkwX2_read_6 ++ dktX2_read_7
def dkwX2_read_5 : List UInt8 := [164, 0, 7, 8, 167, 0, 4, 3, 54, 5, 167, 0, 63, 42, 27, 182, 0, 97, 153, 0, 36, 42, 21, 4]
abbrev dktX2_read_5 : List UInt8 := dkwX2_read_5 ++ dktX2_read_6
def dkwX2_read_4 : List UInt8 := [21, 4, 182, 0, 93, 54, 6, 21, 6, 155, 0, 7, 6, 167, 0, 17, 21, 4, 27, 100, 16, 8]
abbrev dktX2_read_4 : List UInt8 := dkwX2_read_4 ++ dktX2_read_5
def dkwX2_read_3 : List UInt8 := [182, 0, 89, 153, 0, 55, 42, 21, 4, 182, 0, 89, 153, 0, 9, 132, 4, 1, 167, 255, 244, 42, 27]
abbrev dktX2_read_3 : List UInt8 := dkwX2_read_3 ++ dktX2_read_4
def dkwX2_read_2 : List UInt8 := [16, 10, 159, 0, 9, 29, 16, 13, 160, 0, 9, 132, 1, 1, 167, 255, 205, 3, 54, 6, 42, 27]
abbrev dktX2_read_2 : List UInt8 := dkwX2_read_2 ++ dktX2_read_3
def dkwX2_read_1 : List UInt8 := [180, 0, 53, 27, 51, 62, 27, 4, 96, 54, 4, 29, 16, 32, 159, 0, 21, 29, 16, 9, 159, 0, 15, 29]
abbrev dktX2_read_1 : List UInt8 := dkwX2_read_1 ++ dktX2_read_2
def dkwX2_read_0 : List UInt8 := [42, 3, 181, 0, 78, 3, 60, 4, 61, 27, 42, 180, 0, 70, 162, 0, 201, 28, 153, 0, 197, 42]
abbrev dktX2_read_0 : List UInt8 := dkwX2_read_0 ++ dktX2_read_1
theorem dksX2_read_0 : cX2_read.data.toList.drop 0 = dktX2_read_0 := by decide +kernel
theorem dksX2_read_1 : cX2_read.data.toList.drop 22 = dktX2_read_1 := dk_seg dksX2_read_0 22 rfl rfl
theorem dksX2_read_2 : cX2_read.data.toList.drop 46 = dktX2_read_2 := dk_seg dksX2_read_1 24 rfl rfl
theorem dksX2_read_3 : cX2_read.data.toList.drop 68 = dktX2_read_3 := dk_seg dksX2_read_2 22 rfl rfl
theorem dksX2_read_4 : cX2_read.data.toList.drop 91 = dktX2_read_4 := dk_seg dksX2_read_3 23 rfl rfl
theorem dksX2_read_5 : cX2_read.data.toList.drop 113 = dktX2_read_5 := dk_seg dksX2_read_4 22 rfl rfl
theorem dksX2_read_6 : cX2_read.data.toList.drop 137 = dktX2_read_6 := dk_seg dksX2_read_5 24 rfl rfl
theorem dksX2_read_7 : cX2_read.data.toList.drop 161 = dktX2_read_7 := dk_seg dksX2_read_6 24 rfl rfl
theorem dksX2_read_8 : cX2_read.data.toList.drop 184 = dktX2_read_8 := dk_seg dksX2_read_7 23 rfl rfl
theorem dksX2_read_9 : cX2_read.data.toList.drop 208 = dktX2_read_9 := dk_seg dksX2_read_8 24 rfl rfl
theorem dX2_read_0 : decode cX2_read 0 = .ok (.aload_n 0, 1) := dk_42 (dk_at dksX2_read_0 0 rfl rfl)
theorem dX2_read_1 : decode cX2_read 1 = .ok (.iconst 0, 1) := dk_3 (dk_at dksX2_read_0 1 rfl rfl)
theorem dX2_read_2 : decode cX2_read 2 = .ok (.putfield 78, 3) := dk_181 0 78 (dk_at dksX2_read_0 2 rfl rfl)
theorem dX2_read_5 : decode cX2_read 5 = .ok (.iconst 0, 1) := dk_3 (dk_at dksX2_read_0 5 rfl rfl)
theorem dX2_read_6 : decode cX2_read 6 = .ok (.istore_n 1, 1) := dk_60 (dk_at dksX2_read_0 6 rfl rfl)
theorem dX2_read_7 : decode cX2_read 7 = .ok (.iconst 1, 1) := dk_4 (dk_at dksX2_read_0 7 rfl rfl)
theorem dX2_read_8 : decode cX2_read 8 = .ok (.istore_n 2, 1) := dk_61 (dk_at dksX2_read_0 8 rfl rfl)
theorem dX2_read_9 : decode cX2_read 9 = .ok (.iload_n 1, 1) := dk_27 (dk_at dksX2_read_0 9 rfl rfl)
theorem dX2_read_10 : decode cX2_read 10 = .ok (.aload_n 0, 1) := dk_42 (dk_at dksX2_read_0 10 rfl rfl)
theorem dX2_read_11 : decode cX2_read 11 = .ok (.getfield 70, 3) := dk_180 0 70 (dk_at dksX2_read_0 11 rfl rfl)
theorem dX2_read_14 : decode cX2_read 14 = .ok (.if_icmp .ge 201, 3) := dk_162 0 201 (dk_at dksX2_read_0 14 rfl rfl)
theorem dX2_read_17 : decode cX2_read 17 = .ok (.iload_n 2, 1) := dk_28 (dk_at dksX2_read_0 17 rfl rfl)
theorem dX2_read_18 : decode cX2_read 18 = .ok (.ifCond .eq 197, 3) := dk_153 0 197 (dk_at dksX2_read_0 18 rfl rfl)
theorem dX2_read_21 : decode cX2_read 21 = .ok (.aload_n 0, 1) := dk_42 (dk_at dksX2_read_0 21 rfl rfl)
theorem dX2_read_22 : decode cX2_read 22 = .ok (.getfield 53, 3) := dk_180 0 53 (dk_at dksX2_read_1 0 rfl rfl)
theorem dX2_read_25 : decode cX2_read 25 = .ok (.iload_n 1, 1) := dk_27 (dk_at dksX2_read_1 3 rfl rfl)
theorem dX2_read_26 : decode cX2_read 26 = .ok (.baload, 1) := dk_51 (dk_at dksX2_read_1 4 rfl rfl)
theorem dX2_read_27 : decode cX2_read 27 = .ok (.istore_n 3, 1) := dk_62 (dk_at dksX2_read_1 5 rfl rfl)
theorem dX2_read_28 : decode cX2_read 28 = .ok (.iload_n 1, 1) := dk_27 (dk_at dksX2_read_1 6 rfl rfl)
theorem dX2_read_29 : decode cX2_read 29 = .ok (.iconst 1, 1) := dk_4 (dk_at dksX2_read_1 7 rfl rfl)
theorem dX2_read_30 : decode cX2_read 30 = .ok (.iadd, 1) := dk_96 (dk_at dksX2_read_1 8 rfl rfl)
theorem dX2_read_31 : decode cX2_read 31 = .ok (.istore 4, 2) := dk_54 4 (dk_at dksX2_read_1 9 rfl rfl)
theorem dX2_read_33 : decode cX2_read 33 = .ok (.iload_n 3, 1) := dk_29 (dk_at dksX2_read_1 11 rfl rfl)
theorem dX2_read_34 : decode cX2_read 34 = .ok (.bipush 32, 2) := dk_16 32 (dk_at dksX2_read_1 12 rfl rfl)
theorem dX2_read_36 : decode cX2_read 36 = .ok (.if_icmp .eq 21, 3) := dk_159 0 21 (dk_at dksX2_read_1 14 rfl rfl)
theorem dX2_read_39 : decode cX2_read 39 = .ok (.iload_n 3, 1) := dk_29 (dk_at dksX2_read_1 17 rfl rfl)
theorem dX2_read_40 : decode cX2_read 40 = .ok (.bipush 9, 2) := dk_16 9 (dk_at dksX2_read_1 18 rfl rfl)
theorem dX2_read_42 : decode cX2_read 42 = .ok (.if_icmp .eq 15, 3) := dk_159 0 15 (dk_at dksX2_read_1 20 rfl rfl)
theorem dX2_read_45 : decode cX2_read 45 = .ok (.iload_n 3, 1) := dk_29 (dk_at dksX2_read_1 23 rfl rfl)
theorem dX2_read_46 : decode cX2_read 46 = .ok (.bipush 10, 2) := dk_16 10 (dk_at dksX2_read_2 0 rfl rfl)
theorem dX2_read_48 : decode cX2_read 48 = .ok (.if_icmp .eq 9, 3) := dk_159 0 9 (dk_at dksX2_read_2 2 rfl rfl)
theorem dX2_read_51 : decode cX2_read 51 = .ok (.iload_n 3, 1) := dk_29 (dk_at dksX2_read_2 5 rfl rfl)
theorem dX2_read_52 : decode cX2_read 52 = .ok (.bipush 13, 2) := dk_16 13 (dk_at dksX2_read_2 6 rfl rfl)
theorem dX2_read_54 : decode cX2_read 54 = .ok (.if_icmp .ne 9, 3) := dk_160 0 9 (dk_at dksX2_read_2 8 rfl rfl)
theorem dX2_read_57 : decode cX2_read 57 = .ok (.iinc 1 1, 3) := dk_132 1 1 (dk_at dksX2_read_2 11 rfl rfl)
theorem dX2_read_60 : decode cX2_read 60 = .ok (.goto (-51), 3) := dk_167 255 205 (dk_at dksX2_read_2 14 rfl rfl)
theorem dX2_read_63 : decode cX2_read 63 = .ok (.iconst 0, 1) := dk_3 (dk_at dksX2_read_2 17 rfl rfl)
theorem dX2_read_64 : decode cX2_read 64 = .ok (.istore 6, 2) := dk_54 6 (dk_at dksX2_read_2 18 rfl rfl)
theorem dX2_read_66 : decode cX2_read 66 = .ok (.aload_n 0, 1) := dk_42 (dk_at dksX2_read_2 20 rfl rfl)
theorem dX2_read_67 : decode cX2_read 67 = .ok (.iload_n 1, 1) := dk_27 (dk_at dksX2_read_2 21 rfl rfl)
theorem dX2_read_68 : decode cX2_read 68 = .ok (.invokevirtual 89, 3) := dk_182 0 89 (dk_at dksX2_read_3 0 rfl rfl)
theorem dX2_read_71 : decode cX2_read 71 = .ok (.ifCond .eq 55, 3) := dk_153 0 55 (dk_at dksX2_read_3 3 rfl rfl)
theorem dX2_read_74 : decode cX2_read 74 = .ok (.aload_n 0, 1) := dk_42 (dk_at dksX2_read_3 6 rfl rfl)
theorem dX2_read_75 : decode cX2_read 75 = .ok (.iload 4, 2) := dk_21 4 (dk_at dksX2_read_3 7 rfl rfl)
theorem dX2_read_77 : decode cX2_read 77 = .ok (.invokevirtual 89, 3) := dk_182 0 89 (dk_at dksX2_read_3 9 rfl rfl)
theorem dX2_read_80 : decode cX2_read 80 = .ok (.ifCond .eq 9, 3) := dk_153 0 9 (dk_at dksX2_read_3 12 rfl rfl)
theorem dX2_read_83 : decode cX2_read 83 = .ok (.iinc 4 1, 3) := dk_132 4 1 (dk_at dksX2_read_3 15 rfl rfl)
theorem dX2_read_86 : decode cX2_read 86 = .ok (.goto (-12), 3) := dk_167 255 244 (dk_at dksX2_read_3 18 rfl rfl)
theorem dX2_read_89 : decode cX2_read 89 = .ok (.aload_n 0, 1) := dk_42 (dk_at dksX2_read_3 21 rfl rfl)
theorem dX2_read_90 : decode cX2_read 90 = .ok (.iload_n 1, 1) := dk_27 (dk_at dksX2_read_3 22 rfl rfl)
theorem dX2_read_91 : decode cX2_read 91 = .ok (.iload 4, 2) := dk_21 4 (dk_at dksX2_read_4 0 rfl rfl)
theorem dX2_read_93 : decode cX2_read 93 = .ok (.invokevirtual 93, 3) := dk_182 0 93 (dk_at dksX2_read_4 2 rfl rfl)
theorem dX2_read_96 : decode cX2_read 96 = .ok (.istore 6, 2) := dk_54 6 (dk_at dksX2_read_4 5 rfl rfl)
theorem dX2_read_98 : decode cX2_read 98 = .ok (.iload 6, 2) := dk_21 6 (dk_at dksX2_read_4 7 rfl rfl)
theorem dX2_read_100 : decode cX2_read 100 = .ok (.ifCond .lt 7, 3) := dk_155 0 7 (dk_at dksX2_read_4 9 rfl rfl)
theorem dX2_read_103 : decode cX2_read 103 = .ok (.iconst 3, 1) := dk_6 (dk_at dksX2_read_4 12 rfl rfl)
theorem dX2_read_104 : decode cX2_read 104 = .ok (.goto 17, 3) := dk_167 0 17 (dk_at dksX2_read_4 13 rfl rfl)
theorem dX2_read_107 : decode cX2_read 107 = .ok (.iload 4, 2) := dk_21 4 (dk_at dksX2_read_4 16 rfl rfl)
theorem dX2_read_109 : decode cX2_read 109 = .ok (.iload_n 1, 1) := dk_27 (dk_at dksX2_read_4 18 rfl rfl)
theorem dX2_read_110 : decode cX2_read 110 = .ok (.isub, 1) := dk_100 (dk_at dksX2_read_4 19 rfl rfl)
theorem dX2_read_111 : decode cX2_read 111 = .ok (.bipush 8, 2) := dk_16 8 (dk_at dksX2_read_4 20 rfl rfl)
theorem dX2_read_113 : decode cX2_read 113 = .ok (.if_icmp .le 7, 3) := dk_164 0 7 (dk_at dksX2_read_5 0 rfl rfl)
theorem dX2_read_116 : decode cX2_read 116 = .ok (.iconst 5, 1) := dk_8 (dk_at dksX2_read_5 3 rfl rfl)
theorem dX2_read_117 : decode cX2_read 117 = .ok (.goto 4, 3) := dk_167 0 4 (dk_at dksX2_read_5 4 rfl rfl)
theorem dX2_read_120 : decode cX2_read 120 = .ok (.iconst 0, 1) := dk_3 (dk_at dksX2_read_5 7 rfl rfl)
theorem dX2_read_121 : decode cX2_read 121 = .ok (.istore 5, 2) := dk_54 5 (dk_at dksX2_read_5 8 rfl rfl)
theorem dX2_read_123 : decode cX2_read 123 = .ok (.goto 63, 3) := dk_167 0 63 (dk_at dksX2_read_5 10 rfl rfl)
theorem dX2_read_126 : decode cX2_read 126 = .ok (.aload_n 0, 1) := dk_42 (dk_at dksX2_read_5 13 rfl rfl)
theorem dX2_read_127 : decode cX2_read 127 = .ok (.iload_n 1, 1) := dk_27 (dk_at dksX2_read_5 14 rfl rfl)
theorem dX2_read_128 : decode cX2_read 128 = .ok (.invokevirtual 97, 3) := dk_182 0 97 (dk_at dksX2_read_5 15 rfl rfl)
theorem dX2_read_131 : decode cX2_read 131 = .ok (.ifCond .eq 36, 3) := dk_153 0 36 (dk_at dksX2_read_5 18 rfl rfl)
theorem dX2_read_134 : decode cX2_read 134 = .ok (.aload_n 0, 1) := dk_42 (dk_at dksX2_read_5 21 rfl rfl)
theorem dX2_read_135 : decode cX2_read 135 = .ok (.iload 4, 2) := dk_21 4 (dk_at dksX2_read_5 22 rfl rfl)
theorem dX2_read_137 : decode cX2_read 137 = .ok (.invokevirtual 97, 3) := dk_182 0 97 (dk_at dksX2_read_6 0 rfl rfl)
theorem dX2_read_140 : decode cX2_read 140 = .ok (.ifCond .eq 9, 3) := dk_153 0 9 (dk_at dksX2_read_6 3 rfl rfl)
theorem dX2_read_143 : decode cX2_read 143 = .ok (.iinc 4 1, 3) := dk_132 4 1 (dk_at dksX2_read_6 6 rfl rfl)
theorem dX2_read_146 : decode cX2_read 146 = .ok (.goto (-12), 3) := dk_167 255 244 (dk_at dksX2_read_6 9 rfl rfl)
theorem dX2_read_149 : decode cX2_read 149 = .ok (.iload 4, 2) := dk_21 4 (dk_at dksX2_read_6 12 rfl rfl)
theorem dX2_read_151 : decode cX2_read 151 = .ok (.iload_n 1, 1) := dk_27 (dk_at dksX2_read_6 14 rfl rfl)
theorem dX2_read_152 : decode cX2_read 152 = .ok (.isub, 1) := dk_100 (dk_at dksX2_read_6 15 rfl rfl)
theorem dX2_read_153 : decode cX2_read 153 = .ok (.iconst 4, 1) := dk_7 (dk_at dksX2_read_6 16 rfl rfl)
theorem dX2_read_154 : decode cX2_read 154 = .ok (.if_icmp .le 7, 3) := dk_164 0 7 (dk_at dksX2_read_6 17 rfl rfl)
theorem dX2_read_157 : decode cX2_read 157 = .ok (.iconst 5, 1) := dk_8 (dk_at dksX2_read_6 20 rfl rfl)
theorem dX2_read_158 : decode cX2_read 158 = .ok (.goto 4, 3) := dk_167 0 4 (dk_at dksX2_read_6 21 rfl rfl)
theorem dX2_read_161 : decode cX2_read 161 = .ok (.iconst 1, 1) := dk_4 (dk_at dksX2_read_7 0 rfl rfl)
theorem dX2_read_162 : decode cX2_read 162 = .ok (.istore 5, 2) := dk_54 5 (dk_at dksX2_read_7 1 rfl rfl)
theorem dX2_read_164 : decode cX2_read 164 = .ok (.goto 22, 3) := dk_167 0 22 (dk_at dksX2_read_7 3 rfl rfl)
theorem dX2_read_167 : decode cX2_read 167 = .ok (.aload_n 0, 1) := dk_42 (dk_at dksX2_read_7 6 rfl rfl)
theorem dX2_read_168 : decode cX2_read 168 = .ok (.iload_n 1, 1) := dk_27 (dk_at dksX2_read_7 7 rfl rfl)
theorem dX2_read_169 : decode cX2_read 169 = .ok (.invokevirtual 100, 3) := dk_182 0 100 (dk_at dksX2_read_7 8 rfl rfl)
theorem dX2_read_172 : decode cX2_read 172 = .ok (.istore 6, 2) := dk_54 6 (dk_at dksX2_read_7 11 rfl rfl)
theorem dX2_read_174 : decode cX2_read 174 = .ok (.iload 6, 2) := dk_21 6 (dk_at dksX2_read_7 13 rfl rfl)
theorem dX2_read_176 : decode cX2_read 176 = .ok (.ifCond .ne 7, 3) := dk_154 0 7 (dk_at dksX2_read_7 15 rfl rfl)
theorem dX2_read_179 : decode cX2_read 179 = .ok (.iconst 5, 1) := dk_8 (dk_at dksX2_read_7 18 rfl rfl)
theorem dX2_read_180 : decode cX2_read 180 = .ok (.goto 4, 3) := dk_167 0 4 (dk_at dksX2_read_7 19 rfl rfl)
theorem dX2_read_183 : decode cX2_read 183 = .ok (.iconst 2, 1) := dk_5 (dk_at dksX2_read_7 22 rfl rfl)
theorem dX2_read_184 : decode cX2_read 184 = .ok (.istore 5, 2) := dk_54 5 (dk_at dksX2_read_8 0 rfl rfl)
theorem dX2_read_186 : decode cX2_read 186 = .ok (.aload_n 0, 1) := dk_42 (dk_at dksX2_read_8 2 rfl rfl)
theorem dX2_read_187 : decode cX2_read 187 = .ok (.iload 5, 2) := dk_21 5 (dk_at dksX2_read_8 3 rfl rfl)
theorem dX2_read_189 : decode cX2_read 189 = .ok (.iload_n 1, 1) := dk_27 (dk_at dksX2_read_8 5 rfl rfl)
theorem dX2_read_190 : decode cX2_read 190 = .ok (.iload 4, 2) := dk_21 4 (dk_at dksX2_read_8 6 rfl rfl)
theorem dX2_read_192 : decode cX2_read 192 = .ok (.iload 6, 2) := dk_21 6 (dk_at dksX2_read_8 8 rfl rfl)
theorem dX2_read_194 : decode cX2_read 194 = .ok (.invokevirtual 103, 3) := dk_182 0 103 (dk_at dksX2_read_8 10 rfl rfl)
theorem dX2_read_197 : decode cX2_read 197 = .ok (.iload 5, 2) := dk_21 5 (dk_at dksX2_read_8 13 rfl rfl)
theorem dX2_read_199 : decode cX2_read 199 = .ok (.iconst 5, 1) := dk_8 (dk_at dksX2_read_8 15 rfl rfl)
theorem dX2_read_200 : decode cX2_read 200 = .ok (.if_icmp .eq 7, 3) := dk_159 0 7 (dk_at dksX2_read_8 16 rfl rfl)
theorem dX2_read_203 : decode cX2_read 203 = .ok (.iconst 1, 1) := dk_4 (dk_at dksX2_read_8 19 rfl rfl)
theorem dX2_read_204 : decode cX2_read 204 = .ok (.goto 4, 3) := dk_167 0 4 (dk_at dksX2_read_8 20 rfl rfl)
theorem dX2_read_207 : decode cX2_read 207 = .ok (.iconst 0, 1) := dk_3 (dk_at dksX2_read_8 23 rfl rfl)
theorem dX2_read_208 : decode cX2_read 208 = .ok (.istore_n 2, 1) := dk_61 (dk_at dksX2_read_9 0 rfl rfl)
theorem dX2_read_209 : decode cX2_read 209 = .ok (.iload 4, 2) := dk_21 4 (dk_at dksX2_read_9 1 rfl rfl)
theorem dX2_read_211 : decode cX2_read 211 = .ok (.istore_n 1, 1) := dk_60 (dk_at dksX2_read_9 3 rfl rfl)
theorem dX2_read_212 : decode cX2_read 212 = .ok (.goto (-203), 3) := dk_167 255 53 (dk_at dksX2_read_9 4 rfl rfl)
theorem dX2_read_215 : decode cX2_read 215 = .ok (.iload_n 2, 1) := dk_28 (dk_at dksX2_read_9 7 rfl rfl)
theorem dX2_read_216 : decode cX2_read 216 = .ok (.ifCond .eq 11, 3) := dk_153 0 11 (dk_at dksX2_read_9 8 rfl rfl)
theorem dX2_read_219 : decode cX2_read 219 = .ok (.aload_n 0, 1) := dk_42 (dk_at dksX2_read_9 11 rfl rfl)
theorem dX2_read_220 : decode cX2_read 220 = .ok (.iconst 4, 1) := dk_7 (dk_at dksX2_read_9 12 rfl rfl)
theorem dX2_read_221 : decode cX2_read 221 = .ok (.iload_n 1, 1) := dk_27 (dk_at dksX2_read_9 13 rfl rfl)
theorem dX2_read_222 : decode cX2_read 222 = .ok (.iload_n 1, 1) := dk_27 (dk_at dksX2_read_9 14 rfl rfl)
theorem dX2_read_223 : decode cX2_read 223 = .ok (.iconst 0, 1) := dk_3 (dk_at dksX2_read_9 15 rfl rfl)
theorem dX2_read_224 : decode cX2_read 224 = .ok (.invokevirtual 103, 3) := dk_182 0 103 (dk_at dksX2_read_9 16 rfl rfl)
theorem dX2_read_227 : decode cX2_read 227 = .ok (.return_, 1) := dk_177 (dk_at dksX2_read_9 19 rfl rfl)
abbrev cX2_isLetter : ByteArray := prog_17_method_4_code
def yX2_isLetter : MethodName := ⟨RX2, "isLetter", "(I)Z"⟩
def dkwX2_isLetter_1 : List UInt8 := [3, 172]
abbrev dktX2_isLetter_1 : List UInt8 := dkwX2_isLetter_1 ++ []
def dkwX2_isLetter_0 : List UInt8 := [42, 27, 182, 0, 74, 16, 97, 161, 0, 17, 42, 27, 182, 0, 74, 16, 122, 163, 0, 7, 4, 167, 0, 4]
abbrev dktX2_isLetter_0 : List UInt8 := dkwX2_isLetter_0 ++ dktX2_isLetter_1
theorem dksX2_isLetter_0 : cX2_isLetter.data.toList.drop 0 = dktX2_isLetter_0 := by decide +kernel
theorem dksX2_isLetter_1 : cX2_isLetter.data.toList.drop 24 = dktX2_isLetter_1 := dk_seg dksX2_isLetter_0 24 rfl rfl
theorem dX2_isLetter_0 : decode cX2_isLetter 0 = .ok (.aload_n 0, 1) := dk_42 (dk_at dksX2_isLetter_0 0 rfl rfl)
theorem dX2_isLetter_1 : decode cX2_isLetter 1 = .ok (.iload_n 1, 1) := dk_27 (dk_at dksX2_isLetter_0 1 rfl rfl)
theorem dX2_isLetter_2 : decode cX2_isLetter 2 = .ok (.invokevirtual 74, 3) := dk_182 0 74 (dk_at dksX2_isLetter_0 2 rfl rfl)
theorem dX2_isLetter_5 : decode cX2_isLetter 5 = .ok (.bipush 97, 2) := dk_16 97 (dk_at dksX2_isLetter_0 5 rfl rfl)
theorem dX2_isLetter_7 : decode cX2_isLetter 7 = .ok (.if_icmp .lt 17, 3) := dk_161 0 17 (dk_at dksX2_isLetter_0 7 rfl rfl)
theorem dX2_isLetter_10 : decode cX2_isLetter 10 = .ok (.aload_n 0, 1) := dk_42 (dk_at dksX2_isLetter_0 10 rfl rfl)
theorem dX2_isLetter_11 : decode cX2_isLetter 11 = .ok (.iload_n 1, 1) := dk_27 (dk_at dksX2_isLetter_0 11 rfl rfl)
theorem dX2_isLetter_12 : decode cX2_isLetter 12 = .ok (.invokevirtual 74, 3) := dk_182 0 74 (dk_at dksX2_isLetter_0 12 rfl rfl)
theorem dX2_isLetter_15 : decode cX2_isLetter 15 = .ok (.bipush 122, 2) := dk_16 122 (dk_at dksX2_isLetter_0 15 rfl rfl)
theorem dX2_isLetter_17 : decode cX2_isLetter 17 = .ok (.if_icmp .gt 7, 3) := dk_163 0 7 (dk_at dksX2_isLetter_0 17 rfl rfl)
theorem dX2_isLetter_20 : decode cX2_isLetter 20 = .ok (.iconst 1, 1) := dk_4 (dk_at dksX2_isLetter_0 20 rfl rfl)
theorem dX2_isLetter_21 : decode cX2_isLetter 21 = .ok (.goto 4, 3) := dk_167 0 4 (dk_at dksX2_isLetter_0 21 rfl rfl)
theorem dX2_isLetter_24 : decode cX2_isLetter 24 = .ok (.iconst 0, 1) := dk_3 (dk_at dksX2_isLetter_1 0 rfl rfl)
theorem dX2_isLetter_25 : decode cX2_isLetter 25 = .ok (.ireturn, 1) := dk_172 (dk_at dksX2_isLetter_1 1 rfl rfl)
abbrev cX2_at : ByteArray := prog_17_method_2_code
def yX2_at : MethodName := ⟨RX2, "at", "(I)I"⟩
def dkwX2_at_0 : List UInt8 := [27, 42, 180, 0, 70, 162, 0, 12, 42, 180, 0, 53, 27, 51, 167, 0, 4, 3, 172]
abbrev dktX2_at_0 : List UInt8 := dkwX2_at_0 ++ []
theorem dksX2_at_0 : cX2_at.data.toList.drop 0 = dktX2_at_0 := by decide +kernel
theorem dX2_at_0 : decode cX2_at 0 = .ok (.iload_n 1, 1) := dk_27 (dk_at dksX2_at_0 0 rfl rfl)
theorem dX2_at_1 : decode cX2_at 1 = .ok (.aload_n 0, 1) := dk_42 (dk_at dksX2_at_0 1 rfl rfl)
theorem dX2_at_2 : decode cX2_at 2 = .ok (.getfield 70, 3) := dk_180 0 70 (dk_at dksX2_at_0 2 rfl rfl)
theorem dX2_at_5 : decode cX2_at 5 = .ok (.if_icmp .ge 12, 3) := dk_162 0 12 (dk_at dksX2_at_0 5 rfl rfl)
theorem dX2_at_8 : decode cX2_at 8 = .ok (.aload_n 0, 1) := dk_42 (dk_at dksX2_at_0 8 rfl rfl)
theorem dX2_at_9 : decode cX2_at 9 = .ok (.getfield 53, 3) := dk_180 0 53 (dk_at dksX2_at_0 9 rfl rfl)
theorem dX2_at_12 : decode cX2_at 12 = .ok (.iload_n 1, 1) := dk_27 (dk_at dksX2_at_0 12 rfl rfl)
theorem dX2_at_13 : decode cX2_at 13 = .ok (.baload, 1) := dk_51 (dk_at dksX2_at_0 13 rfl rfl)
theorem dX2_at_14 : decode cX2_at 14 = .ok (.goto 4, 3) := dk_167 0 4 (dk_at dksX2_at_0 14 rfl rfl)
theorem dX2_at_17 : decode cX2_at 17 = .ok (.iconst 0, 1) := dk_3 (dk_at dksX2_at_0 17 rfl rfl)
theorem dX2_at_18 : decode cX2_at 18 = .ok (.ireturn, 1) := dk_172 (dk_at dksX2_at_0 18 rfl rfl)
abbrev cX2_word : ByteArray := prog_17_method_6_code
def yX2_word : MethodName := ⟨RX2, "word", "(II)I"⟩
def dkwX2_word_4 : List UInt8 := [167, 255, 165, 2, 172]
abbrev dktX2_word_4 : List UInt8 := dkwX2_word_4 ++ []
def dkwX2_word_3 : List UInt8 := [167, 0, 4, 3, 54, 4, 132, 5, 1, 167, 255, 212, 21, 4, 153, 0, 5, 29, 172, 132, 3, 1]
abbrev dktX2_word_3 : List UInt8 := dkwX2_word_3 ++ dktX2_word_4
def dkwX2_word_2 : List UInt8 := [42, 180, 0, 47, 29, 50, 21, 5, 27, 100, 182, 0, 85, 42, 180, 0, 53, 21, 5, 51, 160, 0, 7, 4]
abbrev dktX2_word_2 : List UInt8 := dkwX2_word_2 ++ dktX2_word_3
def dkwX2_word_1 : List UInt8 := [160, 0, 7, 4, 167, 0, 4, 3, 54, 4, 27, 54, 5, 21, 5, 28, 162, 0, 44, 21, 4, 153, 0, 39]
abbrev dktX2_word_1 : List UInt8 := dkwX2_word_1 ++ dktX2_word_2
def dkwX2_word_0 : List UInt8 := [3, 62, 29, 42, 180, 0, 47, 190, 162, 0, 88, 42, 180, 0, 47, 29, 50, 182, 0, 81, 28, 27, 100]
abbrev dktX2_word_0 : List UInt8 := dkwX2_word_0 ++ dktX2_word_1
theorem dksX2_word_0 : cX2_word.data.toList.drop 0 = dktX2_word_0 := by decide +kernel
theorem dksX2_word_1 : cX2_word.data.toList.drop 23 = dktX2_word_1 := dk_seg dksX2_word_0 23 rfl rfl
theorem dksX2_word_2 : cX2_word.data.toList.drop 47 = dktX2_word_2 := dk_seg dksX2_word_1 24 rfl rfl
theorem dksX2_word_3 : cX2_word.data.toList.drop 71 = dktX2_word_3 := dk_seg dksX2_word_2 24 rfl rfl
theorem dksX2_word_4 : cX2_word.data.toList.drop 93 = dktX2_word_4 := dk_seg dksX2_word_3 22 rfl rfl
theorem dX2_word_0 : decode cX2_word 0 = .ok (.iconst 0, 1) := dk_3 (dk_at dksX2_word_0 0 rfl rfl)
theorem dX2_word_1 : decode cX2_word 1 = .ok (.istore_n 3, 1) := dk_62 (dk_at dksX2_word_0 1 rfl rfl)
theorem dX2_word_2 : decode cX2_word 2 = .ok (.iload_n 3, 1) := dk_29 (dk_at dksX2_word_0 2 rfl rfl)
theorem dX2_word_3 : decode cX2_word 3 = .ok (.aload_n 0, 1) := dk_42 (dk_at dksX2_word_0 3 rfl rfl)
theorem dX2_word_4 : decode cX2_word 4 = .ok (.getfield 47, 3) := dk_180 0 47 (dk_at dksX2_word_0 4 rfl rfl)
theorem dX2_word_7 : decode cX2_word 7 = .ok (.arraylength, 1) := dk_190 (dk_at dksX2_word_0 7 rfl rfl)
theorem dX2_word_8 : decode cX2_word 8 = .ok (.if_icmp .ge 88, 3) := dk_162 0 88 (dk_at dksX2_word_0 8 rfl rfl)
theorem dX2_word_11 : decode cX2_word 11 = .ok (.aload_n 0, 1) := dk_42 (dk_at dksX2_word_0 11 rfl rfl)
theorem dX2_word_12 : decode cX2_word 12 = .ok (.getfield 47, 3) := dk_180 0 47 (dk_at dksX2_word_0 12 rfl rfl)
theorem dX2_word_15 : decode cX2_word 15 = .ok (.iload_n 3, 1) := dk_29 (dk_at dksX2_word_0 15 rfl rfl)
theorem dX2_word_16 : decode cX2_word 16 = .ok (.aaload, 1) := dk_50 (dk_at dksX2_word_0 16 rfl rfl)
theorem dX2_word_17 : decode cX2_word 17 = .ok (.invokevirtual 81, 3) := dk_182 0 81 (dk_at dksX2_word_0 17 rfl rfl)
theorem dX2_word_20 : decode cX2_word 20 = .ok (.iload_n 2, 1) := dk_28 (dk_at dksX2_word_0 20 rfl rfl)
theorem dX2_word_21 : decode cX2_word 21 = .ok (.iload_n 1, 1) := dk_27 (dk_at dksX2_word_0 21 rfl rfl)
theorem dX2_word_22 : decode cX2_word 22 = .ok (.isub, 1) := dk_100 (dk_at dksX2_word_0 22 rfl rfl)
theorem dX2_word_23 : decode cX2_word 23 = .ok (.if_icmp .ne 7, 3) := dk_160 0 7 (dk_at dksX2_word_1 0 rfl rfl)
theorem dX2_word_26 : decode cX2_word 26 = .ok (.iconst 1, 1) := dk_4 (dk_at dksX2_word_1 3 rfl rfl)
theorem dX2_word_27 : decode cX2_word 27 = .ok (.goto 4, 3) := dk_167 0 4 (dk_at dksX2_word_1 4 rfl rfl)
theorem dX2_word_30 : decode cX2_word 30 = .ok (.iconst 0, 1) := dk_3 (dk_at dksX2_word_1 7 rfl rfl)
theorem dX2_word_31 : decode cX2_word 31 = .ok (.istore 4, 2) := dk_54 4 (dk_at dksX2_word_1 8 rfl rfl)
theorem dX2_word_33 : decode cX2_word 33 = .ok (.iload_n 1, 1) := dk_27 (dk_at dksX2_word_1 10 rfl rfl)
theorem dX2_word_34 : decode cX2_word 34 = .ok (.istore 5, 2) := dk_54 5 (dk_at dksX2_word_1 11 rfl rfl)
theorem dX2_word_36 : decode cX2_word 36 = .ok (.iload 5, 2) := dk_21 5 (dk_at dksX2_word_1 13 rfl rfl)
theorem dX2_word_38 : decode cX2_word 38 = .ok (.iload_n 2, 1) := dk_28 (dk_at dksX2_word_1 15 rfl rfl)
theorem dX2_word_39 : decode cX2_word 39 = .ok (.if_icmp .ge 44, 3) := dk_162 0 44 (dk_at dksX2_word_1 16 rfl rfl)
theorem dX2_word_42 : decode cX2_word 42 = .ok (.iload 4, 2) := dk_21 4 (dk_at dksX2_word_1 19 rfl rfl)
theorem dX2_word_44 : decode cX2_word 44 = .ok (.ifCond .eq 39, 3) := dk_153 0 39 (dk_at dksX2_word_1 21 rfl rfl)
theorem dX2_word_47 : decode cX2_word 47 = .ok (.aload_n 0, 1) := dk_42 (dk_at dksX2_word_2 0 rfl rfl)
theorem dX2_word_48 : decode cX2_word 48 = .ok (.getfield 47, 3) := dk_180 0 47 (dk_at dksX2_word_2 1 rfl rfl)
theorem dX2_word_51 : decode cX2_word 51 = .ok (.iload_n 3, 1) := dk_29 (dk_at dksX2_word_2 4 rfl rfl)
theorem dX2_word_52 : decode cX2_word 52 = .ok (.aaload, 1) := dk_50 (dk_at dksX2_word_2 5 rfl rfl)
theorem dX2_word_53 : decode cX2_word 53 = .ok (.iload 5, 2) := dk_21 5 (dk_at dksX2_word_2 6 rfl rfl)
theorem dX2_word_55 : decode cX2_word 55 = .ok (.iload_n 1, 1) := dk_27 (dk_at dksX2_word_2 8 rfl rfl)
theorem dX2_word_56 : decode cX2_word 56 = .ok (.isub, 1) := dk_100 (dk_at dksX2_word_2 9 rfl rfl)
theorem dX2_word_57 : decode cX2_word 57 = .ok (.invokevirtual 85, 3) := dk_182 0 85 (dk_at dksX2_word_2 10 rfl rfl)
theorem dX2_word_60 : decode cX2_word 60 = .ok (.aload_n 0, 1) := dk_42 (dk_at dksX2_word_2 13 rfl rfl)
theorem dX2_word_61 : decode cX2_word 61 = .ok (.getfield 53, 3) := dk_180 0 53 (dk_at dksX2_word_2 14 rfl rfl)
theorem dX2_word_64 : decode cX2_word 64 = .ok (.iload 5, 2) := dk_21 5 (dk_at dksX2_word_2 17 rfl rfl)
theorem dX2_word_66 : decode cX2_word 66 = .ok (.baload, 1) := dk_51 (dk_at dksX2_word_2 19 rfl rfl)
theorem dX2_word_67 : decode cX2_word 67 = .ok (.if_icmp .ne 7, 3) := dk_160 0 7 (dk_at dksX2_word_2 20 rfl rfl)
theorem dX2_word_70 : decode cX2_word 70 = .ok (.iconst 1, 1) := dk_4 (dk_at dksX2_word_2 23 rfl rfl)
theorem dX2_word_71 : decode cX2_word 71 = .ok (.goto 4, 3) := dk_167 0 4 (dk_at dksX2_word_3 0 rfl rfl)
theorem dX2_word_74 : decode cX2_word 74 = .ok (.iconst 0, 1) := dk_3 (dk_at dksX2_word_3 3 rfl rfl)
theorem dX2_word_75 : decode cX2_word 75 = .ok (.istore 4, 2) := dk_54 4 (dk_at dksX2_word_3 4 rfl rfl)
theorem dX2_word_77 : decode cX2_word 77 = .ok (.iinc 5 1, 3) := dk_132 5 1 (dk_at dksX2_word_3 6 rfl rfl)
theorem dX2_word_80 : decode cX2_word 80 = .ok (.goto (-44), 3) := dk_167 255 212 (dk_at dksX2_word_3 9 rfl rfl)
theorem dX2_word_83 : decode cX2_word 83 = .ok (.iload 4, 2) := dk_21 4 (dk_at dksX2_word_3 12 rfl rfl)
theorem dX2_word_85 : decode cX2_word 85 = .ok (.ifCond .eq 5, 3) := dk_153 0 5 (dk_at dksX2_word_3 14 rfl rfl)
theorem dX2_word_88 : decode cX2_word 88 = .ok (.iload_n 3, 1) := dk_29 (dk_at dksX2_word_3 17 rfl rfl)
theorem dX2_word_89 : decode cX2_word 89 = .ok (.ireturn, 1) := dk_172 (dk_at dksX2_word_3 18 rfl rfl)
theorem dX2_word_90 : decode cX2_word 90 = .ok (.iinc 3 1, 3) := dk_132 3 1 (dk_at dksX2_word_3 19 rfl rfl)
theorem dX2_word_93 : decode cX2_word 93 = .ok (.goto (-91), 3) := dk_167 255 165 (dk_at dksX2_word_4 0 rfl rfl)
theorem dX2_word_96 : decode cX2_word 96 = .ok (.iconst (-1), 1) := dk_2 (dk_at dksX2_word_4 3 rfl rfl)
theorem dX2_word_97 : decode cX2_word 97 = .ok (.ireturn, 1) := dk_172 (dk_at dksX2_word_4 4 rfl rfl)
abbrev cX2_isDigit : ByteArray := prog_17_method_3_code
def yX2_isDigit : MethodName := ⟨RX2, "isDigit", "(I)Z"⟩
def dkwX2_isDigit_1 : List UInt8 := [3, 172]
abbrev dktX2_isDigit_1 : List UInt8 := dkwX2_isDigit_1 ++ []
def dkwX2_isDigit_0 : List UInt8 := [42, 27, 182, 0, 74, 16, 48, 161, 0, 17, 42, 27, 182, 0, 74, 16, 57, 163, 0, 7, 4, 167, 0, 4]
abbrev dktX2_isDigit_0 : List UInt8 := dkwX2_isDigit_0 ++ dktX2_isDigit_1
theorem dksX2_isDigit_0 : cX2_isDigit.data.toList.drop 0 = dktX2_isDigit_0 := by decide +kernel
theorem dksX2_isDigit_1 : cX2_isDigit.data.toList.drop 24 = dktX2_isDigit_1 := dk_seg dksX2_isDigit_0 24 rfl rfl
theorem dX2_isDigit_0 : decode cX2_isDigit 0 = .ok (.aload_n 0, 1) := dk_42 (dk_at dksX2_isDigit_0 0 rfl rfl)
theorem dX2_isDigit_1 : decode cX2_isDigit 1 = .ok (.iload_n 1, 1) := dk_27 (dk_at dksX2_isDigit_0 1 rfl rfl)
theorem dX2_isDigit_2 : decode cX2_isDigit 2 = .ok (.invokevirtual 74, 3) := dk_182 0 74 (dk_at dksX2_isDigit_0 2 rfl rfl)
theorem dX2_isDigit_5 : decode cX2_isDigit 5 = .ok (.bipush 48, 2) := dk_16 48 (dk_at dksX2_isDigit_0 5 rfl rfl)
theorem dX2_isDigit_7 : decode cX2_isDigit 7 = .ok (.if_icmp .lt 17, 3) := dk_161 0 17 (dk_at dksX2_isDigit_0 7 rfl rfl)
theorem dX2_isDigit_10 : decode cX2_isDigit 10 = .ok (.aload_n 0, 1) := dk_42 (dk_at dksX2_isDigit_0 10 rfl rfl)
theorem dX2_isDigit_11 : decode cX2_isDigit 11 = .ok (.iload_n 1, 1) := dk_27 (dk_at dksX2_isDigit_0 11 rfl rfl)
theorem dX2_isDigit_12 : decode cX2_isDigit 12 = .ok (.invokevirtual 74, 3) := dk_182 0 74 (dk_at dksX2_isDigit_0 12 rfl rfl)
theorem dX2_isDigit_15 : decode cX2_isDigit 15 = .ok (.bipush 57, 2) := dk_16 57 (dk_at dksX2_isDigit_0 15 rfl rfl)
theorem dX2_isDigit_17 : decode cX2_isDigit 17 = .ok (.if_icmp .gt 7, 3) := dk_163 0 7 (dk_at dksX2_isDigit_0 17 rfl rfl)
theorem dX2_isDigit_20 : decode cX2_isDigit 20 = .ok (.iconst 1, 1) := dk_4 (dk_at dksX2_isDigit_0 20 rfl rfl)
theorem dX2_isDigit_21 : decode cX2_isDigit 21 = .ok (.goto 4, 3) := dk_167 0 4 (dk_at dksX2_isDigit_0 21 rfl rfl)
theorem dX2_isDigit_24 : decode cX2_isDigit 24 = .ok (.iconst 0, 1) := dk_3 (dk_at dksX2_isDigit_1 0 rfl rfl)
theorem dX2_isDigit_25 : decode cX2_isDigit 25 = .ok (.ireturn, 1) := dk_172 (dk_at dksX2_isDigit_1 1 rfl rfl)
abbrev cX2_sign : ByteArray := prog_17_method_7_code
def yX2_sign : MethodName := ⟨RX2, "sign", "(I)I"⟩
def dkwX2_sign_2 : List UInt8 := [28, 172, 3, 172]
abbrev dktX2_sign_2 : List UInt8 := dkwX2_sign_2 ++ []
def dkwX2_sign_1 : List UInt8 := [170, 0, 0, 0, 107, 0, 0, 0, 37, 0, 0, 0, 59, 0, 0, 0, 105, 0, 0, 0, 107, 0, 0, 0, 107, 0, 0, 0, 105, 0, 0, 0, 105, 0, 0, 0, 105, 0, 0, 0, 105, 0, 0, 0, 107, 0, 0, 0, 105, 0, 0, 0, 107, 0, 0, 0, 105, 0, 0, 0, 107, 0, 0, 0, 107, 0, 0, 0, 107, 0, 0, 0, 107, 0, 0, 0, 107, 0, 0, 0, 107, 0, 0, 0, 107, 0, 0, 0, 107, 0, 0, 0, 107, 0, 0, 0, 107, 0, 0, 0, 107, 0, 0, 0, 105]
abbrev dktX2_sign_1 : List UInt8 := dkwX2_sign_1 ++ dktX2_sign_2
def dkwX2_sign_0 : List UInt8 := [42, 27, 182, 0, 74, 61, 28]
abbrev dktX2_sign_0 : List UInt8 := dkwX2_sign_0 ++ dktX2_sign_1
theorem dksX2_sign_0 : cX2_sign.data.toList.drop 0 = dktX2_sign_0 := by decide +kernel
theorem dksX2_sign_1 : cX2_sign.data.toList.drop 7 = dktX2_sign_1 := dk_seg dksX2_sign_0 7 rfl rfl
theorem dksX2_sign_2 : cX2_sign.data.toList.drop 112 = dktX2_sign_2 := dk_seg dksX2_sign_1 105 rfl rfl
theorem dX2_sign_0 : decode cX2_sign 0 = .ok (.aload_n 0, 1) := dk_42 (dk_at dksX2_sign_0 0 rfl rfl)
theorem dX2_sign_1 : decode cX2_sign 1 = .ok (.iload_n 1, 1) := dk_27 (dk_at dksX2_sign_0 1 rfl rfl)
theorem dX2_sign_2 : decode cX2_sign 2 = .ok (.invokevirtual 74, 3) := dk_182 0 74 (dk_at dksX2_sign_0 2 rfl rfl)
theorem dX2_sign_5 : decode cX2_sign 5 = .ok (.istore_n 2, 1) := dk_61 (dk_at dksX2_sign_0 5 rfl rfl)
theorem dX2_sign_6 : decode cX2_sign 6 = .ok (.iload_n 2, 1) := dk_28 (dk_at dksX2_sign_0 6 rfl rfl)
theorem dX2_sign_7 : decode cX2_sign 7 = .ok (.tableswitch 107 37 59 #[105, 107, 107, 105, 105, 105, 105, 107, 105, 107, 105, 107, 107, 107, 107, 107, 107, 107, 107, 107, 107, 107, 105], 105) := by decide +kernel
theorem dX2_sign_112 : decode cX2_sign 112 = .ok (.iload_n 2, 1) := dk_28 (dk_at dksX2_sign_2 0 rfl rfl)
theorem dX2_sign_113 : decode cX2_sign 113 = .ok (.ireturn, 1) := dk_172 (dk_at dksX2_sign_2 1 rfl rfl)
theorem dX2_sign_114 : decode cX2_sign 114 = .ok (.iconst 0, 1) := dk_3 (dk_at dksX2_sign_2 2 rfl rfl)
theorem dX2_sign_115 : decode cX2_sign 115 = .ok (.ireturn, 1) := dk_172 (dk_at dksX2_sign_2 3 rfl rfl)
abbrev cX2_add : ByteArray := prog_17_method_5_code
def yX2_add : MethodName := ⟨RX2, "add", "(IIII)V"⟩
def dkwX2_add_2 : List UInt8 := [180, 0, 78, 4, 96, 181, 0, 78, 177]
abbrev dktX2_add_2 : List UInt8 := dkwX2_add_2 ++ []
def dkwX2_add_1 : List UInt8 := [180, 0, 64, 42, 180, 0, 78, 29, 147, 86, 42, 180, 0, 67, 42, 180, 0, 78, 21, 4, 147, 86, 42, 89]
abbrev dktX2_add_1 : List UInt8 := dkwX2_add_1 ++ dktX2_add_2
def dkwX2_add_0 : List UInt8 := [42, 180, 0, 57, 42, 180, 0, 78, 27, 145, 84, 42, 180, 0, 60, 42, 180, 0, 78, 28, 147, 86, 42]
abbrev dktX2_add_0 : List UInt8 := dkwX2_add_0 ++ dktX2_add_1
theorem dksX2_add_0 : cX2_add.data.toList.drop 0 = dktX2_add_0 := by decide +kernel
theorem dksX2_add_1 : cX2_add.data.toList.drop 23 = dktX2_add_1 := dk_seg dksX2_add_0 23 rfl rfl
theorem dksX2_add_2 : cX2_add.data.toList.drop 47 = dktX2_add_2 := dk_seg dksX2_add_1 24 rfl rfl
theorem dX2_add_0 : decode cX2_add 0 = .ok (.aload_n 0, 1) := dk_42 (dk_at dksX2_add_0 0 rfl rfl)
theorem dX2_add_1 : decode cX2_add 1 = .ok (.getfield 57, 3) := dk_180 0 57 (dk_at dksX2_add_0 1 rfl rfl)
theorem dX2_add_4 : decode cX2_add 4 = .ok (.aload_n 0, 1) := dk_42 (dk_at dksX2_add_0 4 rfl rfl)
theorem dX2_add_5 : decode cX2_add 5 = .ok (.getfield 78, 3) := dk_180 0 78 (dk_at dksX2_add_0 5 rfl rfl)
theorem dX2_add_8 : decode cX2_add 8 = .ok (.iload_n 1, 1) := dk_27 (dk_at dksX2_add_0 8 rfl rfl)
theorem dX2_add_9 : decode cX2_add 9 = .ok (.i2b, 1) := dk_145 (dk_at dksX2_add_0 9 rfl rfl)
theorem dX2_add_10 : decode cX2_add 10 = .ok (.bastore, 1) := dk_84 (dk_at dksX2_add_0 10 rfl rfl)
theorem dX2_add_11 : decode cX2_add 11 = .ok (.aload_n 0, 1) := dk_42 (dk_at dksX2_add_0 11 rfl rfl)
theorem dX2_add_12 : decode cX2_add 12 = .ok (.getfield 60, 3) := dk_180 0 60 (dk_at dksX2_add_0 12 rfl rfl)
theorem dX2_add_15 : decode cX2_add 15 = .ok (.aload_n 0, 1) := dk_42 (dk_at dksX2_add_0 15 rfl rfl)
theorem dX2_add_16 : decode cX2_add 16 = .ok (.getfield 78, 3) := dk_180 0 78 (dk_at dksX2_add_0 16 rfl rfl)
theorem dX2_add_19 : decode cX2_add 19 = .ok (.iload_n 2, 1) := dk_28 (dk_at dksX2_add_0 19 rfl rfl)
theorem dX2_add_20 : decode cX2_add 20 = .ok (.i2s, 1) := dk_147 (dk_at dksX2_add_0 20 rfl rfl)
theorem dX2_add_21 : decode cX2_add 21 = .ok (.sastore, 1) := dk_86 (dk_at dksX2_add_0 21 rfl rfl)
theorem dX2_add_22 : decode cX2_add 22 = .ok (.aload_n 0, 1) := dk_42 (dk_at dksX2_add_0 22 rfl rfl)
theorem dX2_add_23 : decode cX2_add 23 = .ok (.getfield 64, 3) := dk_180 0 64 (dk_at dksX2_add_1 0 rfl rfl)
theorem dX2_add_26 : decode cX2_add 26 = .ok (.aload_n 0, 1) := dk_42 (dk_at dksX2_add_1 3 rfl rfl)
theorem dX2_add_27 : decode cX2_add 27 = .ok (.getfield 78, 3) := dk_180 0 78 (dk_at dksX2_add_1 4 rfl rfl)
theorem dX2_add_30 : decode cX2_add 30 = .ok (.iload_n 3, 1) := dk_29 (dk_at dksX2_add_1 7 rfl rfl)
theorem dX2_add_31 : decode cX2_add 31 = .ok (.i2s, 1) := dk_147 (dk_at dksX2_add_1 8 rfl rfl)
theorem dX2_add_32 : decode cX2_add 32 = .ok (.sastore, 1) := dk_86 (dk_at dksX2_add_1 9 rfl rfl)
theorem dX2_add_33 : decode cX2_add 33 = .ok (.aload_n 0, 1) := dk_42 (dk_at dksX2_add_1 10 rfl rfl)
theorem dX2_add_34 : decode cX2_add 34 = .ok (.getfield 67, 3) := dk_180 0 67 (dk_at dksX2_add_1 11 rfl rfl)
theorem dX2_add_37 : decode cX2_add 37 = .ok (.aload_n 0, 1) := dk_42 (dk_at dksX2_add_1 14 rfl rfl)
theorem dX2_add_38 : decode cX2_add 38 = .ok (.getfield 78, 3) := dk_180 0 78 (dk_at dksX2_add_1 15 rfl rfl)
theorem dX2_add_41 : decode cX2_add 41 = .ok (.iload 4, 2) := dk_21 4 (dk_at dksX2_add_1 18 rfl rfl)
theorem dX2_add_43 : decode cX2_add 43 = .ok (.i2s, 1) := dk_147 (dk_at dksX2_add_1 20 rfl rfl)
theorem dX2_add_44 : decode cX2_add 44 = .ok (.sastore, 1) := dk_86 (dk_at dksX2_add_1 21 rfl rfl)
theorem dX2_add_45 : decode cX2_add 45 = .ok (.aload_n 0, 1) := dk_42 (dk_at dksX2_add_1 22 rfl rfl)
theorem dX2_add_46 : decode cX2_add 46 = .ok (.dup, 1) := dk_89 (dk_at dksX2_add_1 23 rfl rfl)
theorem dX2_add_47 : decode cX2_add 47 = .ok (.getfield 78, 3) := dk_180 0 78 (dk_at dksX2_add_2 0 rfl rfl)
theorem dX2_add_50 : decode cX2_add 50 = .ok (.iconst 1, 1) := dk_4 (dk_at dksX2_add_2 3 rfl rfl)
theorem dX2_add_51 : decode cX2_add 51 = .ok (.iadd, 1) := dk_96 (dk_at dksX2_add_2 4 rfl rfl)
theorem dX2_add_52 : decode cX2_add 52 = .ok (.putfield 78, 3) := dk_181 0 78 (dk_at dksX2_add_2 5 rfl rfl)
theorem dX2_add_55 : decode cX2_add 55 = .ok (.return_, 1) := dk_177 (dk_at dksX2_add_2 8 rfl rfl)
abbrev cX2_text : ByteArray := prog_17_method_9_code
def yX2_text : MethodName := ⟨RX2, "text", "(I)Ljava/lang/String;"⟩
def dkwX2_text_2 : List UInt8 := [182, 0, 114, 176]
abbrev dktX2_text_2 : List UInt8 := dkwX2_text_2 ++ []
def dkwX2_text_1 : List UInt8 := [162, 0, 21, 44, 42, 180, 0, 53, 29, 51, 146, 182, 0, 110, 87, 132, 3, 1, 167, 255, 231, 44]
abbrev dktX2_text_1 : List UInt8 := dkwX2_text_1 ++ dktX2_text_2
def dkwX2_text_0 : List UInt8 := [187, 0, 107, 89, 183, 0, 109, 77, 42, 180, 0, 60, 27, 53, 62, 29, 42, 180, 0, 64, 27, 53]
abbrev dktX2_text_0 : List UInt8 := dkwX2_text_0 ++ dktX2_text_1
theorem dksX2_text_0 : cX2_text.data.toList.drop 0 = dktX2_text_0 := by decide +kernel
theorem dksX2_text_1 : cX2_text.data.toList.drop 22 = dktX2_text_1 := dk_seg dksX2_text_0 22 rfl rfl
theorem dksX2_text_2 : cX2_text.data.toList.drop 44 = dktX2_text_2 := dk_seg dksX2_text_1 22 rfl rfl
theorem dX2_text_0 : decode cX2_text 0 = .ok (.new 107, 3) := dk_187 0 107 (dk_at dksX2_text_0 0 rfl rfl)
theorem dX2_text_3 : decode cX2_text 3 = .ok (.dup, 1) := dk_89 (dk_at dksX2_text_0 3 rfl rfl)
theorem dX2_text_4 : decode cX2_text 4 = .ok (.invokespecial 109, 3) := dk_183 0 109 (dk_at dksX2_text_0 4 rfl rfl)
theorem dX2_text_7 : decode cX2_text 7 = .ok (.astore_n 2, 1) := dk_77 (dk_at dksX2_text_0 7 rfl rfl)
theorem dX2_text_8 : decode cX2_text 8 = .ok (.aload_n 0, 1) := dk_42 (dk_at dksX2_text_0 8 rfl rfl)
theorem dX2_text_9 : decode cX2_text 9 = .ok (.getfield 60, 3) := dk_180 0 60 (dk_at dksX2_text_0 9 rfl rfl)
theorem dX2_text_12 : decode cX2_text 12 = .ok (.iload_n 1, 1) := dk_27 (dk_at dksX2_text_0 12 rfl rfl)
theorem dX2_text_13 : decode cX2_text 13 = .ok (.saload, 1) := dk_53 (dk_at dksX2_text_0 13 rfl rfl)
theorem dX2_text_14 : decode cX2_text 14 = .ok (.istore_n 3, 1) := dk_62 (dk_at dksX2_text_0 14 rfl rfl)
theorem dX2_text_15 : decode cX2_text 15 = .ok (.iload_n 3, 1) := dk_29 (dk_at dksX2_text_0 15 rfl rfl)
theorem dX2_text_16 : decode cX2_text 16 = .ok (.aload_n 0, 1) := dk_42 (dk_at dksX2_text_0 16 rfl rfl)
theorem dX2_text_17 : decode cX2_text 17 = .ok (.getfield 64, 3) := dk_180 0 64 (dk_at dksX2_text_0 17 rfl rfl)
theorem dX2_text_20 : decode cX2_text 20 = .ok (.iload_n 1, 1) := dk_27 (dk_at dksX2_text_0 20 rfl rfl)
theorem dX2_text_21 : decode cX2_text 21 = .ok (.saload, 1) := dk_53 (dk_at dksX2_text_0 21 rfl rfl)
theorem dX2_text_22 : decode cX2_text 22 = .ok (.if_icmp .ge 21, 3) := dk_162 0 21 (dk_at dksX2_text_1 0 rfl rfl)
theorem dX2_text_25 : decode cX2_text 25 = .ok (.aload_n 2, 1) := dk_44 (dk_at dksX2_text_1 3 rfl rfl)
theorem dX2_text_26 : decode cX2_text 26 = .ok (.aload_n 0, 1) := dk_42 (dk_at dksX2_text_1 4 rfl rfl)
theorem dX2_text_27 : decode cX2_text 27 = .ok (.getfield 53, 3) := dk_180 0 53 (dk_at dksX2_text_1 5 rfl rfl)
theorem dX2_text_30 : decode cX2_text 30 = .ok (.iload_n 3, 1) := dk_29 (dk_at dksX2_text_1 8 rfl rfl)
theorem dX2_text_31 : decode cX2_text 31 = .ok (.baload, 1) := dk_51 (dk_at dksX2_text_1 9 rfl rfl)
theorem dX2_text_32 : decode cX2_text 32 = .ok (.i2c, 1) := dk_146 (dk_at dksX2_text_1 10 rfl rfl)
theorem dX2_text_33 : decode cX2_text 33 = .ok (.invokevirtual 110, 3) := dk_182 0 110 (dk_at dksX2_text_1 11 rfl rfl)
theorem dX2_text_36 : decode cX2_text 36 = .ok (.pop, 1) := dk_87 (dk_at dksX2_text_1 14 rfl rfl)
theorem dX2_text_37 : decode cX2_text 37 = .ok (.iinc 3 1, 3) := dk_132 3 1 (dk_at dksX2_text_1 15 rfl rfl)
theorem dX2_text_40 : decode cX2_text 40 = .ok (.goto (-25), 3) := dk_167 255 231 (dk_at dksX2_text_1 18 rfl rfl)
theorem dX2_text_43 : decode cX2_text 43 = .ok (.aload_n 2, 1) := dk_44 (dk_at dksX2_text_1 21 rfl rfl)
theorem dX2_text_44 : decode cX2_text 44 = .ok (.invokevirtual 114, 3) := dk_182 0 114 (dk_at dksX2_text_2 0 rfl rfl)
theorem dX2_text_47 : decode cX2_text 47 = .ok (.areturn, 1) := dk_176 (dk_at dksX2_text_2 3 rfl rfl)
abbrev cX2_number : ByteArray := prog_17_method_10_code
def yX2_number : MethodName := ⟨RX2, "number", "(I)I"⟩
def dkwX2_number_1 : List UInt8 := [180, 0, 53, 29, 51, 96, 16, 48, 100, 61, 132, 3, 1, 167, 255, 228, 28, 172]
abbrev dktX2_number_1 : List UInt8 := dkwX2_number_1 ++ []
def dkwX2_number_0 : List UInt8 := [3, 61, 42, 180, 0, 60, 27, 53, 62, 29, 42, 180, 0, 64, 27, 53, 162, 0, 24, 16, 10, 28, 104, 42]
abbrev dktX2_number_0 : List UInt8 := dkwX2_number_0 ++ dktX2_number_1
theorem dksX2_number_0 : cX2_number.data.toList.drop 0 = dktX2_number_0 := by decide +kernel
theorem dksX2_number_1 : cX2_number.data.toList.drop 24 = dktX2_number_1 := dk_seg dksX2_number_0 24 rfl rfl
theorem dX2_number_0 : decode cX2_number 0 = .ok (.iconst 0, 1) := dk_3 (dk_at dksX2_number_0 0 rfl rfl)
theorem dX2_number_1 : decode cX2_number 1 = .ok (.istore_n 2, 1) := dk_61 (dk_at dksX2_number_0 1 rfl rfl)
theorem dX2_number_2 : decode cX2_number 2 = .ok (.aload_n 0, 1) := dk_42 (dk_at dksX2_number_0 2 rfl rfl)
theorem dX2_number_3 : decode cX2_number 3 = .ok (.getfield 60, 3) := dk_180 0 60 (dk_at dksX2_number_0 3 rfl rfl)
theorem dX2_number_6 : decode cX2_number 6 = .ok (.iload_n 1, 1) := dk_27 (dk_at dksX2_number_0 6 rfl rfl)
theorem dX2_number_7 : decode cX2_number 7 = .ok (.saload, 1) := dk_53 (dk_at dksX2_number_0 7 rfl rfl)
theorem dX2_number_8 : decode cX2_number 8 = .ok (.istore_n 3, 1) := dk_62 (dk_at dksX2_number_0 8 rfl rfl)
theorem dX2_number_9 : decode cX2_number 9 = .ok (.iload_n 3, 1) := dk_29 (dk_at dksX2_number_0 9 rfl rfl)
theorem dX2_number_10 : decode cX2_number 10 = .ok (.aload_n 0, 1) := dk_42 (dk_at dksX2_number_0 10 rfl rfl)
theorem dX2_number_11 : decode cX2_number 11 = .ok (.getfield 64, 3) := dk_180 0 64 (dk_at dksX2_number_0 11 rfl rfl)
theorem dX2_number_14 : decode cX2_number 14 = .ok (.iload_n 1, 1) := dk_27 (dk_at dksX2_number_0 14 rfl rfl)
theorem dX2_number_15 : decode cX2_number 15 = .ok (.saload, 1) := dk_53 (dk_at dksX2_number_0 15 rfl rfl)
theorem dX2_number_16 : decode cX2_number 16 = .ok (.if_icmp .ge 24, 3) := dk_162 0 24 (dk_at dksX2_number_0 16 rfl rfl)
theorem dX2_number_19 : decode cX2_number 19 = .ok (.bipush 10, 2) := dk_16 10 (dk_at dksX2_number_0 19 rfl rfl)
theorem dX2_number_21 : decode cX2_number 21 = .ok (.iload_n 2, 1) := dk_28 (dk_at dksX2_number_0 21 rfl rfl)
theorem dX2_number_22 : decode cX2_number 22 = .ok (.imul, 1) := dk_104 (dk_at dksX2_number_0 22 rfl rfl)
theorem dX2_number_23 : decode cX2_number 23 = .ok (.aload_n 0, 1) := dk_42 (dk_at dksX2_number_0 23 rfl rfl)
theorem dX2_number_24 : decode cX2_number 24 = .ok (.getfield 53, 3) := dk_180 0 53 (dk_at dksX2_number_1 0 rfl rfl)
theorem dX2_number_27 : decode cX2_number 27 = .ok (.iload_n 3, 1) := dk_29 (dk_at dksX2_number_1 3 rfl rfl)
theorem dX2_number_28 : decode cX2_number 28 = .ok (.baload, 1) := dk_51 (dk_at dksX2_number_1 4 rfl rfl)
theorem dX2_number_29 : decode cX2_number 29 = .ok (.iadd, 1) := dk_96 (dk_at dksX2_number_1 5 rfl rfl)
theorem dX2_number_30 : decode cX2_number 30 = .ok (.bipush 48, 2) := dk_16 48 (dk_at dksX2_number_1 6 rfl rfl)
theorem dX2_number_32 : decode cX2_number 32 = .ok (.isub, 1) := dk_100 (dk_at dksX2_number_1 8 rfl rfl)
theorem dX2_number_33 : decode cX2_number 33 = .ok (.istore_n 2, 1) := dk_61 (dk_at dksX2_number_1 9 rfl rfl)
theorem dX2_number_34 : decode cX2_number 34 = .ok (.iinc 3 1, 3) := dk_132 3 1 (dk_at dksX2_number_1 10 rfl rfl)
theorem dX2_number_37 : decode cX2_number 37 = .ok (.goto (-28), 3) := dk_167 255 228 (dk_at dksX2_number_1 13 rfl rfl)
theorem dX2_number_40 : decode cX2_number 40 = .ok (.iload_n 2, 1) := dk_28 (dk_at dksX2_number_1 16 rfl rfl)
theorem dX2_number_41 : decode cX2_number 41 = .ok (.ireturn, 1) := dk_172 (dk_at dksX2_number_1 17 rfl rfl)
theorem q148 : (Jvm.Cond.initialized "DeltaIndex$Tokens") ∈ lw_all := lw_g (lw_at lw_m1 6 rfl) rfl
theorem q262 : (Jvm.Cond.instantiable "DeltaIndex$Tokens" (8 : Nat)) ∈ lw_all := lw_g (lw_at lw_m1 120 rfl) rfl
theorem q264 : (Jvm.Cond.instanceMethod ({ cls := "DeltaIndex$Tokens", name := "<init>", desc := "()V" } : Jvm.MethodName)) ∈ lw_all := lw_g (lw_at lw_m1 122 rfl) rfl
theorem q265 : (Jvm.Cond.code ({ cls := "DeltaIndex$Tokens", name := "<init>", desc := "()V" } : Jvm.MethodName) prog_17_method_1_code (1 : Nat) (Option.none : Option Jvm.ClassFile.FieldType)) ∈ lw_all := lw_g (lw_at lw_m1 123 rfl) rfl
theorem q266 : (Jvm.Cond.methodLink "DeltaIndex$Tokens" (3 : Nat) ({ cls := "java/lang/Object", name := "<init>", desc := "()V" } : Jvm.MethodName)) ∈ lw_all := lw_g (lw_at lw_m1 124 rfl) rfl
theorem q267 : (Jvm.Cond.classLink "DeltaIndex$Tokens" (9 : Nat) "java/lang/String") ∈ lw_all := lw_g (lw_at lw_m1 125 rfl) rfl
theorem q269 : (Jvm.Cond.stringRef "DeltaIndex$Tokens" (11 : Nat) "chain") ∈ lw_tbl := lw_at lw_m1 127 rfl
theorem q270 : (Jvm.Cond.stringRef "DeltaIndex$Tokens" (13 : Nat) "most") ∈ lw_tbl := lw_at lw_m1 128 rfl
theorem q271 : (Jvm.Cond.stringRef "DeltaIndex$Tokens" (15 : Nat) "least") ∈ lw_tbl := lw_at lw_m1 129 rfl
theorem q272 : (Jvm.Cond.stringRef "DeltaIndex$Tokens" (17 : Nat) "put") ∈ lw_tbl := lw_at lw_m1 130 rfl
theorem q273 : (Jvm.Cond.stringRef "DeltaIndex$Tokens" (19 : Nat) "cut") ∈ lw_tbl := lw_at lw_m1 131 rfl
theorem q274 : (Jvm.Cond.stringRef "DeltaIndex$Tokens" (21 : Nat) "get") ∈ lw_tbl := lw_at lw_m1 132 rfl
theorem q275 : (Jvm.Cond.stringRef "DeltaIndex$Tokens" (23 : Nat) "begin") ∈ lw_tbl := lw_at lw_m1 133 rfl
theorem q276 : (Jvm.Cond.stringRef "DeltaIndex$Tokens" (25 : Nat) "step") ∈ lw_tbl := lw_at lw_m1 134 rfl
theorem q277 : (Jvm.Cond.stringRef "DeltaIndex$Tokens" (27 : Nat) "close") ∈ lw_tbl := lw_at lw_m1 135 rfl
theorem q278 : (Jvm.Cond.stringRef "DeltaIndex$Tokens" (29 : Nat) "sweep") ∈ lw_tbl := lw_at lw_m1 136 rfl
theorem q279 : (Jvm.Cond.stringRef "DeltaIndex$Tokens" (31 : Nat) "do") ∈ lw_tbl := lw_at lw_m1 137 rfl
theorem q280 : (Jvm.Cond.stringRef "DeltaIndex$Tokens" (33 : Nat) "end") ∈ lw_tbl := lw_at lw_m1 138 rfl
theorem q281 : (Jvm.Cond.stringRef "DeltaIndex$Tokens" (35 : Nat) "i") ∈ lw_tbl := lw_at lw_m1 139 rfl
theorem q282 : (Jvm.Cond.stringRef "DeltaIndex$Tokens" (37 : Nat) "j") ∈ lw_tbl := lw_at lw_m1 140 rfl
theorem q283 : (Jvm.Cond.stringRef "DeltaIndex$Tokens" (39 : Nat) "keys") ∈ lw_tbl := lw_at lw_m1 141 rfl
theorem q284 : (Jvm.Cond.stringRef "DeltaIndex$Tokens" (41 : Nat) "last") ∈ lw_tbl := lw_at lw_m1 142 rfl
theorem q285 : (Jvm.Cond.stringRef "DeltaIndex$Tokens" (43 : Nat) "records") ∈ lw_tbl := lw_at lw_m1 143 rfl
theorem q286 : (Jvm.Cond.stringRef "DeltaIndex$Tokens" (45 : Nat) "lost") ∈ lw_tbl := lw_at lw_m1 144 rfl
theorem q287 : (Jvm.Cond.fieldLink "DeltaIndex$Tokens" (47 : Nat) "DeltaIndex$Tokens" "words" "[Ljava/lang/String;") ∈ lw_all := lw_g (lw_at lw_m1 145 rfl) rfl
theorem q288 : (Jvm.Cond.fieldLink "DeltaIndex$Tokens" (53 : Nat) "DeltaIndex$Tokens" "tape" "[B") ∈ lw_all := lw_g (lw_at lw_m1 146 rfl) rfl
theorem q290 : (Jvm.Cond.fieldLink "DeltaIndex$Tokens" (70 : Nat) "DeltaIndex$Tokens" "taped" "I") ∈ lw_all := lw_g (lw_at lw_m1 148 rfl) rfl
theorem q292 : (Jvm.Cond.fieldLink "DeltaIndex$Tokens" (57 : Nat) "DeltaIndex$Tokens" "sort" "[B") ∈ lw_all := lw_g (lw_at lw_m1 150 rfl) rfl
theorem q294 : (Jvm.Cond.fieldLink "DeltaIndex$Tokens" (60 : Nat) "DeltaIndex$Tokens" "from" "[S") ∈ lw_all := lw_g (lw_at lw_m1 152 rfl) rfl
theorem q296 : (Jvm.Cond.fieldLink "DeltaIndex$Tokens" (64 : Nat) "DeltaIndex$Tokens" "to" "[S") ∈ lw_all := lw_g (lw_at lw_m1 154 rfl) rfl
theorem q297 : (Jvm.Cond.fieldLink "DeltaIndex$Tokens" (67 : Nat) "DeltaIndex$Tokens" "what" "[S") ∈ lw_all := lw_g (lw_at lw_m1 155 rfl) rfl
theorem q299 : (Jvm.Cond.fieldLink "DeltaIndex$Tokens" (78 : Nat) "DeltaIndex$Tokens" "many" "I") ∈ lw_all := lw_g (lw_at lw_m1 157 rfl) rfl
theorem q300 : (Jvm.Cond.laysFinal "DeltaIndex$Tokens" "DeltaIndex$Tokens" "words" "[Ljava/lang/String;") ∈ lw_all := lw_g (lw_at lw_m1 158 rfl) rfl
theorem q301 : (Jvm.Cond.soleField "DeltaIndex$Tokens" "words") ∈ lw_all := lw_g (lw_at lw_m1 159 rfl) rfl
theorem q302 : (Jvm.Cond.laysFinal "DeltaIndex$Tokens" "DeltaIndex$Tokens" "tape" "[B") ∈ lw_all := lw_g (lw_at lw_m1 160 rfl) rfl
theorem q303 : (Jvm.Cond.soleField "DeltaIndex$Tokens" "tape") ∈ lw_all := lw_g (lw_at lw_m1 161 rfl) rfl
theorem q304 : (Jvm.Cond.lays "DeltaIndex$Tokens" "DeltaIndex$Tokens" "taped" "I") ∈ lw_all := lw_g (lw_at lw_m1 162 rfl) rfl
theorem q305 : (Jvm.Cond.soleField "DeltaIndex$Tokens" "taped") ∈ lw_all := lw_g (lw_at lw_m1 163 rfl) rfl
theorem q306 : (Jvm.Cond.laysFinal "DeltaIndex$Tokens" "DeltaIndex$Tokens" "sort" "[B") ∈ lw_all := lw_g (lw_at lw_m1 164 rfl) rfl
theorem q307 : (Jvm.Cond.soleField "DeltaIndex$Tokens" "sort") ∈ lw_all := lw_g (lw_at lw_m1 165 rfl) rfl
theorem q308 : (Jvm.Cond.laysFinal "DeltaIndex$Tokens" "DeltaIndex$Tokens" "from" "[S") ∈ lw_all := lw_g (lw_at lw_m1 166 rfl) rfl
theorem q309 : (Jvm.Cond.soleField "DeltaIndex$Tokens" "from") ∈ lw_all := lw_g (lw_at lw_m1 167 rfl) rfl
theorem q310 : (Jvm.Cond.laysFinal "DeltaIndex$Tokens" "DeltaIndex$Tokens" "to" "[S") ∈ lw_all := lw_g (lw_at lw_m1 168 rfl) rfl
theorem q311 : (Jvm.Cond.soleField "DeltaIndex$Tokens" "to") ∈ lw_all := lw_g (lw_at lw_m1 169 rfl) rfl
theorem q312 : (Jvm.Cond.laysFinal "DeltaIndex$Tokens" "DeltaIndex$Tokens" "what" "[S") ∈ lw_all := lw_g (lw_at lw_m1 170 rfl) rfl
theorem q313 : (Jvm.Cond.soleField "DeltaIndex$Tokens" "what") ∈ lw_all := lw_g (lw_at lw_m1 171 rfl) rfl
theorem q314 : (Jvm.Cond.lays "DeltaIndex$Tokens" "DeltaIndex$Tokens" "many" "I") ∈ lw_all := lw_g (lw_at lw_m1 172 rfl) rfl
theorem q315 : (Jvm.Cond.soleField "DeltaIndex$Tokens" "many") ∈ lw_all := lw_g (lw_at lw_m1 173 rfl) rfl
theorem q316 : (Jvm.Cond.superclass "DeltaIndex$Tokens" "java/lang/Object") ∈ lw_all := lw_g (lw_at lw_m1 174 rfl) rfl
theorem q710 : (Jvm.Cond.instanceMethod ({ cls := "DeltaIndex$Tokens", name := "read", desc := "()V" } : Jvm.MethodName)) ∈ lw_all := lw_g (lw_at lw_m3 88 rfl) rfl
theorem q711 : (Jvm.Cond.selects "DeltaIndex$Tokens" ({ cls := "DeltaIndex$Tokens", name := "read", desc := "()V" } : Jvm.MethodName) ({ cls := "DeltaIndex$Tokens", name := "read", desc := "()V" } : Jvm.MethodName)) ∈ lw_all := lw_g (lw_at lw_m3 89 rfl) rfl
theorem q712 : (Jvm.Cond.code ({ cls := "DeltaIndex$Tokens", name := "read", desc := "()V" } : Jvm.MethodName) prog_17_method_8_code (7 : Nat) (Option.none : Option Jvm.ClassFile.FieldType)) ∈ lw_all := lw_g (lw_at lw_m3 90 rfl) rfl
theorem q713 : (Jvm.Cond.methodLink "DeltaIndex$Tokens" (89 : Nat) ({ cls := "DeltaIndex$Tokens", name := "isLetter", desc := "(I)Z" } : Jvm.MethodName)) ∈ lw_all := lw_g (lw_at lw_m3 91 rfl) rfl
theorem q714 : (Jvm.Cond.privateMethod ({ cls := "DeltaIndex$Tokens", name := "isLetter", desc := "(I)Z" } : Jvm.MethodName)) ∈ lw_tbl := lw_at lw_m3 92 rfl
theorem q715 : (Jvm.Cond.instanceMethod ({ cls := "DeltaIndex$Tokens", name := "isLetter", desc := "(I)Z" } : Jvm.MethodName)) ∈ lw_all := lw_g (lw_at lw_m3 93 rfl) rfl
theorem q716 : (Jvm.Cond.code ({ cls := "DeltaIndex$Tokens", name := "isLetter", desc := "(I)Z" } : Jvm.MethodName) prog_17_method_4_code (2 : Nat) (Option.some Jvm.ClassFile.FieldType.boolean)) ∈ lw_all := lw_g (lw_at lw_m3 94 rfl) rfl
theorem q717 : (Jvm.Cond.methodLink "DeltaIndex$Tokens" (74 : Nat) ({ cls := "DeltaIndex$Tokens", name := "at", desc := "(I)I" } : Jvm.MethodName)) ∈ lw_all := lw_g (lw_at lw_m3 95 rfl) rfl
theorem q718 : (Jvm.Cond.privateMethod ({ cls := "DeltaIndex$Tokens", name := "at", desc := "(I)I" } : Jvm.MethodName)) ∈ lw_tbl := lw_at lw_m3 96 rfl
theorem q719 : (Jvm.Cond.instanceMethod ({ cls := "DeltaIndex$Tokens", name := "at", desc := "(I)I" } : Jvm.MethodName)) ∈ lw_all := lw_g (lw_at lw_m3 97 rfl) rfl
theorem q720 : (Jvm.Cond.code ({ cls := "DeltaIndex$Tokens", name := "at", desc := "(I)I" } : Jvm.MethodName) prog_17_method_2_code (2 : Nat) (Option.some Jvm.ClassFile.FieldType.int)) ∈ lw_all := lw_g (lw_at lw_m3 98 rfl) rfl
theorem q721 : (Jvm.Cond.methodLink "DeltaIndex$Tokens" (93 : Nat) ({ cls := "DeltaIndex$Tokens", name := "word", desc := "(II)I" } : Jvm.MethodName)) ∈ lw_all := lw_g (lw_at lw_m3 99 rfl) rfl
theorem q722 : (Jvm.Cond.privateMethod ({ cls := "DeltaIndex$Tokens", name := "word", desc := "(II)I" } : Jvm.MethodName)) ∈ lw_tbl := lw_at lw_m3 100 rfl
theorem q723 : (Jvm.Cond.instanceMethod ({ cls := "DeltaIndex$Tokens", name := "word", desc := "(II)I" } : Jvm.MethodName)) ∈ lw_all := lw_g (lw_at lw_m3 101 rfl) rfl
theorem q724 : (Jvm.Cond.code ({ cls := "DeltaIndex$Tokens", name := "word", desc := "(II)I" } : Jvm.MethodName) prog_17_method_6_code (6 : Nat) (Option.some Jvm.ClassFile.FieldType.int)) ∈ lw_all := lw_g (lw_at lw_m3 102 rfl) rfl
theorem q725 : (Jvm.Cond.methodLink "DeltaIndex$Tokens" (81 : Nat) ({ cls := "java/lang/String", name := "length", desc := "()I" } : Jvm.MethodName)) ∈ lw_all := lw_g (lw_at lw_m3 103 rfl) rfl
theorem q735 : (Jvm.Cond.methodLink "DeltaIndex$Tokens" (85 : Nat) ({ cls := "java/lang/String", name := "charAt", desc := "(I)C" } : Jvm.MethodName)) ∈ lw_all := lw_g (lw_at lw_m3 113 rfl) rfl
theorem q773 : (Jvm.Cond.methodLink "DeltaIndex$Tokens" (97 : Nat) ({ cls := "DeltaIndex$Tokens", name := "isDigit", desc := "(I)Z" } : Jvm.MethodName)) ∈ lw_all := lw_g (lw_at lw_m3 151 rfl) rfl
theorem q774 : (Jvm.Cond.privateMethod ({ cls := "DeltaIndex$Tokens", name := "isDigit", desc := "(I)Z" } : Jvm.MethodName)) ∈ lw_tbl := lw_at lw_m3 152 rfl
theorem q775 : (Jvm.Cond.instanceMethod ({ cls := "DeltaIndex$Tokens", name := "isDigit", desc := "(I)Z" } : Jvm.MethodName)) ∈ lw_all := lw_g (lw_at lw_m3 153 rfl) rfl
theorem q776 : (Jvm.Cond.code ({ cls := "DeltaIndex$Tokens", name := "isDigit", desc := "(I)Z" } : Jvm.MethodName) prog_17_method_3_code (2 : Nat) (Option.some Jvm.ClassFile.FieldType.boolean)) ∈ lw_all := lw_g (lw_at lw_m3 154 rfl) rfl
theorem q777 : (Jvm.Cond.methodLink "DeltaIndex$Tokens" (100 : Nat) ({ cls := "DeltaIndex$Tokens", name := "sign", desc := "(I)I" } : Jvm.MethodName)) ∈ lw_all := lw_g (lw_at lw_m3 155 rfl) rfl
theorem q778 : (Jvm.Cond.privateMethod ({ cls := "DeltaIndex$Tokens", name := "sign", desc := "(I)I" } : Jvm.MethodName)) ∈ lw_tbl := lw_at lw_m3 156 rfl
theorem q779 : (Jvm.Cond.instanceMethod ({ cls := "DeltaIndex$Tokens", name := "sign", desc := "(I)I" } : Jvm.MethodName)) ∈ lw_all := lw_g (lw_at lw_m3 157 rfl) rfl
theorem q780 : (Jvm.Cond.code ({ cls := "DeltaIndex$Tokens", name := "sign", desc := "(I)I" } : Jvm.MethodName) prog_17_method_7_code (3 : Nat) (Option.some Jvm.ClassFile.FieldType.int)) ∈ lw_all := lw_g (lw_at lw_m3 158 rfl) rfl
theorem q781 : (Jvm.Cond.methodLink "DeltaIndex$Tokens" (103 : Nat) ({ cls := "DeltaIndex$Tokens", name := "add", desc := "(IIII)V" } : Jvm.MethodName)) ∈ lw_all := lw_g (lw_at lw_m3 159 rfl) rfl
theorem q782 : (Jvm.Cond.privateMethod ({ cls := "DeltaIndex$Tokens", name := "add", desc := "(IIII)V" } : Jvm.MethodName)) ∈ lw_tbl := lw_at lw_m3 160 rfl
theorem q783 : (Jvm.Cond.instanceMethod ({ cls := "DeltaIndex$Tokens", name := "add", desc := "(IIII)V" } : Jvm.MethodName)) ∈ lw_all := lw_g (lw_at lw_m3 161 rfl) rfl
theorem q784 : (Jvm.Cond.code ({ cls := "DeltaIndex$Tokens", name := "add", desc := "(IIII)V" } : Jvm.MethodName) prog_17_method_5_code (5 : Nat) (Option.none : Option Jvm.ClassFile.FieldType)) ∈ lw_all := lw_g (lw_at lw_m3 162 rfl) rfl
theorem q813 : (Jvm.Cond.instanceMethod ({ cls := "DeltaIndex$Tokens", name := "text", desc := "(I)Ljava/lang/String;" } : Jvm.MethodName)) ∈ lw_all := lw_g (lw_at lw_m3 191 rfl) rfl
theorem q814 : (Jvm.Cond.selects "DeltaIndex$Tokens" ({ cls := "DeltaIndex$Tokens", name := "text", desc := "(I)Ljava/lang/String;" } : Jvm.MethodName) ({ cls := "DeltaIndex$Tokens", name := "text", desc := "(I)Ljava/lang/String;" } : Jvm.MethodName)) ∈ lw_all := lw_g (lw_at lw_m3 192 rfl) rfl
theorem q815 : (Jvm.Cond.code ({ cls := "DeltaIndex$Tokens", name := "text", desc := "(I)Ljava/lang/String;" } : Jvm.MethodName) prog_17_method_9_code (4 : Nat) (Option.some (Jvm.ClassFile.FieldType.object "java/lang/String"))) ∈ lw_all := lw_g (lw_at lw_m3 193 rfl) rfl
theorem q816 : (Jvm.Cond.classLink "DeltaIndex$Tokens" (107 : Nat) "java/lang/StringBuilder") ∈ lw_all := lw_g (lw_at lw_m3 194 rfl) rfl
theorem q818 : (Jvm.Cond.methodLink "DeltaIndex$Tokens" (109 : Nat) ({ cls := "java/lang/StringBuilder", name := "<init>", desc := "()V" } : Jvm.MethodName)) ∈ lw_all := lw_g (lw_at lw_m3 196 rfl) rfl
theorem q846 : (Jvm.Cond.methodLink "DeltaIndex$Tokens" (110 : Nat) ({ cls := "java/lang/StringBuilder", name := "append", desc := "(C)Ljava/lang/StringBuilder;" } : Jvm.MethodName)) ∈ lw_all := lw_g (lw_at lw_m3 224 rfl) rfl
theorem q921 : (Jvm.Cond.methodLink "DeltaIndex$Tokens" (114 : Nat) ({ cls := "java/lang/StringBuilder", name := "toString", desc := "()Ljava/lang/String;" } : Jvm.MethodName)) ∈ lw_all := lw_g (lw_at lw_m4 59 rfl) rfl
theorem q1001 : (Jvm.Cond.instanceMethod ({ cls := "DeltaIndex$Tokens", name := "number", desc := "(I)I" } : Jvm.MethodName)) ∈ lw_all := lw_g (lw_at lw_m4 139 rfl) rfl
theorem q1002 : (Jvm.Cond.selects "DeltaIndex$Tokens" ({ cls := "DeltaIndex$Tokens", name := "number", desc := "(I)I" } : Jvm.MethodName) ({ cls := "DeltaIndex$Tokens", name := "number", desc := "(I)I" } : Jvm.MethodName)) ∈ lw_all := lw_g (lw_at lw_m4 140 rfl) rfl
theorem q1003 : (Jvm.Cond.code ({ cls := "DeltaIndex$Tokens", name := "number", desc := "(I)I" } : Jvm.MethodName) prog_17_method_10_code (4 : Nat) (Option.some Jvm.ClassFile.FieldType.int)) ∈ lw_all := lw_g (lw_at lw_m4 141 rfl) rfl
theorem q1244 : (Jvm.Cond.selects "DeltaIndex$Tokens" ({ cls := "java/lang/Object", name := "getClass", desc := "()Ljava/lang/Class;" } : Jvm.MethodName) ({ cls := "java/lang/Object", name := "getClass", desc := "()Ljava/lang/Class;" } : Jvm.MethodName)) ∈ lw_all := lw_g (lw_at lw_m5 142 rfl) rfl
theorem q2362 : (Jvm.Cond.castable "DeltaIndex$Tokens" "java/lang/Object") ∈ lw_tbl := lw_at lw_m10 60 rfl
theorem in_X2 : ∀ w ∈ wsX20, w ∈ lw_all := lw_in wsX20 [300, 302, 304, 306, 308, 310, 312, 314] (by decide +kernel) (by decide +kernel)

/-! DeltaIndex$Parser -/
set_option maxRecDepth 100000
def RX3 : String := "DeltaIndex$Parser"
def TX3 : u_T := fun k => match k with
  | 0 => ("DeltaIndex$Parser", "t", "LDeltaIndex$Tokens;", true)
  | 1 => ("DeltaIndex$Parser", "fault", "LDeltaIndex$Fault;", true)
  | 2 => ("DeltaIndex$Parser", "text", "LDeltaIndex$Text;", false)
  | 3 => ("DeltaIndex$Parser", "at", "I", false)
  | 4 => ("DeltaIndex$Parser", "open", "I", false)
  | 5 => ("DeltaIndex$Parser", "within", "I", false)
  | 6 => ("DeltaIndex$Parser", "worst", "I", false)
  | _ => ("DeltaIndex$Parser", "worstToken", "I", false)
def tyX3 : Nat → FieldType := fun k => match k with
  | 0 => .object "DeltaIndex$Tokens"
  | 1 => .object "DeltaIndex$Fault"
  | 2 => .object "DeltaIndex$Text"
  | 3 => .int
  | 4 => .int
  | 5 => .int
  | 6 => .int
  | _ => .int
abbrev wsX30 : List Cond := u_ws RX3 TX3 8
theorem nmX3 : ∀ a, a < 8 → ∀ b, b < 8 → a ≠ b → (TX3 a).2.1 ≠ (TX3 b).2.1 := by decide +kernel
theorem tyX3_ok : ∀ k, k < 8 → parseFieldDescriptor (TX3 k).2.2.1 = some (tyX3 k) := by decide +kernel
abbrev cX3_init : ByteArray := prog_8_method_1_code
def yX3_init : MethodName := ⟨RX3, "<init>", "(LDeltaIndex$Tokens;LDeltaIndex$Fault;)V"⟩
def dkwX3_init_0 : List UInt8 := [42, 183, 0, 3, 42, 43, 181, 0, 9, 42, 44, 181, 0, 15, 177]
abbrev dktX3_init_0 : List UInt8 := dkwX3_init_0 ++ []
theorem dksX3_init_0 : cX3_init.data.toList.drop 0 = dktX3_init_0 := by decide +kernel
theorem dX3_init_0 : decode cX3_init 0 = .ok (.aload_n 0, 1) := dk_42 (dk_at dksX3_init_0 0 rfl rfl)
theorem dX3_init_1 : decode cX3_init 1 = .ok (.invokespecial 3, 3) := dk_183 0 3 (dk_at dksX3_init_0 1 rfl rfl)
theorem dX3_init_4 : decode cX3_init 4 = .ok (.aload_n 0, 1) := dk_42 (dk_at dksX3_init_0 4 rfl rfl)
theorem dX3_init_5 : decode cX3_init 5 = .ok (.aload_n 1, 1) := dk_43 (dk_at dksX3_init_0 5 rfl rfl)
theorem dX3_init_6 : decode cX3_init 6 = .ok (.putfield 9, 3) := dk_181 0 9 (dk_at dksX3_init_0 6 rfl rfl)
theorem dX3_init_9 : decode cX3_init 9 = .ok (.aload_n 0, 1) := dk_42 (dk_at dksX3_init_0 9 rfl rfl)
theorem dX3_init_10 : decode cX3_init 10 = .ok (.aload_n 2, 1) := dk_44 (dk_at dksX3_init_0 10 rfl rfl)
theorem dX3_init_11 : decode cX3_init 11 = .ok (.putfield 15, 3) := dk_181 0 15 (dk_at dksX3_init_0 11 rfl rfl)
theorem dX3_init_14 : decode cX3_init 14 = .ok (.return_, 1) := dk_177 (dk_at dksX3_init_0 14 rfl rfl)
abbrev cX3_read : ByteArray := prog_8_method_15_code
def yX3_read : MethodName := ⟨RX3, "read", "()LDeltaIndex$Text;"⟩
def dkwX3_read_6 : List UInt8 := [42, 42, 180, 0, 38, 42, 180, 0, 41, 182, 0, 35, 191, 42, 180, 0, 106, 176]
abbrev dktX3_read_6 : List UInt8 := dkwX3_read_6 ++ []
def dkwX3_read_5 : List UInt8 := [180, 0, 131, 180, 0, 135, 42, 182, 0, 141, 182, 0, 145, 87, 167, 255, 230, 42, 180, 0, 38, 153, 0, 16]
abbrev dktX3_read_5 : List UInt8 := dkwX3_read_5 ++ dktX3_read_6
def dkwX3_read_4 : List UInt8 := [180, 0, 106, 180, 0, 129, 182, 0, 119, 181, 0, 129, 42, 182, 0, 65, 7, 159, 0, 24, 42, 180, 0, 106]
abbrev dktX3_read_4 : List UInt8 := dkwX3_read_4 ++ dktX3_read_5
def dkwX3_read_3 : List UInt8 := [180, 0, 106, 180, 0, 125, 182, 0, 119, 181, 0, 125, 42, 180, 0, 106, 42, 18, 127, 3, 6, 42]
abbrev dktX3_read_3 : List UInt8 := dkwX3_read_3 ++ dktX3_read_4
def dkwX3_read_2 : List UInt8 := [42, 180, 0, 106, 180, 0, 117, 182, 0, 119, 181, 0, 117, 42, 180, 0, 106, 42, 18, 123, 7, 16, 12, 42]
abbrev dktX3_read_2 : List UInt8 := dkwX3_read_2 ++ dktX3_read_3
def dkwX3_read_1 : List UInt8 := [3, 181, 0, 109, 42, 3, 181, 0, 112, 42, 3, 181, 0, 38, 42, 180, 0, 106, 42, 18, 115, 4, 16, 8]
abbrev dktX3_read_1 : List UInt8 := dkwX3_read_1 ++ dktX3_read_2
def dkwX3_read_0 : List UInt8 := [42, 180, 0, 9, 182, 0, 100, 42, 187, 0, 103, 89, 183, 0, 105, 181, 0, 106, 42, 3, 181, 0, 31, 42]
abbrev dktX3_read_0 : List UInt8 := dkwX3_read_0 ++ dktX3_read_1
theorem dksX3_read_0 : cX3_read.data.toList.drop 0 = dktX3_read_0 := by decide +kernel
theorem dksX3_read_1 : cX3_read.data.toList.drop 24 = dktX3_read_1 := dk_seg dksX3_read_0 24 rfl rfl
theorem dksX3_read_2 : cX3_read.data.toList.drop 48 = dktX3_read_2 := dk_seg dksX3_read_1 24 rfl rfl
theorem dksX3_read_3 : cX3_read.data.toList.drop 72 = dktX3_read_3 := dk_seg dksX3_read_2 24 rfl rfl
theorem dksX3_read_4 : cX3_read.data.toList.drop 94 = dktX3_read_4 := dk_seg dksX3_read_3 22 rfl rfl
theorem dksX3_read_5 : cX3_read.data.toList.drop 118 = dktX3_read_5 := dk_seg dksX3_read_4 24 rfl rfl
theorem dksX3_read_6 : cX3_read.data.toList.drop 142 = dktX3_read_6 := dk_seg dksX3_read_5 24 rfl rfl
theorem dX3_read_0 : decode cX3_read 0 = .ok (.aload_n 0, 1) := dk_42 (dk_at dksX3_read_0 0 rfl rfl)
theorem dX3_read_1 : decode cX3_read 1 = .ok (.getfield 9, 3) := dk_180 0 9 (dk_at dksX3_read_0 1 rfl rfl)
theorem dX3_read_4 : decode cX3_read 4 = .ok (.invokevirtual 100, 3) := dk_182 0 100 (dk_at dksX3_read_0 4 rfl rfl)
theorem dX3_read_7 : decode cX3_read 7 = .ok (.aload_n 0, 1) := dk_42 (dk_at dksX3_read_0 7 rfl rfl)
theorem dX3_read_8 : decode cX3_read 8 = .ok (.new 103, 3) := dk_187 0 103 (dk_at dksX3_read_0 8 rfl rfl)
theorem dX3_read_11 : decode cX3_read 11 = .ok (.dup, 1) := dk_89 (dk_at dksX3_read_0 11 rfl rfl)
theorem dX3_read_12 : decode cX3_read 12 = .ok (.invokespecial 105, 3) := dk_183 0 105 (dk_at dksX3_read_0 12 rfl rfl)
theorem dX3_read_15 : decode cX3_read 15 = .ok (.putfield 106, 3) := dk_181 0 106 (dk_at dksX3_read_0 15 rfl rfl)
theorem dX3_read_18 : decode cX3_read 18 = .ok (.aload_n 0, 1) := dk_42 (dk_at dksX3_read_0 18 rfl rfl)
theorem dX3_read_19 : decode cX3_read 19 = .ok (.iconst 0, 1) := dk_3 (dk_at dksX3_read_0 19 rfl rfl)
theorem dX3_read_20 : decode cX3_read 20 = .ok (.putfield 31, 3) := dk_181 0 31 (dk_at dksX3_read_0 20 rfl rfl)
theorem dX3_read_23 : decode cX3_read 23 = .ok (.aload_n 0, 1) := dk_42 (dk_at dksX3_read_0 23 rfl rfl)
theorem dX3_read_24 : decode cX3_read 24 = .ok (.iconst 0, 1) := dk_3 (dk_at dksX3_read_1 0 rfl rfl)
theorem dX3_read_25 : decode cX3_read 25 = .ok (.putfield 109, 3) := dk_181 0 109 (dk_at dksX3_read_1 1 rfl rfl)
theorem dX3_read_28 : decode cX3_read 28 = .ok (.aload_n 0, 1) := dk_42 (dk_at dksX3_read_1 4 rfl rfl)
theorem dX3_read_29 : decode cX3_read 29 = .ok (.iconst 0, 1) := dk_3 (dk_at dksX3_read_1 5 rfl rfl)
theorem dX3_read_30 : decode cX3_read 30 = .ok (.putfield 112, 3) := dk_181 0 112 (dk_at dksX3_read_1 6 rfl rfl)
theorem dX3_read_33 : decode cX3_read 33 = .ok (.aload_n 0, 1) := dk_42 (dk_at dksX3_read_1 9 rfl rfl)
theorem dX3_read_34 : decode cX3_read 34 = .ok (.iconst 0, 1) := dk_3 (dk_at dksX3_read_1 10 rfl rfl)
theorem dX3_read_35 : decode cX3_read 35 = .ok (.putfield 38, 3) := dk_181 0 38 (dk_at dksX3_read_1 11 rfl rfl)
theorem dX3_read_38 : decode cX3_read 38 = .ok (.aload_n 0, 1) := dk_42 (dk_at dksX3_read_1 14 rfl rfl)
theorem dX3_read_39 : decode cX3_read 39 = .ok (.getfield 106, 3) := dk_180 0 106 (dk_at dksX3_read_1 15 rfl rfl)
theorem dX3_read_42 : decode cX3_read 42 = .ok (.aload_n 0, 1) := dk_42 (dk_at dksX3_read_1 18 rfl rfl)
theorem dX3_read_43 : decode cX3_read 43 = .ok (.ldc 115, 2) := dk_18 115 (dk_at dksX3_read_1 19 rfl rfl)
theorem dX3_read_45 : decode cX3_read 45 = .ok (.iconst 1, 1) := dk_4 (dk_at dksX3_read_1 21 rfl rfl)
theorem dX3_read_46 : decode cX3_read 46 = .ok (.bipush 8, 2) := dk_16 8 (dk_at dksX3_read_1 22 rfl rfl)
theorem dX3_read_48 : decode cX3_read 48 = .ok (.aload_n 0, 1) := dk_42 (dk_at dksX3_read_2 0 rfl rfl)
theorem dX3_read_49 : decode cX3_read 49 = .ok (.getfield 106, 3) := dk_180 0 106 (dk_at dksX3_read_2 1 rfl rfl)
theorem dX3_read_52 : decode cX3_read 52 = .ok (.getfield 117, 3) := dk_180 0 117 (dk_at dksX3_read_2 4 rfl rfl)
theorem dX3_read_55 : decode cX3_read 55 = .ok (.invokevirtual 119, 3) := dk_182 0 119 (dk_at dksX3_read_2 7 rfl rfl)
theorem dX3_read_58 : decode cX3_read 58 = .ok (.putfield 117, 3) := dk_181 0 117 (dk_at dksX3_read_2 10 rfl rfl)
theorem dX3_read_61 : decode cX3_read 61 = .ok (.aload_n 0, 1) := dk_42 (dk_at dksX3_read_2 13 rfl rfl)
theorem dX3_read_62 : decode cX3_read 62 = .ok (.getfield 106, 3) := dk_180 0 106 (dk_at dksX3_read_2 14 rfl rfl)
theorem dX3_read_65 : decode cX3_read 65 = .ok (.aload_n 0, 1) := dk_42 (dk_at dksX3_read_2 17 rfl rfl)
theorem dX3_read_66 : decode cX3_read 66 = .ok (.ldc 123, 2) := dk_18 123 (dk_at dksX3_read_2 18 rfl rfl)
theorem dX3_read_68 : decode cX3_read 68 = .ok (.iconst 4, 1) := dk_7 (dk_at dksX3_read_2 20 rfl rfl)
theorem dX3_read_69 : decode cX3_read 69 = .ok (.bipush 12, 2) := dk_16 12 (dk_at dksX3_read_2 21 rfl rfl)
theorem dX3_read_71 : decode cX3_read 71 = .ok (.aload_n 0, 1) := dk_42 (dk_at dksX3_read_2 23 rfl rfl)
theorem dX3_read_72 : decode cX3_read 72 = .ok (.getfield 106, 3) := dk_180 0 106 (dk_at dksX3_read_3 0 rfl rfl)
theorem dX3_read_75 : decode cX3_read 75 = .ok (.getfield 125, 3) := dk_180 0 125 (dk_at dksX3_read_3 3 rfl rfl)
theorem dX3_read_78 : decode cX3_read 78 = .ok (.invokevirtual 119, 3) := dk_182 0 119 (dk_at dksX3_read_3 6 rfl rfl)
theorem dX3_read_81 : decode cX3_read 81 = .ok (.putfield 125, 3) := dk_181 0 125 (dk_at dksX3_read_3 9 rfl rfl)
theorem dX3_read_84 : decode cX3_read 84 = .ok (.aload_n 0, 1) := dk_42 (dk_at dksX3_read_3 12 rfl rfl)
theorem dX3_read_85 : decode cX3_read 85 = .ok (.getfield 106, 3) := dk_180 0 106 (dk_at dksX3_read_3 13 rfl rfl)
theorem dX3_read_88 : decode cX3_read 88 = .ok (.aload_n 0, 1) := dk_42 (dk_at dksX3_read_3 16 rfl rfl)
theorem dX3_read_89 : decode cX3_read 89 = .ok (.ldc 127, 2) := dk_18 127 (dk_at dksX3_read_3 17 rfl rfl)
theorem dX3_read_91 : decode cX3_read 91 = .ok (.iconst 0, 1) := dk_3 (dk_at dksX3_read_3 19 rfl rfl)
theorem dX3_read_92 : decode cX3_read 92 = .ok (.iconst 3, 1) := dk_6 (dk_at dksX3_read_3 20 rfl rfl)
theorem dX3_read_93 : decode cX3_read 93 = .ok (.aload_n 0, 1) := dk_42 (dk_at dksX3_read_3 21 rfl rfl)
theorem dX3_read_94 : decode cX3_read 94 = .ok (.getfield 106, 3) := dk_180 0 106 (dk_at dksX3_read_4 0 rfl rfl)
theorem dX3_read_97 : decode cX3_read 97 = .ok (.getfield 129, 3) := dk_180 0 129 (dk_at dksX3_read_4 3 rfl rfl)
theorem dX3_read_100 : decode cX3_read 100 = .ok (.invokevirtual 119, 3) := dk_182 0 119 (dk_at dksX3_read_4 6 rfl rfl)
theorem dX3_read_103 : decode cX3_read 103 = .ok (.putfield 129, 3) := dk_181 0 129 (dk_at dksX3_read_4 9 rfl rfl)
theorem dX3_read_106 : decode cX3_read 106 = .ok (.aload_n 0, 1) := dk_42 (dk_at dksX3_read_4 12 rfl rfl)
theorem dX3_read_107 : decode cX3_read 107 = .ok (.invokevirtual 65, 3) := dk_182 0 65 (dk_at dksX3_read_4 13 rfl rfl)
theorem dX3_read_110 : decode cX3_read 110 = .ok (.iconst 4, 1) := dk_7 (dk_at dksX3_read_4 16 rfl rfl)
theorem dX3_read_111 : decode cX3_read 111 = .ok (.if_icmp .eq 24, 3) := dk_159 0 24 (dk_at dksX3_read_4 17 rfl rfl)
theorem dX3_read_114 : decode cX3_read 114 = .ok (.aload_n 0, 1) := dk_42 (dk_at dksX3_read_4 20 rfl rfl)
theorem dX3_read_115 : decode cX3_read 115 = .ok (.getfield 106, 3) := dk_180 0 106 (dk_at dksX3_read_4 21 rfl rfl)
theorem dX3_read_118 : decode cX3_read 118 = .ok (.getfield 131, 3) := dk_180 0 131 (dk_at dksX3_read_5 0 rfl rfl)
theorem dX3_read_121 : decode cX3_read 121 = .ok (.getfield 135, 3) := dk_180 0 135 (dk_at dksX3_read_5 3 rfl rfl)
theorem dX3_read_124 : decode cX3_read 124 = .ok (.aload_n 0, 1) := dk_42 (dk_at dksX3_read_5 6 rfl rfl)
theorem dX3_read_125 : decode cX3_read 125 = .ok (.invokevirtual 141, 3) := dk_182 0 141 (dk_at dksX3_read_5 7 rfl rfl)
theorem dX3_read_128 : decode cX3_read 128 = .ok (.invokevirtual 145, 3) := dk_182 0 145 (dk_at dksX3_read_5 10 rfl rfl)
theorem dX3_read_131 : decode cX3_read 131 = .ok (.pop, 1) := dk_87 (dk_at dksX3_read_5 13 rfl rfl)
theorem dX3_read_132 : decode cX3_read 132 = .ok (.goto (-26), 3) := dk_167 255 230 (dk_at dksX3_read_5 14 rfl rfl)
theorem dX3_read_135 : decode cX3_read 135 = .ok (.aload_n 0, 1) := dk_42 (dk_at dksX3_read_5 17 rfl rfl)
theorem dX3_read_136 : decode cX3_read 136 = .ok (.getfield 38, 3) := dk_180 0 38 (dk_at dksX3_read_5 18 rfl rfl)
theorem dX3_read_139 : decode cX3_read 139 = .ok (.ifCond .eq 16, 3) := dk_153 0 16 (dk_at dksX3_read_5 21 rfl rfl)
theorem dX3_read_142 : decode cX3_read 142 = .ok (.aload_n 0, 1) := dk_42 (dk_at dksX3_read_6 0 rfl rfl)
theorem dX3_read_143 : decode cX3_read 143 = .ok (.aload_n 0, 1) := dk_42 (dk_at dksX3_read_6 1 rfl rfl)
theorem dX3_read_144 : decode cX3_read 144 = .ok (.getfield 38, 3) := dk_180 0 38 (dk_at dksX3_read_6 2 rfl rfl)
theorem dX3_read_147 : decode cX3_read 147 = .ok (.aload_n 0, 1) := dk_42 (dk_at dksX3_read_6 5 rfl rfl)
theorem dX3_read_148 : decode cX3_read 148 = .ok (.getfield 41, 3) := dk_180 0 41 (dk_at dksX3_read_6 6 rfl rfl)
theorem dX3_read_151 : decode cX3_read 151 = .ok (.invokevirtual 35, 3) := dk_182 0 35 (dk_at dksX3_read_6 9 rfl rfl)
theorem dX3_read_154 : decode cX3_read 154 = .ok (.athrow, 1) := dk_191 (dk_at dksX3_read_6 12 rfl rfl)
theorem dX3_read_155 : decode cX3_read 155 = .ok (.aload_n 0, 1) := dk_42 (dk_at dksX3_read_6 13 rfl rfl)
theorem dX3_read_156 : decode cX3_read 156 = .ok (.getfield 106, 3) := dk_180 0 106 (dk_at dksX3_read_6 14 rfl rfl)
theorem dX3_read_159 : decode cX3_read 159 = .ok (.areturn, 1) := dk_176 (dk_at dksX3_read_6 17 rfl rfl)
abbrev cX3_setting : ByteArray := prog_8_method_14_code
def yX3_setting : MethodName := ⟨RX3, "setting", "(Ljava/lang/String;III)I"⟩
def dkwX3_setting_1 : List UInt8 := [16, 59, 182, 0, 96, 21, 5, 172]
abbrev dktX3_setting_1 : List UInt8 := dkwX3_setting_1 ++ []
def dkwX3_setting_0 : List UInt8 := [42, 43, 182, 0, 89, 154, 0, 6, 21, 4, 172, 42, 182, 0, 59, 42, 28, 29, 182, 0, 93, 54, 5, 42]
abbrev dktX3_setting_0 : List UInt8 := dkwX3_setting_0 ++ dktX3_setting_1
theorem dksX3_setting_0 : cX3_setting.data.toList.drop 0 = dktX3_setting_0 := by decide +kernel
theorem dksX3_setting_1 : cX3_setting.data.toList.drop 24 = dktX3_setting_1 := dk_seg dksX3_setting_0 24 rfl rfl
theorem dX3_setting_0 : decode cX3_setting 0 = .ok (.aload_n 0, 1) := dk_42 (dk_at dksX3_setting_0 0 rfl rfl)
theorem dX3_setting_1 : decode cX3_setting 1 = .ok (.aload_n 1, 1) := dk_43 (dk_at dksX3_setting_0 1 rfl rfl)
theorem dX3_setting_2 : decode cX3_setting 2 = .ok (.invokevirtual 89, 3) := dk_182 0 89 (dk_at dksX3_setting_0 2 rfl rfl)
theorem dX3_setting_5 : decode cX3_setting 5 = .ok (.ifCond .ne 6, 3) := dk_154 0 6 (dk_at dksX3_setting_0 5 rfl rfl)
theorem dX3_setting_8 : decode cX3_setting 8 = .ok (.iload 4, 2) := dk_21 4 (dk_at dksX3_setting_0 8 rfl rfl)
theorem dX3_setting_10 : decode cX3_setting 10 = .ok (.ireturn, 1) := dk_172 (dk_at dksX3_setting_0 10 rfl rfl)
theorem dX3_setting_11 : decode cX3_setting 11 = .ok (.aload_n 0, 1) := dk_42 (dk_at dksX3_setting_0 11 rfl rfl)
theorem dX3_setting_12 : decode cX3_setting 12 = .ok (.invokevirtual 59, 3) := dk_182 0 59 (dk_at dksX3_setting_0 12 rfl rfl)
theorem dX3_setting_15 : decode cX3_setting 15 = .ok (.aload_n 0, 1) := dk_42 (dk_at dksX3_setting_0 15 rfl rfl)
theorem dX3_setting_16 : decode cX3_setting 16 = .ok (.iload_n 2, 1) := dk_28 (dk_at dksX3_setting_0 16 rfl rfl)
theorem dX3_setting_17 : decode cX3_setting 17 = .ok (.iload_n 3, 1) := dk_29 (dk_at dksX3_setting_0 17 rfl rfl)
theorem dX3_setting_18 : decode cX3_setting 18 = .ok (.invokevirtual 93, 3) := dk_182 0 93 (dk_at dksX3_setting_0 18 rfl rfl)
theorem dX3_setting_21 : decode cX3_setting 21 = .ok (.istore 5, 2) := dk_54 5 (dk_at dksX3_setting_0 21 rfl rfl)
theorem dX3_setting_23 : decode cX3_setting 23 = .ok (.aload_n 0, 1) := dk_42 (dk_at dksX3_setting_0 23 rfl rfl)
theorem dX3_setting_24 : decode cX3_setting 24 = .ok (.bipush 59, 2) := dk_16 59 (dk_at dksX3_setting_1 0 rfl rfl)
theorem dX3_setting_26 : decode cX3_setting 26 = .ok (.invokevirtual 96, 3) := dk_182 0 96 (dk_at dksX3_setting_1 2 rfl rfl)
theorem dX3_setting_29 : decode cX3_setting 29 = .ok (.iload 5, 2) := dk_21 5 (dk_at dksX3_setting_1 5 rfl rfl)
theorem dX3_setting_31 : decode cX3_setting 31 = .ok (.ireturn, 1) := dk_172 (dk_at dksX3_setting_1 7 rfl rfl)
abbrev cX3_isTold : ByteArray := prog_8_method_13_code
def yX3_isTold : MethodName := ⟨RX3, "isTold", "(Ljava/lang/String;)Z"⟩
def dkwX3_isTold_1 : List UInt8 := [153, 0, 7, 4, 167, 0, 4, 3, 172]
abbrev dktX3_isTold_1 : List UInt8 := dkwX3_isTold_1 ++ []
def dkwX3_isTold_0 : List UInt8 := [42, 182, 0, 65, 6, 160, 0, 25, 42, 180, 0, 9, 42, 180, 0, 31, 182, 0, 79, 43, 182, 0, 83]
abbrev dktX3_isTold_0 : List UInt8 := dkwX3_isTold_0 ++ dktX3_isTold_1
theorem dksX3_isTold_0 : cX3_isTold.data.toList.drop 0 = dktX3_isTold_0 := by decide +kernel
theorem dksX3_isTold_1 : cX3_isTold.data.toList.drop 23 = dktX3_isTold_1 := dk_seg dksX3_isTold_0 23 rfl rfl
theorem dX3_isTold_0 : decode cX3_isTold 0 = .ok (.aload_n 0, 1) := dk_42 (dk_at dksX3_isTold_0 0 rfl rfl)
theorem dX3_isTold_1 : decode cX3_isTold 1 = .ok (.invokevirtual 65, 3) := dk_182 0 65 (dk_at dksX3_isTold_0 1 rfl rfl)
theorem dX3_isTold_4 : decode cX3_isTold 4 = .ok (.iconst 3, 1) := dk_6 (dk_at dksX3_isTold_0 4 rfl rfl)
theorem dX3_isTold_5 : decode cX3_isTold 5 = .ok (.if_icmp .ne 25, 3) := dk_160 0 25 (dk_at dksX3_isTold_0 5 rfl rfl)
theorem dX3_isTold_8 : decode cX3_isTold 8 = .ok (.aload_n 0, 1) := dk_42 (dk_at dksX3_isTold_0 8 rfl rfl)
theorem dX3_isTold_9 : decode cX3_isTold 9 = .ok (.getfield 9, 3) := dk_180 0 9 (dk_at dksX3_isTold_0 9 rfl rfl)
theorem dX3_isTold_12 : decode cX3_isTold 12 = .ok (.aload_n 0, 1) := dk_42 (dk_at dksX3_isTold_0 12 rfl rfl)
theorem dX3_isTold_13 : decode cX3_isTold 13 = .ok (.getfield 31, 3) := dk_180 0 31 (dk_at dksX3_isTold_0 13 rfl rfl)
theorem dX3_isTold_16 : decode cX3_isTold 16 = .ok (.invokevirtual 79, 3) := dk_182 0 79 (dk_at dksX3_isTold_0 16 rfl rfl)
theorem dX3_isTold_19 : decode cX3_isTold 19 = .ok (.aload_n 1, 1) := dk_43 (dk_at dksX3_isTold_0 19 rfl rfl)
theorem dX3_isTold_20 : decode cX3_isTold 20 = .ok (.invokevirtual 83, 3) := dk_182 0 83 (dk_at dksX3_isTold_0 20 rfl rfl)
theorem dX3_isTold_23 : decode cX3_isTold 23 = .ok (.ifCond .eq 7, 3) := dk_153 0 7 (dk_at dksX3_isTold_1 0 rfl rfl)
theorem dX3_isTold_26 : decode cX3_isTold 26 = .ok (.iconst 1, 1) := dk_4 (dk_at dksX3_isTold_1 3 rfl rfl)
theorem dX3_isTold_27 : decode cX3_isTold 27 = .ok (.goto 4, 3) := dk_167 0 4 (dk_at dksX3_isTold_1 4 rfl rfl)
theorem dX3_isTold_30 : decode cX3_isTold 30 = .ok (.iconst 0, 1) := dk_3 (dk_at dksX3_isTold_1 7 rfl rfl)
theorem dX3_isTold_31 : decode cX3_isTold 31 = .ok (.ireturn, 1) := dk_172 (dk_at dksX3_isTold_1 8 rfl rfl)
abbrev cX3_sort : ByteArray := prog_8_method_5_code
def yX3_sort : MethodName := ⟨RX3, "sort", "()I"⟩
def dkwX3_sort_1 : List UInt8 := [180, 0, 9, 180, 0, 44, 42, 180, 0, 31, 51, 172]
abbrev dktX3_sort_1 : List UInt8 := dkwX3_sort_1 ++ []
def dkwX3_sort_0 : List UInt8 := [42, 180, 0, 9, 180, 0, 44, 42, 180, 0, 31, 51, 8, 160, 0, 9, 42, 4, 182, 0, 48, 191, 42]
abbrev dktX3_sort_0 : List UInt8 := dkwX3_sort_0 ++ dktX3_sort_1
theorem dksX3_sort_0 : cX3_sort.data.toList.drop 0 = dktX3_sort_0 := by decide +kernel
theorem dksX3_sort_1 : cX3_sort.data.toList.drop 23 = dktX3_sort_1 := dk_seg dksX3_sort_0 23 rfl rfl
theorem dX3_sort_0 : decode cX3_sort 0 = .ok (.aload_n 0, 1) := dk_42 (dk_at dksX3_sort_0 0 rfl rfl)
theorem dX3_sort_1 : decode cX3_sort 1 = .ok (.getfield 9, 3) := dk_180 0 9 (dk_at dksX3_sort_0 1 rfl rfl)
theorem dX3_sort_4 : decode cX3_sort 4 = .ok (.getfield 44, 3) := dk_180 0 44 (dk_at dksX3_sort_0 4 rfl rfl)
theorem dX3_sort_7 : decode cX3_sort 7 = .ok (.aload_n 0, 1) := dk_42 (dk_at dksX3_sort_0 7 rfl rfl)
theorem dX3_sort_8 : decode cX3_sort 8 = .ok (.getfield 31, 3) := dk_180 0 31 (dk_at dksX3_sort_0 8 rfl rfl)
theorem dX3_sort_11 : decode cX3_sort 11 = .ok (.baload, 1) := dk_51 (dk_at dksX3_sort_0 11 rfl rfl)
theorem dX3_sort_12 : decode cX3_sort 12 = .ok (.iconst 5, 1) := dk_8 (dk_at dksX3_sort_0 12 rfl rfl)
theorem dX3_sort_13 : decode cX3_sort 13 = .ok (.if_icmp .ne 9, 3) := dk_160 0 9 (dk_at dksX3_sort_0 13 rfl rfl)
theorem dX3_sort_16 : decode cX3_sort 16 = .ok (.aload_n 0, 1) := dk_42 (dk_at dksX3_sort_0 16 rfl rfl)
theorem dX3_sort_17 : decode cX3_sort 17 = .ok (.iconst 1, 1) := dk_4 (dk_at dksX3_sort_0 17 rfl rfl)
theorem dX3_sort_18 : decode cX3_sort 18 = .ok (.invokevirtual 48, 3) := dk_182 0 48 (dk_at dksX3_sort_0 18 rfl rfl)
theorem dX3_sort_21 : decode cX3_sort 21 = .ok (.athrow, 1) := dk_191 (dk_at dksX3_sort_0 21 rfl rfl)
theorem dX3_sort_22 : decode cX3_sort 22 = .ok (.aload_n 0, 1) := dk_42 (dk_at dksX3_sort_0 22 rfl rfl)
theorem dX3_sort_23 : decode cX3_sort 23 = .ok (.getfield 9, 3) := dk_180 0 9 (dk_at dksX3_sort_1 0 rfl rfl)
theorem dX3_sort_26 : decode cX3_sort 26 = .ok (.getfield 44, 3) := dk_180 0 44 (dk_at dksX3_sort_1 3 rfl rfl)
theorem dX3_sort_29 : decode cX3_sort 29 = .ok (.aload_n 0, 1) := dk_42 (dk_at dksX3_sort_1 6 rfl rfl)
theorem dX3_sort_30 : decode cX3_sort 30 = .ok (.getfield 31, 3) := dk_180 0 31 (dk_at dksX3_sort_1 7 rfl rfl)
theorem dX3_sort_33 : decode cX3_sort 33 = .ok (.baload, 1) := dk_51 (dk_at dksX3_sort_1 10 rfl rfl)
theorem dX3_sort_34 : decode cX3_sort 34 = .ok (.ireturn, 1) := dk_172 (dk_at dksX3_sort_1 11 rfl rfl)
abbrev cX3_wrong : ByteArray := prog_8_method_3_code
def yX3_wrong : MethodName := ⟨RX3, "wrong", "(I)LDeltaIndex$Fault;"⟩
def dkwX3_wrong_0 : List UInt8 := [42, 27, 42, 180, 0, 31, 182, 0, 35, 176]
abbrev dktX3_wrong_0 : List UInt8 := dkwX3_wrong_0 ++ []
theorem dksX3_wrong_0 : cX3_wrong.data.toList.drop 0 = dktX3_wrong_0 := by decide +kernel
theorem dX3_wrong_0 : decode cX3_wrong 0 = .ok (.aload_n 0, 1) := dk_42 (dk_at dksX3_wrong_0 0 rfl rfl)
theorem dX3_wrong_1 : decode cX3_wrong 1 = .ok (.iload_n 1, 1) := dk_27 (dk_at dksX3_wrong_0 1 rfl rfl)
theorem dX3_wrong_2 : decode cX3_wrong 2 = .ok (.aload_n 0, 1) := dk_42 (dk_at dksX3_wrong_0 2 rfl rfl)
theorem dX3_wrong_3 : decode cX3_wrong 3 = .ok (.getfield 31, 3) := dk_180 0 31 (dk_at dksX3_wrong_0 3 rfl rfl)
theorem dX3_wrong_6 : decode cX3_wrong 6 = .ok (.invokevirtual 35, 3) := dk_182 0 35 (dk_at dksX3_wrong_0 6 rfl rfl)
theorem dX3_wrong_9 : decode cX3_wrong 9 = .ok (.areturn, 1) := dk_176 (dk_at dksX3_wrong_0 9 rfl rfl)
abbrev cX3_wrongAt : ByteArray := prog_8_method_2_code
def yX3_wrongAt : MethodName := ⟨RX3, "wrongAt", "(II)LDeltaIndex$Fault;"⟩
def dkwX3_wrongAt_0 : List UInt8 := [42, 180, 0, 15, 27, 42, 180, 0, 9, 180, 0, 19, 28, 53, 182, 0, 25, 176]
abbrev dktX3_wrongAt_0 : List UInt8 := dkwX3_wrongAt_0 ++ []
theorem dksX3_wrongAt_0 : cX3_wrongAt.data.toList.drop 0 = dktX3_wrongAt_0 := by decide +kernel
theorem dX3_wrongAt_0 : decode cX3_wrongAt 0 = .ok (.aload_n 0, 1) := dk_42 (dk_at dksX3_wrongAt_0 0 rfl rfl)
theorem dX3_wrongAt_1 : decode cX3_wrongAt 1 = .ok (.getfield 15, 3) := dk_180 0 15 (dk_at dksX3_wrongAt_0 1 rfl rfl)
theorem dX3_wrongAt_4 : decode cX3_wrongAt 4 = .ok (.iload_n 1, 1) := dk_27 (dk_at dksX3_wrongAt_0 4 rfl rfl)
theorem dX3_wrongAt_5 : decode cX3_wrongAt 5 = .ok (.aload_n 0, 1) := dk_42 (dk_at dksX3_wrongAt_0 5 rfl rfl)
theorem dX3_wrongAt_6 : decode cX3_wrongAt 6 = .ok (.getfield 9, 3) := dk_180 0 9 (dk_at dksX3_wrongAt_0 6 rfl rfl)
theorem dX3_wrongAt_9 : decode cX3_wrongAt 9 = .ok (.getfield 19, 3) := dk_180 0 19 (dk_at dksX3_wrongAt_0 9 rfl rfl)
theorem dX3_wrongAt_12 : decode cX3_wrongAt 12 = .ok (.iload_n 2, 1) := dk_28 (dk_at dksX3_wrongAt_0 12 rfl rfl)
theorem dX3_wrongAt_13 : decode cX3_wrongAt 13 = .ok (.saload, 1) := dk_53 (dk_at dksX3_wrongAt_0 13 rfl rfl)
theorem dX3_wrongAt_14 : decode cX3_wrongAt 14 = .ok (.invokevirtual 25, 3) := dk_182 0 25 (dk_at dksX3_wrongAt_0 14 rfl rfl)
theorem dX3_wrongAt_17 : decode cX3_wrongAt 17 = .ok (.areturn, 1) := dk_176 (dk_at dksX3_wrongAt_0 17 rfl rfl)
abbrev cX3_pass : ByteArray := prog_8_method_6_code
def yX3_pass : MethodName := ⟨RX3, "pass", "()V"⟩
def dkwX3_pass_1 : List UInt8 := [181, 0, 31, 177]
abbrev dktX3_pass_1 : List UInt8 := dkwX3_pass_1 ++ []
def dkwX3_pass_0 : List UInt8 := [42, 180, 0, 31, 17, 1, 144, 161, 0, 9, 42, 5, 182, 0, 48, 191, 42, 89, 180, 0, 31, 4, 96]
abbrev dktX3_pass_0 : List UInt8 := dkwX3_pass_0 ++ dktX3_pass_1
theorem dksX3_pass_0 : cX3_pass.data.toList.drop 0 = dktX3_pass_0 := by decide +kernel
theorem dksX3_pass_1 : cX3_pass.data.toList.drop 23 = dktX3_pass_1 := dk_seg dksX3_pass_0 23 rfl rfl
theorem dX3_pass_0 : decode cX3_pass 0 = .ok (.aload_n 0, 1) := dk_42 (dk_at dksX3_pass_0 0 rfl rfl)
theorem dX3_pass_1 : decode cX3_pass 1 = .ok (.getfield 31, 3) := dk_180 0 31 (dk_at dksX3_pass_0 1 rfl rfl)
theorem dX3_pass_4 : decode cX3_pass 4 = .ok (.sipush 400, 3) := dk_17 1 144 (dk_at dksX3_pass_0 4 rfl rfl)
theorem dX3_pass_7 : decode cX3_pass 7 = .ok (.if_icmp .lt 9, 3) := dk_161 0 9 (dk_at dksX3_pass_0 7 rfl rfl)
theorem dX3_pass_10 : decode cX3_pass 10 = .ok (.aload_n 0, 1) := dk_42 (dk_at dksX3_pass_0 10 rfl rfl)
theorem dX3_pass_11 : decode cX3_pass 11 = .ok (.iconst 2, 1) := dk_5 (dk_at dksX3_pass_0 11 rfl rfl)
theorem dX3_pass_12 : decode cX3_pass 12 = .ok (.invokevirtual 48, 3) := dk_182 0 48 (dk_at dksX3_pass_0 12 rfl rfl)
theorem dX3_pass_15 : decode cX3_pass 15 = .ok (.athrow, 1) := dk_191 (dk_at dksX3_pass_0 15 rfl rfl)
theorem dX3_pass_16 : decode cX3_pass 16 = .ok (.aload_n 0, 1) := dk_42 (dk_at dksX3_pass_0 16 rfl rfl)
theorem dX3_pass_17 : decode cX3_pass 17 = .ok (.dup, 1) := dk_89 (dk_at dksX3_pass_0 17 rfl rfl)
theorem dX3_pass_18 : decode cX3_pass 18 = .ok (.getfield 31, 3) := dk_180 0 31 (dk_at dksX3_pass_0 18 rfl rfl)
theorem dX3_pass_21 : decode cX3_pass 21 = .ok (.iconst 1, 1) := dk_4 (dk_at dksX3_pass_0 21 rfl rfl)
theorem dX3_pass_22 : decode cX3_pass 22 = .ok (.iadd, 1) := dk_96 (dk_at dksX3_pass_0 22 rfl rfl)
theorem dX3_pass_23 : decode cX3_pass 23 = .ok (.putfield 31, 3) := dk_181 0 31 (dk_at dksX3_pass_1 0 rfl rfl)
theorem dX3_pass_26 : decode cX3_pass 26 = .ok (.return_, 1) := dk_177 (dk_at dksX3_pass_1 3 rfl rfl)
abbrev cX3_number : ByteArray := prog_8_method_12_code
def yX3_number : MethodName := ⟨RX3, "number", "(II)I"⟩
def dkwX3_number_1 : List UInt8 := [28, 164, 0, 9, 42, 8, 29, 182, 0, 75, 21, 4, 172]
abbrev dktX3_number_1 : List UInt8 := dkwX3_number_1 ++ []
def dkwX3_number_0 : List UInt8 := [42, 4, 182, 0, 68, 62, 42, 180, 0, 9, 29, 182, 0, 72, 54, 4, 21, 4, 27, 161, 0, 9, 21, 4]
abbrev dktX3_number_0 : List UInt8 := dkwX3_number_0 ++ dktX3_number_1
theorem dksX3_number_0 : cX3_number.data.toList.drop 0 = dktX3_number_0 := by decide +kernel
theorem dksX3_number_1 : cX3_number.data.toList.drop 24 = dktX3_number_1 := dk_seg dksX3_number_0 24 rfl rfl
theorem dX3_number_0 : decode cX3_number 0 = .ok (.aload_n 0, 1) := dk_42 (dk_at dksX3_number_0 0 rfl rfl)
theorem dX3_number_1 : decode cX3_number 1 = .ok (.iconst 1, 1) := dk_4 (dk_at dksX3_number_0 1 rfl rfl)
theorem dX3_number_2 : decode cX3_number 2 = .ok (.invokevirtual 68, 3) := dk_182 0 68 (dk_at dksX3_number_0 2 rfl rfl)
theorem dX3_number_5 : decode cX3_number 5 = .ok (.istore_n 3, 1) := dk_62 (dk_at dksX3_number_0 5 rfl rfl)
theorem dX3_number_6 : decode cX3_number 6 = .ok (.aload_n 0, 1) := dk_42 (dk_at dksX3_number_0 6 rfl rfl)
theorem dX3_number_7 : decode cX3_number 7 = .ok (.getfield 9, 3) := dk_180 0 9 (dk_at dksX3_number_0 7 rfl rfl)
theorem dX3_number_10 : decode cX3_number 10 = .ok (.iload_n 3, 1) := dk_29 (dk_at dksX3_number_0 10 rfl rfl)
theorem dX3_number_11 : decode cX3_number 11 = .ok (.invokevirtual 72, 3) := dk_182 0 72 (dk_at dksX3_number_0 11 rfl rfl)
theorem dX3_number_14 : decode cX3_number 14 = .ok (.istore 4, 2) := dk_54 4 (dk_at dksX3_number_0 14 rfl rfl)
theorem dX3_number_16 : decode cX3_number 16 = .ok (.iload 4, 2) := dk_21 4 (dk_at dksX3_number_0 16 rfl rfl)
theorem dX3_number_18 : decode cX3_number 18 = .ok (.iload_n 1, 1) := dk_27 (dk_at dksX3_number_0 18 rfl rfl)
theorem dX3_number_19 : decode cX3_number 19 = .ok (.if_icmp .lt 9, 3) := dk_161 0 9 (dk_at dksX3_number_0 19 rfl rfl)
theorem dX3_number_22 : decode cX3_number 22 = .ok (.iload 4, 2) := dk_21 4 (dk_at dksX3_number_0 22 rfl rfl)
theorem dX3_number_24 : decode cX3_number 24 = .ok (.iload_n 2, 1) := dk_28 (dk_at dksX3_number_1 0 rfl rfl)
theorem dX3_number_25 : decode cX3_number 25 = .ok (.if_icmp .le 9, 3) := dk_164 0 9 (dk_at dksX3_number_1 1 rfl rfl)
theorem dX3_number_28 : decode cX3_number 28 = .ok (.aload_n 0, 1) := dk_42 (dk_at dksX3_number_1 4 rfl rfl)
theorem dX3_number_29 : decode cX3_number 29 = .ok (.iconst 5, 1) := dk_8 (dk_at dksX3_number_1 5 rfl rfl)
theorem dX3_number_30 : decode cX3_number 30 = .ok (.iload_n 3, 1) := dk_29 (dk_at dksX3_number_1 6 rfl rfl)
theorem dX3_number_31 : decode cX3_number 31 = .ok (.invokevirtual 75, 3) := dk_182 0 75 (dk_at dksX3_number_1 7 rfl rfl)
theorem dX3_number_34 : decode cX3_number 34 = .ok (.iload 4, 2) := dk_21 4 (dk_at dksX3_number_1 10 rfl rfl)
theorem dX3_number_36 : decode cX3_number 36 = .ok (.ireturn, 1) := dk_172 (dk_at dksX3_number_1 12 rfl rfl)
abbrev cX3_take : ByteArray := prog_8_method_11_code
def yX3_take : MethodName := ⟨RX3, "take", "(I)I"⟩
def dkwX3_take_1 : List UInt8 := [172]
abbrev dktX3_take_1 : List UInt8 := dkwX3_take_1 ++ []
def dkwX3_take_0 : List UInt8 := [42, 182, 0, 65, 27, 159, 0, 9, 42, 4, 182, 0, 48, 191, 42, 182, 0, 59, 42, 180, 0, 31, 4, 100]
abbrev dktX3_take_0 : List UInt8 := dkwX3_take_0 ++ dktX3_take_1
theorem dksX3_take_0 : cX3_take.data.toList.drop 0 = dktX3_take_0 := by decide +kernel
theorem dksX3_take_1 : cX3_take.data.toList.drop 24 = dktX3_take_1 := dk_seg dksX3_take_0 24 rfl rfl
theorem dX3_take_0 : decode cX3_take 0 = .ok (.aload_n 0, 1) := dk_42 (dk_at dksX3_take_0 0 rfl rfl)
theorem dX3_take_1 : decode cX3_take 1 = .ok (.invokevirtual 65, 3) := dk_182 0 65 (dk_at dksX3_take_0 1 rfl rfl)
theorem dX3_take_4 : decode cX3_take 4 = .ok (.iload_n 1, 1) := dk_27 (dk_at dksX3_take_0 4 rfl rfl)
theorem dX3_take_5 : decode cX3_take 5 = .ok (.if_icmp .eq 9, 3) := dk_159 0 9 (dk_at dksX3_take_0 5 rfl rfl)
theorem dX3_take_8 : decode cX3_take 8 = .ok (.aload_n 0, 1) := dk_42 (dk_at dksX3_take_0 8 rfl rfl)
theorem dX3_take_9 : decode cX3_take 9 = .ok (.iconst 1, 1) := dk_4 (dk_at dksX3_take_0 9 rfl rfl)
theorem dX3_take_10 : decode cX3_take 10 = .ok (.invokevirtual 48, 3) := dk_182 0 48 (dk_at dksX3_take_0 10 rfl rfl)
theorem dX3_take_13 : decode cX3_take 13 = .ok (.athrow, 1) := dk_191 (dk_at dksX3_take_0 13 rfl rfl)
theorem dX3_take_14 : decode cX3_take 14 = .ok (.aload_n 0, 1) := dk_42 (dk_at dksX3_take_0 14 rfl rfl)
theorem dX3_take_15 : decode cX3_take 15 = .ok (.invokevirtual 59, 3) := dk_182 0 59 (dk_at dksX3_take_0 15 rfl rfl)
theorem dX3_take_18 : decode cX3_take 18 = .ok (.aload_n 0, 1) := dk_42 (dk_at dksX3_take_0 18 rfl rfl)
theorem dX3_take_19 : decode cX3_take 19 = .ok (.getfield 31, 3) := dk_180 0 31 (dk_at dksX3_take_0 19 rfl rfl)
theorem dX3_take_22 : decode cX3_take 22 = .ok (.iconst 1, 1) := dk_4 (dk_at dksX3_take_0 22 rfl rfl)
theorem dX3_take_23 : decode cX3_take 23 = .ok (.isub, 1) := dk_100 (dk_at dksX3_take_0 23 rfl rfl)
theorem dX3_take_24 : decode cX3_take 24 = .ok (.ireturn, 1) := dk_172 (dk_at dksX3_take_1 0 rfl rfl)
abbrev cX3_tell : ByteArray := prog_8_method_4_code
def yX3_tell : MethodName := ⟨RX3, "tell", "(II)V"⟩
def dkwX3_tell_1 : List UInt8 := [42, 180, 0, 38, 161, 0, 4, 177, 42, 27, 181, 0, 38, 42, 28, 181, 0, 41, 177]
abbrev dktX3_tell_1 : List UInt8 := dkwX3_tell_1 ++ []
def dkwX3_tell_0 : List UInt8 := [42, 180, 0, 38, 153, 0, 28, 28, 42, 180, 0, 41, 163, 0, 19, 28, 42, 180, 0, 41, 160, 0, 12, 27]
abbrev dktX3_tell_0 : List UInt8 := dkwX3_tell_0 ++ dktX3_tell_1
theorem dksX3_tell_0 : cX3_tell.data.toList.drop 0 = dktX3_tell_0 := by decide +kernel
theorem dksX3_tell_1 : cX3_tell.data.toList.drop 24 = dktX3_tell_1 := dk_seg dksX3_tell_0 24 rfl rfl
theorem dX3_tell_0 : decode cX3_tell 0 = .ok (.aload_n 0, 1) := dk_42 (dk_at dksX3_tell_0 0 rfl rfl)
theorem dX3_tell_1 : decode cX3_tell 1 = .ok (.getfield 38, 3) := dk_180 0 38 (dk_at dksX3_tell_0 1 rfl rfl)
theorem dX3_tell_4 : decode cX3_tell 4 = .ok (.ifCond .eq 28, 3) := dk_153 0 28 (dk_at dksX3_tell_0 4 rfl rfl)
theorem dX3_tell_7 : decode cX3_tell 7 = .ok (.iload_n 2, 1) := dk_28 (dk_at dksX3_tell_0 7 rfl rfl)
theorem dX3_tell_8 : decode cX3_tell 8 = .ok (.aload_n 0, 1) := dk_42 (dk_at dksX3_tell_0 8 rfl rfl)
theorem dX3_tell_9 : decode cX3_tell 9 = .ok (.getfield 41, 3) := dk_180 0 41 (dk_at dksX3_tell_0 9 rfl rfl)
theorem dX3_tell_12 : decode cX3_tell 12 = .ok (.if_icmp .gt 19, 3) := dk_163 0 19 (dk_at dksX3_tell_0 12 rfl rfl)
theorem dX3_tell_15 : decode cX3_tell 15 = .ok (.iload_n 2, 1) := dk_28 (dk_at dksX3_tell_0 15 rfl rfl)
theorem dX3_tell_16 : decode cX3_tell 16 = .ok (.aload_n 0, 1) := dk_42 (dk_at dksX3_tell_0 16 rfl rfl)
theorem dX3_tell_17 : decode cX3_tell 17 = .ok (.getfield 41, 3) := dk_180 0 41 (dk_at dksX3_tell_0 17 rfl rfl)
theorem dX3_tell_20 : decode cX3_tell 20 = .ok (.if_icmp .ne 12, 3) := dk_160 0 12 (dk_at dksX3_tell_0 20 rfl rfl)
theorem dX3_tell_23 : decode cX3_tell 23 = .ok (.iload_n 1, 1) := dk_27 (dk_at dksX3_tell_0 23 rfl rfl)
theorem dX3_tell_24 : decode cX3_tell 24 = .ok (.aload_n 0, 1) := dk_42 (dk_at dksX3_tell_1 0 rfl rfl)
theorem dX3_tell_25 : decode cX3_tell 25 = .ok (.getfield 38, 3) := dk_180 0 38 (dk_at dksX3_tell_1 1 rfl rfl)
theorem dX3_tell_28 : decode cX3_tell 28 = .ok (.if_icmp .lt 4, 3) := dk_161 0 4 (dk_at dksX3_tell_1 4 rfl rfl)
theorem dX3_tell_31 : decode cX3_tell 31 = .ok (.return_, 1) := dk_177 (dk_at dksX3_tell_1 7 rfl rfl)
theorem dX3_tell_32 : decode cX3_tell 32 = .ok (.aload_n 0, 1) := dk_42 (dk_at dksX3_tell_1 8 rfl rfl)
theorem dX3_tell_33 : decode cX3_tell 33 = .ok (.iload_n 1, 1) := dk_27 (dk_at dksX3_tell_1 9 rfl rfl)
theorem dX3_tell_34 : decode cX3_tell 34 = .ok (.putfield 38, 3) := dk_181 0 38 (dk_at dksX3_tell_1 10 rfl rfl)
theorem dX3_tell_37 : decode cX3_tell 37 = .ok (.aload_n 0, 1) := dk_42 (dk_at dksX3_tell_1 13 rfl rfl)
theorem dX3_tell_38 : decode cX3_tell 38 = .ok (.iload_n 2, 1) := dk_28 (dk_at dksX3_tell_1 14 rfl rfl)
theorem dX3_tell_39 : decode cX3_tell 39 = .ok (.putfield 41, 3) := dk_181 0 41 (dk_at dksX3_tell_1 15 rfl rfl)
theorem dX3_tell_42 : decode cX3_tell 42 = .ok (.return_, 1) := dk_177 (dk_at dksX3_tell_1 18 rfl rfl)
abbrev cX3_sign : ByteArray := prog_8_method_9_code
def yX3_sign : MethodName := ⟨RX3, "sign", "(I)V"⟩
def dkwX3_sign_0 : List UInt8 := [42, 27, 182, 0, 55, 154, 0, 9, 42, 4, 182, 0, 48, 191, 42, 182, 0, 59, 177]
abbrev dktX3_sign_0 : List UInt8 := dkwX3_sign_0 ++ []
theorem dksX3_sign_0 : cX3_sign.data.toList.drop 0 = dktX3_sign_0 := by decide +kernel
theorem dX3_sign_0 : decode cX3_sign 0 = .ok (.aload_n 0, 1) := dk_42 (dk_at dksX3_sign_0 0 rfl rfl)
theorem dX3_sign_1 : decode cX3_sign 1 = .ok (.iload_n 1, 1) := dk_27 (dk_at dksX3_sign_0 1 rfl rfl)
theorem dX3_sign_2 : decode cX3_sign 2 = .ok (.invokevirtual 55, 3) := dk_182 0 55 (dk_at dksX3_sign_0 2 rfl rfl)
theorem dX3_sign_5 : decode cX3_sign 5 = .ok (.ifCond .ne 9, 3) := dk_154 0 9 (dk_at dksX3_sign_0 5 rfl rfl)
theorem dX3_sign_8 : decode cX3_sign 8 = .ok (.aload_n 0, 1) := dk_42 (dk_at dksX3_sign_0 8 rfl rfl)
theorem dX3_sign_9 : decode cX3_sign 9 = .ok (.iconst 1, 1) := dk_4 (dk_at dksX3_sign_0 9 rfl rfl)
theorem dX3_sign_10 : decode cX3_sign 10 = .ok (.invokevirtual 48, 3) := dk_182 0 48 (dk_at dksX3_sign_0 10 rfl rfl)
theorem dX3_sign_13 : decode cX3_sign 13 = .ok (.athrow, 1) := dk_191 (dk_at dksX3_sign_0 13 rfl rfl)
theorem dX3_sign_14 : decode cX3_sign 14 = .ok (.aload_n 0, 1) := dk_42 (dk_at dksX3_sign_0 14 rfl rfl)
theorem dX3_sign_15 : decode cX3_sign 15 = .ok (.invokevirtual 59, 3) := dk_182 0 59 (dk_at dksX3_sign_0 15 rfl rfl)
theorem dX3_sign_18 : decode cX3_sign 18 = .ok (.return_, 1) := dk_177 (dk_at dksX3_sign_0 18 rfl rfl)
abbrev cX3_isSign : ByteArray := prog_8_method_7_code
def yX3_isSign : MethodName := ⟨RX3, "isSign", "(I)Z"⟩
def dkwX3_isSign_1 : List UInt8 := [180, 0, 31, 53, 27, 160, 0, 7, 4, 167, 0, 4, 3, 172]
abbrev dktX3_isSign_1 : List UInt8 := dkwX3_isSign_1 ++ []
def dkwX3_isSign_0 : List UInt8 := [42, 180, 0, 9, 180, 0, 44, 42, 180, 0, 31, 51, 5, 160, 0, 23, 42, 180, 0, 9, 180, 0, 52, 42]
abbrev dktX3_isSign_0 : List UInt8 := dkwX3_isSign_0 ++ dktX3_isSign_1
theorem dksX3_isSign_0 : cX3_isSign.data.toList.drop 0 = dktX3_isSign_0 := by decide +kernel
theorem dksX3_isSign_1 : cX3_isSign.data.toList.drop 24 = dktX3_isSign_1 := dk_seg dksX3_isSign_0 24 rfl rfl
theorem dX3_isSign_0 : decode cX3_isSign 0 = .ok (.aload_n 0, 1) := dk_42 (dk_at dksX3_isSign_0 0 rfl rfl)
theorem dX3_isSign_1 : decode cX3_isSign 1 = .ok (.getfield 9, 3) := dk_180 0 9 (dk_at dksX3_isSign_0 1 rfl rfl)
theorem dX3_isSign_4 : decode cX3_isSign 4 = .ok (.getfield 44, 3) := dk_180 0 44 (dk_at dksX3_isSign_0 4 rfl rfl)
theorem dX3_isSign_7 : decode cX3_isSign 7 = .ok (.aload_n 0, 1) := dk_42 (dk_at dksX3_isSign_0 7 rfl rfl)
theorem dX3_isSign_8 : decode cX3_isSign 8 = .ok (.getfield 31, 3) := dk_180 0 31 (dk_at dksX3_isSign_0 8 rfl rfl)
theorem dX3_isSign_11 : decode cX3_isSign 11 = .ok (.baload, 1) := dk_51 (dk_at dksX3_isSign_0 11 rfl rfl)
theorem dX3_isSign_12 : decode cX3_isSign 12 = .ok (.iconst 2, 1) := dk_5 (dk_at dksX3_isSign_0 12 rfl rfl)
theorem dX3_isSign_13 : decode cX3_isSign 13 = .ok (.if_icmp .ne 23, 3) := dk_160 0 23 (dk_at dksX3_isSign_0 13 rfl rfl)
theorem dX3_isSign_16 : decode cX3_isSign 16 = .ok (.aload_n 0, 1) := dk_42 (dk_at dksX3_isSign_0 16 rfl rfl)
theorem dX3_isSign_17 : decode cX3_isSign 17 = .ok (.getfield 9, 3) := dk_180 0 9 (dk_at dksX3_isSign_0 17 rfl rfl)
theorem dX3_isSign_20 : decode cX3_isSign 20 = .ok (.getfield 52, 3) := dk_180 0 52 (dk_at dksX3_isSign_0 20 rfl rfl)
theorem dX3_isSign_23 : decode cX3_isSign 23 = .ok (.aload_n 0, 1) := dk_42 (dk_at dksX3_isSign_0 23 rfl rfl)
theorem dX3_isSign_24 : decode cX3_isSign 24 = .ok (.getfield 31, 3) := dk_180 0 31 (dk_at dksX3_isSign_1 0 rfl rfl)
theorem dX3_isSign_27 : decode cX3_isSign 27 = .ok (.saload, 1) := dk_53 (dk_at dksX3_isSign_1 3 rfl rfl)
theorem dX3_isSign_28 : decode cX3_isSign 28 = .ok (.iload_n 1, 1) := dk_27 (dk_at dksX3_isSign_1 4 rfl rfl)
theorem dX3_isSign_29 : decode cX3_isSign 29 = .ok (.if_icmp .ne 7, 3) := dk_160 0 7 (dk_at dksX3_isSign_1 5 rfl rfl)
theorem dX3_isSign_32 : decode cX3_isSign 32 = .ok (.iconst 1, 1) := dk_4 (dk_at dksX3_isSign_1 8 rfl rfl)
theorem dX3_isSign_33 : decode cX3_isSign 33 = .ok (.goto 4, 3) := dk_167 0 4 (dk_at dksX3_isSign_1 9 rfl rfl)
theorem dX3_isSign_36 : decode cX3_isSign 36 = .ok (.iconst 0, 1) := dk_3 (dk_at dksX3_isSign_1 12 rfl rfl)
theorem dX3_isSign_37 : decode cX3_isSign 37 = .ok (.ireturn, 1) := dk_172 (dk_at dksX3_isSign_1 13 rfl rfl)
abbrev cX3_told : ByteArray := prog_8_method_16_code
def yX3_told : MethodName := ⟨RX3, "told", "()LDeltaIndex$Tell;"⟩
def dkwX3_told_11 : List UInt8 := [182, 0, 183, 167, 0, 9, 42, 4, 182, 0, 48, 191, 76, 42, 16, 59, 182, 0, 96, 43, 176]
abbrev dktX3_told_11 : List UInt8 := dkwX3_told_11 ++ []
def dkwX3_told_10 : List UInt8 := [3, 182, 0, 177, 167, 0, 31, 42, 4, 182, 0, 177, 167, 0, 23, 42, 182, 0, 181, 167, 0, 16, 42]
abbrev dktX3_told_10 : List UInt8 := dkwX3_told_10 ++ dktX3_told_11
def dkwX3_told_9 : List UInt8 := [42, 3, 4, 182, 0, 169, 167, 0, 53, 42, 182, 0, 173, 167, 0, 46, 42, 182, 0, 175, 167, 0, 39, 42]
abbrev dktX3_told_9 : List UInt8 := dkwX3_told_9 ++ dktX3_told_10
def dkwX3_told_8 : List UInt8 := [170, 0, 0, 0, 0, 0, 0, 101, 0, 0, 0, 0, 0, 0, 0, 7, 0, 0, 0, 48, 0, 0, 0, 48, 0, 0, 0, 57, 0, 0, 0, 64, 0, 0, 0, 71, 0, 0, 0, 79, 0, 0, 0, 87, 0, 0, 0, 94]
abbrev dktX3_told_8 : List UInt8 := dkwX3_told_8 ++ dktX3_told_9
def dkwX3_told_7 : List UInt8 := [62, 167, 0, 15, 44, 18, 167, 182, 0, 83, 153, 0, 6, 16, 7, 62, 29]
abbrev dktX3_told_7 : List UInt8 := dkwX3_told_7 ++ dktX3_told_8
def dkwX3_told_6 : List UInt8 := [18, 163, 182, 0, 83, 153, 0, 35, 8, 62, 167, 0, 30, 44, 18, 165, 182, 0, 83, 153, 0, 21, 16, 6]
abbrev dktX3_told_6 : List UInt8 := dkwX3_told_6 ++ dktX3_told_7
def dkwX3_told_5 : List UInt8 := [153, 0, 63, 6, 62, 167, 0, 58, 44, 18, 161, 182, 0, 83, 153, 0, 49, 7, 62, 167, 0, 44, 44]
abbrev dktX3_told_5 : List UInt8 := dkwX3_told_5 ++ dktX3_told_6
def dkwX3_told_4 : List UInt8 := [62, 167, 0, 86, 44, 18, 157, 182, 0, 83, 153, 0, 77, 5, 62, 167, 0, 72, 44, 18, 159, 182, 0, 83]
abbrev dktX3_told_4 : List UInt8 := dkwX3_told_4 ++ dktX3_told_5
def dkwX3_told_3 : List UInt8 := [44, 18, 153, 182, 0, 83, 153, 0, 105, 3, 62, 167, 0, 100, 44, 18, 155, 182, 0, 83, 153, 0, 91, 4]
abbrev dktX3_told_3 : List UInt8 := dkwX3_told_3 ++ dktX3_told_4
def dkwX3_told_2 : List UInt8 := [171, 0, 0, 0, 0, 0, 0, 187, 0, 0, 0, 8, 0, 0, 12, 139, 0, 0, 0, 175, 0, 1, 130, 66, 0, 0, 0, 90, 0, 1, 143, 86, 0, 0, 0, 118, 0, 1, 179, 15, 0, 0, 0, 76, 0, 54, 6, 204, 0, 0, 0, 132, 5, 148, 120, 169, 0, 0, 0, 104, 5, 165, 221, 248, 0, 0, 0, 146, 6, 140, 46, 236, 0, 0, 0, 160]
abbrev dktX3_told_2 : List UInt8 := dkwX3_told_2 ++ dktX3_told_3
def dkwX3_told_1 : List UInt8 := [182, 0, 79, 77, 2, 62, 44, 182, 0, 150]
abbrev dktX3_told_1 : List UInt8 := dkwX3_told_1 ++ dktX3_told_2
def dkwX3_told_0 : List UInt8 := [42, 182, 0, 65, 6, 159, 0, 9, 42, 4, 182, 0, 48, 191, 42, 180, 0, 9, 42, 180, 0, 31]
abbrev dktX3_told_0 : List UInt8 := dkwX3_told_0 ++ dktX3_told_1
theorem dksX3_told_0 : cX3_told.data.toList.drop 0 = dktX3_told_0 := by decide +kernel
theorem dksX3_told_1 : cX3_told.data.toList.drop 22 = dktX3_told_1 := dk_seg dksX3_told_0 22 rfl rfl
theorem dksX3_told_2 : cX3_told.data.toList.drop 32 = dktX3_told_2 := dk_seg dksX3_told_1 10 rfl rfl
theorem dksX3_told_3 : cX3_told.data.toList.drop 108 = dktX3_told_3 := dk_seg dksX3_told_2 76 rfl rfl
theorem dksX3_told_4 : cX3_told.data.toList.drop 132 = dktX3_told_4 := dk_seg dksX3_told_3 24 rfl rfl
theorem dksX3_told_5 : cX3_told.data.toList.drop 156 = dktX3_told_5 := dk_seg dksX3_told_4 24 rfl rfl
theorem dksX3_told_6 : cX3_told.data.toList.drop 179 = dktX3_told_6 := dk_seg dksX3_told_5 23 rfl rfl
theorem dksX3_told_7 : cX3_told.data.toList.drop 203 = dktX3_told_7 := dk_seg dksX3_told_6 24 rfl rfl
theorem dksX3_told_8 : cX3_told.data.toList.drop 220 = dktX3_told_8 := dk_seg dksX3_told_7 17 rfl rfl
theorem dksX3_told_9 : cX3_told.data.toList.drop 268 = dktX3_told_9 := dk_seg dksX3_told_8 48 rfl rfl
theorem dksX3_told_10 : cX3_told.data.toList.drop 292 = dktX3_told_10 := dk_seg dksX3_told_9 24 rfl rfl
theorem dksX3_told_11 : cX3_told.data.toList.drop 315 = dktX3_told_11 := dk_seg dksX3_told_10 23 rfl rfl
theorem dX3_told_0 : decode cX3_told 0 = .ok (.aload_n 0, 1) := dk_42 (dk_at dksX3_told_0 0 rfl rfl)
theorem dX3_told_1 : decode cX3_told 1 = .ok (.invokevirtual 65, 3) := dk_182 0 65 (dk_at dksX3_told_0 1 rfl rfl)
theorem dX3_told_4 : decode cX3_told 4 = .ok (.iconst 3, 1) := dk_6 (dk_at dksX3_told_0 4 rfl rfl)
theorem dX3_told_5 : decode cX3_told 5 = .ok (.if_icmp .eq 9, 3) := dk_159 0 9 (dk_at dksX3_told_0 5 rfl rfl)
theorem dX3_told_8 : decode cX3_told 8 = .ok (.aload_n 0, 1) := dk_42 (dk_at dksX3_told_0 8 rfl rfl)
theorem dX3_told_9 : decode cX3_told 9 = .ok (.iconst 1, 1) := dk_4 (dk_at dksX3_told_0 9 rfl rfl)
theorem dX3_told_10 : decode cX3_told 10 = .ok (.invokevirtual 48, 3) := dk_182 0 48 (dk_at dksX3_told_0 10 rfl rfl)
theorem dX3_told_13 : decode cX3_told 13 = .ok (.athrow, 1) := dk_191 (dk_at dksX3_told_0 13 rfl rfl)
theorem dX3_told_14 : decode cX3_told 14 = .ok (.aload_n 0, 1) := dk_42 (dk_at dksX3_told_0 14 rfl rfl)
theorem dX3_told_15 : decode cX3_told 15 = .ok (.getfield 9, 3) := dk_180 0 9 (dk_at dksX3_told_0 15 rfl rfl)
theorem dX3_told_18 : decode cX3_told 18 = .ok (.aload_n 0, 1) := dk_42 (dk_at dksX3_told_0 18 rfl rfl)
theorem dX3_told_19 : decode cX3_told 19 = .ok (.getfield 31, 3) := dk_180 0 31 (dk_at dksX3_told_0 19 rfl rfl)
theorem dX3_told_22 : decode cX3_told 22 = .ok (.invokevirtual 79, 3) := dk_182 0 79 (dk_at dksX3_told_1 0 rfl rfl)
theorem dX3_told_25 : decode cX3_told 25 = .ok (.astore_n 2, 1) := dk_77 (dk_at dksX3_told_1 3 rfl rfl)
theorem dX3_told_26 : decode cX3_told 26 = .ok (.iconst (-1), 1) := dk_2 (dk_at dksX3_told_1 4 rfl rfl)
theorem dX3_told_27 : decode cX3_told 27 = .ok (.istore_n 3, 1) := dk_62 (dk_at dksX3_told_1 5 rfl rfl)
theorem dX3_told_28 : decode cX3_told 28 = .ok (.aload_n 2, 1) := dk_44 (dk_at dksX3_told_1 6 rfl rfl)
theorem dX3_told_29 : decode cX3_told 29 = .ok (.invokevirtual 150, 3) := dk_182 0 150 (dk_at dksX3_told_1 7 rfl rfl)
theorem dX3_told_32 : decode cX3_told 32 = .ok (.lookupswitch 187 #[(3211, 175), (98882, 90), (102230, 118), (111375, 76), (3540684, 132), (93616297, 104), (94756344, 146), (109850348, 160)], 76) := by decide +kernel
theorem dX3_told_108 : decode cX3_told 108 = .ok (.aload_n 2, 1) := dk_44 (dk_at dksX3_told_3 0 rfl rfl)
theorem dX3_told_109 : decode cX3_told 109 = .ok (.ldc 153, 2) := dk_18 153 (dk_at dksX3_told_3 1 rfl rfl)
theorem dX3_told_111 : decode cX3_told 111 = .ok (.invokevirtual 83, 3) := dk_182 0 83 (dk_at dksX3_told_3 3 rfl rfl)
theorem dX3_told_114 : decode cX3_told 114 = .ok (.ifCond .eq 105, 3) := dk_153 0 105 (dk_at dksX3_told_3 6 rfl rfl)
theorem dX3_told_117 : decode cX3_told 117 = .ok (.iconst 0, 1) := dk_3 (dk_at dksX3_told_3 9 rfl rfl)
theorem dX3_told_118 : decode cX3_told 118 = .ok (.istore_n 3, 1) := dk_62 (dk_at dksX3_told_3 10 rfl rfl)
theorem dX3_told_119 : decode cX3_told 119 = .ok (.goto 100, 3) := dk_167 0 100 (dk_at dksX3_told_3 11 rfl rfl)
theorem dX3_told_122 : decode cX3_told 122 = .ok (.aload_n 2, 1) := dk_44 (dk_at dksX3_told_3 14 rfl rfl)
theorem dX3_told_123 : decode cX3_told 123 = .ok (.ldc 155, 2) := dk_18 155 (dk_at dksX3_told_3 15 rfl rfl)
theorem dX3_told_125 : decode cX3_told 125 = .ok (.invokevirtual 83, 3) := dk_182 0 83 (dk_at dksX3_told_3 17 rfl rfl)
theorem dX3_told_128 : decode cX3_told 128 = .ok (.ifCond .eq 91, 3) := dk_153 0 91 (dk_at dksX3_told_3 20 rfl rfl)
theorem dX3_told_131 : decode cX3_told 131 = .ok (.iconst 1, 1) := dk_4 (dk_at dksX3_told_3 23 rfl rfl)
theorem dX3_told_132 : decode cX3_told 132 = .ok (.istore_n 3, 1) := dk_62 (dk_at dksX3_told_4 0 rfl rfl)
theorem dX3_told_133 : decode cX3_told 133 = .ok (.goto 86, 3) := dk_167 0 86 (dk_at dksX3_told_4 1 rfl rfl)
theorem dX3_told_136 : decode cX3_told 136 = .ok (.aload_n 2, 1) := dk_44 (dk_at dksX3_told_4 4 rfl rfl)
theorem dX3_told_137 : decode cX3_told 137 = .ok (.ldc 157, 2) := dk_18 157 (dk_at dksX3_told_4 5 rfl rfl)
theorem dX3_told_139 : decode cX3_told 139 = .ok (.invokevirtual 83, 3) := dk_182 0 83 (dk_at dksX3_told_4 7 rfl rfl)
theorem dX3_told_142 : decode cX3_told 142 = .ok (.ifCond .eq 77, 3) := dk_153 0 77 (dk_at dksX3_told_4 10 rfl rfl)
theorem dX3_told_145 : decode cX3_told 145 = .ok (.iconst 2, 1) := dk_5 (dk_at dksX3_told_4 13 rfl rfl)
theorem dX3_told_146 : decode cX3_told 146 = .ok (.istore_n 3, 1) := dk_62 (dk_at dksX3_told_4 14 rfl rfl)
theorem dX3_told_147 : decode cX3_told 147 = .ok (.goto 72, 3) := dk_167 0 72 (dk_at dksX3_told_4 15 rfl rfl)
theorem dX3_told_150 : decode cX3_told 150 = .ok (.aload_n 2, 1) := dk_44 (dk_at dksX3_told_4 18 rfl rfl)
theorem dX3_told_151 : decode cX3_told 151 = .ok (.ldc 159, 2) := dk_18 159 (dk_at dksX3_told_4 19 rfl rfl)
theorem dX3_told_153 : decode cX3_told 153 = .ok (.invokevirtual 83, 3) := dk_182 0 83 (dk_at dksX3_told_4 21 rfl rfl)
theorem dX3_told_156 : decode cX3_told 156 = .ok (.ifCond .eq 63, 3) := dk_153 0 63 (dk_at dksX3_told_5 0 rfl rfl)
theorem dX3_told_159 : decode cX3_told 159 = .ok (.iconst 3, 1) := dk_6 (dk_at dksX3_told_5 3 rfl rfl)
theorem dX3_told_160 : decode cX3_told 160 = .ok (.istore_n 3, 1) := dk_62 (dk_at dksX3_told_5 4 rfl rfl)
theorem dX3_told_161 : decode cX3_told 161 = .ok (.goto 58, 3) := dk_167 0 58 (dk_at dksX3_told_5 5 rfl rfl)
theorem dX3_told_164 : decode cX3_told 164 = .ok (.aload_n 2, 1) := dk_44 (dk_at dksX3_told_5 8 rfl rfl)
theorem dX3_told_165 : decode cX3_told 165 = .ok (.ldc 161, 2) := dk_18 161 (dk_at dksX3_told_5 9 rfl rfl)
theorem dX3_told_167 : decode cX3_told 167 = .ok (.invokevirtual 83, 3) := dk_182 0 83 (dk_at dksX3_told_5 11 rfl rfl)
theorem dX3_told_170 : decode cX3_told 170 = .ok (.ifCond .eq 49, 3) := dk_153 0 49 (dk_at dksX3_told_5 14 rfl rfl)
theorem dX3_told_173 : decode cX3_told 173 = .ok (.iconst 4, 1) := dk_7 (dk_at dksX3_told_5 17 rfl rfl)
theorem dX3_told_174 : decode cX3_told 174 = .ok (.istore_n 3, 1) := dk_62 (dk_at dksX3_told_5 18 rfl rfl)
theorem dX3_told_175 : decode cX3_told 175 = .ok (.goto 44, 3) := dk_167 0 44 (dk_at dksX3_told_5 19 rfl rfl)
theorem dX3_told_178 : decode cX3_told 178 = .ok (.aload_n 2, 1) := dk_44 (dk_at dksX3_told_5 22 rfl rfl)
theorem dX3_told_179 : decode cX3_told 179 = .ok (.ldc 163, 2) := dk_18 163 (dk_at dksX3_told_6 0 rfl rfl)
theorem dX3_told_181 : decode cX3_told 181 = .ok (.invokevirtual 83, 3) := dk_182 0 83 (dk_at dksX3_told_6 2 rfl rfl)
theorem dX3_told_184 : decode cX3_told 184 = .ok (.ifCond .eq 35, 3) := dk_153 0 35 (dk_at dksX3_told_6 5 rfl rfl)
theorem dX3_told_187 : decode cX3_told 187 = .ok (.iconst 5, 1) := dk_8 (dk_at dksX3_told_6 8 rfl rfl)
theorem dX3_told_188 : decode cX3_told 188 = .ok (.istore_n 3, 1) := dk_62 (dk_at dksX3_told_6 9 rfl rfl)
theorem dX3_told_189 : decode cX3_told 189 = .ok (.goto 30, 3) := dk_167 0 30 (dk_at dksX3_told_6 10 rfl rfl)
theorem dX3_told_192 : decode cX3_told 192 = .ok (.aload_n 2, 1) := dk_44 (dk_at dksX3_told_6 13 rfl rfl)
theorem dX3_told_193 : decode cX3_told 193 = .ok (.ldc 165, 2) := dk_18 165 (dk_at dksX3_told_6 14 rfl rfl)
theorem dX3_told_195 : decode cX3_told 195 = .ok (.invokevirtual 83, 3) := dk_182 0 83 (dk_at dksX3_told_6 16 rfl rfl)
theorem dX3_told_198 : decode cX3_told 198 = .ok (.ifCond .eq 21, 3) := dk_153 0 21 (dk_at dksX3_told_6 19 rfl rfl)
theorem dX3_told_201 : decode cX3_told 201 = .ok (.bipush 6, 2) := dk_16 6 (dk_at dksX3_told_6 22 rfl rfl)
theorem dX3_told_203 : decode cX3_told 203 = .ok (.istore_n 3, 1) := dk_62 (dk_at dksX3_told_7 0 rfl rfl)
theorem dX3_told_204 : decode cX3_told 204 = .ok (.goto 15, 3) := dk_167 0 15 (dk_at dksX3_told_7 1 rfl rfl)
theorem dX3_told_207 : decode cX3_told 207 = .ok (.aload_n 2, 1) := dk_44 (dk_at dksX3_told_7 4 rfl rfl)
theorem dX3_told_208 : decode cX3_told 208 = .ok (.ldc 167, 2) := dk_18 167 (dk_at dksX3_told_7 5 rfl rfl)
theorem dX3_told_210 : decode cX3_told 210 = .ok (.invokevirtual 83, 3) := dk_182 0 83 (dk_at dksX3_told_7 7 rfl rfl)
theorem dX3_told_213 : decode cX3_told 213 = .ok (.ifCond .eq 6, 3) := dk_153 0 6 (dk_at dksX3_told_7 10 rfl rfl)
theorem dX3_told_216 : decode cX3_told 216 = .ok (.bipush 7, 2) := dk_16 7 (dk_at dksX3_told_7 13 rfl rfl)
theorem dX3_told_218 : decode cX3_told 218 = .ok (.istore_n 3, 1) := dk_62 (dk_at dksX3_told_7 15 rfl rfl)
theorem dX3_told_219 : decode cX3_told 219 = .ok (.iload_n 3, 1) := dk_29 (dk_at dksX3_told_7 16 rfl rfl)
theorem dX3_told_220 : decode cX3_told 220 = .ok (.tableswitch 101 0 7 #[48, 48, 57, 64, 71, 79, 87, 94], 48) := by decide +kernel
theorem dX3_told_268 : decode cX3_told 268 = .ok (.aload_n 0, 1) := dk_42 (dk_at dksX3_told_9 0 rfl rfl)
theorem dX3_told_269 : decode cX3_told 269 = .ok (.iconst 0, 1) := dk_3 (dk_at dksX3_told_9 1 rfl rfl)
theorem dX3_told_270 : decode cX3_told 270 = .ok (.iconst 1, 1) := dk_4 (dk_at dksX3_told_9 2 rfl rfl)
theorem dX3_told_271 : decode cX3_told 271 = .ok (.invokevirtual 169, 3) := dk_182 0 169 (dk_at dksX3_told_9 3 rfl rfl)
theorem dX3_told_274 : decode cX3_told 274 = .ok (.goto 53, 3) := dk_167 0 53 (dk_at dksX3_told_9 6 rfl rfl)
theorem dX3_told_277 : decode cX3_told 277 = .ok (.aload_n 0, 1) := dk_42 (dk_at dksX3_told_9 9 rfl rfl)
theorem dX3_told_278 : decode cX3_told 278 = .ok (.invokevirtual 173, 3) := dk_182 0 173 (dk_at dksX3_told_9 10 rfl rfl)
theorem dX3_told_281 : decode cX3_told 281 = .ok (.goto 46, 3) := dk_167 0 46 (dk_at dksX3_told_9 13 rfl rfl)
theorem dX3_told_284 : decode cX3_told 284 = .ok (.aload_n 0, 1) := dk_42 (dk_at dksX3_told_9 16 rfl rfl)
theorem dX3_told_285 : decode cX3_told 285 = .ok (.invokevirtual 175, 3) := dk_182 0 175 (dk_at dksX3_told_9 17 rfl rfl)
theorem dX3_told_288 : decode cX3_told 288 = .ok (.goto 39, 3) := dk_167 0 39 (dk_at dksX3_told_9 20 rfl rfl)
theorem dX3_told_291 : decode cX3_told 291 = .ok (.aload_n 0, 1) := dk_42 (dk_at dksX3_told_9 23 rfl rfl)
theorem dX3_told_292 : decode cX3_told 292 = .ok (.iconst 0, 1) := dk_3 (dk_at dksX3_told_10 0 rfl rfl)
theorem dX3_told_293 : decode cX3_told 293 = .ok (.invokevirtual 177, 3) := dk_182 0 177 (dk_at dksX3_told_10 1 rfl rfl)
theorem dX3_told_296 : decode cX3_told 296 = .ok (.goto 31, 3) := dk_167 0 31 (dk_at dksX3_told_10 4 rfl rfl)
theorem dX3_told_299 : decode cX3_told 299 = .ok (.aload_n 0, 1) := dk_42 (dk_at dksX3_told_10 7 rfl rfl)
theorem dX3_told_300 : decode cX3_told 300 = .ok (.iconst 1, 1) := dk_4 (dk_at dksX3_told_10 8 rfl rfl)
theorem dX3_told_301 : decode cX3_told 301 = .ok (.invokevirtual 177, 3) := dk_182 0 177 (dk_at dksX3_told_10 9 rfl rfl)
theorem dX3_told_304 : decode cX3_told 304 = .ok (.goto 23, 3) := dk_167 0 23 (dk_at dksX3_told_10 12 rfl rfl)
theorem dX3_told_307 : decode cX3_told 307 = .ok (.aload_n 0, 1) := dk_42 (dk_at dksX3_told_10 15 rfl rfl)
theorem dX3_told_308 : decode cX3_told 308 = .ok (.invokevirtual 181, 3) := dk_182 0 181 (dk_at dksX3_told_10 16 rfl rfl)
theorem dX3_told_311 : decode cX3_told 311 = .ok (.goto 16, 3) := dk_167 0 16 (dk_at dksX3_told_10 19 rfl rfl)
theorem dX3_told_314 : decode cX3_told 314 = .ok (.aload_n 0, 1) := dk_42 (dk_at dksX3_told_10 22 rfl rfl)
theorem dX3_told_315 : decode cX3_told 315 = .ok (.invokevirtual 183, 3) := dk_182 0 183 (dk_at dksX3_told_11 0 rfl rfl)
theorem dX3_told_318 : decode cX3_told 318 = .ok (.goto 9, 3) := dk_167 0 9 (dk_at dksX3_told_11 3 rfl rfl)
theorem dX3_told_321 : decode cX3_told 321 = .ok (.aload_n 0, 1) := dk_42 (dk_at dksX3_told_11 6 rfl rfl)
theorem dX3_told_322 : decode cX3_told 322 = .ok (.iconst 1, 1) := dk_4 (dk_at dksX3_told_11 7 rfl rfl)
theorem dX3_told_323 : decode cX3_told 323 = .ok (.invokevirtual 48, 3) := dk_182 0 48 (dk_at dksX3_told_11 8 rfl rfl)
theorem dX3_told_326 : decode cX3_told 326 = .ok (.athrow, 1) := dk_191 (dk_at dksX3_told_11 11 rfl rfl)
theorem dX3_told_327 : decode cX3_told 327 = .ok (.astore_n 1, 1) := dk_76 (dk_at dksX3_told_11 12 rfl rfl)
theorem dX3_told_328 : decode cX3_told 328 = .ok (.aload_n 0, 1) := dk_42 (dk_at dksX3_told_11 13 rfl rfl)
theorem dX3_told_329 : decode cX3_told 329 = .ok (.bipush 59, 2) := dk_16 59 (dk_at dksX3_told_11 14 rfl rfl)
theorem dX3_told_331 : decode cX3_told 331 = .ok (.invokevirtual 96, 3) := dk_182 0 96 (dk_at dksX3_told_11 16 rfl rfl)
theorem dX3_told_334 : decode cX3_told 334 = .ok (.aload_n 1, 1) := dk_43 (dk_at dksX3_told_11 19 rfl rfl)
theorem dX3_told_335 : decode cX3_told 335 = .ok (.areturn, 1) := dk_176 (dk_at dksX3_told_11 20 rfl rfl)
abbrev cX3_act : ByteArray := prog_8_method_17_code
def yX3_act : MethodName := ⟨RX3, "act", "(IZ)LDeltaIndex$Tell;"⟩
def dkwX3_act_3 : List UInt8 := [182, 0, 191, 167, 0, 4, 1, 183, 0, 197, 176]
abbrev dktX3_act_3 : List UInt8 := dkwX3_act_3 ++ []
def dkwX3_act_2 : List UInt8 := [182, 0, 59, 42, 182, 0, 191, 58, 4, 187, 0, 195, 89, 27, 29, 28, 25, 4, 29, 4, 160, 0, 10, 42]
abbrev dktX3_act_2 : List UInt8 := dkwX3_act_2 ++ dktX3_act_3
def dkwX3_act_1 : List UInt8 := [167, 0, 4, 3, 62, 29, 4, 159, 0, 14, 29, 5, 159, 0, 9, 42, 4, 182, 0, 48, 191, 42]
abbrev dktX3_act_1 : List UInt8 := dkwX3_act_1 ++ dktX3_act_2
def dkwX3_act_0 : List UInt8 := [42, 182, 0, 65, 6, 160, 0, 20, 42, 180, 0, 9, 42, 180, 0, 31, 182, 0, 79, 184, 0, 186]
abbrev dktX3_act_0 : List UInt8 := dkwX3_act_0 ++ dktX3_act_1
theorem dksX3_act_0 : cX3_act.data.toList.drop 0 = dktX3_act_0 := by decide +kernel
theorem dksX3_act_1 : cX3_act.data.toList.drop 22 = dktX3_act_1 := dk_seg dksX3_act_0 22 rfl rfl
theorem dksX3_act_2 : cX3_act.data.toList.drop 44 = dktX3_act_2 := dk_seg dksX3_act_1 22 rfl rfl
theorem dksX3_act_3 : cX3_act.data.toList.drop 68 = dktX3_act_3 := dk_seg dksX3_act_2 24 rfl rfl
theorem dX3_act_0 : decode cX3_act 0 = .ok (.aload_n 0, 1) := dk_42 (dk_at dksX3_act_0 0 rfl rfl)
theorem dX3_act_1 : decode cX3_act 1 = .ok (.invokevirtual 65, 3) := dk_182 0 65 (dk_at dksX3_act_0 1 rfl rfl)
theorem dX3_act_4 : decode cX3_act 4 = .ok (.iconst 3, 1) := dk_6 (dk_at dksX3_act_0 4 rfl rfl)
theorem dX3_act_5 : decode cX3_act 5 = .ok (.if_icmp .ne 20, 3) := dk_160 0 20 (dk_at dksX3_act_0 5 rfl rfl)
theorem dX3_act_8 : decode cX3_act 8 = .ok (.aload_n 0, 1) := dk_42 (dk_at dksX3_act_0 8 rfl rfl)
theorem dX3_act_9 : decode cX3_act 9 = .ok (.getfield 9, 3) := dk_180 0 9 (dk_at dksX3_act_0 9 rfl rfl)
theorem dX3_act_12 : decode cX3_act 12 = .ok (.aload_n 0, 1) := dk_42 (dk_at dksX3_act_0 12 rfl rfl)
theorem dX3_act_13 : decode cX3_act 13 = .ok (.getfield 31, 3) := dk_180 0 31 (dk_at dksX3_act_0 13 rfl rfl)
theorem dX3_act_16 : decode cX3_act 16 = .ok (.invokevirtual 79, 3) := dk_182 0 79 (dk_at dksX3_act_0 16 rfl rfl)
theorem dX3_act_19 : decode cX3_act 19 = .ok (.invokestatic 186, 3) := dk_184 0 186 (dk_at dksX3_act_0 19 rfl rfl)
theorem dX3_act_22 : decode cX3_act 22 = .ok (.goto 4, 3) := dk_167 0 4 (dk_at dksX3_act_1 0 rfl rfl)
theorem dX3_act_25 : decode cX3_act 25 = .ok (.iconst 0, 1) := dk_3 (dk_at dksX3_act_1 3 rfl rfl)
theorem dX3_act_26 : decode cX3_act 26 = .ok (.istore_n 3, 1) := dk_62 (dk_at dksX3_act_1 4 rfl rfl)
theorem dX3_act_27 : decode cX3_act 27 = .ok (.iload_n 3, 1) := dk_29 (dk_at dksX3_act_1 5 rfl rfl)
theorem dX3_act_28 : decode cX3_act 28 = .ok (.iconst 1, 1) := dk_4 (dk_at dksX3_act_1 6 rfl rfl)
theorem dX3_act_29 : decode cX3_act 29 = .ok (.if_icmp .eq 14, 3) := dk_159 0 14 (dk_at dksX3_act_1 7 rfl rfl)
theorem dX3_act_32 : decode cX3_act 32 = .ok (.iload_n 3, 1) := dk_29 (dk_at dksX3_act_1 10 rfl rfl)
theorem dX3_act_33 : decode cX3_act 33 = .ok (.iconst 2, 1) := dk_5 (dk_at dksX3_act_1 11 rfl rfl)
theorem dX3_act_34 : decode cX3_act 34 = .ok (.if_icmp .eq 9, 3) := dk_159 0 9 (dk_at dksX3_act_1 12 rfl rfl)
theorem dX3_act_37 : decode cX3_act 37 = .ok (.aload_n 0, 1) := dk_42 (dk_at dksX3_act_1 15 rfl rfl)
theorem dX3_act_38 : decode cX3_act 38 = .ok (.iconst 1, 1) := dk_4 (dk_at dksX3_act_1 16 rfl rfl)
theorem dX3_act_39 : decode cX3_act 39 = .ok (.invokevirtual 48, 3) := dk_182 0 48 (dk_at dksX3_act_1 17 rfl rfl)
theorem dX3_act_42 : decode cX3_act 42 = .ok (.athrow, 1) := dk_191 (dk_at dksX3_act_1 20 rfl rfl)
theorem dX3_act_43 : decode cX3_act 43 = .ok (.aload_n 0, 1) := dk_42 (dk_at dksX3_act_1 21 rfl rfl)
theorem dX3_act_44 : decode cX3_act 44 = .ok (.invokevirtual 59, 3) := dk_182 0 59 (dk_at dksX3_act_2 0 rfl rfl)
theorem dX3_act_47 : decode cX3_act 47 = .ok (.aload_n 0, 1) := dk_42 (dk_at dksX3_act_2 3 rfl rfl)
theorem dX3_act_48 : decode cX3_act 48 = .ok (.invokevirtual 191, 3) := dk_182 0 191 (dk_at dksX3_act_2 4 rfl rfl)
theorem dX3_act_51 : decode cX3_act 51 = .ok (.astore 4, 2) := dk_58 4 (dk_at dksX3_act_2 7 rfl rfl)
theorem dX3_act_53 : decode cX3_act 53 = .ok (.new 195, 3) := dk_187 0 195 (dk_at dksX3_act_2 9 rfl rfl)
theorem dX3_act_56 : decode cX3_act 56 = .ok (.dup, 1) := dk_89 (dk_at dksX3_act_2 12 rfl rfl)
theorem dX3_act_57 : decode cX3_act 57 = .ok (.iload_n 1, 1) := dk_27 (dk_at dksX3_act_2 13 rfl rfl)
theorem dX3_act_58 : decode cX3_act 58 = .ok (.iload_n 3, 1) := dk_29 (dk_at dksX3_act_2 14 rfl rfl)
theorem dX3_act_59 : decode cX3_act 59 = .ok (.iload_n 2, 1) := dk_28 (dk_at dksX3_act_2 15 rfl rfl)
theorem dX3_act_60 : decode cX3_act 60 = .ok (.aload 4, 2) := dk_25 4 (dk_at dksX3_act_2 16 rfl rfl)
theorem dX3_act_62 : decode cX3_act 62 = .ok (.iload_n 3, 1) := dk_29 (dk_at dksX3_act_2 18 rfl rfl)
theorem dX3_act_63 : decode cX3_act 63 = .ok (.iconst 1, 1) := dk_4 (dk_at dksX3_act_2 19 rfl rfl)
theorem dX3_act_64 : decode cX3_act 64 = .ok (.if_icmp .ne 10, 3) := dk_160 0 10 (dk_at dksX3_act_2 20 rfl rfl)
theorem dX3_act_67 : decode cX3_act 67 = .ok (.aload_n 0, 1) := dk_42 (dk_at dksX3_act_2 23 rfl rfl)
theorem dX3_act_68 : decode cX3_act 68 = .ok (.invokevirtual 191, 3) := dk_182 0 191 (dk_at dksX3_act_3 0 rfl rfl)
theorem dX3_act_71 : decode cX3_act 71 = .ok (.goto 4, 3) := dk_167 0 4 (dk_at dksX3_act_3 3 rfl rfl)
theorem dX3_act_74 : decode cX3_act 74 = .ok (.aconst_null, 1) := dk_1 (dk_at dksX3_act_3 6 rfl rfl)
theorem dX3_act_75 : decode cX3_act 75 = .ok (.invokespecial 197, 3) := dk_183 0 197 (dk_at dksX3_act_3 7 rfl rfl)
theorem dX3_act_78 : decode cX3_act 78 = .ok (.areturn, 1) := dk_176 (dk_at dksX3_act_3 10 rfl rfl)
abbrev cX3_sum : ByteArray := prog_8_method_23_code
def yX3_sum : MethodName := ⟨RX3, "sum", "()LDeltaIndex$Sum;"⟩
def dkwX3_sum_2 : List UInt8 := [182, 0, 212, 183, 0, 217, 76, 167, 255, 207, 43, 176]
abbrev dktX3_sum_2 : List UInt8 := dkwX3_sum_2 ++ []
def dkwX3_sum_1 : List UInt8 := [180, 0, 9, 180, 0, 52, 42, 180, 0, 31, 53, 61, 42, 182, 0, 59, 187, 0, 215, 89, 28, 43, 42]
abbrev dktX3_sum_1 : List UInt8 := dkwX3_sum_1 ++ dktX3_sum_2
def dkwX3_sum_0 : List UInt8 := [42, 182, 0, 212, 76, 42, 16, 43, 182, 0, 55, 154, 0, 12, 42, 16, 45, 182, 0, 55, 153, 0, 37, 42]
abbrev dktX3_sum_0 : List UInt8 := dkwX3_sum_0 ++ dktX3_sum_1
theorem dksX3_sum_0 : cX3_sum.data.toList.drop 0 = dktX3_sum_0 := by decide +kernel
theorem dksX3_sum_1 : cX3_sum.data.toList.drop 24 = dktX3_sum_1 := dk_seg dksX3_sum_0 24 rfl rfl
theorem dksX3_sum_2 : cX3_sum.data.toList.drop 47 = dktX3_sum_2 := dk_seg dksX3_sum_1 23 rfl rfl
theorem dX3_sum_0 : decode cX3_sum 0 = .ok (.aload_n 0, 1) := dk_42 (dk_at dksX3_sum_0 0 rfl rfl)
theorem dX3_sum_1 : decode cX3_sum 1 = .ok (.invokevirtual 212, 3) := dk_182 0 212 (dk_at dksX3_sum_0 1 rfl rfl)
theorem dX3_sum_4 : decode cX3_sum 4 = .ok (.astore_n 1, 1) := dk_76 (dk_at dksX3_sum_0 4 rfl rfl)
theorem dX3_sum_5 : decode cX3_sum 5 = .ok (.aload_n 0, 1) := dk_42 (dk_at dksX3_sum_0 5 rfl rfl)
theorem dX3_sum_6 : decode cX3_sum 6 = .ok (.bipush 43, 2) := dk_16 43 (dk_at dksX3_sum_0 6 rfl rfl)
theorem dX3_sum_8 : decode cX3_sum 8 = .ok (.invokevirtual 55, 3) := dk_182 0 55 (dk_at dksX3_sum_0 8 rfl rfl)
theorem dX3_sum_11 : decode cX3_sum 11 = .ok (.ifCond .ne 12, 3) := dk_154 0 12 (dk_at dksX3_sum_0 11 rfl rfl)
theorem dX3_sum_14 : decode cX3_sum 14 = .ok (.aload_n 0, 1) := dk_42 (dk_at dksX3_sum_0 14 rfl rfl)
theorem dX3_sum_15 : decode cX3_sum 15 = .ok (.bipush 45, 2) := dk_16 45 (dk_at dksX3_sum_0 15 rfl rfl)
theorem dX3_sum_17 : decode cX3_sum 17 = .ok (.invokevirtual 55, 3) := dk_182 0 55 (dk_at dksX3_sum_0 17 rfl rfl)
theorem dX3_sum_20 : decode cX3_sum 20 = .ok (.ifCond .eq 37, 3) := dk_153 0 37 (dk_at dksX3_sum_0 20 rfl rfl)
theorem dX3_sum_23 : decode cX3_sum 23 = .ok (.aload_n 0, 1) := dk_42 (dk_at dksX3_sum_0 23 rfl rfl)
theorem dX3_sum_24 : decode cX3_sum 24 = .ok (.getfield 9, 3) := dk_180 0 9 (dk_at dksX3_sum_1 0 rfl rfl)
theorem dX3_sum_27 : decode cX3_sum 27 = .ok (.getfield 52, 3) := dk_180 0 52 (dk_at dksX3_sum_1 3 rfl rfl)
theorem dX3_sum_30 : decode cX3_sum 30 = .ok (.aload_n 0, 1) := dk_42 (dk_at dksX3_sum_1 6 rfl rfl)
theorem dX3_sum_31 : decode cX3_sum 31 = .ok (.getfield 31, 3) := dk_180 0 31 (dk_at dksX3_sum_1 7 rfl rfl)
theorem dX3_sum_34 : decode cX3_sum 34 = .ok (.saload, 1) := dk_53 (dk_at dksX3_sum_1 10 rfl rfl)
theorem dX3_sum_35 : decode cX3_sum 35 = .ok (.istore_n 2, 1) := dk_61 (dk_at dksX3_sum_1 11 rfl rfl)
theorem dX3_sum_36 : decode cX3_sum 36 = .ok (.aload_n 0, 1) := dk_42 (dk_at dksX3_sum_1 12 rfl rfl)
theorem dX3_sum_37 : decode cX3_sum 37 = .ok (.invokevirtual 59, 3) := dk_182 0 59 (dk_at dksX3_sum_1 13 rfl rfl)
theorem dX3_sum_40 : decode cX3_sum 40 = .ok (.new 215, 3) := dk_187 0 215 (dk_at dksX3_sum_1 16 rfl rfl)
theorem dX3_sum_43 : decode cX3_sum 43 = .ok (.dup, 1) := dk_89 (dk_at dksX3_sum_1 19 rfl rfl)
theorem dX3_sum_44 : decode cX3_sum 44 = .ok (.iload_n 2, 1) := dk_28 (dk_at dksX3_sum_1 20 rfl rfl)
theorem dX3_sum_45 : decode cX3_sum 45 = .ok (.aload_n 1, 1) := dk_43 (dk_at dksX3_sum_1 21 rfl rfl)
theorem dX3_sum_46 : decode cX3_sum 46 = .ok (.aload_n 0, 1) := dk_42 (dk_at dksX3_sum_1 22 rfl rfl)
theorem dX3_sum_47 : decode cX3_sum 47 = .ok (.invokevirtual 212, 3) := dk_182 0 212 (dk_at dksX3_sum_2 0 rfl rfl)
theorem dX3_sum_50 : decode cX3_sum 50 = .ok (.invokespecial 217, 3) := dk_183 0 217 (dk_at dksX3_sum_2 3 rfl rfl)
theorem dX3_sum_53 : decode cX3_sum 53 = .ok (.astore_n 1, 1) := dk_76 (dk_at dksX3_sum_2 6 rfl rfl)
theorem dX3_sum_54 : decode cX3_sum 54 = .ok (.goto (-49), 3) := dk_167 255 207 (dk_at dksX3_sum_2 7 rfl rfl)
theorem dX3_sum_57 : decode cX3_sum 57 = .ok (.aload_n 1, 1) := dk_43 (dk_at dksX3_sum_2 10 rfl rfl)
theorem dX3_sum_58 : decode cX3_sum 58 = .ok (.areturn, 1) := dk_176 (dk_at dksX3_sum_2 11 rfl rfl)
abbrev cX3_part : ByteArray := prog_8_method_24_code
def yX3_part : MethodName := ⟨RX3, "part", "()LDeltaIndex$Sum;"⟩
def dkwX3_part_2 : List UInt8 := [182, 0, 59, 187, 0, 215, 89, 28, 43, 42, 182, 0, 220, 183, 0, 217, 76, 167, 255, 198, 43, 176]
abbrev dktX3_part_2 : List UInt8 := dkwX3_part_2 ++ []
def dkwX3_part_1 : List UInt8 := [16, 37, 182, 0, 55, 153, 0, 37, 42, 180, 0, 9, 180, 0, 52, 42, 180, 0, 31, 53, 61, 42]
abbrev dktX3_part_1 : List UInt8 := dkwX3_part_1 ++ dktX3_part_2
def dkwX3_part_0 : List UInt8 := [42, 182, 0, 220, 76, 42, 16, 42, 182, 0, 55, 154, 0, 21, 42, 16, 47, 182, 0, 55, 154, 0, 12, 42]
abbrev dktX3_part_0 : List UInt8 := dkwX3_part_0 ++ dktX3_part_1
theorem dksX3_part_0 : cX3_part.data.toList.drop 0 = dktX3_part_0 := by decide +kernel
theorem dksX3_part_1 : cX3_part.data.toList.drop 24 = dktX3_part_1 := dk_seg dksX3_part_0 24 rfl rfl
theorem dksX3_part_2 : cX3_part.data.toList.drop 46 = dktX3_part_2 := dk_seg dksX3_part_1 22 rfl rfl
theorem dX3_part_0 : decode cX3_part 0 = .ok (.aload_n 0, 1) := dk_42 (dk_at dksX3_part_0 0 rfl rfl)
theorem dX3_part_1 : decode cX3_part 1 = .ok (.invokevirtual 220, 3) := dk_182 0 220 (dk_at dksX3_part_0 1 rfl rfl)
theorem dX3_part_4 : decode cX3_part 4 = .ok (.astore_n 1, 1) := dk_76 (dk_at dksX3_part_0 4 rfl rfl)
theorem dX3_part_5 : decode cX3_part 5 = .ok (.aload_n 0, 1) := dk_42 (dk_at dksX3_part_0 5 rfl rfl)
theorem dX3_part_6 : decode cX3_part 6 = .ok (.bipush 42, 2) := dk_16 42 (dk_at dksX3_part_0 6 rfl rfl)
theorem dX3_part_8 : decode cX3_part 8 = .ok (.invokevirtual 55, 3) := dk_182 0 55 (dk_at dksX3_part_0 8 rfl rfl)
theorem dX3_part_11 : decode cX3_part 11 = .ok (.ifCond .ne 21, 3) := dk_154 0 21 (dk_at dksX3_part_0 11 rfl rfl)
theorem dX3_part_14 : decode cX3_part 14 = .ok (.aload_n 0, 1) := dk_42 (dk_at dksX3_part_0 14 rfl rfl)
theorem dX3_part_15 : decode cX3_part 15 = .ok (.bipush 47, 2) := dk_16 47 (dk_at dksX3_part_0 15 rfl rfl)
theorem dX3_part_17 : decode cX3_part 17 = .ok (.invokevirtual 55, 3) := dk_182 0 55 (dk_at dksX3_part_0 17 rfl rfl)
theorem dX3_part_20 : decode cX3_part 20 = .ok (.ifCond .ne 12, 3) := dk_154 0 12 (dk_at dksX3_part_0 20 rfl rfl)
theorem dX3_part_23 : decode cX3_part 23 = .ok (.aload_n 0, 1) := dk_42 (dk_at dksX3_part_0 23 rfl rfl)
theorem dX3_part_24 : decode cX3_part 24 = .ok (.bipush 37, 2) := dk_16 37 (dk_at dksX3_part_1 0 rfl rfl)
theorem dX3_part_26 : decode cX3_part 26 = .ok (.invokevirtual 55, 3) := dk_182 0 55 (dk_at dksX3_part_1 2 rfl rfl)
theorem dX3_part_29 : decode cX3_part 29 = .ok (.ifCond .eq 37, 3) := dk_153 0 37 (dk_at dksX3_part_1 5 rfl rfl)
theorem dX3_part_32 : decode cX3_part 32 = .ok (.aload_n 0, 1) := dk_42 (dk_at dksX3_part_1 8 rfl rfl)
theorem dX3_part_33 : decode cX3_part 33 = .ok (.getfield 9, 3) := dk_180 0 9 (dk_at dksX3_part_1 9 rfl rfl)
theorem dX3_part_36 : decode cX3_part 36 = .ok (.getfield 52, 3) := dk_180 0 52 (dk_at dksX3_part_1 12 rfl rfl)
theorem dX3_part_39 : decode cX3_part 39 = .ok (.aload_n 0, 1) := dk_42 (dk_at dksX3_part_1 15 rfl rfl)
theorem dX3_part_40 : decode cX3_part 40 = .ok (.getfield 31, 3) := dk_180 0 31 (dk_at dksX3_part_1 16 rfl rfl)
theorem dX3_part_43 : decode cX3_part 43 = .ok (.saload, 1) := dk_53 (dk_at dksX3_part_1 19 rfl rfl)
theorem dX3_part_44 : decode cX3_part 44 = .ok (.istore_n 2, 1) := dk_61 (dk_at dksX3_part_1 20 rfl rfl)
theorem dX3_part_45 : decode cX3_part 45 = .ok (.aload_n 0, 1) := dk_42 (dk_at dksX3_part_1 21 rfl rfl)
theorem dX3_part_46 : decode cX3_part 46 = .ok (.invokevirtual 59, 3) := dk_182 0 59 (dk_at dksX3_part_2 0 rfl rfl)
theorem dX3_part_49 : decode cX3_part 49 = .ok (.new 215, 3) := dk_187 0 215 (dk_at dksX3_part_2 3 rfl rfl)
theorem dX3_part_52 : decode cX3_part 52 = .ok (.dup, 1) := dk_89 (dk_at dksX3_part_2 6 rfl rfl)
theorem dX3_part_53 : decode cX3_part 53 = .ok (.iload_n 2, 1) := dk_28 (dk_at dksX3_part_2 7 rfl rfl)
theorem dX3_part_54 : decode cX3_part 54 = .ok (.aload_n 1, 1) := dk_43 (dk_at dksX3_part_2 8 rfl rfl)
theorem dX3_part_55 : decode cX3_part 55 = .ok (.aload_n 0, 1) := dk_42 (dk_at dksX3_part_2 9 rfl rfl)
theorem dX3_part_56 : decode cX3_part 56 = .ok (.invokevirtual 220, 3) := dk_182 0 220 (dk_at dksX3_part_2 10 rfl rfl)
theorem dX3_part_59 : decode cX3_part 59 = .ok (.invokespecial 217, 3) := dk_183 0 217 (dk_at dksX3_part_2 13 rfl rfl)
theorem dX3_part_62 : decode cX3_part 62 = .ok (.astore_n 1, 1) := dk_76 (dk_at dksX3_part_2 16 rfl rfl)
theorem dX3_part_63 : decode cX3_part 63 = .ok (.goto (-58), 3) := dk_167 255 198 (dk_at dksX3_part_2 17 rfl rfl)
theorem dX3_part_66 : decode cX3_part 66 = .ok (.aload_n 1, 1) := dk_43 (dk_at dksX3_part_2 20 rfl rfl)
theorem dX3_part_67 : decode cX3_part 67 = .ok (.areturn, 1) := dk_176 (dk_at dksX3_part_2 21 rfl rfl)
abbrev cX3_unit : ByteArray := prog_8_method_25_code
def yX3_unit : MethodName := ⟨RX3, "unit", "()LDeltaIndex$Sum;"⟩
def dkwX3_unit_6 : List UInt8 := [182, 0, 96, 42, 89, 180, 0, 109, 4, 100, 181, 0, 109, 43, 176]
abbrev dktX3_unit_6 : List UInt8 := dkwX3_unit_6 ++ []
def dkwX3_unit_5 : List UInt8 := [42, 89, 180, 0, 109, 4, 96, 181, 0, 109, 42, 182, 0, 59, 42, 182, 0, 191, 76, 42, 16, 41]
abbrev dktX3_unit_5 : List UInt8 := dkwX3_unit_5 ++ dktX3_unit_6
def dkwX3_unit_4 : List UInt8 := [154, 0, 9, 42, 4, 182, 0, 48, 191, 42, 180, 0, 109, 16, 6, 160, 0, 9, 42, 5, 182, 0, 48, 191]
abbrev dktX3_unit_4 : List UInt8 := dkwX3_unit_4 ++ dktX3_unit_5
def dkwX3_unit_3 : List UInt8 := [180, 0, 52, 42, 180, 0, 31, 4, 100, 53, 16, 12, 100, 183, 0, 228, 176, 42, 16, 40, 182, 0, 55]
abbrev dktX3_unit_3 : List UInt8 := dkwX3_unit_3 ++ dktX3_unit_4
def dkwX3_unit_2 : List UInt8 := [42, 180, 0, 31, 53, 16, 12, 161, 0, 32, 42, 182, 0, 59, 187, 0, 226, 89, 42, 180, 0, 9]
abbrev dktX3_unit_2 : List UInt8 := dkwX3_unit_2 ++ dktX3_unit_3
def dkwX3_unit_1 : List UInt8 := [4, 100, 182, 0, 72, 183, 0, 225, 176, 42, 182, 0, 65, 6, 160, 0, 49, 42, 180, 0, 9, 180, 0, 52]
abbrev dktX3_unit_1 : List UInt8 := dkwX3_unit_1 ++ dktX3_unit_2
def dkwX3_unit_0 : List UInt8 := [42, 182, 0, 65, 4, 160, 0, 28, 42, 182, 0, 59, 187, 0, 223, 89, 42, 180, 0, 9, 42, 180, 0, 31]
abbrev dktX3_unit_0 : List UInt8 := dkwX3_unit_0 ++ dktX3_unit_1
theorem dksX3_unit_0 : cX3_unit.data.toList.drop 0 = dktX3_unit_0 := by decide +kernel
theorem dksX3_unit_1 : cX3_unit.data.toList.drop 24 = dktX3_unit_1 := dk_seg dksX3_unit_0 24 rfl rfl
theorem dksX3_unit_2 : cX3_unit.data.toList.drop 48 = dktX3_unit_2 := dk_seg dksX3_unit_1 24 rfl rfl
theorem dksX3_unit_3 : cX3_unit.data.toList.drop 70 = dktX3_unit_3 := dk_seg dksX3_unit_2 22 rfl rfl
theorem dksX3_unit_4 : cX3_unit.data.toList.drop 93 = dktX3_unit_4 := dk_seg dksX3_unit_3 23 rfl rfl
theorem dksX3_unit_5 : cX3_unit.data.toList.drop 117 = dktX3_unit_5 := dk_seg dksX3_unit_4 24 rfl rfl
theorem dksX3_unit_6 : cX3_unit.data.toList.drop 139 = dktX3_unit_6 := dk_seg dksX3_unit_5 22 rfl rfl
theorem dX3_unit_0 : decode cX3_unit 0 = .ok (.aload_n 0, 1) := dk_42 (dk_at dksX3_unit_0 0 rfl rfl)
theorem dX3_unit_1 : decode cX3_unit 1 = .ok (.invokevirtual 65, 3) := dk_182 0 65 (dk_at dksX3_unit_0 1 rfl rfl)
theorem dX3_unit_4 : decode cX3_unit 4 = .ok (.iconst 1, 1) := dk_4 (dk_at dksX3_unit_0 4 rfl rfl)
theorem dX3_unit_5 : decode cX3_unit 5 = .ok (.if_icmp .ne 28, 3) := dk_160 0 28 (dk_at dksX3_unit_0 5 rfl rfl)
theorem dX3_unit_8 : decode cX3_unit 8 = .ok (.aload_n 0, 1) := dk_42 (dk_at dksX3_unit_0 8 rfl rfl)
theorem dX3_unit_9 : decode cX3_unit 9 = .ok (.invokevirtual 59, 3) := dk_182 0 59 (dk_at dksX3_unit_0 9 rfl rfl)
theorem dX3_unit_12 : decode cX3_unit 12 = .ok (.new 223, 3) := dk_187 0 223 (dk_at dksX3_unit_0 12 rfl rfl)
theorem dX3_unit_15 : decode cX3_unit 15 = .ok (.dup, 1) := dk_89 (dk_at dksX3_unit_0 15 rfl rfl)
theorem dX3_unit_16 : decode cX3_unit 16 = .ok (.aload_n 0, 1) := dk_42 (dk_at dksX3_unit_0 16 rfl rfl)
theorem dX3_unit_17 : decode cX3_unit 17 = .ok (.getfield 9, 3) := dk_180 0 9 (dk_at dksX3_unit_0 17 rfl rfl)
theorem dX3_unit_20 : decode cX3_unit 20 = .ok (.aload_n 0, 1) := dk_42 (dk_at dksX3_unit_0 20 rfl rfl)
theorem dX3_unit_21 : decode cX3_unit 21 = .ok (.getfield 31, 3) := dk_180 0 31 (dk_at dksX3_unit_0 21 rfl rfl)
theorem dX3_unit_24 : decode cX3_unit 24 = .ok (.iconst 1, 1) := dk_4 (dk_at dksX3_unit_1 0 rfl rfl)
theorem dX3_unit_25 : decode cX3_unit 25 = .ok (.isub, 1) := dk_100 (dk_at dksX3_unit_1 1 rfl rfl)
theorem dX3_unit_26 : decode cX3_unit 26 = .ok (.invokevirtual 72, 3) := dk_182 0 72 (dk_at dksX3_unit_1 2 rfl rfl)
theorem dX3_unit_29 : decode cX3_unit 29 = .ok (.invokespecial 225, 3) := dk_183 0 225 (dk_at dksX3_unit_1 5 rfl rfl)
theorem dX3_unit_32 : decode cX3_unit 32 = .ok (.areturn, 1) := dk_176 (dk_at dksX3_unit_1 8 rfl rfl)
theorem dX3_unit_33 : decode cX3_unit 33 = .ok (.aload_n 0, 1) := dk_42 (dk_at dksX3_unit_1 9 rfl rfl)
theorem dX3_unit_34 : decode cX3_unit 34 = .ok (.invokevirtual 65, 3) := dk_182 0 65 (dk_at dksX3_unit_1 10 rfl rfl)
theorem dX3_unit_37 : decode cX3_unit 37 = .ok (.iconst 3, 1) := dk_6 (dk_at dksX3_unit_1 13 rfl rfl)
theorem dX3_unit_38 : decode cX3_unit 38 = .ok (.if_icmp .ne 49, 3) := dk_160 0 49 (dk_at dksX3_unit_1 14 rfl rfl)
theorem dX3_unit_41 : decode cX3_unit 41 = .ok (.aload_n 0, 1) := dk_42 (dk_at dksX3_unit_1 17 rfl rfl)
theorem dX3_unit_42 : decode cX3_unit 42 = .ok (.getfield 9, 3) := dk_180 0 9 (dk_at dksX3_unit_1 18 rfl rfl)
theorem dX3_unit_45 : decode cX3_unit 45 = .ok (.getfield 52, 3) := dk_180 0 52 (dk_at dksX3_unit_1 21 rfl rfl)
theorem dX3_unit_48 : decode cX3_unit 48 = .ok (.aload_n 0, 1) := dk_42 (dk_at dksX3_unit_2 0 rfl rfl)
theorem dX3_unit_49 : decode cX3_unit 49 = .ok (.getfield 31, 3) := dk_180 0 31 (dk_at dksX3_unit_2 1 rfl rfl)
theorem dX3_unit_52 : decode cX3_unit 52 = .ok (.saload, 1) := dk_53 (dk_at dksX3_unit_2 4 rfl rfl)
theorem dX3_unit_53 : decode cX3_unit 53 = .ok (.bipush 12, 2) := dk_16 12 (dk_at dksX3_unit_2 5 rfl rfl)
theorem dX3_unit_55 : decode cX3_unit 55 = .ok (.if_icmp .lt 32, 3) := dk_161 0 32 (dk_at dksX3_unit_2 7 rfl rfl)
theorem dX3_unit_58 : decode cX3_unit 58 = .ok (.aload_n 0, 1) := dk_42 (dk_at dksX3_unit_2 10 rfl rfl)
theorem dX3_unit_59 : decode cX3_unit 59 = .ok (.invokevirtual 59, 3) := dk_182 0 59 (dk_at dksX3_unit_2 11 rfl rfl)
theorem dX3_unit_62 : decode cX3_unit 62 = .ok (.new 226, 3) := dk_187 0 226 (dk_at dksX3_unit_2 14 rfl rfl)
theorem dX3_unit_65 : decode cX3_unit 65 = .ok (.dup, 1) := dk_89 (dk_at dksX3_unit_2 17 rfl rfl)
theorem dX3_unit_66 : decode cX3_unit 66 = .ok (.aload_n 0, 1) := dk_42 (dk_at dksX3_unit_2 18 rfl rfl)
theorem dX3_unit_67 : decode cX3_unit 67 = .ok (.getfield 9, 3) := dk_180 0 9 (dk_at dksX3_unit_2 19 rfl rfl)
theorem dX3_unit_70 : decode cX3_unit 70 = .ok (.getfield 52, 3) := dk_180 0 52 (dk_at dksX3_unit_3 0 rfl rfl)
theorem dX3_unit_73 : decode cX3_unit 73 = .ok (.aload_n 0, 1) := dk_42 (dk_at dksX3_unit_3 3 rfl rfl)
theorem dX3_unit_74 : decode cX3_unit 74 = .ok (.getfield 31, 3) := dk_180 0 31 (dk_at dksX3_unit_3 4 rfl rfl)
theorem dX3_unit_77 : decode cX3_unit 77 = .ok (.iconst 1, 1) := dk_4 (dk_at dksX3_unit_3 7 rfl rfl)
theorem dX3_unit_78 : decode cX3_unit 78 = .ok (.isub, 1) := dk_100 (dk_at dksX3_unit_3 8 rfl rfl)
theorem dX3_unit_79 : decode cX3_unit 79 = .ok (.saload, 1) := dk_53 (dk_at dksX3_unit_3 9 rfl rfl)
theorem dX3_unit_80 : decode cX3_unit 80 = .ok (.bipush 12, 2) := dk_16 12 (dk_at dksX3_unit_3 10 rfl rfl)
theorem dX3_unit_82 : decode cX3_unit 82 = .ok (.isub, 1) := dk_100 (dk_at dksX3_unit_3 12 rfl rfl)
theorem dX3_unit_83 : decode cX3_unit 83 = .ok (.invokespecial 228, 3) := dk_183 0 228 (dk_at dksX3_unit_3 13 rfl rfl)
theorem dX3_unit_86 : decode cX3_unit 86 = .ok (.areturn, 1) := dk_176 (dk_at dksX3_unit_3 16 rfl rfl)
theorem dX3_unit_87 : decode cX3_unit 87 = .ok (.aload_n 0, 1) := dk_42 (dk_at dksX3_unit_3 17 rfl rfl)
theorem dX3_unit_88 : decode cX3_unit 88 = .ok (.bipush 40, 2) := dk_16 40 (dk_at dksX3_unit_3 18 rfl rfl)
theorem dX3_unit_90 : decode cX3_unit 90 = .ok (.invokevirtual 55, 3) := dk_182 0 55 (dk_at dksX3_unit_3 20 rfl rfl)
theorem dX3_unit_93 : decode cX3_unit 93 = .ok (.ifCond .ne 9, 3) := dk_154 0 9 (dk_at dksX3_unit_4 0 rfl rfl)
theorem dX3_unit_96 : decode cX3_unit 96 = .ok (.aload_n 0, 1) := dk_42 (dk_at dksX3_unit_4 3 rfl rfl)
theorem dX3_unit_97 : decode cX3_unit 97 = .ok (.iconst 1, 1) := dk_4 (dk_at dksX3_unit_4 4 rfl rfl)
theorem dX3_unit_98 : decode cX3_unit 98 = .ok (.invokevirtual 48, 3) := dk_182 0 48 (dk_at dksX3_unit_4 5 rfl rfl)
theorem dX3_unit_101 : decode cX3_unit 101 = .ok (.athrow, 1) := dk_191 (dk_at dksX3_unit_4 8 rfl rfl)
theorem dX3_unit_102 : decode cX3_unit 102 = .ok (.aload_n 0, 1) := dk_42 (dk_at dksX3_unit_4 9 rfl rfl)
theorem dX3_unit_103 : decode cX3_unit 103 = .ok (.getfield 109, 3) := dk_180 0 109 (dk_at dksX3_unit_4 10 rfl rfl)
theorem dX3_unit_106 : decode cX3_unit 106 = .ok (.bipush 6, 2) := dk_16 6 (dk_at dksX3_unit_4 13 rfl rfl)
theorem dX3_unit_108 : decode cX3_unit 108 = .ok (.if_icmp .ne 9, 3) := dk_160 0 9 (dk_at dksX3_unit_4 15 rfl rfl)
theorem dX3_unit_111 : decode cX3_unit 111 = .ok (.aload_n 0, 1) := dk_42 (dk_at dksX3_unit_4 18 rfl rfl)
theorem dX3_unit_112 : decode cX3_unit 112 = .ok (.iconst 2, 1) := dk_5 (dk_at dksX3_unit_4 19 rfl rfl)
theorem dX3_unit_113 : decode cX3_unit 113 = .ok (.invokevirtual 48, 3) := dk_182 0 48 (dk_at dksX3_unit_4 20 rfl rfl)
theorem dX3_unit_116 : decode cX3_unit 116 = .ok (.athrow, 1) := dk_191 (dk_at dksX3_unit_4 23 rfl rfl)
theorem dX3_unit_117 : decode cX3_unit 117 = .ok (.aload_n 0, 1) := dk_42 (dk_at dksX3_unit_5 0 rfl rfl)
theorem dX3_unit_118 : decode cX3_unit 118 = .ok (.dup, 1) := dk_89 (dk_at dksX3_unit_5 1 rfl rfl)
theorem dX3_unit_119 : decode cX3_unit 119 = .ok (.getfield 109, 3) := dk_180 0 109 (dk_at dksX3_unit_5 2 rfl rfl)
theorem dX3_unit_122 : decode cX3_unit 122 = .ok (.iconst 1, 1) := dk_4 (dk_at dksX3_unit_5 5 rfl rfl)
theorem dX3_unit_123 : decode cX3_unit 123 = .ok (.iadd, 1) := dk_96 (dk_at dksX3_unit_5 6 rfl rfl)
theorem dX3_unit_124 : decode cX3_unit 124 = .ok (.putfield 109, 3) := dk_181 0 109 (dk_at dksX3_unit_5 7 rfl rfl)
theorem dX3_unit_127 : decode cX3_unit 127 = .ok (.aload_n 0, 1) := dk_42 (dk_at dksX3_unit_5 10 rfl rfl)
theorem dX3_unit_128 : decode cX3_unit 128 = .ok (.invokevirtual 59, 3) := dk_182 0 59 (dk_at dksX3_unit_5 11 rfl rfl)
theorem dX3_unit_131 : decode cX3_unit 131 = .ok (.aload_n 0, 1) := dk_42 (dk_at dksX3_unit_5 14 rfl rfl)
theorem dX3_unit_132 : decode cX3_unit 132 = .ok (.invokevirtual 191, 3) := dk_182 0 191 (dk_at dksX3_unit_5 15 rfl rfl)
theorem dX3_unit_135 : decode cX3_unit 135 = .ok (.astore_n 1, 1) := dk_76 (dk_at dksX3_unit_5 18 rfl rfl)
theorem dX3_unit_136 : decode cX3_unit 136 = .ok (.aload_n 0, 1) := dk_42 (dk_at dksX3_unit_5 19 rfl rfl)
theorem dX3_unit_137 : decode cX3_unit 137 = .ok (.bipush 41, 2) := dk_16 41 (dk_at dksX3_unit_5 20 rfl rfl)
theorem dX3_unit_139 : decode cX3_unit 139 = .ok (.invokevirtual 96, 3) := dk_182 0 96 (dk_at dksX3_unit_6 0 rfl rfl)
theorem dX3_unit_142 : decode cX3_unit 142 = .ok (.aload_n 0, 1) := dk_42 (dk_at dksX3_unit_6 3 rfl rfl)
theorem dX3_unit_143 : decode cX3_unit 143 = .ok (.dup, 1) := dk_89 (dk_at dksX3_unit_6 4 rfl rfl)
theorem dX3_unit_144 : decode cX3_unit 144 = .ok (.getfield 109, 3) := dk_180 0 109 (dk_at dksX3_unit_6 5 rfl rfl)
theorem dX3_unit_147 : decode cX3_unit 147 = .ok (.iconst 1, 1) := dk_4 (dk_at dksX3_unit_6 8 rfl rfl)
theorem dX3_unit_148 : decode cX3_unit 148 = .ok (.isub, 1) := dk_100 (dk_at dksX3_unit_6 9 rfl rfl)
theorem dX3_unit_149 : decode cX3_unit 149 = .ok (.putfield 109, 3) := dk_181 0 109 (dk_at dksX3_unit_6 10 rfl rfl)
theorem dX3_unit_152 : decode cX3_unit 152 = .ok (.aload_n 1, 1) := dk_43 (dk_at dksX3_unit_6 13 rfl rfl)
theorem dX3_unit_153 : decode cX3_unit 153 = .ok (.areturn, 1) := dk_176 (dk_at dksX3_unit_6 14 rfl rfl)
abbrev cX3_begin : ByteArray := prog_8_method_18_code
def yX3_begin : MethodName := ⟨RX3, "begin", "()LDeltaIndex$Tell;"⟩
def dkwX3_begin_0 : List UInt8 := [42, 182, 0, 59, 42, 3, 6, 182, 0, 93, 60, 42, 27, 3, 182, 0, 169, 176]
abbrev dktX3_begin_0 : List UInt8 := dkwX3_begin_0 ++ []
theorem dksX3_begin_0 : cX3_begin.data.toList.drop 0 = dktX3_begin_0 := by decide +kernel
theorem dX3_begin_0 : decode cX3_begin 0 = .ok (.aload_n 0, 1) := dk_42 (dk_at dksX3_begin_0 0 rfl rfl)
theorem dX3_begin_1 : decode cX3_begin 1 = .ok (.invokevirtual 59, 3) := dk_182 0 59 (dk_at dksX3_begin_0 1 rfl rfl)
theorem dX3_begin_4 : decode cX3_begin 4 = .ok (.aload_n 0, 1) := dk_42 (dk_at dksX3_begin_0 4 rfl rfl)
theorem dX3_begin_5 : decode cX3_begin 5 = .ok (.iconst 0, 1) := dk_3 (dk_at dksX3_begin_0 5 rfl rfl)
theorem dX3_begin_6 : decode cX3_begin 6 = .ok (.iconst 3, 1) := dk_6 (dk_at dksX3_begin_0 6 rfl rfl)
theorem dX3_begin_7 : decode cX3_begin 7 = .ok (.invokevirtual 93, 3) := dk_182 0 93 (dk_at dksX3_begin_0 7 rfl rfl)
theorem dX3_begin_10 : decode cX3_begin 10 = .ok (.istore_n 1, 1) := dk_60 (dk_at dksX3_begin_0 10 rfl rfl)
theorem dX3_begin_11 : decode cX3_begin 11 = .ok (.aload_n 0, 1) := dk_42 (dk_at dksX3_begin_0 11 rfl rfl)
theorem dX3_begin_12 : decode cX3_begin 12 = .ok (.iload_n 1, 1) := dk_27 (dk_at dksX3_begin_0 12 rfl rfl)
theorem dX3_begin_13 : decode cX3_begin 13 = .ok (.iconst 0, 1) := dk_3 (dk_at dksX3_begin_0 13 rfl rfl)
theorem dX3_begin_14 : decode cX3_begin 14 = .ok (.invokevirtual 169, 3) := dk_182 0 169 (dk_at dksX3_begin_0 14 rfl rfl)
theorem dX3_begin_17 : decode cX3_begin 17 = .ok (.areturn, 1) := dk_176 (dk_at dksX3_begin_0 17 rfl rfl)
abbrev cX3_get : ByteArray := prog_8_method_19_code
def yX3_get : MethodName := ⟨RX3, "get", "()LDeltaIndex$Tell;"⟩
def dkwX3_get_1 : List UInt8 := [183, 0, 197, 176]
abbrev dktX3_get_1 : List UInt8 := dkwX3_get_1 ++ []
def dkwX3_get_0 : List UInt8 := [42, 182, 0, 59, 42, 3, 6, 182, 0, 93, 60, 187, 0, 195, 89, 27, 6, 3, 42, 182, 0, 191, 1]
abbrev dktX3_get_0 : List UInt8 := dkwX3_get_0 ++ dktX3_get_1
theorem dksX3_get_0 : cX3_get.data.toList.drop 0 = dktX3_get_0 := by decide +kernel
theorem dksX3_get_1 : cX3_get.data.toList.drop 23 = dktX3_get_1 := dk_seg dksX3_get_0 23 rfl rfl
theorem dX3_get_0 : decode cX3_get 0 = .ok (.aload_n 0, 1) := dk_42 (dk_at dksX3_get_0 0 rfl rfl)
theorem dX3_get_1 : decode cX3_get 1 = .ok (.invokevirtual 59, 3) := dk_182 0 59 (dk_at dksX3_get_0 1 rfl rfl)
theorem dX3_get_4 : decode cX3_get 4 = .ok (.aload_n 0, 1) := dk_42 (dk_at dksX3_get_0 4 rfl rfl)
theorem dX3_get_5 : decode cX3_get 5 = .ok (.iconst 0, 1) := dk_3 (dk_at dksX3_get_0 5 rfl rfl)
theorem dX3_get_6 : decode cX3_get 6 = .ok (.iconst 3, 1) := dk_6 (dk_at dksX3_get_0 6 rfl rfl)
theorem dX3_get_7 : decode cX3_get 7 = .ok (.invokevirtual 93, 3) := dk_182 0 93 (dk_at dksX3_get_0 7 rfl rfl)
theorem dX3_get_10 : decode cX3_get 10 = .ok (.istore_n 1, 1) := dk_60 (dk_at dksX3_get_0 10 rfl rfl)
theorem dX3_get_11 : decode cX3_get 11 = .ok (.new 195, 3) := dk_187 0 195 (dk_at dksX3_get_0 11 rfl rfl)
theorem dX3_get_14 : decode cX3_get 14 = .ok (.dup, 1) := dk_89 (dk_at dksX3_get_0 14 rfl rfl)
theorem dX3_get_15 : decode cX3_get 15 = .ok (.iload_n 1, 1) := dk_27 (dk_at dksX3_get_0 15 rfl rfl)
theorem dX3_get_16 : decode cX3_get 16 = .ok (.iconst 3, 1) := dk_6 (dk_at dksX3_get_0 16 rfl rfl)
theorem dX3_get_17 : decode cX3_get 17 = .ok (.iconst 0, 1) := dk_3 (dk_at dksX3_get_0 17 rfl rfl)
theorem dX3_get_18 : decode cX3_get 18 = .ok (.aload_n 0, 1) := dk_42 (dk_at dksX3_get_0 18 rfl rfl)
theorem dX3_get_19 : decode cX3_get 19 = .ok (.invokevirtual 191, 3) := dk_182 0 191 (dk_at dksX3_get_0 19 rfl rfl)
theorem dX3_get_22 : decode cX3_get 22 = .ok (.aconst_null, 1) := dk_1 (dk_at dksX3_get_0 22 rfl rfl)
theorem dX3_get_23 : decode cX3_get 23 = .ok (.invokespecial 197, 3) := dk_183 0 197 (dk_at dksX3_get_1 0 rfl rfl)
theorem dX3_get_26 : decode cX3_get 26 = .ok (.areturn, 1) := dk_176 (dk_at dksX3_get_1 3 rfl rfl)
abbrev cX3_go : ByteArray := prog_8_method_20_code
def yX3_go : MethodName := ⟨RX3, "go", "(Z)LDeltaIndex$Tell;"⟩
def dkwX3_go_0 : List UInt8 := [42, 182, 0, 59, 187, 0, 200, 89, 42, 3, 6, 182, 0, 93, 27, 183, 0, 202, 176]
abbrev dktX3_go_0 : List UInt8 := dkwX3_go_0 ++ []
theorem dksX3_go_0 : cX3_go.data.toList.drop 0 = dktX3_go_0 := by decide +kernel
theorem dX3_go_0 : decode cX3_go 0 = .ok (.aload_n 0, 1) := dk_42 (dk_at dksX3_go_0 0 rfl rfl)
theorem dX3_go_1 : decode cX3_go 1 = .ok (.invokevirtual 59, 3) := dk_182 0 59 (dk_at dksX3_go_0 1 rfl rfl)
theorem dX3_go_4 : decode cX3_go 4 = .ok (.new 200, 3) := dk_187 0 200 (dk_at dksX3_go_0 4 rfl rfl)
theorem dX3_go_7 : decode cX3_go 7 = .ok (.dup, 1) := dk_89 (dk_at dksX3_go_0 7 rfl rfl)
theorem dX3_go_8 : decode cX3_go 8 = .ok (.aload_n 0, 1) := dk_42 (dk_at dksX3_go_0 8 rfl rfl)
theorem dX3_go_9 : decode cX3_go 9 = .ok (.iconst 0, 1) := dk_3 (dk_at dksX3_go_0 9 rfl rfl)
theorem dX3_go_10 : decode cX3_go 10 = .ok (.iconst 3, 1) := dk_6 (dk_at dksX3_go_0 10 rfl rfl)
theorem dX3_go_11 : decode cX3_go 11 = .ok (.invokevirtual 93, 3) := dk_182 0 93 (dk_at dksX3_go_0 11 rfl rfl)
theorem dX3_go_14 : decode cX3_go 14 = .ok (.iload_n 1, 1) := dk_27 (dk_at dksX3_go_0 14 rfl rfl)
theorem dX3_go_15 : decode cX3_go 15 = .ok (.invokespecial 202, 3) := dk_183 0 202 (dk_at dksX3_go_0 15 rfl rfl)
theorem dX3_go_18 : decode cX3_go 18 = .ok (.areturn, 1) := dk_176 (dk_at dksX3_go_0 18 rfl rfl)
abbrev cX3_sweep : ByteArray := prog_8_method_21_code
def yX3_sweep : MethodName := ⟨RX3, "sweep", "()LDeltaIndex$Tell;"⟩
def dkwX3_sweep_0 : List UInt8 := [42, 182, 0, 59, 187, 0, 205, 89, 183, 0, 207, 176]
abbrev dktX3_sweep_0 : List UInt8 := dkwX3_sweep_0 ++ []
theorem dksX3_sweep_0 : cX3_sweep.data.toList.drop 0 = dktX3_sweep_0 := by decide +kernel
theorem dX3_sweep_0 : decode cX3_sweep 0 = .ok (.aload_n 0, 1) := dk_42 (dk_at dksX3_sweep_0 0 rfl rfl)
theorem dX3_sweep_1 : decode cX3_sweep 1 = .ok (.invokevirtual 59, 3) := dk_182 0 59 (dk_at dksX3_sweep_0 1 rfl rfl)
theorem dX3_sweep_4 : decode cX3_sweep 4 = .ok (.new 205, 3) := dk_187 0 205 (dk_at dksX3_sweep_0 4 rfl rfl)
theorem dX3_sweep_7 : decode cX3_sweep 7 = .ok (.dup, 1) := dk_89 (dk_at dksX3_sweep_0 7 rfl rfl)
theorem dX3_sweep_8 : decode cX3_sweep 8 = .ok (.invokespecial 207, 3) := dk_183 0 207 (dk_at dksX3_sweep_0 8 rfl rfl)
theorem dX3_sweep_11 : decode cX3_sweep 11 = .ok (.areturn, 1) := dk_176 (dk_at dksX3_sweep_0 11 rfl rfl)
abbrev cX3_rounds : ByteArray := prog_8_method_22_code
def yX3_rounds : MethodName := ⟨RX3, "rounds", "()LDeltaIndex$Tell;"⟩
def dkwX3_rounds_3 : List UInt8 := [167, 255, 235, 42, 182, 0, 59, 42, 89, 180, 0, 112, 4, 100, 181, 0, 112, 43, 176]
abbrev dktX3_rounds_3 : List UInt8 := dkwX3_rounds_3 ++ []
def dkwX3_rounds_2 : List UInt8 := [182, 0, 96, 42, 18, 210, 182, 0, 89, 154, 0, 18, 43, 180, 0, 135, 42, 182, 0, 141, 182, 0, 145, 87]
abbrev dktX3_rounds_2 : List UInt8 := dkwX3_rounds_2 ++ dktX3_rounds_3
def dkwX3_rounds_1 : List UInt8 := [42, 182, 0, 59, 187, 0, 136, 89, 42, 3, 16, 99, 182, 0, 93, 183, 0, 208, 76, 42, 16, 59]
abbrev dktX3_rounds_1 : List UInt8 := dkwX3_rounds_1 ++ dktX3_rounds_2
def dkwX3_rounds_0 : List UInt8 := [42, 180, 0, 112, 6, 160, 0, 9, 42, 5, 182, 0, 48, 191, 42, 89, 180, 0, 112, 4, 96, 181, 0, 112]
abbrev dktX3_rounds_0 : List UInt8 := dkwX3_rounds_0 ++ dktX3_rounds_1
theorem dksX3_rounds_0 : cX3_rounds.data.toList.drop 0 = dktX3_rounds_0 := by decide +kernel
theorem dksX3_rounds_1 : cX3_rounds.data.toList.drop 24 = dktX3_rounds_1 := dk_seg dksX3_rounds_0 24 rfl rfl
theorem dksX3_rounds_2 : cX3_rounds.data.toList.drop 46 = dktX3_rounds_2 := dk_seg dksX3_rounds_1 22 rfl rfl
theorem dksX3_rounds_3 : cX3_rounds.data.toList.drop 70 = dktX3_rounds_3 := dk_seg dksX3_rounds_2 24 rfl rfl
theorem dX3_rounds_0 : decode cX3_rounds 0 = .ok (.aload_n 0, 1) := dk_42 (dk_at dksX3_rounds_0 0 rfl rfl)
theorem dX3_rounds_1 : decode cX3_rounds 1 = .ok (.getfield 112, 3) := dk_180 0 112 (dk_at dksX3_rounds_0 1 rfl rfl)
theorem dX3_rounds_4 : decode cX3_rounds 4 = .ok (.iconst 3, 1) := dk_6 (dk_at dksX3_rounds_0 4 rfl rfl)
theorem dX3_rounds_5 : decode cX3_rounds 5 = .ok (.if_icmp .ne 9, 3) := dk_160 0 9 (dk_at dksX3_rounds_0 5 rfl rfl)
theorem dX3_rounds_8 : decode cX3_rounds 8 = .ok (.aload_n 0, 1) := dk_42 (dk_at dksX3_rounds_0 8 rfl rfl)
theorem dX3_rounds_9 : decode cX3_rounds 9 = .ok (.iconst 2, 1) := dk_5 (dk_at dksX3_rounds_0 9 rfl rfl)
theorem dX3_rounds_10 : decode cX3_rounds 10 = .ok (.invokevirtual 48, 3) := dk_182 0 48 (dk_at dksX3_rounds_0 10 rfl rfl)
theorem dX3_rounds_13 : decode cX3_rounds 13 = .ok (.athrow, 1) := dk_191 (dk_at dksX3_rounds_0 13 rfl rfl)
theorem dX3_rounds_14 : decode cX3_rounds 14 = .ok (.aload_n 0, 1) := dk_42 (dk_at dksX3_rounds_0 14 rfl rfl)
theorem dX3_rounds_15 : decode cX3_rounds 15 = .ok (.dup, 1) := dk_89 (dk_at dksX3_rounds_0 15 rfl rfl)
theorem dX3_rounds_16 : decode cX3_rounds 16 = .ok (.getfield 112, 3) := dk_180 0 112 (dk_at dksX3_rounds_0 16 rfl rfl)
theorem dX3_rounds_19 : decode cX3_rounds 19 = .ok (.iconst 1, 1) := dk_4 (dk_at dksX3_rounds_0 19 rfl rfl)
theorem dX3_rounds_20 : decode cX3_rounds 20 = .ok (.iadd, 1) := dk_96 (dk_at dksX3_rounds_0 20 rfl rfl)
theorem dX3_rounds_21 : decode cX3_rounds 21 = .ok (.putfield 112, 3) := dk_181 0 112 (dk_at dksX3_rounds_0 21 rfl rfl)
theorem dX3_rounds_24 : decode cX3_rounds 24 = .ok (.aload_n 0, 1) := dk_42 (dk_at dksX3_rounds_1 0 rfl rfl)
theorem dX3_rounds_25 : decode cX3_rounds 25 = .ok (.invokevirtual 59, 3) := dk_182 0 59 (dk_at dksX3_rounds_1 1 rfl rfl)
theorem dX3_rounds_28 : decode cX3_rounds 28 = .ok (.new 136, 3) := dk_187 0 136 (dk_at dksX3_rounds_1 4 rfl rfl)
theorem dX3_rounds_31 : decode cX3_rounds 31 = .ok (.dup, 1) := dk_89 (dk_at dksX3_rounds_1 7 rfl rfl)
theorem dX3_rounds_32 : decode cX3_rounds 32 = .ok (.aload_n 0, 1) := dk_42 (dk_at dksX3_rounds_1 8 rfl rfl)
theorem dX3_rounds_33 : decode cX3_rounds 33 = .ok (.iconst 0, 1) := dk_3 (dk_at dksX3_rounds_1 9 rfl rfl)
theorem dX3_rounds_34 : decode cX3_rounds 34 = .ok (.bipush 99, 2) := dk_16 99 (dk_at dksX3_rounds_1 10 rfl rfl)
theorem dX3_rounds_36 : decode cX3_rounds 36 = .ok (.invokevirtual 93, 3) := dk_182 0 93 (dk_at dksX3_rounds_1 12 rfl rfl)
theorem dX3_rounds_39 : decode cX3_rounds 39 = .ok (.invokespecial 208, 3) := dk_183 0 208 (dk_at dksX3_rounds_1 15 rfl rfl)
theorem dX3_rounds_42 : decode cX3_rounds 42 = .ok (.astore_n 1, 1) := dk_76 (dk_at dksX3_rounds_1 18 rfl rfl)
theorem dX3_rounds_43 : decode cX3_rounds 43 = .ok (.aload_n 0, 1) := dk_42 (dk_at dksX3_rounds_1 19 rfl rfl)
theorem dX3_rounds_44 : decode cX3_rounds 44 = .ok (.bipush 59, 2) := dk_16 59 (dk_at dksX3_rounds_1 20 rfl rfl)
theorem dX3_rounds_46 : decode cX3_rounds 46 = .ok (.invokevirtual 96, 3) := dk_182 0 96 (dk_at dksX3_rounds_2 0 rfl rfl)
theorem dX3_rounds_49 : decode cX3_rounds 49 = .ok (.aload_n 0, 1) := dk_42 (dk_at dksX3_rounds_2 3 rfl rfl)
theorem dX3_rounds_50 : decode cX3_rounds 50 = .ok (.ldc 210, 2) := dk_18 210 (dk_at dksX3_rounds_2 4 rfl rfl)
theorem dX3_rounds_52 : decode cX3_rounds 52 = .ok (.invokevirtual 89, 3) := dk_182 0 89 (dk_at dksX3_rounds_2 6 rfl rfl)
theorem dX3_rounds_55 : decode cX3_rounds 55 = .ok (.ifCond .ne 18, 3) := dk_154 0 18 (dk_at dksX3_rounds_2 9 rfl rfl)
theorem dX3_rounds_58 : decode cX3_rounds 58 = .ok (.aload_n 1, 1) := dk_43 (dk_at dksX3_rounds_2 12 rfl rfl)
theorem dX3_rounds_59 : decode cX3_rounds 59 = .ok (.getfield 135, 3) := dk_180 0 135 (dk_at dksX3_rounds_2 13 rfl rfl)
theorem dX3_rounds_62 : decode cX3_rounds 62 = .ok (.aload_n 0, 1) := dk_42 (dk_at dksX3_rounds_2 16 rfl rfl)
theorem dX3_rounds_63 : decode cX3_rounds 63 = .ok (.invokevirtual 141, 3) := dk_182 0 141 (dk_at dksX3_rounds_2 17 rfl rfl)
theorem dX3_rounds_66 : decode cX3_rounds 66 = .ok (.invokevirtual 145, 3) := dk_182 0 145 (dk_at dksX3_rounds_2 20 rfl rfl)
theorem dX3_rounds_69 : decode cX3_rounds 69 = .ok (.pop, 1) := dk_87 (dk_at dksX3_rounds_2 23 rfl rfl)
theorem dX3_rounds_70 : decode cX3_rounds 70 = .ok (.goto (-21), 3) := dk_167 255 235 (dk_at dksX3_rounds_3 0 rfl rfl)
theorem dX3_rounds_73 : decode cX3_rounds 73 = .ok (.aload_n 0, 1) := dk_42 (dk_at dksX3_rounds_3 3 rfl rfl)
theorem dX3_rounds_74 : decode cX3_rounds 74 = .ok (.invokevirtual 59, 3) := dk_182 0 59 (dk_at dksX3_rounds_3 4 rfl rfl)
theorem dX3_rounds_77 : decode cX3_rounds 77 = .ok (.aload_n 0, 1) := dk_42 (dk_at dksX3_rounds_3 7 rfl rfl)
theorem dX3_rounds_78 : decode cX3_rounds 78 = .ok (.dup, 1) := dk_89 (dk_at dksX3_rounds_3 8 rfl rfl)
theorem dX3_rounds_79 : decode cX3_rounds 79 = .ok (.getfield 112, 3) := dk_180 0 112 (dk_at dksX3_rounds_3 9 rfl rfl)
theorem dX3_rounds_82 : decode cX3_rounds 82 = .ok (.iconst 1, 1) := dk_4 (dk_at dksX3_rounds_3 12 rfl rfl)
theorem dX3_rounds_83 : decode cX3_rounds 83 = .ok (.isub, 1) := dk_100 (dk_at dksX3_rounds_3 13 rfl rfl)
theorem dX3_rounds_84 : decode cX3_rounds 84 = .ok (.putfield 112, 3) := dk_181 0 112 (dk_at dksX3_rounds_3 14 rfl rfl)
theorem dX3_rounds_87 : decode cX3_rounds 87 = .ok (.aload_n 1, 1) := dk_43 (dk_at dksX3_rounds_3 17 rfl rfl)
theorem dX3_rounds_88 : decode cX3_rounds 88 = .ok (.areturn, 1) := dk_176 (dk_at dksX3_rounds_3 18 rfl rfl)
theorem q149 : (Jvm.Cond.initialized "DeltaIndex$Parser") ∈ lw_all := lw_g (lw_at lw_m1 7 rfl) rfl
theorem q293 : (Jvm.Cond.fieldLink "DeltaIndex$Parser" (44 : Nat) "DeltaIndex$Tokens" "sort" "[B") ∈ lw_all := lw_g (lw_at lw_m1 151 rfl) rfl
theorem q295 : (Jvm.Cond.fieldLink "DeltaIndex$Parser" (19 : Nat) "DeltaIndex$Tokens" "from" "[S") ∈ lw_all := lw_g (lw_at lw_m1 153 rfl) rfl
theorem q298 : (Jvm.Cond.fieldLink "DeltaIndex$Parser" (52 : Nat) "DeltaIndex$Tokens" "what" "[S") ∈ lw_all := lw_g (lw_at lw_m1 156 rfl) rfl
theorem q319 : (Jvm.Cond.instantiable "DeltaIndex$Parser" (8 : Nat)) ∈ lw_all := lw_g (lw_at lw_m1 177 rfl) rfl
theorem q321 : (Jvm.Cond.instanceMethod ({ cls := "DeltaIndex$Parser", name := "<init>", desc := "(LDeltaIndex$Tokens;LDeltaIndex$Fault;)V" } : Jvm.MethodName)) ∈ lw_all := lw_g (lw_at lw_m1 179 rfl) rfl
theorem q322 : (Jvm.Cond.code ({ cls := "DeltaIndex$Parser", name := "<init>", desc := "(LDeltaIndex$Tokens;LDeltaIndex$Fault;)V" } : Jvm.MethodName) prog_8_method_1_code (3 : Nat) (Option.none : Option Jvm.ClassFile.FieldType)) ∈ lw_all := lw_g (lw_at lw_m1 180 rfl) rfl
theorem q323 : (Jvm.Cond.methodLink "DeltaIndex$Parser" (3 : Nat) ({ cls := "java/lang/Object", name := "<init>", desc := "()V" } : Jvm.MethodName)) ∈ lw_all := lw_g (lw_at lw_m1 181 rfl) rfl
theorem q324 : (Jvm.Cond.fieldLink "DeltaIndex$Parser" (9 : Nat) "DeltaIndex$Parser" "t" "LDeltaIndex$Tokens;") ∈ lw_all := lw_g (lw_at lw_m1 182 rfl) rfl
theorem q325 : (Jvm.Cond.fieldLink "DeltaIndex$Parser" (15 : Nat) "DeltaIndex$Parser" "fault" "LDeltaIndex$Fault;") ∈ lw_all := lw_g (lw_at lw_m1 183 rfl) rfl
theorem q326 : (Jvm.Cond.fieldLink "DeltaIndex$Parser" (106 : Nat) "DeltaIndex$Parser" "text" "LDeltaIndex$Text;") ∈ lw_all := lw_g (lw_at lw_m1 184 rfl) rfl
theorem q327 : (Jvm.Cond.fieldLink "DeltaIndex$Parser" (31 : Nat) "DeltaIndex$Parser" "at" "I") ∈ lw_all := lw_g (lw_at lw_m1 185 rfl) rfl
theorem q328 : (Jvm.Cond.fieldLink "DeltaIndex$Parser" (109 : Nat) "DeltaIndex$Parser" "open" "I") ∈ lw_all := lw_g (lw_at lw_m1 186 rfl) rfl
theorem q329 : (Jvm.Cond.fieldLink "DeltaIndex$Parser" (112 : Nat) "DeltaIndex$Parser" "within" "I") ∈ lw_all := lw_g (lw_at lw_m1 187 rfl) rfl
theorem q330 : (Jvm.Cond.fieldLink "DeltaIndex$Parser" (38 : Nat) "DeltaIndex$Parser" "worst" "I") ∈ lw_all := lw_g (lw_at lw_m1 188 rfl) rfl
theorem q331 : (Jvm.Cond.fieldLink "DeltaIndex$Parser" (41 : Nat) "DeltaIndex$Parser" "worstToken" "I") ∈ lw_all := lw_g (lw_at lw_m1 189 rfl) rfl
theorem q332 : (Jvm.Cond.laysFinal "DeltaIndex$Parser" "DeltaIndex$Parser" "t" "LDeltaIndex$Tokens;") ∈ lw_all := lw_g (lw_at lw_m1 190 rfl) rfl
theorem q333 : (Jvm.Cond.soleField "DeltaIndex$Parser" "t") ∈ lw_all := lw_g (lw_at lw_m1 191 rfl) rfl
theorem q334 : (Jvm.Cond.laysFinal "DeltaIndex$Parser" "DeltaIndex$Parser" "fault" "LDeltaIndex$Fault;") ∈ lw_all := lw_g (lw_at lw_m1 192 rfl) rfl
theorem q335 : (Jvm.Cond.soleField "DeltaIndex$Parser" "fault") ∈ lw_all := lw_g (lw_at lw_m1 193 rfl) rfl
theorem q336 : (Jvm.Cond.lays "DeltaIndex$Parser" "DeltaIndex$Parser" "text" "LDeltaIndex$Text;") ∈ lw_all := lw_g (lw_at lw_m1 194 rfl) rfl
theorem q337 : (Jvm.Cond.soleField "DeltaIndex$Parser" "text") ∈ lw_all := lw_g (lw_at lw_m1 195 rfl) rfl
theorem q338 : (Jvm.Cond.lays "DeltaIndex$Parser" "DeltaIndex$Parser" "at" "I") ∈ lw_all := lw_g (lw_at lw_m1 196 rfl) rfl
theorem q339 : (Jvm.Cond.soleField "DeltaIndex$Parser" "at") ∈ lw_all := lw_g (lw_at lw_m1 197 rfl) rfl
theorem q340 : (Jvm.Cond.lays "DeltaIndex$Parser" "DeltaIndex$Parser" "open" "I") ∈ lw_all := lw_g (lw_at lw_m1 198 rfl) rfl
theorem q341 : (Jvm.Cond.soleField "DeltaIndex$Parser" "open") ∈ lw_all := lw_g (lw_at lw_m1 199 rfl) rfl
theorem q342 : (Jvm.Cond.lays "DeltaIndex$Parser" "DeltaIndex$Parser" "within" "I") ∈ lw_all := lw_g (lw_at lw_m1 200 rfl) rfl
theorem q343 : (Jvm.Cond.soleField "DeltaIndex$Parser" "within") ∈ lw_all := lw_g (lw_at lw_m1 201 rfl) rfl
theorem q344 : (Jvm.Cond.lays "DeltaIndex$Parser" "DeltaIndex$Parser" "worst" "I") ∈ lw_all := lw_g (lw_at lw_m1 202 rfl) rfl
theorem q345 : (Jvm.Cond.soleField "DeltaIndex$Parser" "worst") ∈ lw_all := lw_g (lw_at lw_m1 203 rfl) rfl
theorem q346 : (Jvm.Cond.lays "DeltaIndex$Parser" "DeltaIndex$Parser" "worstToken" "I") ∈ lw_all := lw_g (lw_at lw_m1 204 rfl) rfl
theorem q347 : (Jvm.Cond.soleField "DeltaIndex$Parser" "worstToken") ∈ lw_all := lw_g (lw_at lw_m1 205 rfl) rfl
theorem q348 : (Jvm.Cond.superclass "DeltaIndex$Parser" "java/lang/Object") ∈ lw_all := lw_g (lw_at lw_m1 206 rfl) rfl
theorem q594 : (Jvm.Cond.fieldLink "DeltaIndex$Parser" (135 : Nat) "DeltaIndex$Rounds" "tells" "Ljava/util/ArrayList;") ∈ lw_all := lw_g (lw_at lw_m2 212 rfl) rfl
theorem q603 : (Jvm.Cond.fieldLink "DeltaIndex$Parser" (131 : Nat) "DeltaIndex$Text" "all" "LDeltaIndex$Rounds;") ∈ lw_all := lw_g (lw_at lw_m2 221 rfl) rfl
theorem q606 : (Jvm.Cond.fieldLink "DeltaIndex$Parser" (117 : Nat) "DeltaIndex$Text" "chain" "I") ∈ lw_all := lw_g (lw_at lw_m2 224 rfl) rfl
theorem q609 : (Jvm.Cond.fieldLink "DeltaIndex$Parser" (125 : Nat) "DeltaIndex$Text" "most" "I") ∈ lw_all := lw_g (lw_at lw_m2 227 rfl) rfl
theorem q612 : (Jvm.Cond.fieldLink "DeltaIndex$Parser" (129 : Nat) "DeltaIndex$Text" "least" "I") ∈ lw_all := lw_g (lw_at lw_m2 230 rfl) rfl
theorem q706 : (Jvm.Cond.instanceMethod ({ cls := "DeltaIndex$Parser", name := "read", desc := "()LDeltaIndex$Text;" } : Jvm.MethodName)) ∈ lw_all := lw_g (lw_at lw_m3 84 rfl) rfl
theorem q707 : (Jvm.Cond.selects "DeltaIndex$Parser" ({ cls := "DeltaIndex$Parser", name := "read", desc := "()LDeltaIndex$Text;" } : Jvm.MethodName) ({ cls := "DeltaIndex$Parser", name := "read", desc := "()LDeltaIndex$Text;" } : Jvm.MethodName)) ∈ lw_all := lw_g (lw_at lw_m3 85 rfl) rfl
theorem q708 : (Jvm.Cond.code ({ cls := "DeltaIndex$Parser", name := "read", desc := "()LDeltaIndex$Text;" } : Jvm.MethodName) prog_8_method_15_code (1 : Nat) (Option.some (Jvm.ClassFile.FieldType.object "DeltaIndex$Text"))) ∈ lw_all := lw_g (lw_at lw_m3 86 rfl) rfl
theorem q709 : (Jvm.Cond.methodLink "DeltaIndex$Parser" (100 : Nat) ({ cls := "DeltaIndex$Tokens", name := "read", desc := "()V" } : Jvm.MethodName)) ∈ lw_all := lw_g (lw_at lw_m3 87 rfl) rfl
theorem q785 : (Jvm.Cond.classLink "DeltaIndex$Parser" (103 : Nat) "DeltaIndex$Text") ∈ lw_all := lw_g (lw_at lw_m3 163 rfl) rfl
theorem q786 : (Jvm.Cond.methodLinkNest "DeltaIndex$Parser" (105 : Nat) ({ cls := "DeltaIndex$Text", name := "<init>", desc := "()V" } : Jvm.MethodName) "DeltaIndex") ∈ lw_tbl := lw_at lw_m3 164 rfl
theorem q787 : (Jvm.Cond.stringRef "DeltaIndex$Parser" (115 : Nat) "chain") ∈ lw_tbl := lw_at lw_m3 165 rfl
theorem q788 : (Jvm.Cond.methodLink "DeltaIndex$Parser" (119 : Nat) ({ cls := "DeltaIndex$Parser", name := "setting", desc := "(Ljava/lang/String;III)I" } : Jvm.MethodName)) ∈ lw_all := lw_g (lw_at lw_m3 166 rfl) rfl
theorem q789 : (Jvm.Cond.privateMethod ({ cls := "DeltaIndex$Parser", name := "setting", desc := "(Ljava/lang/String;III)I" } : Jvm.MethodName)) ∈ lw_tbl := lw_at lw_m3 167 rfl
theorem q790 : (Jvm.Cond.instanceMethod ({ cls := "DeltaIndex$Parser", name := "setting", desc := "(Ljava/lang/String;III)I" } : Jvm.MethodName)) ∈ lw_all := lw_g (lw_at lw_m3 168 rfl) rfl
theorem q791 : (Jvm.Cond.code ({ cls := "DeltaIndex$Parser", name := "setting", desc := "(Ljava/lang/String;III)I" } : Jvm.MethodName) prog_8_method_14_code (6 : Nat) (Option.some Jvm.ClassFile.FieldType.int)) ∈ lw_all := lw_g (lw_at lw_m3 169 rfl) rfl
theorem q792 : (Jvm.Cond.methodLink "DeltaIndex$Parser" (89 : Nat) ({ cls := "DeltaIndex$Parser", name := "isTold", desc := "(Ljava/lang/String;)Z" } : Jvm.MethodName)) ∈ lw_all := lw_g (lw_at lw_m3 170 rfl) rfl
theorem q793 : (Jvm.Cond.privateMethod ({ cls := "DeltaIndex$Parser", name := "isTold", desc := "(Ljava/lang/String;)Z" } : Jvm.MethodName)) ∈ lw_tbl := lw_at lw_m3 171 rfl
theorem q794 : (Jvm.Cond.instanceMethod ({ cls := "DeltaIndex$Parser", name := "isTold", desc := "(Ljava/lang/String;)Z" } : Jvm.MethodName)) ∈ lw_all := lw_g (lw_at lw_m3 172 rfl) rfl
theorem q795 : (Jvm.Cond.code ({ cls := "DeltaIndex$Parser", name := "isTold", desc := "(Ljava/lang/String;)Z" } : Jvm.MethodName) prog_8_method_13_code (2 : Nat) (Option.some Jvm.ClassFile.FieldType.boolean)) ∈ lw_all := lw_g (lw_at lw_m3 173 rfl) rfl
theorem q796 : (Jvm.Cond.methodLink "DeltaIndex$Parser" (65 : Nat) ({ cls := "DeltaIndex$Parser", name := "sort", desc := "()I" } : Jvm.MethodName)) ∈ lw_all := lw_g (lw_at lw_m3 174 rfl) rfl
theorem q797 : (Jvm.Cond.privateMethod ({ cls := "DeltaIndex$Parser", name := "sort", desc := "()I" } : Jvm.MethodName)) ∈ lw_tbl := lw_at lw_m3 175 rfl
theorem q798 : (Jvm.Cond.instanceMethod ({ cls := "DeltaIndex$Parser", name := "sort", desc := "()I" } : Jvm.MethodName)) ∈ lw_all := lw_g (lw_at lw_m3 176 rfl) rfl
theorem q799 : (Jvm.Cond.code ({ cls := "DeltaIndex$Parser", name := "sort", desc := "()I" } : Jvm.MethodName) prog_8_method_5_code (1 : Nat) (Option.some Jvm.ClassFile.FieldType.int)) ∈ lw_all := lw_g (lw_at lw_m3 177 rfl) rfl
theorem q800 : (Jvm.Cond.methodLink "DeltaIndex$Parser" (48 : Nat) ({ cls := "DeltaIndex$Parser", name := "wrong", desc := "(I)LDeltaIndex$Fault;" } : Jvm.MethodName)) ∈ lw_all := lw_g (lw_at lw_m3 178 rfl) rfl
theorem q801 : (Jvm.Cond.privateMethod ({ cls := "DeltaIndex$Parser", name := "wrong", desc := "(I)LDeltaIndex$Fault;" } : Jvm.MethodName)) ∈ lw_tbl := lw_at lw_m3 179 rfl
theorem q802 : (Jvm.Cond.instanceMethod ({ cls := "DeltaIndex$Parser", name := "wrong", desc := "(I)LDeltaIndex$Fault;" } : Jvm.MethodName)) ∈ lw_all := lw_g (lw_at lw_m3 180 rfl) rfl
theorem q803 : (Jvm.Cond.code ({ cls := "DeltaIndex$Parser", name := "wrong", desc := "(I)LDeltaIndex$Fault;" } : Jvm.MethodName) prog_8_method_3_code (2 : Nat) (Option.some (Jvm.ClassFile.FieldType.object "DeltaIndex$Fault"))) ∈ lw_all := lw_g (lw_at lw_m3 181 rfl) rfl
theorem q804 : (Jvm.Cond.methodLink "DeltaIndex$Parser" (35 : Nat) ({ cls := "DeltaIndex$Parser", name := "wrongAt", desc := "(II)LDeltaIndex$Fault;" } : Jvm.MethodName)) ∈ lw_all := lw_g (lw_at lw_m3 182 rfl) rfl
theorem q805 : (Jvm.Cond.privateMethod ({ cls := "DeltaIndex$Parser", name := "wrongAt", desc := "(II)LDeltaIndex$Fault;" } : Jvm.MethodName)) ∈ lw_tbl := lw_at lw_m3 183 rfl
theorem q806 : (Jvm.Cond.instanceMethod ({ cls := "DeltaIndex$Parser", name := "wrongAt", desc := "(II)LDeltaIndex$Fault;" } : Jvm.MethodName)) ∈ lw_all := lw_g (lw_at lw_m3 184 rfl) rfl
theorem q807 : (Jvm.Cond.code ({ cls := "DeltaIndex$Parser", name := "wrongAt", desc := "(II)LDeltaIndex$Fault;" } : Jvm.MethodName) prog_8_method_2_code (3 : Nat) (Option.some (Jvm.ClassFile.FieldType.object "DeltaIndex$Fault"))) ∈ lw_all := lw_g (lw_at lw_m3 185 rfl) rfl
theorem q808 : (Jvm.Cond.methodLink "DeltaIndex$Parser" (25 : Nat) ({ cls := "DeltaIndex$Fault", name := "of", desc := "(II)LDeltaIndex$Fault;" } : Jvm.MethodName)) ∈ lw_all := lw_g (lw_at lw_m3 186 rfl) rfl
theorem q812 : (Jvm.Cond.methodLink "DeltaIndex$Parser" (79 : Nat) ({ cls := "DeltaIndex$Tokens", name := "text", desc := "(I)Ljava/lang/String;" } : Jvm.MethodName)) ∈ lw_all := lw_g (lw_at lw_m3 190 rfl) rfl
theorem q980 : (Jvm.Cond.methodLink "DeltaIndex$Parser" (83 : Nat) ({ cls := "java/lang/String", name := "equals", desc := "(Ljava/lang/Object;)Z" } : Jvm.MethodName)) ∈ lw_all := lw_g (lw_at lw_m4 118 rfl) rfl
theorem q988 : (Jvm.Cond.methodLink "DeltaIndex$Parser" (59 : Nat) ({ cls := "DeltaIndex$Parser", name := "pass", desc := "()V" } : Jvm.MethodName)) ∈ lw_all := lw_g (lw_at lw_m4 126 rfl) rfl
theorem q989 : (Jvm.Cond.privateMethod ({ cls := "DeltaIndex$Parser", name := "pass", desc := "()V" } : Jvm.MethodName)) ∈ lw_tbl := lw_at lw_m4 127 rfl
theorem q990 : (Jvm.Cond.instanceMethod ({ cls := "DeltaIndex$Parser", name := "pass", desc := "()V" } : Jvm.MethodName)) ∈ lw_all := lw_g (lw_at lw_m4 128 rfl) rfl
theorem q991 : (Jvm.Cond.code ({ cls := "DeltaIndex$Parser", name := "pass", desc := "()V" } : Jvm.MethodName) prog_8_method_6_code (1 : Nat) (Option.none : Option Jvm.ClassFile.FieldType)) ∈ lw_all := lw_g (lw_at lw_m4 129 rfl) rfl
theorem q992 : (Jvm.Cond.methodLink "DeltaIndex$Parser" (93 : Nat) ({ cls := "DeltaIndex$Parser", name := "number", desc := "(II)I" } : Jvm.MethodName)) ∈ lw_all := lw_g (lw_at lw_m4 130 rfl) rfl
theorem q993 : (Jvm.Cond.privateMethod ({ cls := "DeltaIndex$Parser", name := "number", desc := "(II)I" } : Jvm.MethodName)) ∈ lw_tbl := lw_at lw_m4 131 rfl
theorem q994 : (Jvm.Cond.instanceMethod ({ cls := "DeltaIndex$Parser", name := "number", desc := "(II)I" } : Jvm.MethodName)) ∈ lw_all := lw_g (lw_at lw_m4 132 rfl) rfl
theorem q995 : (Jvm.Cond.code ({ cls := "DeltaIndex$Parser", name := "number", desc := "(II)I" } : Jvm.MethodName) prog_8_method_12_code (5 : Nat) (Option.some Jvm.ClassFile.FieldType.int)) ∈ lw_all := lw_g (lw_at lw_m4 133 rfl) rfl
theorem q996 : (Jvm.Cond.methodLink "DeltaIndex$Parser" (68 : Nat) ({ cls := "DeltaIndex$Parser", name := "take", desc := "(I)I" } : Jvm.MethodName)) ∈ lw_all := lw_g (lw_at lw_m4 134 rfl) rfl
theorem q997 : (Jvm.Cond.privateMethod ({ cls := "DeltaIndex$Parser", name := "take", desc := "(I)I" } : Jvm.MethodName)) ∈ lw_tbl := lw_at lw_m4 135 rfl
theorem q998 : (Jvm.Cond.instanceMethod ({ cls := "DeltaIndex$Parser", name := "take", desc := "(I)I" } : Jvm.MethodName)) ∈ lw_all := lw_g (lw_at lw_m4 136 rfl) rfl
theorem q999 : (Jvm.Cond.code ({ cls := "DeltaIndex$Parser", name := "take", desc := "(I)I" } : Jvm.MethodName) prog_8_method_11_code (2 : Nat) (Option.some Jvm.ClassFile.FieldType.int)) ∈ lw_all := lw_g (lw_at lw_m4 137 rfl) rfl
theorem q1000 : (Jvm.Cond.methodLink "DeltaIndex$Parser" (72 : Nat) ({ cls := "DeltaIndex$Tokens", name := "number", desc := "(I)I" } : Jvm.MethodName)) ∈ lw_all := lw_g (lw_at lw_m4 138 rfl) rfl
theorem q1004 : (Jvm.Cond.methodLink "DeltaIndex$Parser" (75 : Nat) ({ cls := "DeltaIndex$Parser", name := "tell", desc := "(II)V" } : Jvm.MethodName)) ∈ lw_all := lw_g (lw_at lw_m4 142 rfl) rfl
theorem q1005 : (Jvm.Cond.privateMethod ({ cls := "DeltaIndex$Parser", name := "tell", desc := "(II)V" } : Jvm.MethodName)) ∈ lw_tbl := lw_at lw_m4 143 rfl
theorem q1006 : (Jvm.Cond.instanceMethod ({ cls := "DeltaIndex$Parser", name := "tell", desc := "(II)V" } : Jvm.MethodName)) ∈ lw_all := lw_g (lw_at lw_m4 144 rfl) rfl
theorem q1007 : (Jvm.Cond.code ({ cls := "DeltaIndex$Parser", name := "tell", desc := "(II)V" } : Jvm.MethodName) prog_8_method_4_code (3 : Nat) (Option.none : Option Jvm.ClassFile.FieldType)) ∈ lw_all := lw_g (lw_at lw_m4 145 rfl) rfl
theorem q1008 : (Jvm.Cond.methodLink "DeltaIndex$Parser" (96 : Nat) ({ cls := "DeltaIndex$Parser", name := "sign", desc := "(I)V" } : Jvm.MethodName)) ∈ lw_all := lw_g (lw_at lw_m4 146 rfl) rfl
theorem q1009 : (Jvm.Cond.privateMethod ({ cls := "DeltaIndex$Parser", name := "sign", desc := "(I)V" } : Jvm.MethodName)) ∈ lw_tbl := lw_at lw_m4 147 rfl
theorem q1010 : (Jvm.Cond.instanceMethod ({ cls := "DeltaIndex$Parser", name := "sign", desc := "(I)V" } : Jvm.MethodName)) ∈ lw_all := lw_g (lw_at lw_m4 148 rfl) rfl
theorem q1011 : (Jvm.Cond.code ({ cls := "DeltaIndex$Parser", name := "sign", desc := "(I)V" } : Jvm.MethodName) prog_8_method_9_code (2 : Nat) (Option.none : Option Jvm.ClassFile.FieldType)) ∈ lw_all := lw_g (lw_at lw_m4 149 rfl) rfl
theorem q1012 : (Jvm.Cond.methodLink "DeltaIndex$Parser" (55 : Nat) ({ cls := "DeltaIndex$Parser", name := "isSign", desc := "(I)Z" } : Jvm.MethodName)) ∈ lw_all := lw_g (lw_at lw_m4 150 rfl) rfl
theorem q1013 : (Jvm.Cond.privateMethod ({ cls := "DeltaIndex$Parser", name := "isSign", desc := "(I)Z" } : Jvm.MethodName)) ∈ lw_tbl := lw_at lw_m4 151 rfl
theorem q1014 : (Jvm.Cond.instanceMethod ({ cls := "DeltaIndex$Parser", name := "isSign", desc := "(I)Z" } : Jvm.MethodName)) ∈ lw_all := lw_g (lw_at lw_m4 152 rfl) rfl
theorem q1015 : (Jvm.Cond.code ({ cls := "DeltaIndex$Parser", name := "isSign", desc := "(I)Z" } : Jvm.MethodName) prog_8_method_7_code (2 : Nat) (Option.some Jvm.ClassFile.FieldType.boolean)) ∈ lw_all := lw_g (lw_at lw_m4 153 rfl) rfl
theorem q1016 : (Jvm.Cond.stringRef "DeltaIndex$Parser" (123 : Nat) "most") ∈ lw_tbl := lw_at lw_m4 154 rfl
theorem q1017 : (Jvm.Cond.stringRef "DeltaIndex$Parser" (127 : Nat) "least") ∈ lw_tbl := lw_at lw_m4 155 rfl
theorem q1018 : (Jvm.Cond.methodLink "DeltaIndex$Parser" (141 : Nat) ({ cls := "DeltaIndex$Parser", name := "told", desc := "()LDeltaIndex$Tell;" } : Jvm.MethodName)) ∈ lw_all := lw_g (lw_at lw_m4 156 rfl) rfl
theorem q1019 : (Jvm.Cond.privateMethod ({ cls := "DeltaIndex$Parser", name := "told", desc := "()LDeltaIndex$Tell;" } : Jvm.MethodName)) ∈ lw_tbl := lw_at lw_m4 157 rfl
theorem q1020 : (Jvm.Cond.instanceMethod ({ cls := "DeltaIndex$Parser", name := "told", desc := "()LDeltaIndex$Tell;" } : Jvm.MethodName)) ∈ lw_all := lw_g (lw_at lw_m4 158 rfl) rfl
theorem q1021 : (Jvm.Cond.code ({ cls := "DeltaIndex$Parser", name := "told", desc := "()LDeltaIndex$Tell;" } : Jvm.MethodName) prog_8_method_16_code (4 : Nat) (Option.some (Jvm.ClassFile.FieldType.object "DeltaIndex$Tell"))) ∈ lw_all := lw_g (lw_at lw_m4 159 rfl) rfl
theorem q1022 : (Jvm.Cond.methodLink "DeltaIndex$Parser" (150 : Nat) ({ cls := "java/lang/String", name := "hashCode", desc := "()I" } : Jvm.MethodName)) ∈ lw_all := lw_g (lw_at lw_m4 160 rfl) rfl
theorem q1071 : (Jvm.Cond.stringRef "DeltaIndex$Parser" (153 : Nat) "put") ∈ lw_tbl := lw_at lw_m4 209 rfl
theorem q1072 : (Jvm.Cond.stringRef "DeltaIndex$Parser" (155 : Nat) "cut") ∈ lw_tbl := lw_at lw_m4 210 rfl
theorem q1073 : (Jvm.Cond.stringRef "DeltaIndex$Parser" (157 : Nat) "begin") ∈ lw_tbl := lw_at lw_m4 211 rfl
theorem q1074 : (Jvm.Cond.stringRef "DeltaIndex$Parser" (159 : Nat) "get") ∈ lw_tbl := lw_at lw_m4 212 rfl
theorem q1075 : (Jvm.Cond.stringRef "DeltaIndex$Parser" (161 : Nat) "step") ∈ lw_tbl := lw_at lw_m4 213 rfl
theorem q1076 : (Jvm.Cond.stringRef "DeltaIndex$Parser" (163 : Nat) "close") ∈ lw_tbl := lw_at lw_m4 214 rfl
theorem q1077 : (Jvm.Cond.stringRef "DeltaIndex$Parser" (165 : Nat) "sweep") ∈ lw_tbl := lw_at lw_m4 215 rfl
theorem q1078 : (Jvm.Cond.stringRef "DeltaIndex$Parser" (167 : Nat) "do") ∈ lw_tbl := lw_at lw_m4 216 rfl
theorem q1079 : (Jvm.Cond.methodLink "DeltaIndex$Parser" (169 : Nat) ({ cls := "DeltaIndex$Parser", name := "act", desc := "(IZ)LDeltaIndex$Tell;" } : Jvm.MethodName)) ∈ lw_all := lw_g (lw_at lw_m4 217 rfl) rfl
theorem q1080 : (Jvm.Cond.privateMethod ({ cls := "DeltaIndex$Parser", name := "act", desc := "(IZ)LDeltaIndex$Tell;" } : Jvm.MethodName)) ∈ lw_tbl := lw_at lw_m4 218 rfl
theorem q1081 : (Jvm.Cond.instanceMethod ({ cls := "DeltaIndex$Parser", name := "act", desc := "(IZ)LDeltaIndex$Tell;" } : Jvm.MethodName)) ∈ lw_all := lw_g (lw_at lw_m4 219 rfl) rfl
theorem q1082 : (Jvm.Cond.code ({ cls := "DeltaIndex$Parser", name := "act", desc := "(IZ)LDeltaIndex$Tell;" } : Jvm.MethodName) prog_8_method_17_code (5 : Nat) (Option.some (Jvm.ClassFile.FieldType.object "DeltaIndex$Tell"))) ∈ lw_all := lw_g (lw_at lw_m4 220 rfl) rfl
theorem q1083 : (Jvm.Cond.methodLink "DeltaIndex$Parser" (186 : Nat) ({ cls := "DeltaIndex$Tell", name := "act", desc := "(Ljava/lang/String;)I" } : Jvm.MethodName)) ∈ lw_all := lw_g (lw_at lw_m4 221 rfl) rfl
theorem q1091 : (Jvm.Cond.methodLink "DeltaIndex$Parser" (191 : Nat) ({ cls := "DeltaIndex$Parser", name := "sum", desc := "()LDeltaIndex$Sum;" } : Jvm.MethodName)) ∈ lw_all := lw_g (lw_at lw_m4 229 rfl) rfl
theorem q1092 : (Jvm.Cond.privateMethod ({ cls := "DeltaIndex$Parser", name := "sum", desc := "()LDeltaIndex$Sum;" } : Jvm.MethodName)) ∈ lw_tbl := lw_at lw_m4 230 rfl
theorem q1093 : (Jvm.Cond.instanceMethod ({ cls := "DeltaIndex$Parser", name := "sum", desc := "()LDeltaIndex$Sum;" } : Jvm.MethodName)) ∈ lw_all := lw_g (lw_at lw_m4 231 rfl) rfl
theorem q1094 : (Jvm.Cond.code ({ cls := "DeltaIndex$Parser", name := "sum", desc := "()LDeltaIndex$Sum;" } : Jvm.MethodName) prog_8_method_23_code (3 : Nat) (Option.some (Jvm.ClassFile.FieldType.object "DeltaIndex$Sum"))) ∈ lw_all := lw_g (lw_at lw_m4 232 rfl) rfl
theorem q1095 : (Jvm.Cond.methodLink "DeltaIndex$Parser" (212 : Nat) ({ cls := "DeltaIndex$Parser", name := "part", desc := "()LDeltaIndex$Sum;" } : Jvm.MethodName)) ∈ lw_all := lw_g (lw_at lw_m4 233 rfl) rfl
theorem q1096 : (Jvm.Cond.privateMethod ({ cls := "DeltaIndex$Parser", name := "part", desc := "()LDeltaIndex$Sum;" } : Jvm.MethodName)) ∈ lw_tbl := lw_at lw_m4 234 rfl
theorem q1097 : (Jvm.Cond.instanceMethod ({ cls := "DeltaIndex$Parser", name := "part", desc := "()LDeltaIndex$Sum;" } : Jvm.MethodName)) ∈ lw_all := lw_g (lw_at lw_m4 235 rfl) rfl
theorem q1098 : (Jvm.Cond.code ({ cls := "DeltaIndex$Parser", name := "part", desc := "()LDeltaIndex$Sum;" } : Jvm.MethodName) prog_8_method_24_code (3 : Nat) (Option.some (Jvm.ClassFile.FieldType.object "DeltaIndex$Sum"))) ∈ lw_all := lw_g (lw_at lw_m4 236 rfl) rfl
theorem q1099 : (Jvm.Cond.methodLink "DeltaIndex$Parser" (220 : Nat) ({ cls := "DeltaIndex$Parser", name := "unit", desc := "()LDeltaIndex$Sum;" } : Jvm.MethodName)) ∈ lw_all := lw_g (lw_at lw_m4 237 rfl) rfl
theorem q1100 : (Jvm.Cond.privateMethod ({ cls := "DeltaIndex$Parser", name := "unit", desc := "()LDeltaIndex$Sum;" } : Jvm.MethodName)) ∈ lw_tbl := lw_at lw_m4 238 rfl
theorem q1101 : (Jvm.Cond.instanceMethod ({ cls := "DeltaIndex$Parser", name := "unit", desc := "()LDeltaIndex$Sum;" } : Jvm.MethodName)) ∈ lw_all := lw_g (lw_at lw_m4 239 rfl) rfl
theorem q1102 : (Jvm.Cond.code ({ cls := "DeltaIndex$Parser", name := "unit", desc := "()LDeltaIndex$Sum;" } : Jvm.MethodName) prog_8_method_25_code (2 : Nat) (Option.some (Jvm.ClassFile.FieldType.object "DeltaIndex$Sum"))) ∈ lw_all := lw_g (lw_at lw_m5 0 rfl) rfl
theorem q1103 : (Jvm.Cond.classLink "DeltaIndex$Parser" (223 : Nat) "DeltaIndex$Given") ∈ lw_all := lw_g (lw_at lw_m5 1 rfl) rfl
theorem q1105 : (Jvm.Cond.methodLink "DeltaIndex$Parser" (225 : Nat) ({ cls := "DeltaIndex$Given", name := "<init>", desc := "(I)V" } : Jvm.MethodName)) ∈ lw_all := lw_g (lw_at lw_m5 3 rfl) rfl
theorem q1116 : (Jvm.Cond.classLink "DeltaIndex$Parser" (226 : Nat) "DeltaIndex$Var") ∈ lw_all := lw_g (lw_at lw_m5 14 rfl) rfl
theorem q1118 : (Jvm.Cond.methodLink "DeltaIndex$Parser" (228 : Nat) ({ cls := "DeltaIndex$Var", name := "<init>", desc := "(I)V" } : Jvm.MethodName)) ∈ lw_all := lw_g (lw_at lw_m5 16 rfl) rfl
theorem q1126 : (Jvm.Cond.classLink "DeltaIndex$Parser" (215 : Nat) "DeltaIndex$Joined") ∈ lw_all := lw_g (lw_at lw_m5 24 rfl) rfl
theorem q1128 : (Jvm.Cond.methodLink "DeltaIndex$Parser" (217 : Nat) ({ cls := "DeltaIndex$Joined", name := "<init>", desc := "(ILDeltaIndex$Sum;LDeltaIndex$Sum;)V" } : Jvm.MethodName)) ∈ lw_all := lw_g (lw_at lw_m5 26 rfl) rfl
theorem q1142 : (Jvm.Cond.classLink "DeltaIndex$Parser" (195 : Nat) "DeltaIndex$Begin") ∈ lw_all := lw_g (lw_at lw_m5 40 rfl) rfl
theorem q1144 : (Jvm.Cond.methodLink "DeltaIndex$Parser" (197 : Nat) ({ cls := "DeltaIndex$Begin", name := "<init>", desc := "(IIZLDeltaIndex$Sum;LDeltaIndex$Sum;)V" } : Jvm.MethodName)) ∈ lw_all := lw_g (lw_at lw_m5 42 rfl) rfl
theorem q1164 : (Jvm.Cond.methodLink "DeltaIndex$Parser" (173 : Nat) ({ cls := "DeltaIndex$Parser", name := "begin", desc := "()LDeltaIndex$Tell;" } : Jvm.MethodName)) ∈ lw_all := lw_g (lw_at lw_m5 62 rfl) rfl
theorem q1165 : (Jvm.Cond.privateMethod ({ cls := "DeltaIndex$Parser", name := "begin", desc := "()LDeltaIndex$Tell;" } : Jvm.MethodName)) ∈ lw_tbl := lw_at lw_m5 63 rfl
theorem q1166 : (Jvm.Cond.instanceMethod ({ cls := "DeltaIndex$Parser", name := "begin", desc := "()LDeltaIndex$Tell;" } : Jvm.MethodName)) ∈ lw_all := lw_g (lw_at lw_m5 64 rfl) rfl
theorem q1167 : (Jvm.Cond.code ({ cls := "DeltaIndex$Parser", name := "begin", desc := "()LDeltaIndex$Tell;" } : Jvm.MethodName) prog_8_method_18_code (2 : Nat) (Option.some (Jvm.ClassFile.FieldType.object "DeltaIndex$Tell"))) ∈ lw_all := lw_g (lw_at lw_m5 65 rfl) rfl
theorem q1168 : (Jvm.Cond.methodLink "DeltaIndex$Parser" (175 : Nat) ({ cls := "DeltaIndex$Parser", name := "get", desc := "()LDeltaIndex$Tell;" } : Jvm.MethodName)) ∈ lw_all := lw_g (lw_at lw_m5 66 rfl) rfl
theorem q1169 : (Jvm.Cond.privateMethod ({ cls := "DeltaIndex$Parser", name := "get", desc := "()LDeltaIndex$Tell;" } : Jvm.MethodName)) ∈ lw_tbl := lw_at lw_m5 67 rfl
theorem q1170 : (Jvm.Cond.instanceMethod ({ cls := "DeltaIndex$Parser", name := "get", desc := "()LDeltaIndex$Tell;" } : Jvm.MethodName)) ∈ lw_all := lw_g (lw_at lw_m5 68 rfl) rfl
theorem q1171 : (Jvm.Cond.code ({ cls := "DeltaIndex$Parser", name := "get", desc := "()LDeltaIndex$Tell;" } : Jvm.MethodName) prog_8_method_19_code (2 : Nat) (Option.some (Jvm.ClassFile.FieldType.object "DeltaIndex$Tell"))) ∈ lw_all := lw_g (lw_at lw_m5 69 rfl) rfl
theorem q1172 : (Jvm.Cond.methodLink "DeltaIndex$Parser" (177 : Nat) ({ cls := "DeltaIndex$Parser", name := "go", desc := "(Z)LDeltaIndex$Tell;" } : Jvm.MethodName)) ∈ lw_all := lw_g (lw_at lw_m5 70 rfl) rfl
theorem q1173 : (Jvm.Cond.privateMethod ({ cls := "DeltaIndex$Parser", name := "go", desc := "(Z)LDeltaIndex$Tell;" } : Jvm.MethodName)) ∈ lw_tbl := lw_at lw_m5 71 rfl
theorem q1174 : (Jvm.Cond.instanceMethod ({ cls := "DeltaIndex$Parser", name := "go", desc := "(Z)LDeltaIndex$Tell;" } : Jvm.MethodName)) ∈ lw_all := lw_g (lw_at lw_m5 72 rfl) rfl
theorem q1175 : (Jvm.Cond.code ({ cls := "DeltaIndex$Parser", name := "go", desc := "(Z)LDeltaIndex$Tell;" } : Jvm.MethodName) prog_8_method_20_code (2 : Nat) (Option.some (Jvm.ClassFile.FieldType.object "DeltaIndex$Tell"))) ∈ lw_all := lw_g (lw_at lw_m5 73 rfl) rfl
theorem q1176 : (Jvm.Cond.classLink "DeltaIndex$Parser" (200 : Nat) "DeltaIndex$Go") ∈ lw_all := lw_g (lw_at lw_m5 74 rfl) rfl
theorem q1178 : (Jvm.Cond.methodLink "DeltaIndex$Parser" (202 : Nat) ({ cls := "DeltaIndex$Go", name := "<init>", desc := "(IZ)V" } : Jvm.MethodName)) ∈ lw_all := lw_g (lw_at lw_m5 76 rfl) rfl
theorem q1189 : (Jvm.Cond.methodLink "DeltaIndex$Parser" (181 : Nat) ({ cls := "DeltaIndex$Parser", name := "sweep", desc := "()LDeltaIndex$Tell;" } : Jvm.MethodName)) ∈ lw_all := lw_g (lw_at lw_m5 87 rfl) rfl
theorem q1190 : (Jvm.Cond.privateMethod ({ cls := "DeltaIndex$Parser", name := "sweep", desc := "()LDeltaIndex$Tell;" } : Jvm.MethodName)) ∈ lw_tbl := lw_at lw_m5 88 rfl
theorem q1191 : (Jvm.Cond.instanceMethod ({ cls := "DeltaIndex$Parser", name := "sweep", desc := "()LDeltaIndex$Tell;" } : Jvm.MethodName)) ∈ lw_all := lw_g (lw_at lw_m5 89 rfl) rfl
theorem q1192 : (Jvm.Cond.code ({ cls := "DeltaIndex$Parser", name := "sweep", desc := "()LDeltaIndex$Tell;" } : Jvm.MethodName) prog_8_method_21_code (1 : Nat) (Option.some (Jvm.ClassFile.FieldType.object "DeltaIndex$Tell"))) ∈ lw_all := lw_g (lw_at lw_m5 90 rfl) rfl
theorem q1193 : (Jvm.Cond.classLink "DeltaIndex$Parser" (205 : Nat) "DeltaIndex$Sweep") ∈ lw_all := lw_g (lw_at lw_m5 91 rfl) rfl
theorem q1195 : (Jvm.Cond.methodLinkNest "DeltaIndex$Parser" (207 : Nat) ({ cls := "DeltaIndex$Sweep", name := "<init>", desc := "()V" } : Jvm.MethodName) "DeltaIndex") ∈ lw_tbl := lw_at lw_m5 93 rfl
theorem q1200 : (Jvm.Cond.methodLink "DeltaIndex$Parser" (183 : Nat) ({ cls := "DeltaIndex$Parser", name := "rounds", desc := "()LDeltaIndex$Tell;" } : Jvm.MethodName)) ∈ lw_all := lw_g (lw_at lw_m5 98 rfl) rfl
theorem q1201 : (Jvm.Cond.privateMethod ({ cls := "DeltaIndex$Parser", name := "rounds", desc := "()LDeltaIndex$Tell;" } : Jvm.MethodName)) ∈ lw_tbl := lw_at lw_m5 99 rfl
theorem q1202 : (Jvm.Cond.instanceMethod ({ cls := "DeltaIndex$Parser", name := "rounds", desc := "()LDeltaIndex$Tell;" } : Jvm.MethodName)) ∈ lw_all := lw_g (lw_at lw_m5 100 rfl) rfl
theorem q1203 : (Jvm.Cond.code ({ cls := "DeltaIndex$Parser", name := "rounds", desc := "()LDeltaIndex$Tell;" } : Jvm.MethodName) prog_8_method_22_code (2 : Nat) (Option.some (Jvm.ClassFile.FieldType.object "DeltaIndex$Tell"))) ∈ lw_all := lw_g (lw_at lw_m5 101 rfl) rfl
theorem q1204 : (Jvm.Cond.classLink "DeltaIndex$Parser" (136 : Nat) "DeltaIndex$Rounds") ∈ lw_all := lw_g (lw_at lw_m5 102 rfl) rfl
theorem q1205 : (Jvm.Cond.methodLink "DeltaIndex$Parser" (208 : Nat) ({ cls := "DeltaIndex$Rounds", name := "<init>", desc := "(I)V" } : Jvm.MethodName)) ∈ lw_all := lw_g (lw_at lw_m5 103 rfl) rfl
theorem q1206 : (Jvm.Cond.stringRef "DeltaIndex$Parser" (210 : Nat) "end") ∈ lw_tbl := lw_at lw_m5 104 rfl
theorem q1207 : (Jvm.Cond.methodLink "DeltaIndex$Parser" (145 : Nat) ({ cls := "java/util/ArrayList", name := "add", desc := "(Ljava/lang/Object;)Z" } : Jvm.MethodName)) ∈ lw_all := lw_g (lw_at lw_m5 105 rfl) rfl
theorem q1237 : (Jvm.Cond.selects "DeltaIndex$Parser" ({ cls := "java/lang/Object", name := "getClass", desc := "()Ljava/lang/Class;" } : Jvm.MethodName) ({ cls := "java/lang/Object", name := "getClass", desc := "()Ljava/lang/Class;" } : Jvm.MethodName)) ∈ lw_all := lw_g (lw_at lw_m5 135 rfl) rfl
theorem q2363 : (Jvm.Cond.castable "DeltaIndex$Parser" "java/lang/Object") ∈ lw_tbl := lw_at lw_m10 61 rfl
theorem in_X3 : ∀ w ∈ wsX30, w ∈ lw_all := lw_in wsX30 [332, 334, 336, 338, 340, 342, 344, 346] (by decide +kernel) (by decide +kernel)
