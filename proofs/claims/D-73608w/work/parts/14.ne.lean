/-! DeltaIndex -/
set_option maxRecDepth 100000
def RX0 : String := "DeltaIndex"
def TX0 : u_T := fun k => match k with
  | 0 => ("DeltaIndex", "fault", "LDeltaIndex$Fault;", true)
  | 1 => ("DeltaIndex", "tokens", "LDeltaIndex$Tokens;", true)
  | 2 => ("DeltaIndex", "parser", "LDeltaIndex$Parser;", true)
  | 3 => ("DeltaIndex", "place", "I", false)
  | 4 => ("DeltaIndex", "done", "I", false)
  | 5 => ("DeltaIndex", "store", "LDeltaIndex$Store;", true)
  | 6 => ("DeltaIndex", "trial", "LDeltaIndex$Store;", true)
  | 7 => ("DeltaIndex", "slots", "[LDeltaIndex$Store;", true)
  | 8 => ("DeltaIndex", "laid", "LDeltaIndex$Record;", true)
  | 9 => ("DeltaIndex", "held", "[Z", true)
  | 10 => ("DeltaIndex", "key", "[I", true)
  | 11 => ("DeltaIndex", "worth", "[I", true)
  | 12 => ("DeltaIndex", "firstKey", "[I", true)
  | _ => ("DeltaIndex", "firstWorth", "[I", true)
def tyX0 : Nat → FieldType := fun k => match k with
  | 0 => .object "DeltaIndex$Fault"
  | 1 => .object "DeltaIndex$Tokens"
  | 2 => .object "DeltaIndex$Parser"
  | 3 => .int
  | 4 => .int
  | 5 => .object "DeltaIndex$Store"
  | 6 => .object "DeltaIndex$Store"
  | 7 => .array (.object "DeltaIndex$Store")
  | 8 => .object "DeltaIndex$Record"
  | 9 => .array .boolean
  | 10 => .array .int
  | 11 => .array .int
  | 12 => .array .int
  | _ => .array .int
abbrev wsX00 : List Cond := u_ws RX0 TX0 14
set_option maxRecDepth 100000 in
theorem nmX0 : ∀ a, a < 14 → ∀ b, b < 14 → a ≠ b → (TX0 a).2.1 ≠ (TX0 b).2.1 := by decide +kernel
set_option maxRecDepth 100000 in
theorem tyX0_ok : ∀ k, k < 14 → parseFieldDescriptor (TX0 k).2.2.1 = some (tyX0 k) := by decide +kernel
abbrev cX0_init : ByteArray := prog_1_method_1_code
def yX0_init : MethodName := ⟨RX0, "<init>", "()V"⟩
def dkwX0_init_7 : List UInt8 := [181, 0, 71, 42, 180, 0, 39, 187, 0, 74, 89, 183, 0, 76, 182, 0, 77, 177]
abbrev dktX0_init_7 : List UInt8 := dkwX0_init_7 ++ []
def dkwX0_init_6 : List UInt8 := [17, 3, 232, 188, 10, 181, 0, 65, 42, 17, 3, 232, 188, 10, 181, 0, 68, 42, 17, 3, 232, 188, 10]
abbrev dktX0_init_6 : List UInt8 := dkwX0_init_6 ++ dktX0_init_7
def dkwX0_init_5 : List UInt8 := [183, 0, 52, 181, 0, 53, 42, 6, 188, 4, 181, 0, 57, 42, 17, 3, 232, 188, 10, 181, 0, 61, 42]
abbrev dktX0_init_5 : List UInt8 := dkwX0_init_5 ++ dktX0_init_6
def dkwX0_init_4 : List UInt8 := [183, 0, 38, 83, 89, 5, 187, 0, 36, 89, 183, 0, 38, 83, 181, 0, 46, 42, 187, 0, 50, 89]
abbrev dktX0_init_4 : List UInt8 := dkwX0_init_4 ++ dktX0_init_5
def dkwX0_init_3 : List UInt8 := [181, 0, 43, 42, 6, 189, 0, 36, 89, 3, 187, 0, 36, 89, 183, 0, 38, 83, 89, 4, 187, 0, 36, 89]
abbrev dktX0_init_3 : List UInt8 := dkwX0_init_3 ++ dktX0_init_4
def dkwX0_init_2 : List UInt8 := [181, 0, 32, 42, 187, 0, 36, 89, 183, 0, 38, 181, 0, 39, 42, 187, 0, 36, 89, 183, 0, 38]
abbrev dktX0_init_2 : List UInt8 := dkwX0_init_2 ++ dktX0_init_3
def dkwX0_init_1 : List UInt8 := [181, 0, 19, 42, 187, 0, 23, 89, 42, 180, 0, 19, 42, 180, 0, 10, 183, 0, 25, 181, 0, 28, 42, 2]
abbrev dktX0_init_1 : List UInt8 := dkwX0_init_1 ++ dktX0_init_2
def dkwX0_init_0 : List UInt8 := [42, 183, 0, 1, 42, 187, 0, 7, 89, 183, 0, 9, 181, 0, 10, 42, 187, 0, 16, 89, 183, 0, 18]
abbrev dktX0_init_0 : List UInt8 := dkwX0_init_0 ++ dktX0_init_1
theorem dksX0_init_0 : cX0_init.data.toList.drop 0 = dktX0_init_0 := by decide +kernel
theorem dksX0_init_1 : cX0_init.data.toList.drop 23 = dktX0_init_1 := dk_seg dksX0_init_0 23 rfl rfl
theorem dksX0_init_2 : cX0_init.data.toList.drop 47 = dktX0_init_2 := dk_seg dksX0_init_1 24 rfl rfl
theorem dksX0_init_3 : cX0_init.data.toList.drop 69 = dktX0_init_3 := dk_seg dksX0_init_2 22 rfl rfl
theorem dksX0_init_4 : cX0_init.data.toList.drop 93 = dktX0_init_4 := dk_seg dksX0_init_3 24 rfl rfl
theorem dksX0_init_5 : cX0_init.data.toList.drop 115 = dktX0_init_5 := dk_seg dksX0_init_4 22 rfl rfl
theorem dksX0_init_6 : cX0_init.data.toList.drop 138 = dktX0_init_6 := dk_seg dksX0_init_5 23 rfl rfl
theorem dksX0_init_7 : cX0_init.data.toList.drop 161 = dktX0_init_7 := dk_seg dksX0_init_6 23 rfl rfl
theorem dX0_init_0 : decode cX0_init 0 = .ok (.aload_n 0, 1) := dk_42 (dk_at dksX0_init_0 0 rfl rfl)
theorem dX0_init_1 : decode cX0_init 1 = .ok (.invokespecial 1, 3) := dk_183 0 1 (dk_at dksX0_init_0 1 rfl rfl)
theorem dX0_init_4 : decode cX0_init 4 = .ok (.aload_n 0, 1) := dk_42 (dk_at dksX0_init_0 4 rfl rfl)
theorem dX0_init_5 : decode cX0_init 5 = .ok (.new 7, 3) := dk_187 0 7 (dk_at dksX0_init_0 5 rfl rfl)
theorem dX0_init_8 : decode cX0_init 8 = .ok (.dup, 1) := dk_89 (dk_at dksX0_init_0 8 rfl rfl)
theorem dX0_init_9 : decode cX0_init 9 = .ok (.invokespecial 9, 3) := dk_183 0 9 (dk_at dksX0_init_0 9 rfl rfl)
theorem dX0_init_12 : decode cX0_init 12 = .ok (.putfield 10, 3) := dk_181 0 10 (dk_at dksX0_init_0 12 rfl rfl)
theorem dX0_init_15 : decode cX0_init 15 = .ok (.aload_n 0, 1) := dk_42 (dk_at dksX0_init_0 15 rfl rfl)
theorem dX0_init_16 : decode cX0_init 16 = .ok (.new 16, 3) := dk_187 0 16 (dk_at dksX0_init_0 16 rfl rfl)
theorem dX0_init_19 : decode cX0_init 19 = .ok (.dup, 1) := dk_89 (dk_at dksX0_init_0 19 rfl rfl)
theorem dX0_init_20 : decode cX0_init 20 = .ok (.invokespecial 18, 3) := dk_183 0 18 (dk_at dksX0_init_0 20 rfl rfl)
theorem dX0_init_23 : decode cX0_init 23 = .ok (.putfield 19, 3) := dk_181 0 19 (dk_at dksX0_init_1 0 rfl rfl)
theorem dX0_init_26 : decode cX0_init 26 = .ok (.aload_n 0, 1) := dk_42 (dk_at dksX0_init_1 3 rfl rfl)
theorem dX0_init_27 : decode cX0_init 27 = .ok (.new 23, 3) := dk_187 0 23 (dk_at dksX0_init_1 4 rfl rfl)
theorem dX0_init_30 : decode cX0_init 30 = .ok (.dup, 1) := dk_89 (dk_at dksX0_init_1 7 rfl rfl)
theorem dX0_init_31 : decode cX0_init 31 = .ok (.aload_n 0, 1) := dk_42 (dk_at dksX0_init_1 8 rfl rfl)
theorem dX0_init_32 : decode cX0_init 32 = .ok (.getfield 19, 3) := dk_180 0 19 (dk_at dksX0_init_1 9 rfl rfl)
theorem dX0_init_35 : decode cX0_init 35 = .ok (.aload_n 0, 1) := dk_42 (dk_at dksX0_init_1 12 rfl rfl)
theorem dX0_init_36 : decode cX0_init 36 = .ok (.getfield 10, 3) := dk_180 0 10 (dk_at dksX0_init_1 13 rfl rfl)
theorem dX0_init_39 : decode cX0_init 39 = .ok (.invokespecial 25, 3) := dk_183 0 25 (dk_at dksX0_init_1 16 rfl rfl)
theorem dX0_init_42 : decode cX0_init 42 = .ok (.putfield 28, 3) := dk_181 0 28 (dk_at dksX0_init_1 19 rfl rfl)
theorem dX0_init_45 : decode cX0_init 45 = .ok (.aload_n 0, 1) := dk_42 (dk_at dksX0_init_1 22 rfl rfl)
theorem dX0_init_46 : decode cX0_init 46 = .ok (.iconst (-1), 1) := dk_2 (dk_at dksX0_init_1 23 rfl rfl)
theorem dX0_init_47 : decode cX0_init 47 = .ok (.putfield 32, 3) := dk_181 0 32 (dk_at dksX0_init_2 0 rfl rfl)
theorem dX0_init_50 : decode cX0_init 50 = .ok (.aload_n 0, 1) := dk_42 (dk_at dksX0_init_2 3 rfl rfl)
theorem dX0_init_51 : decode cX0_init 51 = .ok (.new 36, 3) := dk_187 0 36 (dk_at dksX0_init_2 4 rfl rfl)
theorem dX0_init_54 : decode cX0_init 54 = .ok (.dup, 1) := dk_89 (dk_at dksX0_init_2 7 rfl rfl)
theorem dX0_init_55 : decode cX0_init 55 = .ok (.invokespecial 38, 3) := dk_183 0 38 (dk_at dksX0_init_2 8 rfl rfl)
theorem dX0_init_58 : decode cX0_init 58 = .ok (.putfield 39, 3) := dk_181 0 39 (dk_at dksX0_init_2 11 rfl rfl)
theorem dX0_init_61 : decode cX0_init 61 = .ok (.aload_n 0, 1) := dk_42 (dk_at dksX0_init_2 14 rfl rfl)
theorem dX0_init_62 : decode cX0_init 62 = .ok (.new 36, 3) := dk_187 0 36 (dk_at dksX0_init_2 15 rfl rfl)
theorem dX0_init_65 : decode cX0_init 65 = .ok (.dup, 1) := dk_89 (dk_at dksX0_init_2 18 rfl rfl)
theorem dX0_init_66 : decode cX0_init 66 = .ok (.invokespecial 38, 3) := dk_183 0 38 (dk_at dksX0_init_2 19 rfl rfl)
theorem dX0_init_69 : decode cX0_init 69 = .ok (.putfield 43, 3) := dk_181 0 43 (dk_at dksX0_init_3 0 rfl rfl)
theorem dX0_init_72 : decode cX0_init 72 = .ok (.aload_n 0, 1) := dk_42 (dk_at dksX0_init_3 3 rfl rfl)
theorem dX0_init_73 : decode cX0_init 73 = .ok (.iconst 3, 1) := dk_6 (dk_at dksX0_init_3 4 rfl rfl)
theorem dX0_init_74 : decode cX0_init 74 = .ok (.anewarray 36, 3) := dk_189 0 36 (dk_at dksX0_init_3 5 rfl rfl)
theorem dX0_init_77 : decode cX0_init 77 = .ok (.dup, 1) := dk_89 (dk_at dksX0_init_3 8 rfl rfl)
theorem dX0_init_78 : decode cX0_init 78 = .ok (.iconst 0, 1) := dk_3 (dk_at dksX0_init_3 9 rfl rfl)
theorem dX0_init_79 : decode cX0_init 79 = .ok (.new 36, 3) := dk_187 0 36 (dk_at dksX0_init_3 10 rfl rfl)
theorem dX0_init_82 : decode cX0_init 82 = .ok (.dup, 1) := dk_89 (dk_at dksX0_init_3 13 rfl rfl)
theorem dX0_init_83 : decode cX0_init 83 = .ok (.invokespecial 38, 3) := dk_183 0 38 (dk_at dksX0_init_3 14 rfl rfl)
theorem dX0_init_86 : decode cX0_init 86 = .ok (.aastore, 1) := dk_83 (dk_at dksX0_init_3 17 rfl rfl)
theorem dX0_init_87 : decode cX0_init 87 = .ok (.dup, 1) := dk_89 (dk_at dksX0_init_3 18 rfl rfl)
theorem dX0_init_88 : decode cX0_init 88 = .ok (.iconst 1, 1) := dk_4 (dk_at dksX0_init_3 19 rfl rfl)
theorem dX0_init_89 : decode cX0_init 89 = .ok (.new 36, 3) := dk_187 0 36 (dk_at dksX0_init_3 20 rfl rfl)
theorem dX0_init_92 : decode cX0_init 92 = .ok (.dup, 1) := dk_89 (dk_at dksX0_init_3 23 rfl rfl)
theorem dX0_init_93 : decode cX0_init 93 = .ok (.invokespecial 38, 3) := dk_183 0 38 (dk_at dksX0_init_4 0 rfl rfl)
theorem dX0_init_96 : decode cX0_init 96 = .ok (.aastore, 1) := dk_83 (dk_at dksX0_init_4 3 rfl rfl)
theorem dX0_init_97 : decode cX0_init 97 = .ok (.dup, 1) := dk_89 (dk_at dksX0_init_4 4 rfl rfl)
theorem dX0_init_98 : decode cX0_init 98 = .ok (.iconst 2, 1) := dk_5 (dk_at dksX0_init_4 5 rfl rfl)
theorem dX0_init_99 : decode cX0_init 99 = .ok (.new 36, 3) := dk_187 0 36 (dk_at dksX0_init_4 6 rfl rfl)
theorem dX0_init_102 : decode cX0_init 102 = .ok (.dup, 1) := dk_89 (dk_at dksX0_init_4 9 rfl rfl)
theorem dX0_init_103 : decode cX0_init 103 = .ok (.invokespecial 38, 3) := dk_183 0 38 (dk_at dksX0_init_4 10 rfl rfl)
theorem dX0_init_106 : decode cX0_init 106 = .ok (.aastore, 1) := dk_83 (dk_at dksX0_init_4 13 rfl rfl)
theorem dX0_init_107 : decode cX0_init 107 = .ok (.putfield 46, 3) := dk_181 0 46 (dk_at dksX0_init_4 14 rfl rfl)
theorem dX0_init_110 : decode cX0_init 110 = .ok (.aload_n 0, 1) := dk_42 (dk_at dksX0_init_4 17 rfl rfl)
theorem dX0_init_111 : decode cX0_init 111 = .ok (.new 50, 3) := dk_187 0 50 (dk_at dksX0_init_4 18 rfl rfl)
theorem dX0_init_114 : decode cX0_init 114 = .ok (.dup, 1) := dk_89 (dk_at dksX0_init_4 21 rfl rfl)
theorem dX0_init_115 : decode cX0_init 115 = .ok (.invokespecial 52, 3) := dk_183 0 52 (dk_at dksX0_init_5 0 rfl rfl)
theorem dX0_init_118 : decode cX0_init 118 = .ok (.putfield 53, 3) := dk_181 0 53 (dk_at dksX0_init_5 3 rfl rfl)
theorem dX0_init_121 : decode cX0_init 121 = .ok (.aload_n 0, 1) := dk_42 (dk_at dksX0_init_5 6 rfl rfl)
theorem dX0_init_122 : decode cX0_init 122 = .ok (.iconst 3, 1) := dk_6 (dk_at dksX0_init_5 7 rfl rfl)
theorem dX0_init_123 : decode cX0_init 123 = .ok (.newarray .boolean, 2) := dk_188_4 (dk_at dksX0_init_5 8 rfl rfl)
theorem dX0_init_125 : decode cX0_init 125 = .ok (.putfield 57, 3) := dk_181 0 57 (dk_at dksX0_init_5 10 rfl rfl)
theorem dX0_init_128 : decode cX0_init 128 = .ok (.aload_n 0, 1) := dk_42 (dk_at dksX0_init_5 13 rfl rfl)
theorem dX0_init_129 : decode cX0_init 129 = .ok (.sipush 1000, 3) := dk_17 3 232 (dk_at dksX0_init_5 14 rfl rfl)
theorem dX0_init_132 : decode cX0_init 132 = .ok (.newarray .int, 2) := dk_188_10 (dk_at dksX0_init_5 17 rfl rfl)
theorem dX0_init_134 : decode cX0_init 134 = .ok (.putfield 61, 3) := dk_181 0 61 (dk_at dksX0_init_5 19 rfl rfl)
theorem dX0_init_137 : decode cX0_init 137 = .ok (.aload_n 0, 1) := dk_42 (dk_at dksX0_init_5 22 rfl rfl)
theorem dX0_init_138 : decode cX0_init 138 = .ok (.sipush 1000, 3) := dk_17 3 232 (dk_at dksX0_init_6 0 rfl rfl)
theorem dX0_init_141 : decode cX0_init 141 = .ok (.newarray .int, 2) := dk_188_10 (dk_at dksX0_init_6 3 rfl rfl)
theorem dX0_init_143 : decode cX0_init 143 = .ok (.putfield 65, 3) := dk_181 0 65 (dk_at dksX0_init_6 5 rfl rfl)
theorem dX0_init_146 : decode cX0_init 146 = .ok (.aload_n 0, 1) := dk_42 (dk_at dksX0_init_6 8 rfl rfl)
theorem dX0_init_147 : decode cX0_init 147 = .ok (.sipush 1000, 3) := dk_17 3 232 (dk_at dksX0_init_6 9 rfl rfl)
theorem dX0_init_150 : decode cX0_init 150 = .ok (.newarray .int, 2) := dk_188_10 (dk_at dksX0_init_6 12 rfl rfl)
theorem dX0_init_152 : decode cX0_init 152 = .ok (.putfield 68, 3) := dk_181 0 68 (dk_at dksX0_init_6 14 rfl rfl)
theorem dX0_init_155 : decode cX0_init 155 = .ok (.aload_n 0, 1) := dk_42 (dk_at dksX0_init_6 17 rfl rfl)
theorem dX0_init_156 : decode cX0_init 156 = .ok (.sipush 1000, 3) := dk_17 3 232 (dk_at dksX0_init_6 18 rfl rfl)
theorem dX0_init_159 : decode cX0_init 159 = .ok (.newarray .int, 2) := dk_188_10 (dk_at dksX0_init_6 21 rfl rfl)
theorem dX0_init_161 : decode cX0_init 161 = .ok (.putfield 71, 3) := dk_181 0 71 (dk_at dksX0_init_7 0 rfl rfl)
theorem dX0_init_164 : decode cX0_init 164 = .ok (.aload_n 0, 1) := dk_42 (dk_at dksX0_init_7 3 rfl rfl)
theorem dX0_init_165 : decode cX0_init 165 = .ok (.getfield 39, 3) := dk_180 0 39 (dk_at dksX0_init_7 4 rfl rfl)
theorem dX0_init_168 : decode cX0_init 168 = .ok (.new 74, 3) := dk_187 0 74 (dk_at dksX0_init_7 7 rfl rfl)
theorem dX0_init_171 : decode cX0_init 171 = .ok (.dup, 1) := dk_89 (dk_at dksX0_init_7 10 rfl rfl)
theorem dX0_init_172 : decode cX0_init 172 = .ok (.invokespecial 76, 3) := dk_183 0 76 (dk_at dksX0_init_7 11 rfl rfl)
theorem dX0_init_175 : decode cX0_init 175 = .ok (.invokevirtual 77, 3) := dk_182 0 77 (dk_at dksX0_init_7 14 rfl rfl)
theorem dX0_init_178 : decode cX0_init 178 = .ok (.return_, 1) := dk_177 (dk_at dksX0_init_7 17 rfl rfl)
abbrev cX0_feed : ByteArray := prog_1_method_2_code
def yX0_feed : MethodName := ⟨RX0, "feed", "(IIIII)I"⟩
def dkwX0_feed_2 : List UInt8 := [180, 0, 19, 180, 0, 81, 172]
abbrev dktX0_feed_2 : List UInt8 := dkwX0_feed_2 ++ []
def dkwX0_feed_1 : List UInt8 := [28, 182, 0, 84, 42, 29, 182, 0, 84, 42, 21, 4, 182, 0, 84, 42, 21, 5, 182, 0, 84, 42]
abbrev dktX0_feed_1 : List UInt8 := dkwX0_feed_1 ++ dktX0_feed_2
def dkwX0_feed_0 : List UInt8 := [42, 180, 0, 19, 180, 0, 81, 16, 20, 96, 17, 7, 208, 164, 0, 5, 2, 172, 42, 27, 182, 0, 84, 42]
abbrev dktX0_feed_0 : List UInt8 := dkwX0_feed_0 ++ dktX0_feed_1
theorem dksX0_feed_0 : cX0_feed.data.toList.drop 0 = dktX0_feed_0 := by decide +kernel
theorem dksX0_feed_1 : cX0_feed.data.toList.drop 24 = dktX0_feed_1 := dk_seg dksX0_feed_0 24 rfl rfl
theorem dksX0_feed_2 : cX0_feed.data.toList.drop 46 = dktX0_feed_2 := dk_seg dksX0_feed_1 22 rfl rfl
theorem dX0_feed_0 : decode cX0_feed 0 = .ok (.aload_n 0, 1) := dk_42 (dk_at dksX0_feed_0 0 rfl rfl)
theorem dX0_feed_1 : decode cX0_feed 1 = .ok (.getfield 19, 3) := dk_180 0 19 (dk_at dksX0_feed_0 1 rfl rfl)
theorem dX0_feed_4 : decode cX0_feed 4 = .ok (.getfield 81, 3) := dk_180 0 81 (dk_at dksX0_feed_0 4 rfl rfl)
theorem dX0_feed_7 : decode cX0_feed 7 = .ok (.bipush 20, 2) := dk_16 20 (dk_at dksX0_feed_0 7 rfl rfl)
theorem dX0_feed_9 : decode cX0_feed 9 = .ok (.iadd, 1) := dk_96 (dk_at dksX0_feed_0 9 rfl rfl)
theorem dX0_feed_10 : decode cX0_feed 10 = .ok (.sipush 2000, 3) := dk_17 7 208 (dk_at dksX0_feed_0 10 rfl rfl)
theorem dX0_feed_13 : decode cX0_feed 13 = .ok (.if_icmp .le 5, 3) := dk_164 0 5 (dk_at dksX0_feed_0 13 rfl rfl)
theorem dX0_feed_16 : decode cX0_feed 16 = .ok (.iconst (-1), 1) := dk_2 (dk_at dksX0_feed_0 16 rfl rfl)
theorem dX0_feed_17 : decode cX0_feed 17 = .ok (.ireturn, 1) := dk_172 (dk_at dksX0_feed_0 17 rfl rfl)
theorem dX0_feed_18 : decode cX0_feed 18 = .ok (.aload_n 0, 1) := dk_42 (dk_at dksX0_feed_0 18 rfl rfl)
theorem dX0_feed_19 : decode cX0_feed 19 = .ok (.iload_n 1, 1) := dk_27 (dk_at dksX0_feed_0 19 rfl rfl)
theorem dX0_feed_20 : decode cX0_feed 20 = .ok (.invokevirtual 84, 3) := dk_182 0 84 (dk_at dksX0_feed_0 20 rfl rfl)
theorem dX0_feed_23 : decode cX0_feed 23 = .ok (.aload_n 0, 1) := dk_42 (dk_at dksX0_feed_0 23 rfl rfl)
theorem dX0_feed_24 : decode cX0_feed 24 = .ok (.iload_n 2, 1) := dk_28 (dk_at dksX0_feed_1 0 rfl rfl)
theorem dX0_feed_25 : decode cX0_feed 25 = .ok (.invokevirtual 84, 3) := dk_182 0 84 (dk_at dksX0_feed_1 1 rfl rfl)
theorem dX0_feed_28 : decode cX0_feed 28 = .ok (.aload_n 0, 1) := dk_42 (dk_at dksX0_feed_1 4 rfl rfl)
theorem dX0_feed_29 : decode cX0_feed 29 = .ok (.iload_n 3, 1) := dk_29 (dk_at dksX0_feed_1 5 rfl rfl)
theorem dX0_feed_30 : decode cX0_feed 30 = .ok (.invokevirtual 84, 3) := dk_182 0 84 (dk_at dksX0_feed_1 6 rfl rfl)
theorem dX0_feed_33 : decode cX0_feed 33 = .ok (.aload_n 0, 1) := dk_42 (dk_at dksX0_feed_1 9 rfl rfl)
theorem dX0_feed_34 : decode cX0_feed 34 = .ok (.iload 4, 2) := dk_21 4 (dk_at dksX0_feed_1 10 rfl rfl)
theorem dX0_feed_36 : decode cX0_feed 36 = .ok (.invokevirtual 84, 3) := dk_182 0 84 (dk_at dksX0_feed_1 12 rfl rfl)
theorem dX0_feed_39 : decode cX0_feed 39 = .ok (.aload_n 0, 1) := dk_42 (dk_at dksX0_feed_1 15 rfl rfl)
theorem dX0_feed_40 : decode cX0_feed 40 = .ok (.iload 5, 2) := dk_21 5 (dk_at dksX0_feed_1 16 rfl rfl)
theorem dX0_feed_42 : decode cX0_feed 42 = .ok (.invokevirtual 84, 3) := dk_182 0 84 (dk_at dksX0_feed_1 18 rfl rfl)
theorem dX0_feed_45 : decode cX0_feed 45 = .ok (.aload_n 0, 1) := dk_42 (dk_at dksX0_feed_1 21 rfl rfl)
theorem dX0_feed_46 : decode cX0_feed 46 = .ok (.getfield 19, 3) := dk_180 0 19 (dk_at dksX0_feed_2 0 rfl rfl)
theorem dX0_feed_49 : decode cX0_feed 49 = .ok (.getfield 81, 3) := dk_180 0 81 (dk_at dksX0_feed_2 3 rfl rfl)
theorem dX0_feed_52 : decode cX0_feed 52 = .ok (.ireturn, 1) := dk_172 (dk_at dksX0_feed_2 6 rfl rfl)
abbrev cX0_typed : ByteArray := prog_1_method_3_code
def yX0_typed : MethodName := ⟨RX0, "typed", "(I)V"⟩
def dkwX0_typed_1 : List UInt8 := [145, 84, 42, 180, 0, 19, 89, 180, 0, 81, 4, 96, 181, 0, 81, 132, 2, 248, 167, 255, 217, 177]
abbrev dktX0_typed_1 : List UInt8 := dkwX0_typed_1 ++ []
def dkwX0_typed_0 : List UInt8 := [16, 24, 61, 28, 155, 0, 41, 42, 180, 0, 19, 180, 0, 88, 42, 180, 0, 19, 180, 0, 81, 27, 28, 122]
abbrev dktX0_typed_0 : List UInt8 := dkwX0_typed_0 ++ dktX0_typed_1
theorem dksX0_typed_0 : cX0_typed.data.toList.drop 0 = dktX0_typed_0 := by decide +kernel
theorem dksX0_typed_1 : cX0_typed.data.toList.drop 24 = dktX0_typed_1 := dk_seg dksX0_typed_0 24 rfl rfl
theorem dX0_typed_0 : decode cX0_typed 0 = .ok (.bipush 24, 2) := dk_16 24 (dk_at dksX0_typed_0 0 rfl rfl)
theorem dX0_typed_2 : decode cX0_typed 2 = .ok (.istore_n 2, 1) := dk_61 (dk_at dksX0_typed_0 2 rfl rfl)
theorem dX0_typed_3 : decode cX0_typed 3 = .ok (.iload_n 2, 1) := dk_28 (dk_at dksX0_typed_0 3 rfl rfl)
theorem dX0_typed_4 : decode cX0_typed 4 = .ok (.ifCond .lt 41, 3) := dk_155 0 41 (dk_at dksX0_typed_0 4 rfl rfl)
theorem dX0_typed_7 : decode cX0_typed 7 = .ok (.aload_n 0, 1) := dk_42 (dk_at dksX0_typed_0 7 rfl rfl)
theorem dX0_typed_8 : decode cX0_typed 8 = .ok (.getfield 19, 3) := dk_180 0 19 (dk_at dksX0_typed_0 8 rfl rfl)
theorem dX0_typed_11 : decode cX0_typed 11 = .ok (.getfield 88, 3) := dk_180 0 88 (dk_at dksX0_typed_0 11 rfl rfl)
theorem dX0_typed_14 : decode cX0_typed 14 = .ok (.aload_n 0, 1) := dk_42 (dk_at dksX0_typed_0 14 rfl rfl)
theorem dX0_typed_15 : decode cX0_typed 15 = .ok (.getfield 19, 3) := dk_180 0 19 (dk_at dksX0_typed_0 15 rfl rfl)
theorem dX0_typed_18 : decode cX0_typed 18 = .ok (.getfield 81, 3) := dk_180 0 81 (dk_at dksX0_typed_0 18 rfl rfl)
theorem dX0_typed_21 : decode cX0_typed 21 = .ok (.iload_n 1, 1) := dk_27 (dk_at dksX0_typed_0 21 rfl rfl)
theorem dX0_typed_22 : decode cX0_typed 22 = .ok (.iload_n 2, 1) := dk_28 (dk_at dksX0_typed_0 22 rfl rfl)
theorem dX0_typed_23 : decode cX0_typed 23 = .ok (.ishr, 1) := dk_122 (dk_at dksX0_typed_0 23 rfl rfl)
theorem dX0_typed_24 : decode cX0_typed 24 = .ok (.i2b, 1) := dk_145 (dk_at dksX0_typed_1 0 rfl rfl)
theorem dX0_typed_25 : decode cX0_typed 25 = .ok (.bastore, 1) := dk_84 (dk_at dksX0_typed_1 1 rfl rfl)
theorem dX0_typed_26 : decode cX0_typed 26 = .ok (.aload_n 0, 1) := dk_42 (dk_at dksX0_typed_1 2 rfl rfl)
theorem dX0_typed_27 : decode cX0_typed 27 = .ok (.getfield 19, 3) := dk_180 0 19 (dk_at dksX0_typed_1 3 rfl rfl)
theorem dX0_typed_30 : decode cX0_typed 30 = .ok (.dup, 1) := dk_89 (dk_at dksX0_typed_1 6 rfl rfl)
theorem dX0_typed_31 : decode cX0_typed 31 = .ok (.getfield 81, 3) := dk_180 0 81 (dk_at dksX0_typed_1 7 rfl rfl)
theorem dX0_typed_34 : decode cX0_typed 34 = .ok (.iconst 1, 1) := dk_4 (dk_at dksX0_typed_1 10 rfl rfl)
theorem dX0_typed_35 : decode cX0_typed 35 = .ok (.iadd, 1) := dk_96 (dk_at dksX0_typed_1 11 rfl rfl)
theorem dX0_typed_36 : decode cX0_typed 36 = .ok (.putfield 81, 3) := dk_181 0 81 (dk_at dksX0_typed_1 12 rfl rfl)
theorem dX0_typed_39 : decode cX0_typed 39 = .ok (.iinc 2 (-8), 3) := dk_132 2 248 (dk_at dksX0_typed_1 15 rfl rfl)
theorem dX0_typed_42 : decode cX0_typed 42 = .ok (.goto (-39), 3) := dk_167 255 217 (dk_at dksX0_typed_1 18 rfl rfl)
theorem dX0_typed_45 : decode cX0_typed 45 = .ok (.return_, 1) := dk_177 (dk_at dksX0_typed_1 21 rfl rfl)
abbrev cX0_back : ByteArray := prog_1_method_4_code
def yX0_back : MethodName := ⟨RX0, "back", "(I)I"⟩
def dkwX0_back_1 : List UInt8 := [180, 0, 81, 27, 100, 181, 0, 81, 42, 180, 0, 19, 180, 0, 81, 172]
abbrev dktX0_back_1 : List UInt8 := dkwX0_back_1 ++ []
def dkwX0_back_0 : List UInt8 := [27, 155, 0, 14, 27, 42, 180, 0, 19, 180, 0, 81, 164, 0, 5, 2, 172, 42, 180, 0, 19, 89]
abbrev dktX0_back_0 : List UInt8 := dkwX0_back_0 ++ dktX0_back_1
theorem dksX0_back_0 : cX0_back.data.toList.drop 0 = dktX0_back_0 := by decide +kernel
theorem dksX0_back_1 : cX0_back.data.toList.drop 22 = dktX0_back_1 := dk_seg dksX0_back_0 22 rfl rfl
theorem dX0_back_0 : decode cX0_back 0 = .ok (.iload_n 1, 1) := dk_27 (dk_at dksX0_back_0 0 rfl rfl)
theorem dX0_back_1 : decode cX0_back 1 = .ok (.ifCond .lt 14, 3) := dk_155 0 14 (dk_at dksX0_back_0 1 rfl rfl)
theorem dX0_back_4 : decode cX0_back 4 = .ok (.iload_n 1, 1) := dk_27 (dk_at dksX0_back_0 4 rfl rfl)
theorem dX0_back_5 : decode cX0_back 5 = .ok (.aload_n 0, 1) := dk_42 (dk_at dksX0_back_0 5 rfl rfl)
theorem dX0_back_6 : decode cX0_back 6 = .ok (.getfield 19, 3) := dk_180 0 19 (dk_at dksX0_back_0 6 rfl rfl)
theorem dX0_back_9 : decode cX0_back 9 = .ok (.getfield 81, 3) := dk_180 0 81 (dk_at dksX0_back_0 9 rfl rfl)
theorem dX0_back_12 : decode cX0_back 12 = .ok (.if_icmp .le 5, 3) := dk_164 0 5 (dk_at dksX0_back_0 12 rfl rfl)
theorem dX0_back_15 : decode cX0_back 15 = .ok (.iconst (-1), 1) := dk_2 (dk_at dksX0_back_0 15 rfl rfl)
theorem dX0_back_16 : decode cX0_back 16 = .ok (.ireturn, 1) := dk_172 (dk_at dksX0_back_0 16 rfl rfl)
theorem dX0_back_17 : decode cX0_back 17 = .ok (.aload_n 0, 1) := dk_42 (dk_at dksX0_back_0 17 rfl rfl)
theorem dX0_back_18 : decode cX0_back 18 = .ok (.getfield 19, 3) := dk_180 0 19 (dk_at dksX0_back_0 18 rfl rfl)
theorem dX0_back_21 : decode cX0_back 21 = .ok (.dup, 1) := dk_89 (dk_at dksX0_back_0 21 rfl rfl)
theorem dX0_back_22 : decode cX0_back 22 = .ok (.getfield 81, 3) := dk_180 0 81 (dk_at dksX0_back_1 0 rfl rfl)
theorem dX0_back_25 : decode cX0_back 25 = .ok (.iload_n 1, 1) := dk_27 (dk_at dksX0_back_1 3 rfl rfl)
theorem dX0_back_26 : decode cX0_back 26 = .ok (.isub, 1) := dk_100 (dk_at dksX0_back_1 4 rfl rfl)
theorem dX0_back_27 : decode cX0_back 27 = .ok (.putfield 81, 3) := dk_181 0 81 (dk_at dksX0_back_1 5 rfl rfl)
theorem dX0_back_30 : decode cX0_back 30 = .ok (.aload_n 0, 1) := dk_42 (dk_at dksX0_back_1 8 rfl rfl)
theorem dX0_back_31 : decode cX0_back 31 = .ok (.getfield 19, 3) := dk_180 0 19 (dk_at dksX0_back_1 9 rfl rfl)
theorem dX0_back_34 : decode cX0_back 34 = .ok (.getfield 81, 3) := dk_180 0 81 (dk_at dksX0_back_1 12 rfl rfl)
theorem dX0_back_37 : decode cX0_back 37 = .ok (.ireturn, 1) := dk_172 (dk_at dksX0_back_1 15 rfl rfl)
abbrev cX0_read : ByteArray := prog_1_method_6_code
def yX0_read : MethodName := ⟨RX0, "read", "()I"⟩
def dkwX0_read_1 : List UInt8 := [180, 0, 117, 60, 42, 44, 180, 0, 120, 181, 0, 32, 42, 180, 0, 19, 3, 181, 0, 81, 27, 172]
abbrev dktX0_read_1 : List UInt8 := dkwX0_read_1 ++ []
def dkwX0_read_0 : List UInt8 := [3, 60, 42, 2, 181, 0, 32, 42, 42, 180, 0, 28, 182, 0, 110, 182, 0, 114, 167, 0, 17, 77, 44]
abbrev dktX0_read_0 : List UInt8 := dkwX0_read_0 ++ dktX0_read_1
theorem dksX0_read_0 : cX0_read.data.toList.drop 0 = dktX0_read_0 := by decide +kernel
theorem dksX0_read_1 : cX0_read.data.toList.drop 23 = dktX0_read_1 := dk_seg dksX0_read_0 23 rfl rfl
theorem dX0_read_0 : decode cX0_read 0 = .ok (.iconst 0, 1) := dk_3 (dk_at dksX0_read_0 0 rfl rfl)
theorem dX0_read_1 : decode cX0_read 1 = .ok (.istore_n 1, 1) := dk_60 (dk_at dksX0_read_0 1 rfl rfl)
theorem dX0_read_2 : decode cX0_read 2 = .ok (.aload_n 0, 1) := dk_42 (dk_at dksX0_read_0 2 rfl rfl)
theorem dX0_read_3 : decode cX0_read 3 = .ok (.iconst (-1), 1) := dk_2 (dk_at dksX0_read_0 3 rfl rfl)
theorem dX0_read_4 : decode cX0_read 4 = .ok (.putfield 32, 3) := dk_181 0 32 (dk_at dksX0_read_0 4 rfl rfl)
theorem dX0_read_7 : decode cX0_read 7 = .ok (.aload_n 0, 1) := dk_42 (dk_at dksX0_read_0 7 rfl rfl)
theorem dX0_read_8 : decode cX0_read 8 = .ok (.aload_n 0, 1) := dk_42 (dk_at dksX0_read_0 8 rfl rfl)
theorem dX0_read_9 : decode cX0_read 9 = .ok (.getfield 28, 3) := dk_180 0 28 (dk_at dksX0_read_0 9 rfl rfl)
theorem dX0_read_12 : decode cX0_read 12 = .ok (.invokevirtual 110, 3) := dk_182 0 110 (dk_at dksX0_read_0 12 rfl rfl)
theorem dX0_read_15 : decode cX0_read 15 = .ok (.invokevirtual 114, 3) := dk_182 0 114 (dk_at dksX0_read_0 15 rfl rfl)
theorem dX0_read_18 : decode cX0_read 18 = .ok (.goto 17, 3) := dk_167 0 17 (dk_at dksX0_read_0 18 rfl rfl)
theorem dX0_read_21 : decode cX0_read 21 = .ok (.astore_n 2, 1) := dk_77 (dk_at dksX0_read_0 21 rfl rfl)
theorem dX0_read_22 : decode cX0_read 22 = .ok (.aload_n 2, 1) := dk_44 (dk_at dksX0_read_0 22 rfl rfl)
theorem dX0_read_23 : decode cX0_read 23 = .ok (.getfield 117, 3) := dk_180 0 117 (dk_at dksX0_read_1 0 rfl rfl)
theorem dX0_read_26 : decode cX0_read 26 = .ok (.istore_n 1, 1) := dk_60 (dk_at dksX0_read_1 3 rfl rfl)
theorem dX0_read_27 : decode cX0_read 27 = .ok (.aload_n 0, 1) := dk_42 (dk_at dksX0_read_1 4 rfl rfl)
theorem dX0_read_28 : decode cX0_read 28 = .ok (.aload_n 2, 1) := dk_44 (dk_at dksX0_read_1 5 rfl rfl)
theorem dX0_read_29 : decode cX0_read 29 = .ok (.getfield 120, 3) := dk_180 0 120 (dk_at dksX0_read_1 6 rfl rfl)
theorem dX0_read_32 : decode cX0_read 32 = .ok (.putfield 32, 3) := dk_181 0 32 (dk_at dksX0_read_1 9 rfl rfl)
theorem dX0_read_35 : decode cX0_read 35 = .ok (.aload_n 0, 1) := dk_42 (dk_at dksX0_read_1 12 rfl rfl)
theorem dX0_read_36 : decode cX0_read 36 = .ok (.getfield 19, 3) := dk_180 0 19 (dk_at dksX0_read_1 13 rfl rfl)
theorem dX0_read_39 : decode cX0_read 39 = .ok (.iconst 0, 1) := dk_3 (dk_at dksX0_read_1 16 rfl rfl)
theorem dX0_read_40 : decode cX0_read 40 = .ok (.putfield 81, 3) := dk_181 0 81 (dk_at dksX0_read_1 17 rfl rfl)
theorem dX0_read_43 : decode cX0_read 43 = .ok (.iload_n 1, 1) := dk_27 (dk_at dksX0_read_1 20 rfl rfl)
theorem dX0_read_44 : decode cX0_read 44 = .ok (.ireturn, 1) := dk_172 (dk_at dksX0_read_1 21 rfl rfl)
abbrev cX0_goesThrough : ByteArray := prog_1_method_5_code
def yX0_goesThrough : MethodName := ⟨RX0, "goesThrough", "(LDeltaIndex$Text;)V"⟩
def dkwX0_goesThrough_2 : List UInt8 := [3, 84, 132, 3, 1, 167, 255, 241, 177]
abbrev dktX0_goesThrough_2 : List UInt8 := dkwX0_goesThrough_2 ++ []
def dkwX0_goesThrough_1 : List UInt8 := [44, 182, 0, 101, 42, 44, 180, 0, 106, 181, 0, 109, 3, 62, 29, 6, 162, 0, 16, 42, 180, 0, 57, 29]
abbrev dktX0_goesThrough_1 : List UInt8 := dkwX0_goesThrough_1 ++ dktX0_goesThrough_2
def dkwX0_goesThrough_0 : List UInt8 := [42, 180, 0, 39, 43, 182, 0, 77, 187, 0, 92, 89, 42, 180, 0, 39, 183, 0, 94, 77, 43, 180, 0, 97]
abbrev dktX0_goesThrough_0 : List UInt8 := dkwX0_goesThrough_0 ++ dktX0_goesThrough_1
theorem dksX0_goesThrough_0 : cX0_goesThrough.data.toList.drop 0 = dktX0_goesThrough_0 := by decide +kernel
theorem dksX0_goesThrough_1 : cX0_goesThrough.data.toList.drop 24 = dktX0_goesThrough_1 := dk_seg dksX0_goesThrough_0 24 rfl rfl
theorem dksX0_goesThrough_2 : cX0_goesThrough.data.toList.drop 48 = dktX0_goesThrough_2 := dk_seg dksX0_goesThrough_1 24 rfl rfl
theorem dX0_goesThrough_0 : decode cX0_goesThrough 0 = .ok (.aload_n 0, 1) := dk_42 (dk_at dksX0_goesThrough_0 0 rfl rfl)
theorem dX0_goesThrough_1 : decode cX0_goesThrough 1 = .ok (.getfield 39, 3) := dk_180 0 39 (dk_at dksX0_goesThrough_0 1 rfl rfl)
theorem dX0_goesThrough_4 : decode cX0_goesThrough 4 = .ok (.aload_n 1, 1) := dk_43 (dk_at dksX0_goesThrough_0 4 rfl rfl)
theorem dX0_goesThrough_5 : decode cX0_goesThrough 5 = .ok (.invokevirtual 77, 3) := dk_182 0 77 (dk_at dksX0_goesThrough_0 5 rfl rfl)
theorem dX0_goesThrough_8 : decode cX0_goesThrough 8 = .ok (.new 92, 3) := dk_187 0 92 (dk_at dksX0_goesThrough_0 8 rfl rfl)
theorem dX0_goesThrough_11 : decode cX0_goesThrough 11 = .ok (.dup, 1) := dk_89 (dk_at dksX0_goesThrough_0 11 rfl rfl)
theorem dX0_goesThrough_12 : decode cX0_goesThrough 12 = .ok (.aload_n 0, 1) := dk_42 (dk_at dksX0_goesThrough_0 12 rfl rfl)
theorem dX0_goesThrough_13 : decode cX0_goesThrough 13 = .ok (.getfield 39, 3) := dk_180 0 39 (dk_at dksX0_goesThrough_0 13 rfl rfl)
theorem dX0_goesThrough_16 : decode cX0_goesThrough 16 = .ok (.invokespecial 94, 3) := dk_183 0 94 (dk_at dksX0_goesThrough_0 16 rfl rfl)
theorem dX0_goesThrough_19 : decode cX0_goesThrough 19 = .ok (.astore_n 2, 1) := dk_77 (dk_at dksX0_goesThrough_0 19 rfl rfl)
theorem dX0_goesThrough_20 : decode cX0_goesThrough 20 = .ok (.aload_n 1, 1) := dk_43 (dk_at dksX0_goesThrough_0 20 rfl rfl)
theorem dX0_goesThrough_21 : decode cX0_goesThrough 21 = .ok (.getfield 97, 3) := dk_180 0 97 (dk_at dksX0_goesThrough_0 21 rfl rfl)
theorem dX0_goesThrough_24 : decode cX0_goesThrough 24 = .ok (.aload_n 2, 1) := dk_44 (dk_at dksX0_goesThrough_1 0 rfl rfl)
theorem dX0_goesThrough_25 : decode cX0_goesThrough 25 = .ok (.invokevirtual 101, 3) := dk_182 0 101 (dk_at dksX0_goesThrough_1 1 rfl rfl)
theorem dX0_goesThrough_28 : decode cX0_goesThrough 28 = .ok (.aload_n 0, 1) := dk_42 (dk_at dksX0_goesThrough_1 4 rfl rfl)
theorem dX0_goesThrough_29 : decode cX0_goesThrough 29 = .ok (.aload_n 2, 1) := dk_44 (dk_at dksX0_goesThrough_1 5 rfl rfl)
theorem dX0_goesThrough_30 : decode cX0_goesThrough 30 = .ok (.getfield 106, 3) := dk_180 0 106 (dk_at dksX0_goesThrough_1 6 rfl rfl)
theorem dX0_goesThrough_33 : decode cX0_goesThrough 33 = .ok (.putfield 109, 3) := dk_181 0 109 (dk_at dksX0_goesThrough_1 9 rfl rfl)
theorem dX0_goesThrough_36 : decode cX0_goesThrough 36 = .ok (.iconst 0, 1) := dk_3 (dk_at dksX0_goesThrough_1 12 rfl rfl)
theorem dX0_goesThrough_37 : decode cX0_goesThrough 37 = .ok (.istore_n 3, 1) := dk_62 (dk_at dksX0_goesThrough_1 13 rfl rfl)
theorem dX0_goesThrough_38 : decode cX0_goesThrough 38 = .ok (.iload_n 3, 1) := dk_29 (dk_at dksX0_goesThrough_1 14 rfl rfl)
theorem dX0_goesThrough_39 : decode cX0_goesThrough 39 = .ok (.iconst 3, 1) := dk_6 (dk_at dksX0_goesThrough_1 15 rfl rfl)
theorem dX0_goesThrough_40 : decode cX0_goesThrough 40 = .ok (.if_icmp .ge 16, 3) := dk_162 0 16 (dk_at dksX0_goesThrough_1 16 rfl rfl)
theorem dX0_goesThrough_43 : decode cX0_goesThrough 43 = .ok (.aload_n 0, 1) := dk_42 (dk_at dksX0_goesThrough_1 19 rfl rfl)
theorem dX0_goesThrough_44 : decode cX0_goesThrough 44 = .ok (.getfield 57, 3) := dk_180 0 57 (dk_at dksX0_goesThrough_1 20 rfl rfl)
theorem dX0_goesThrough_47 : decode cX0_goesThrough 47 = .ok (.iload_n 3, 1) := dk_29 (dk_at dksX0_goesThrough_1 23 rfl rfl)
theorem dX0_goesThrough_48 : decode cX0_goesThrough 48 = .ok (.iconst 0, 1) := dk_3 (dk_at dksX0_goesThrough_2 0 rfl rfl)
theorem dX0_goesThrough_49 : decode cX0_goesThrough 49 = .ok (.bastore, 1) := dk_84 (dk_at dksX0_goesThrough_2 1 rfl rfl)
theorem dX0_goesThrough_50 : decode cX0_goesThrough 50 = .ok (.iinc 3 1, 3) := dk_132 3 1 (dk_at dksX0_goesThrough_2 2 rfl rfl)
theorem dX0_goesThrough_53 : decode cX0_goesThrough 53 = .ok (.goto (-15), 3) := dk_167 255 241 (dk_at dksX0_goesThrough_2 5 rfl rfl)
theorem dX0_goesThrough_56 : decode cX0_goesThrough 56 = .ok (.return_, 1) := dk_177 (dk_at dksX0_goesThrough_2 8 rfl rfl)
abbrev cX0_place : ByteArray := prog_1_method_7_code
def yX0_place : MethodName := ⟨RX0, "place", "()I"⟩
theorem dX0_place_0 : decode cX0_place 0 = .ok (.aload_n 0, 1) := by decide +kernel
theorem dX0_place_1 : decode cX0_place 1 = .ok (.getfield 32, 3) := by decide +kernel
theorem dX0_place_4 : decode cX0_place 4 = .ok (.ireturn, 1) := by decide +kernel
abbrev cX0_begin : ByteArray := prog_1_method_13_code
def yX0_begin : MethodName := ⟨RX0, "begin", "(IIII)Z"⟩
def dkwX0_begin_1 : List UInt8 := [180, 0, 39, 27, 28, 29, 21, 4, 182, 0, 138, 153, 0, 7, 4, 167, 0, 4, 3, 172]
abbrev dktX0_begin_1 : List UInt8 := dkwX0_begin_1 ++ []
def dkwX0_begin_0 : List UInt8 := [27, 184, 0, 131, 153, 0, 38, 28, 4, 6, 184, 0, 121, 153, 0, 29, 29, 184, 0, 135, 153, 0, 22, 42]
abbrev dktX0_begin_0 : List UInt8 := dkwX0_begin_0 ++ dktX0_begin_1
theorem dksX0_begin_0 : cX0_begin.data.toList.drop 0 = dktX0_begin_0 := by decide +kernel
theorem dksX0_begin_1 : cX0_begin.data.toList.drop 24 = dktX0_begin_1 := dk_seg dksX0_begin_0 24 rfl rfl
theorem dX0_begin_0 : decode cX0_begin 0 = .ok (.iload_n 1, 1) := dk_27 (dk_at dksX0_begin_0 0 rfl rfl)
theorem dX0_begin_1 : decode cX0_begin 1 = .ok (.invokestatic 131, 3) := dk_184 0 131 (dk_at dksX0_begin_0 1 rfl rfl)
theorem dX0_begin_4 : decode cX0_begin 4 = .ok (.ifCond .eq 38, 3) := dk_153 0 38 (dk_at dksX0_begin_0 4 rfl rfl)
theorem dX0_begin_7 : decode cX0_begin 7 = .ok (.iload_n 2, 1) := dk_28 (dk_at dksX0_begin_0 7 rfl rfl)
theorem dX0_begin_8 : decode cX0_begin 8 = .ok (.iconst 1, 1) := dk_4 (dk_at dksX0_begin_0 8 rfl rfl)
theorem dX0_begin_9 : decode cX0_begin 9 = .ok (.iconst 3, 1) := dk_6 (dk_at dksX0_begin_0 9 rfl rfl)
theorem dX0_begin_10 : decode cX0_begin 10 = .ok (.invokestatic 121, 3) := dk_184 0 121 (dk_at dksX0_begin_0 10 rfl rfl)
theorem dX0_begin_13 : decode cX0_begin 13 = .ok (.ifCond .eq 29, 3) := dk_153 0 29 (dk_at dksX0_begin_0 13 rfl rfl)
theorem dX0_begin_16 : decode cX0_begin 16 = .ok (.iload_n 3, 1) := dk_29 (dk_at dksX0_begin_0 16 rfl rfl)
theorem dX0_begin_17 : decode cX0_begin 17 = .ok (.invokestatic 135, 3) := dk_184 0 135 (dk_at dksX0_begin_0 17 rfl rfl)
theorem dX0_begin_20 : decode cX0_begin 20 = .ok (.ifCond .eq 22, 3) := dk_153 0 22 (dk_at dksX0_begin_0 20 rfl rfl)
theorem dX0_begin_23 : decode cX0_begin 23 = .ok (.aload_n 0, 1) := dk_42 (dk_at dksX0_begin_0 23 rfl rfl)
theorem dX0_begin_24 : decode cX0_begin 24 = .ok (.getfield 39, 3) := dk_180 0 39 (dk_at dksX0_begin_1 0 rfl rfl)
theorem dX0_begin_27 : decode cX0_begin 27 = .ok (.iload_n 1, 1) := dk_27 (dk_at dksX0_begin_1 3 rfl rfl)
theorem dX0_begin_28 : decode cX0_begin 28 = .ok (.iload_n 2, 1) := dk_28 (dk_at dksX0_begin_1 4 rfl rfl)
theorem dX0_begin_29 : decode cX0_begin 29 = .ok (.iload_n 3, 1) := dk_29 (dk_at dksX0_begin_1 5 rfl rfl)
theorem dX0_begin_30 : decode cX0_begin 30 = .ok (.iload 4, 2) := dk_21 4 (dk_at dksX0_begin_1 6 rfl rfl)
theorem dX0_begin_32 : decode cX0_begin 32 = .ok (.invokevirtual 138, 3) := dk_182 0 138 (dk_at dksX0_begin_1 8 rfl rfl)
theorem dX0_begin_35 : decode cX0_begin 35 = .ok (.ifCond .eq 7, 3) := dk_153 0 7 (dk_at dksX0_begin_1 11 rfl rfl)
theorem dX0_begin_38 : decode cX0_begin 38 = .ok (.iconst 1, 1) := dk_4 (dk_at dksX0_begin_1 14 rfl rfl)
theorem dX0_begin_39 : decode cX0_begin 39 = .ok (.goto 4, 3) := dk_167 0 4 (dk_at dksX0_begin_1 15 rfl rfl)
theorem dX0_begin_42 : decode cX0_begin 42 = .ok (.iconst 0, 1) := dk_3 (dk_at dksX0_begin_1 18 rfl rfl)
theorem dX0_begin_43 : decode cX0_begin 43 = .ok (.ireturn, 1) := dk_172 (dk_at dksX0_begin_1 19 rfl rfl)
abbrev cX0_isHand : ByteArray := prog_1_method_10_code
def yX0_isHand : MethodName := ⟨RX0, "isHand", "(I)Z"⟩
def dkwX0_isHand_0 : List UInt8 := [26, 3, 6, 184, 0, 121, 172]
abbrev dktX0_isHand_0 : List UInt8 := dkwX0_isHand_0 ++ []
theorem dksX0_isHand_0 : cX0_isHand.data.toList.drop 0 = dktX0_isHand_0 := by decide +kernel
theorem dX0_isHand_0 : decode cX0_isHand 0 = .ok (.iload_n 0, 1) := dk_26 (dk_at dksX0_isHand_0 0 rfl rfl)
theorem dX0_isHand_1 : decode cX0_isHand 1 = .ok (.iconst 0, 1) := dk_3 (dk_at dksX0_isHand_0 1 rfl rfl)
theorem dX0_isHand_2 : decode cX0_isHand 2 = .ok (.iconst 3, 1) := dk_6 (dk_at dksX0_isHand_0 2 rfl rfl)
theorem dX0_isHand_3 : decode cX0_isHand 3 = .ok (.invokestatic 121, 3) := dk_184 0 121 (dk_at dksX0_isHand_0 3 rfl rfl)
theorem dX0_isHand_6 : decode cX0_isHand 6 = .ok (.ireturn, 1) := dk_172 (dk_at dksX0_isHand_0 6 rfl rfl)
abbrev cX0_isIn : ByteArray := prog_1_method_8_code
def yX0_isIn : MethodName := ⟨RX0, "isIn", "(III)Z"⟩
def dkwX0_isIn_0 : List UInt8 := [26, 27, 161, 0, 12, 26, 28, 163, 0, 7, 4, 167, 0, 4, 3, 172]
abbrev dktX0_isIn_0 : List UInt8 := dkwX0_isIn_0 ++ []
theorem dksX0_isIn_0 : cX0_isIn.data.toList.drop 0 = dktX0_isIn_0 := by decide +kernel
theorem dX0_isIn_0 : decode cX0_isIn 0 = .ok (.iload_n 0, 1) := dk_26 (dk_at dksX0_isIn_0 0 rfl rfl)
theorem dX0_isIn_1 : decode cX0_isIn 1 = .ok (.iload_n 1, 1) := dk_27 (dk_at dksX0_isIn_0 1 rfl rfl)
theorem dX0_isIn_2 : decode cX0_isIn 2 = .ok (.if_icmp .lt 12, 3) := dk_161 0 12 (dk_at dksX0_isIn_0 2 rfl rfl)
theorem dX0_isIn_5 : decode cX0_isIn 5 = .ok (.iload_n 0, 1) := dk_26 (dk_at dksX0_isIn_0 5 rfl rfl)
theorem dX0_isIn_6 : decode cX0_isIn 6 = .ok (.iload_n 2, 1) := dk_28 (dk_at dksX0_isIn_0 6 rfl rfl)
theorem dX0_isIn_7 : decode cX0_isIn 7 = .ok (.if_icmp .gt 7, 3) := dk_163 0 7 (dk_at dksX0_isIn_0 7 rfl rfl)
theorem dX0_isIn_10 : decode cX0_isIn 10 = .ok (.iconst 1, 1) := dk_4 (dk_at dksX0_isIn_0 10 rfl rfl)
theorem dX0_isIn_11 : decode cX0_isIn 11 = .ok (.goto 4, 3) := dk_167 0 4 (dk_at dksX0_isIn_0 11 rfl rfl)
theorem dX0_isIn_14 : decode cX0_isIn 14 = .ok (.iconst 0, 1) := dk_3 (dk_at dksX0_isIn_0 14 rfl rfl)
theorem dX0_isIn_15 : decode cX0_isIn 15 = .ok (.ireturn, 1) := dk_172 (dk_at dksX0_isIn_0 15 rfl rfl)
abbrev cX0_isKey : ByteArray := prog_1_method_9_code
def yX0_isKey : MethodName := ⟨RX0, "isKey", "(I)Z"⟩
def dkwX0_isKey_0 : List UInt8 := [26, 3, 17, 3, 231, 184, 0, 121, 172]
abbrev dktX0_isKey_0 : List UInt8 := dkwX0_isKey_0 ++ []
theorem dksX0_isKey_0 : cX0_isKey.data.toList.drop 0 = dktX0_isKey_0 := by decide +kernel
theorem dX0_isKey_0 : decode cX0_isKey 0 = .ok (.iload_n 0, 1) := dk_26 (dk_at dksX0_isKey_0 0 rfl rfl)
theorem dX0_isKey_1 : decode cX0_isKey 1 = .ok (.iconst 0, 1) := dk_3 (dk_at dksX0_isKey_0 1 rfl rfl)
theorem dX0_isKey_2 : decode cX0_isKey 2 = .ok (.sipush 999, 3) := dk_17 3 231 (dk_at dksX0_isKey_0 2 rfl rfl)
theorem dX0_isKey_5 : decode cX0_isKey 5 = .ok (.invokestatic 121, 3) := dk_184 0 121 (dk_at dksX0_isKey_0 5 rfl rfl)
theorem dX0_isKey_8 : decode cX0_isKey 8 = .ok (.ireturn, 1) := dk_172 (dk_at dksX0_isKey_0 8 rfl rfl)
abbrev cX0_step : ByteArray := prog_1_method_14_code
def yX0_step : MethodName := ⟨RX0, "step", "(I)I"⟩
def dkwX0_step_0 : List UInt8 := [27, 184, 0, 131, 153, 0, 14, 42, 180, 0, 39, 27, 182, 0, 142, 167, 0, 4, 2, 172]
abbrev dktX0_step_0 : List UInt8 := dkwX0_step_0 ++ []
theorem dksX0_step_0 : cX0_step.data.toList.drop 0 = dktX0_step_0 := by decide +kernel
theorem dX0_step_0 : decode cX0_step 0 = .ok (.iload_n 1, 1) := dk_27 (dk_at dksX0_step_0 0 rfl rfl)
theorem dX0_step_1 : decode cX0_step 1 = .ok (.invokestatic 131, 3) := dk_184 0 131 (dk_at dksX0_step_0 1 rfl rfl)
theorem dX0_step_4 : decode cX0_step 4 = .ok (.ifCond .eq 14, 3) := dk_153 0 14 (dk_at dksX0_step_0 4 rfl rfl)
theorem dX0_step_7 : decode cX0_step 7 = .ok (.aload_n 0, 1) := dk_42 (dk_at dksX0_step_0 7 rfl rfl)
theorem dX0_step_8 : decode cX0_step 8 = .ok (.getfield 39, 3) := dk_180 0 39 (dk_at dksX0_step_0 8 rfl rfl)
theorem dX0_step_11 : decode cX0_step 11 = .ok (.iload_n 1, 1) := dk_27 (dk_at dksX0_step_0 11 rfl rfl)
theorem dX0_step_12 : decode cX0_step 12 = .ok (.invokevirtual 142, 3) := dk_182 0 142 (dk_at dksX0_step_0 12 rfl rfl)
theorem dX0_step_15 : decode cX0_step 15 = .ok (.goto 4, 3) := dk_167 0 4 (dk_at dksX0_step_0 15 rfl rfl)
theorem dX0_step_18 : decode cX0_step 18 = .ok (.iconst (-1), 1) := dk_2 (dk_at dksX0_step_0 18 rfl rfl)
theorem dX0_step_19 : decode cX0_step 19 = .ok (.ireturn, 1) := dk_172 (dk_at dksX0_step_0 19 rfl rfl)
abbrev cX0_close : ByteArray := prog_1_method_15_code
def yX0_close : MethodName := ⟨RX0, "close", "(I)I"⟩
def dkwX0_close_0 : List UInt8 := [27, 184, 0, 131, 153, 0, 14, 42, 180, 0, 39, 27, 182, 0, 146, 167, 0, 4, 2, 172]
abbrev dktX0_close_0 : List UInt8 := dkwX0_close_0 ++ []
theorem dksX0_close_0 : cX0_close.data.toList.drop 0 = dktX0_close_0 := by decide +kernel
theorem dX0_close_0 : decode cX0_close 0 = .ok (.iload_n 1, 1) := dk_27 (dk_at dksX0_close_0 0 rfl rfl)
theorem dX0_close_1 : decode cX0_close 1 = .ok (.invokestatic 131, 3) := dk_184 0 131 (dk_at dksX0_close_0 1 rfl rfl)
theorem dX0_close_4 : decode cX0_close 4 = .ok (.ifCond .eq 14, 3) := dk_153 0 14 (dk_at dksX0_close_0 4 rfl rfl)
theorem dX0_close_7 : decode cX0_close 7 = .ok (.aload_n 0, 1) := dk_42 (dk_at dksX0_close_0 7 rfl rfl)
theorem dX0_close_8 : decode cX0_close 8 = .ok (.getfield 39, 3) := dk_180 0 39 (dk_at dksX0_close_0 8 rfl rfl)
theorem dX0_close_11 : decode cX0_close 11 = .ok (.iload_n 1, 1) := dk_27 (dk_at dksX0_close_0 11 rfl rfl)
theorem dX0_close_12 : decode cX0_close 12 = .ok (.invokevirtual 146, 3) := dk_182 0 146 (dk_at dksX0_close_0 12 rfl rfl)
theorem dX0_close_15 : decode cX0_close 15 = .ok (.goto 4, 3) := dk_167 0 4 (dk_at dksX0_close_0 15 rfl rfl)
theorem dX0_close_18 : decode cX0_close 18 = .ok (.iconst (-1), 1) := dk_2 (dk_at dksX0_close_0 18 rfl rfl)
theorem dX0_close_19 : decode cX0_close 19 = .ok (.ireturn, 1) := dk_172 (dk_at dksX0_close_0 19 rfl rfl)
abbrev cX0_sweep : ByteArray := prog_1_method_16_code
def yX0_sweep : MethodName := ⟨RX0, "sweep", "()I"⟩
def dkwX0_sweep_0 : List UInt8 := [42, 180, 0, 39, 182, 0, 149, 172]
abbrev dktX0_sweep_0 : List UInt8 := dkwX0_sweep_0 ++ []
theorem dksX0_sweep_0 : cX0_sweep.data.toList.drop 0 = dktX0_sweep_0 := by decide +kernel
theorem dX0_sweep_0 : decode cX0_sweep 0 = .ok (.aload_n 0, 1) := dk_42 (dk_at dksX0_sweep_0 0 rfl rfl)
theorem dX0_sweep_1 : decode cX0_sweep 1 = .ok (.getfield 39, 3) := dk_180 0 39 (dk_at dksX0_sweep_0 1 rfl rfl)
theorem dX0_sweep_4 : decode cX0_sweep 4 = .ok (.invokevirtual 149, 3) := dk_182 0 149 (dk_at dksX0_sweep_0 4 rfl rfl)
theorem dX0_sweep_7 : decode cX0_sweep 7 = .ok (.ireturn, 1) := dk_172 (dk_at dksX0_sweep_0 7 rfl rfl)
abbrev cX0_has : ByteArray := prog_1_method_18_code
def yX0_has : MethodName := ⟨RX0, "has", "(I)I"⟩
def dkwX0_has_1 : List UInt8 := [172]
abbrev dktX0_has_1 : List UInt8 := dkwX0_has_1 ++ []
def dkwX0_has_0 : List UInt8 := [27, 184, 0, 135, 154, 0, 7, 2, 167, 0, 16, 42, 27, 182, 0, 156, 156, 0, 7, 3, 167, 0, 4, 4]
abbrev dktX0_has_0 : List UInt8 := dkwX0_has_0 ++ dktX0_has_1
theorem dksX0_has_0 : cX0_has.data.toList.drop 0 = dktX0_has_0 := by decide +kernel
theorem dksX0_has_1 : cX0_has.data.toList.drop 24 = dktX0_has_1 := dk_seg dksX0_has_0 24 rfl rfl
theorem dX0_has_0 : decode cX0_has 0 = .ok (.iload_n 1, 1) := dk_27 (dk_at dksX0_has_0 0 rfl rfl)
theorem dX0_has_1 : decode cX0_has 1 = .ok (.invokestatic 135, 3) := dk_184 0 135 (dk_at dksX0_has_0 1 rfl rfl)
theorem dX0_has_4 : decode cX0_has 4 = .ok (.ifCond .ne 7, 3) := dk_154 0 7 (dk_at dksX0_has_0 4 rfl rfl)
theorem dX0_has_7 : decode cX0_has 7 = .ok (.iconst (-1), 1) := dk_2 (dk_at dksX0_has_0 7 rfl rfl)
theorem dX0_has_8 : decode cX0_has 8 = .ok (.goto 16, 3) := dk_167 0 16 (dk_at dksX0_has_0 8 rfl rfl)
theorem dX0_has_11 : decode cX0_has 11 = .ok (.aload_n 0, 1) := dk_42 (dk_at dksX0_has_0 11 rfl rfl)
theorem dX0_has_12 : decode cX0_has 12 = .ok (.iload_n 1, 1) := dk_27 (dk_at dksX0_has_0 12 rfl rfl)
theorem dX0_has_13 : decode cX0_has 13 = .ok (.invokevirtual 156, 3) := dk_182 0 156 (dk_at dksX0_has_0 13 rfl rfl)
theorem dX0_has_16 : decode cX0_has 16 = .ok (.ifCond .ge 7, 3) := dk_156 0 7 (dk_at dksX0_has_0 16 rfl rfl)
theorem dX0_has_19 : decode cX0_has 19 = .ok (.iconst 0, 1) := dk_3 (dk_at dksX0_has_0 19 rfl rfl)
theorem dX0_has_20 : decode cX0_has 20 = .ok (.goto 4, 3) := dk_167 0 4 (dk_at dksX0_has_0 20 rfl rfl)
theorem dX0_has_23 : decode cX0_has 23 = .ok (.iconst 1, 1) := dk_4 (dk_at dksX0_has_0 23 rfl rfl)
theorem dX0_has_24 : decode cX0_has 24 = .ok (.ireturn, 1) := dk_172 (dk_at dksX0_has_1 0 rfl rfl)
abbrev cX0_placeOf : ByteArray := prog_1_method_17_code
def yX0_placeOf : MethodName := ⟨RX0, "placeOf", "(I)I"⟩
def dkwX0_placeOf_1 : List UInt8 := [180, 0, 61, 29, 46, 27, 160, 0, 5, 29, 172, 132, 3, 1, 167, 255, 236, 2, 172]
abbrev dktX0_placeOf_1 : List UInt8 := dkwX0_placeOf_1 ++ []
def dkwX0_placeOf_0 : List UInt8 := [42, 180, 0, 39, 42, 180, 0, 61, 42, 180, 0, 65, 182, 0, 153, 61, 3, 62, 29, 28, 162, 0, 21, 42]
abbrev dktX0_placeOf_0 : List UInt8 := dkwX0_placeOf_0 ++ dktX0_placeOf_1
theorem dksX0_placeOf_0 : cX0_placeOf.data.toList.drop 0 = dktX0_placeOf_0 := by decide +kernel
theorem dksX0_placeOf_1 : cX0_placeOf.data.toList.drop 24 = dktX0_placeOf_1 := dk_seg dksX0_placeOf_0 24 rfl rfl
theorem dX0_placeOf_0 : decode cX0_placeOf 0 = .ok (.aload_n 0, 1) := dk_42 (dk_at dksX0_placeOf_0 0 rfl rfl)
theorem dX0_placeOf_1 : decode cX0_placeOf 1 = .ok (.getfield 39, 3) := dk_180 0 39 (dk_at dksX0_placeOf_0 1 rfl rfl)
theorem dX0_placeOf_4 : decode cX0_placeOf 4 = .ok (.aload_n 0, 1) := dk_42 (dk_at dksX0_placeOf_0 4 rfl rfl)
theorem dX0_placeOf_5 : decode cX0_placeOf 5 = .ok (.getfield 61, 3) := dk_180 0 61 (dk_at dksX0_placeOf_0 5 rfl rfl)
theorem dX0_placeOf_8 : decode cX0_placeOf 8 = .ok (.aload_n 0, 1) := dk_42 (dk_at dksX0_placeOf_0 8 rfl rfl)
theorem dX0_placeOf_9 : decode cX0_placeOf 9 = .ok (.getfield 65, 3) := dk_180 0 65 (dk_at dksX0_placeOf_0 9 rfl rfl)
theorem dX0_placeOf_12 : decode cX0_placeOf 12 = .ok (.invokevirtual 153, 3) := dk_182 0 153 (dk_at dksX0_placeOf_0 12 rfl rfl)
theorem dX0_placeOf_15 : decode cX0_placeOf 15 = .ok (.istore_n 2, 1) := dk_61 (dk_at dksX0_placeOf_0 15 rfl rfl)
theorem dX0_placeOf_16 : decode cX0_placeOf 16 = .ok (.iconst 0, 1) := dk_3 (dk_at dksX0_placeOf_0 16 rfl rfl)
theorem dX0_placeOf_17 : decode cX0_placeOf 17 = .ok (.istore_n 3, 1) := dk_62 (dk_at dksX0_placeOf_0 17 rfl rfl)
theorem dX0_placeOf_18 : decode cX0_placeOf 18 = .ok (.iload_n 3, 1) := dk_29 (dk_at dksX0_placeOf_0 18 rfl rfl)
theorem dX0_placeOf_19 : decode cX0_placeOf 19 = .ok (.iload_n 2, 1) := dk_28 (dk_at dksX0_placeOf_0 19 rfl rfl)
theorem dX0_placeOf_20 : decode cX0_placeOf 20 = .ok (.if_icmp .ge 21, 3) := dk_162 0 21 (dk_at dksX0_placeOf_0 20 rfl rfl)
theorem dX0_placeOf_23 : decode cX0_placeOf 23 = .ok (.aload_n 0, 1) := dk_42 (dk_at dksX0_placeOf_0 23 rfl rfl)
theorem dX0_placeOf_24 : decode cX0_placeOf 24 = .ok (.getfield 61, 3) := dk_180 0 61 (dk_at dksX0_placeOf_1 0 rfl rfl)
theorem dX0_placeOf_27 : decode cX0_placeOf 27 = .ok (.iload_n 3, 1) := dk_29 (dk_at dksX0_placeOf_1 3 rfl rfl)
theorem dX0_placeOf_28 : decode cX0_placeOf 28 = .ok (.iaload, 1) := dk_46 (dk_at dksX0_placeOf_1 4 rfl rfl)
theorem dX0_placeOf_29 : decode cX0_placeOf 29 = .ok (.iload_n 1, 1) := dk_27 (dk_at dksX0_placeOf_1 5 rfl rfl)
theorem dX0_placeOf_30 : decode cX0_placeOf 30 = .ok (.if_icmp .ne 5, 3) := dk_160 0 5 (dk_at dksX0_placeOf_1 6 rfl rfl)
theorem dX0_placeOf_33 : decode cX0_placeOf 33 = .ok (.iload_n 3, 1) := dk_29 (dk_at dksX0_placeOf_1 9 rfl rfl)
theorem dX0_placeOf_34 : decode cX0_placeOf 34 = .ok (.ireturn, 1) := dk_172 (dk_at dksX0_placeOf_1 10 rfl rfl)
theorem dX0_placeOf_35 : decode cX0_placeOf 35 = .ok (.iinc 3 1, 3) := dk_132 3 1 (dk_at dksX0_placeOf_1 11 rfl rfl)
theorem dX0_placeOf_38 : decode cX0_placeOf 38 = .ok (.goto (-20), 3) := dk_167 255 236 (dk_at dksX0_placeOf_1 14 rfl rfl)
theorem dX0_placeOf_41 : decode cX0_placeOf 41 = .ok (.iconst (-1), 1) := dk_2 (dk_at dksX0_placeOf_1 17 rfl rfl)
theorem dX0_placeOf_42 : decode cX0_placeOf 42 = .ok (.ireturn, 1) := dk_172 (dk_at dksX0_placeOf_1 18 rfl rfl)
abbrev cX0_value : ByteArray := prog_1_method_19_code
def yX0_value : MethodName := ⟨RX0, "value", "(I)I"⟩
def dkwX0_value_0 : List UInt8 := [42, 27, 182, 0, 156, 61, 28, 156, 0, 7, 3, 167, 0, 9, 42, 180, 0, 65, 28, 46, 172]
abbrev dktX0_value_0 : List UInt8 := dkwX0_value_0 ++ []
theorem dksX0_value_0 : cX0_value.data.toList.drop 0 = dktX0_value_0 := by decide +kernel
theorem dX0_value_0 : decode cX0_value 0 = .ok (.aload_n 0, 1) := dk_42 (dk_at dksX0_value_0 0 rfl rfl)
theorem dX0_value_1 : decode cX0_value 1 = .ok (.iload_n 1, 1) := dk_27 (dk_at dksX0_value_0 1 rfl rfl)
theorem dX0_value_2 : decode cX0_value 2 = .ok (.invokevirtual 156, 3) := dk_182 0 156 (dk_at dksX0_value_0 2 rfl rfl)
theorem dX0_value_5 : decode cX0_value 5 = .ok (.istore_n 2, 1) := dk_61 (dk_at dksX0_value_0 5 rfl rfl)
theorem dX0_value_6 : decode cX0_value 6 = .ok (.iload_n 2, 1) := dk_28 (dk_at dksX0_value_0 6 rfl rfl)
theorem dX0_value_7 : decode cX0_value 7 = .ok (.ifCond .ge 7, 3) := dk_156 0 7 (dk_at dksX0_value_0 7 rfl rfl)
theorem dX0_value_10 : decode cX0_value 10 = .ok (.iconst 0, 1) := dk_3 (dk_at dksX0_value_0 10 rfl rfl)
theorem dX0_value_11 : decode cX0_value 11 = .ok (.goto 9, 3) := dk_167 0 9 (dk_at dksX0_value_0 11 rfl rfl)
theorem dX0_value_14 : decode cX0_value 14 = .ok (.aload_n 0, 1) := dk_42 (dk_at dksX0_value_0 14 rfl rfl)
theorem dX0_value_15 : decode cX0_value 15 = .ok (.getfield 65, 3) := dk_180 0 65 (dk_at dksX0_value_0 15 rfl rfl)
theorem dX0_value_18 : decode cX0_value 18 = .ok (.iload_n 2, 1) := dk_28 (dk_at dksX0_value_0 18 rfl rfl)
theorem dX0_value_19 : decode cX0_value 19 = .ok (.iaload, 1) := dk_46 (dk_at dksX0_value_0 19 rfl rfl)
theorem dX0_value_20 : decode cX0_value 20 = .ok (.ireturn, 1) := dk_172 (dk_at dksX0_value_0 20 rfl rfl)
abbrev cX0_many : ByteArray := prog_1_method_20_code
def yX0_many : MethodName := ⟨RX0, "many", "(II)I"⟩
def dkwX0_many_3 : List UInt8 := [132, 5, 1, 167, 255, 222, 21, 4, 172]
abbrev dktX0_many_3 : List UInt8 := dkwX0_many_3 ++ []
def dkwX0_many_2 : List UInt8 := [180, 0, 61, 21, 5, 46, 27, 28, 184, 0, 121, 153, 0, 7, 4, 167, 0, 4, 3, 96, 54, 4]
abbrev dktX0_many_2 : List UInt8 := dkwX0_many_2 ++ dktX0_many_3
def dkwX0_many_1 : List UInt8 := [42, 180, 0, 65, 182, 0, 153, 62, 3, 54, 4, 3, 54, 5, 21, 5, 29, 162, 0, 34, 21, 4, 42]
abbrev dktX0_many_1 : List UInt8 := dkwX0_many_1 ++ dktX0_many_2
def dkwX0_many_0 : List UInt8 := [27, 184, 0, 135, 153, 0, 10, 28, 184, 0, 135, 154, 0, 5, 2, 172, 42, 180, 0, 39, 42, 180, 0, 61]
abbrev dktX0_many_0 : List UInt8 := dkwX0_many_0 ++ dktX0_many_1
theorem dksX0_many_0 : cX0_many.data.toList.drop 0 = dktX0_many_0 := by decide +kernel
theorem dksX0_many_1 : cX0_many.data.toList.drop 24 = dktX0_many_1 := dk_seg dksX0_many_0 24 rfl rfl
theorem dksX0_many_2 : cX0_many.data.toList.drop 47 = dktX0_many_2 := dk_seg dksX0_many_1 23 rfl rfl
theorem dksX0_many_3 : cX0_many.data.toList.drop 69 = dktX0_many_3 := dk_seg dksX0_many_2 22 rfl rfl
theorem dX0_many_0 : decode cX0_many 0 = .ok (.iload_n 1, 1) := dk_27 (dk_at dksX0_many_0 0 rfl rfl)
theorem dX0_many_1 : decode cX0_many 1 = .ok (.invokestatic 135, 3) := dk_184 0 135 (dk_at dksX0_many_0 1 rfl rfl)
theorem dX0_many_4 : decode cX0_many 4 = .ok (.ifCond .eq 10, 3) := dk_153 0 10 (dk_at dksX0_many_0 4 rfl rfl)
theorem dX0_many_7 : decode cX0_many 7 = .ok (.iload_n 2, 1) := dk_28 (dk_at dksX0_many_0 7 rfl rfl)
theorem dX0_many_8 : decode cX0_many 8 = .ok (.invokestatic 135, 3) := dk_184 0 135 (dk_at dksX0_many_0 8 rfl rfl)
theorem dX0_many_11 : decode cX0_many 11 = .ok (.ifCond .ne 5, 3) := dk_154 0 5 (dk_at dksX0_many_0 11 rfl rfl)
theorem dX0_many_14 : decode cX0_many 14 = .ok (.iconst (-1), 1) := dk_2 (dk_at dksX0_many_0 14 rfl rfl)
theorem dX0_many_15 : decode cX0_many 15 = .ok (.ireturn, 1) := dk_172 (dk_at dksX0_many_0 15 rfl rfl)
theorem dX0_many_16 : decode cX0_many 16 = .ok (.aload_n 0, 1) := dk_42 (dk_at dksX0_many_0 16 rfl rfl)
theorem dX0_many_17 : decode cX0_many 17 = .ok (.getfield 39, 3) := dk_180 0 39 (dk_at dksX0_many_0 17 rfl rfl)
theorem dX0_many_20 : decode cX0_many 20 = .ok (.aload_n 0, 1) := dk_42 (dk_at dksX0_many_0 20 rfl rfl)
theorem dX0_many_21 : decode cX0_many 21 = .ok (.getfield 61, 3) := dk_180 0 61 (dk_at dksX0_many_0 21 rfl rfl)
theorem dX0_many_24 : decode cX0_many 24 = .ok (.aload_n 0, 1) := dk_42 (dk_at dksX0_many_1 0 rfl rfl)
theorem dX0_many_25 : decode cX0_many 25 = .ok (.getfield 65, 3) := dk_180 0 65 (dk_at dksX0_many_1 1 rfl rfl)
theorem dX0_many_28 : decode cX0_many 28 = .ok (.invokevirtual 153, 3) := dk_182 0 153 (dk_at dksX0_many_1 4 rfl rfl)
theorem dX0_many_31 : decode cX0_many 31 = .ok (.istore_n 3, 1) := dk_62 (dk_at dksX0_many_1 7 rfl rfl)
theorem dX0_many_32 : decode cX0_many 32 = .ok (.iconst 0, 1) := dk_3 (dk_at dksX0_many_1 8 rfl rfl)
theorem dX0_many_33 : decode cX0_many 33 = .ok (.istore 4, 2) := dk_54 4 (dk_at dksX0_many_1 9 rfl rfl)
theorem dX0_many_35 : decode cX0_many 35 = .ok (.iconst 0, 1) := dk_3 (dk_at dksX0_many_1 11 rfl rfl)
theorem dX0_many_36 : decode cX0_many 36 = .ok (.istore 5, 2) := dk_54 5 (dk_at dksX0_many_1 12 rfl rfl)
theorem dX0_many_38 : decode cX0_many 38 = .ok (.iload 5, 2) := dk_21 5 (dk_at dksX0_many_1 14 rfl rfl)
theorem dX0_many_40 : decode cX0_many 40 = .ok (.iload_n 3, 1) := dk_29 (dk_at dksX0_many_1 16 rfl rfl)
theorem dX0_many_41 : decode cX0_many 41 = .ok (.if_icmp .ge 34, 3) := dk_162 0 34 (dk_at dksX0_many_1 17 rfl rfl)
theorem dX0_many_44 : decode cX0_many 44 = .ok (.iload 4, 2) := dk_21 4 (dk_at dksX0_many_1 20 rfl rfl)
theorem dX0_many_46 : decode cX0_many 46 = .ok (.aload_n 0, 1) := dk_42 (dk_at dksX0_many_1 22 rfl rfl)
theorem dX0_many_47 : decode cX0_many 47 = .ok (.getfield 61, 3) := dk_180 0 61 (dk_at dksX0_many_2 0 rfl rfl)
theorem dX0_many_50 : decode cX0_many 50 = .ok (.iload 5, 2) := dk_21 5 (dk_at dksX0_many_2 3 rfl rfl)
theorem dX0_many_52 : decode cX0_many 52 = .ok (.iaload, 1) := dk_46 (dk_at dksX0_many_2 5 rfl rfl)
theorem dX0_many_53 : decode cX0_many 53 = .ok (.iload_n 1, 1) := dk_27 (dk_at dksX0_many_2 6 rfl rfl)
theorem dX0_many_54 : decode cX0_many 54 = .ok (.iload_n 2, 1) := dk_28 (dk_at dksX0_many_2 7 rfl rfl)
theorem dX0_many_55 : decode cX0_many 55 = .ok (.invokestatic 121, 3) := dk_184 0 121 (dk_at dksX0_many_2 8 rfl rfl)
theorem dX0_many_58 : decode cX0_many 58 = .ok (.ifCond .eq 7, 3) := dk_153 0 7 (dk_at dksX0_many_2 11 rfl rfl)
theorem dX0_many_61 : decode cX0_many 61 = .ok (.iconst 1, 1) := dk_4 (dk_at dksX0_many_2 14 rfl rfl)
theorem dX0_many_62 : decode cX0_many 62 = .ok (.goto 4, 3) := dk_167 0 4 (dk_at dksX0_many_2 15 rfl rfl)
theorem dX0_many_65 : decode cX0_many 65 = .ok (.iconst 0, 1) := dk_3 (dk_at dksX0_many_2 18 rfl rfl)
theorem dX0_many_66 : decode cX0_many 66 = .ok (.iadd, 1) := dk_96 (dk_at dksX0_many_2 19 rfl rfl)
theorem dX0_many_67 : decode cX0_many 67 = .ok (.istore 4, 2) := dk_54 4 (dk_at dksX0_many_2 20 rfl rfl)
theorem dX0_many_69 : decode cX0_many 69 = .ok (.iinc 5 1, 3) := dk_132 5 1 (dk_at dksX0_many_3 0 rfl rfl)
theorem dX0_many_72 : decode cX0_many 72 = .ok (.goto (-34), 3) := dk_167 255 222 (dk_at dksX0_many_3 3 rfl rfl)
theorem dX0_many_75 : decode cX0_many 75 = .ok (.iload 4, 2) := dk_21 4 (dk_at dksX0_many_3 6 rfl rfl)
theorem dX0_many_77 : decode cX0_many 77 = .ok (.ireturn, 1) := dk_172 (dk_at dksX0_many_3 8 rfl rfl)
abbrev cX0_sum : ByteArray := prog_1_method_21_code
def yX0_sum : MethodName := ⟨RX0, "sum", "(II)I"⟩
def dkwX0_sum_3 : List UInt8 := [3, 96, 54, 4, 132, 5, 1, 167, 255, 216, 21, 4, 172]
abbrev dktX0_sum_3 : List UInt8 := dkwX0_sum_3 ++ []
def dkwX0_sum_2 : List UInt8 := [180, 0, 61, 21, 5, 46, 27, 28, 184, 0, 121, 153, 0, 13, 42, 180, 0, 65, 21, 5, 46, 167, 0, 4]
abbrev dktX0_sum_2 : List UInt8 := dkwX0_sum_2 ++ dktX0_sum_3
def dkwX0_sum_1 : List UInt8 := [42, 180, 0, 65, 182, 0, 153, 62, 3, 54, 4, 3, 54, 5, 21, 5, 29, 162, 0, 40, 21, 4, 42]
abbrev dktX0_sum_1 : List UInt8 := dkwX0_sum_1 ++ dktX0_sum_2
def dkwX0_sum_0 : List UInt8 := [27, 184, 0, 135, 153, 0, 10, 28, 184, 0, 135, 154, 0, 5, 3, 172, 42, 180, 0, 39, 42, 180, 0, 61]
abbrev dktX0_sum_0 : List UInt8 := dkwX0_sum_0 ++ dktX0_sum_1
theorem dksX0_sum_0 : cX0_sum.data.toList.drop 0 = dktX0_sum_0 := by decide +kernel
theorem dksX0_sum_1 : cX0_sum.data.toList.drop 24 = dktX0_sum_1 := dk_seg dksX0_sum_0 24 rfl rfl
theorem dksX0_sum_2 : cX0_sum.data.toList.drop 47 = dktX0_sum_2 := dk_seg dksX0_sum_1 23 rfl rfl
theorem dksX0_sum_3 : cX0_sum.data.toList.drop 71 = dktX0_sum_3 := dk_seg dksX0_sum_2 24 rfl rfl
theorem dX0_sum_0 : decode cX0_sum 0 = .ok (.iload_n 1, 1) := dk_27 (dk_at dksX0_sum_0 0 rfl rfl)
theorem dX0_sum_1 : decode cX0_sum 1 = .ok (.invokestatic 135, 3) := dk_184 0 135 (dk_at dksX0_sum_0 1 rfl rfl)
theorem dX0_sum_4 : decode cX0_sum 4 = .ok (.ifCond .eq 10, 3) := dk_153 0 10 (dk_at dksX0_sum_0 4 rfl rfl)
theorem dX0_sum_7 : decode cX0_sum 7 = .ok (.iload_n 2, 1) := dk_28 (dk_at dksX0_sum_0 7 rfl rfl)
theorem dX0_sum_8 : decode cX0_sum 8 = .ok (.invokestatic 135, 3) := dk_184 0 135 (dk_at dksX0_sum_0 8 rfl rfl)
theorem dX0_sum_11 : decode cX0_sum 11 = .ok (.ifCond .ne 5, 3) := dk_154 0 5 (dk_at dksX0_sum_0 11 rfl rfl)
theorem dX0_sum_14 : decode cX0_sum 14 = .ok (.iconst 0, 1) := dk_3 (dk_at dksX0_sum_0 14 rfl rfl)
theorem dX0_sum_15 : decode cX0_sum 15 = .ok (.ireturn, 1) := dk_172 (dk_at dksX0_sum_0 15 rfl rfl)
theorem dX0_sum_16 : decode cX0_sum 16 = .ok (.aload_n 0, 1) := dk_42 (dk_at dksX0_sum_0 16 rfl rfl)
theorem dX0_sum_17 : decode cX0_sum 17 = .ok (.getfield 39, 3) := dk_180 0 39 (dk_at dksX0_sum_0 17 rfl rfl)
theorem dX0_sum_20 : decode cX0_sum 20 = .ok (.aload_n 0, 1) := dk_42 (dk_at dksX0_sum_0 20 rfl rfl)
theorem dX0_sum_21 : decode cX0_sum 21 = .ok (.getfield 61, 3) := dk_180 0 61 (dk_at dksX0_sum_0 21 rfl rfl)
theorem dX0_sum_24 : decode cX0_sum 24 = .ok (.aload_n 0, 1) := dk_42 (dk_at dksX0_sum_1 0 rfl rfl)
theorem dX0_sum_25 : decode cX0_sum 25 = .ok (.getfield 65, 3) := dk_180 0 65 (dk_at dksX0_sum_1 1 rfl rfl)
theorem dX0_sum_28 : decode cX0_sum 28 = .ok (.invokevirtual 153, 3) := dk_182 0 153 (dk_at dksX0_sum_1 4 rfl rfl)
theorem dX0_sum_31 : decode cX0_sum 31 = .ok (.istore_n 3, 1) := dk_62 (dk_at dksX0_sum_1 7 rfl rfl)
theorem dX0_sum_32 : decode cX0_sum 32 = .ok (.iconst 0, 1) := dk_3 (dk_at dksX0_sum_1 8 rfl rfl)
theorem dX0_sum_33 : decode cX0_sum 33 = .ok (.istore 4, 2) := dk_54 4 (dk_at dksX0_sum_1 9 rfl rfl)
theorem dX0_sum_35 : decode cX0_sum 35 = .ok (.iconst 0, 1) := dk_3 (dk_at dksX0_sum_1 11 rfl rfl)
theorem dX0_sum_36 : decode cX0_sum 36 = .ok (.istore 5, 2) := dk_54 5 (dk_at dksX0_sum_1 12 rfl rfl)
theorem dX0_sum_38 : decode cX0_sum 38 = .ok (.iload 5, 2) := dk_21 5 (dk_at dksX0_sum_1 14 rfl rfl)
theorem dX0_sum_40 : decode cX0_sum 40 = .ok (.iload_n 3, 1) := dk_29 (dk_at dksX0_sum_1 16 rfl rfl)
theorem dX0_sum_41 : decode cX0_sum 41 = .ok (.if_icmp .ge 40, 3) := dk_162 0 40 (dk_at dksX0_sum_1 17 rfl rfl)
theorem dX0_sum_44 : decode cX0_sum 44 = .ok (.iload 4, 2) := dk_21 4 (dk_at dksX0_sum_1 20 rfl rfl)
theorem dX0_sum_46 : decode cX0_sum 46 = .ok (.aload_n 0, 1) := dk_42 (dk_at dksX0_sum_1 22 rfl rfl)
theorem dX0_sum_47 : decode cX0_sum 47 = .ok (.getfield 61, 3) := dk_180 0 61 (dk_at dksX0_sum_2 0 rfl rfl)
theorem dX0_sum_50 : decode cX0_sum 50 = .ok (.iload 5, 2) := dk_21 5 (dk_at dksX0_sum_2 3 rfl rfl)
theorem dX0_sum_52 : decode cX0_sum 52 = .ok (.iaload, 1) := dk_46 (dk_at dksX0_sum_2 5 rfl rfl)
theorem dX0_sum_53 : decode cX0_sum 53 = .ok (.iload_n 1, 1) := dk_27 (dk_at dksX0_sum_2 6 rfl rfl)
theorem dX0_sum_54 : decode cX0_sum 54 = .ok (.iload_n 2, 1) := dk_28 (dk_at dksX0_sum_2 7 rfl rfl)
theorem dX0_sum_55 : decode cX0_sum 55 = .ok (.invokestatic 121, 3) := dk_184 0 121 (dk_at dksX0_sum_2 8 rfl rfl)
theorem dX0_sum_58 : decode cX0_sum 58 = .ok (.ifCond .eq 13, 3) := dk_153 0 13 (dk_at dksX0_sum_2 11 rfl rfl)
theorem dX0_sum_61 : decode cX0_sum 61 = .ok (.aload_n 0, 1) := dk_42 (dk_at dksX0_sum_2 14 rfl rfl)
theorem dX0_sum_62 : decode cX0_sum 62 = .ok (.getfield 65, 3) := dk_180 0 65 (dk_at dksX0_sum_2 15 rfl rfl)
theorem dX0_sum_65 : decode cX0_sum 65 = .ok (.iload 5, 2) := dk_21 5 (dk_at dksX0_sum_2 18 rfl rfl)
theorem dX0_sum_67 : decode cX0_sum 67 = .ok (.iaload, 1) := dk_46 (dk_at dksX0_sum_2 20 rfl rfl)
theorem dX0_sum_68 : decode cX0_sum 68 = .ok (.goto 4, 3) := dk_167 0 4 (dk_at dksX0_sum_2 21 rfl rfl)
theorem dX0_sum_71 : decode cX0_sum 71 = .ok (.iconst 0, 1) := dk_3 (dk_at dksX0_sum_3 0 rfl rfl)
theorem dX0_sum_72 : decode cX0_sum 72 = .ok (.iadd, 1) := dk_96 (dk_at dksX0_sum_3 1 rfl rfl)
theorem dX0_sum_73 : decode cX0_sum 73 = .ok (.istore 4, 2) := dk_54 4 (dk_at dksX0_sum_3 2 rfl rfl)
theorem dX0_sum_75 : decode cX0_sum 75 = .ok (.iinc 5 1, 3) := dk_132 5 1 (dk_at dksX0_sum_3 4 rfl rfl)
theorem dX0_sum_78 : decode cX0_sum 78 = .ok (.goto (-40), 3) := dk_167 255 216 (dk_at dksX0_sum_3 7 rfl rfl)
theorem dX0_sum_81 : decode cX0_sum 81 = .ok (.iload 4, 2) := dk_21 4 (dk_at dksX0_sum_3 10 rfl rfl)
theorem dX0_sum_83 : decode cX0_sum 83 = .ok (.ireturn, 1) := dk_172 (dk_at dksX0_sum_3 12 rfl rfl)
abbrev cX0_nth : ByteArray := prog_1_method_22_code
def yX0_nth : MethodName := ⟨RX0, "nth", "(I)I"⟩
def dkwX0_nth_1 : List UInt8 := [162, 0, 12, 42, 180, 0, 61, 27, 46, 167, 0, 5, 16, 254, 172]
abbrev dktX0_nth_1 : List UInt8 := dkwX0_nth_1 ++ []
def dkwX0_nth_0 : List UInt8 := [27, 156, 0, 5, 2, 172, 42, 180, 0, 39, 42, 180, 0, 61, 42, 180, 0, 65, 182, 0, 153, 61, 27, 28]
abbrev dktX0_nth_0 : List UInt8 := dkwX0_nth_0 ++ dktX0_nth_1
theorem dksX0_nth_0 : cX0_nth.data.toList.drop 0 = dktX0_nth_0 := by decide +kernel
theorem dksX0_nth_1 : cX0_nth.data.toList.drop 24 = dktX0_nth_1 := dk_seg dksX0_nth_0 24 rfl rfl
theorem dX0_nth_0 : decode cX0_nth 0 = .ok (.iload_n 1, 1) := dk_27 (dk_at dksX0_nth_0 0 rfl rfl)
theorem dX0_nth_1 : decode cX0_nth 1 = .ok (.ifCond .ge 5, 3) := dk_156 0 5 (dk_at dksX0_nth_0 1 rfl rfl)
theorem dX0_nth_4 : decode cX0_nth 4 = .ok (.iconst (-1), 1) := dk_2 (dk_at dksX0_nth_0 4 rfl rfl)
theorem dX0_nth_5 : decode cX0_nth 5 = .ok (.ireturn, 1) := dk_172 (dk_at dksX0_nth_0 5 rfl rfl)
theorem dX0_nth_6 : decode cX0_nth 6 = .ok (.aload_n 0, 1) := dk_42 (dk_at dksX0_nth_0 6 rfl rfl)
theorem dX0_nth_7 : decode cX0_nth 7 = .ok (.getfield 39, 3) := dk_180 0 39 (dk_at dksX0_nth_0 7 rfl rfl)
theorem dX0_nth_10 : decode cX0_nth 10 = .ok (.aload_n 0, 1) := dk_42 (dk_at dksX0_nth_0 10 rfl rfl)
theorem dX0_nth_11 : decode cX0_nth 11 = .ok (.getfield 61, 3) := dk_180 0 61 (dk_at dksX0_nth_0 11 rfl rfl)
theorem dX0_nth_14 : decode cX0_nth 14 = .ok (.aload_n 0, 1) := dk_42 (dk_at dksX0_nth_0 14 rfl rfl)
theorem dX0_nth_15 : decode cX0_nth 15 = .ok (.getfield 65, 3) := dk_180 0 65 (dk_at dksX0_nth_0 15 rfl rfl)
theorem dX0_nth_18 : decode cX0_nth 18 = .ok (.invokevirtual 153, 3) := dk_182 0 153 (dk_at dksX0_nth_0 18 rfl rfl)
theorem dX0_nth_21 : decode cX0_nth 21 = .ok (.istore_n 2, 1) := dk_61 (dk_at dksX0_nth_0 21 rfl rfl)
theorem dX0_nth_22 : decode cX0_nth 22 = .ok (.iload_n 1, 1) := dk_27 (dk_at dksX0_nth_0 22 rfl rfl)
theorem dX0_nth_23 : decode cX0_nth 23 = .ok (.iload_n 2, 1) := dk_28 (dk_at dksX0_nth_0 23 rfl rfl)
theorem dX0_nth_24 : decode cX0_nth 24 = .ok (.if_icmp .ge 12, 3) := dk_162 0 12 (dk_at dksX0_nth_1 0 rfl rfl)
theorem dX0_nth_27 : decode cX0_nth 27 = .ok (.aload_n 0, 1) := dk_42 (dk_at dksX0_nth_1 3 rfl rfl)
theorem dX0_nth_28 : decode cX0_nth 28 = .ok (.getfield 61, 3) := dk_180 0 61 (dk_at dksX0_nth_1 4 rfl rfl)
theorem dX0_nth_31 : decode cX0_nth 31 = .ok (.iload_n 1, 1) := dk_27 (dk_at dksX0_nth_1 7 rfl rfl)
theorem dX0_nth_32 : decode cX0_nth 32 = .ok (.iaload, 1) := dk_46 (dk_at dksX0_nth_1 8 rfl rfl)
theorem dX0_nth_33 : decode cX0_nth 33 = .ok (.goto 5, 3) := dk_167 0 5 (dk_at dksX0_nth_1 9 rfl rfl)
theorem dX0_nth_36 : decode cX0_nth 36 = .ok (.bipush (-2), 2) := dk_16 254 (dk_at dksX0_nth_1 12 rfl rfl)
theorem dX0_nth_38 : decode cX0_nth 38 = .ok (.ireturn, 1) := dk_172 (dk_at dksX0_nth_1 14 rfl rfl)
abbrev cX0_page : ByteArray := prog_1_method_23_code
def yX0_page : MethodName := ⟨RX0, "page", "(II)I"⟩
def dkwX0_page_6 : List UInt8 := [180, 0, 53, 180, 0, 181, 167, 0, 16, 29, 153, 0, 7, 4, 167, 0, 8, 3, 167, 0, 4, 2, 172]
abbrev dktX0_page_6 : List UInt8 := dkwX0_page_6 ++ []
def dkwX0_page_5 : List UInt8 := [167, 0, 46, 42, 180, 0, 53, 180, 0, 178, 167, 0, 36, 21, 4, 153, 0, 8, 16, 254, 167, 0, 26, 42]
abbrev dktX0_page_5 : List UInt8 := dkwX0_page_5 ++ dktX0_page_6
def dkwX0_page_4 : List UInt8 := [153, 0, 7, 3, 167, 0, 65, 42, 180, 0, 53, 180, 0, 175, 167, 0, 55, 21, 4, 153, 0, 7, 3]
abbrev dktX0_page_4 : List UInt8 := dkwX0_page_4 ++ dktX0_page_5
def dkwX0_page_3 : List UInt8 := [42, 180, 0, 39, 180, 0, 169, 27, 46, 167, 0, 84, 42, 180, 0, 39, 27, 182, 0, 172, 167, 0, 73, 29]
abbrev dktX0_page_3 : List UInt8 := dkwX0_page_3 ++ dktX0_page_4
def dkwX0_page_2 : List UInt8 := [170, 0, 0, 0, 129, 0, 0, 0, 0, 0, 0, 0, 5, 0, 0, 0, 37, 0, 0, 0, 49, 0, 0, 0, 60, 0, 0, 0, 78, 0, 0, 0, 97, 0, 0, 0, 117]
abbrev dktX0_page_2 : List UInt8 := dkwX0_page_2 ++ dktX0_page_3
def dkwX0_page_1 : List UInt8 := [153, 0, 7, 4, 167, 0, 4, 3, 54, 4, 42, 180, 0, 39, 27, 42, 180, 0, 53, 182, 0, 165, 28]
abbrev dktX0_page_1 : List UInt8 := dkwX0_page_1 ++ dktX0_page_2
def dkwX0_page_0 : List UInt8 := [42, 27, 182, 0, 159, 154, 0, 5, 2, 172, 42, 180, 0, 39, 27, 182, 0, 162, 62, 27, 153, 0, 7, 29]
abbrev dktX0_page_0 : List UInt8 := dkwX0_page_0 ++ dktX0_page_1
theorem dksX0_page_0 : cX0_page.data.toList.drop 0 = dktX0_page_0 := by decide +kernel
theorem dksX0_page_1 : cX0_page.data.toList.drop 24 = dktX0_page_1 := dk_seg dksX0_page_0 24 rfl rfl
theorem dksX0_page_2 : cX0_page.data.toList.drop 47 = dktX0_page_2 := dk_seg dksX0_page_1 23 rfl rfl
theorem dksX0_page_3 : cX0_page.data.toList.drop 84 = dktX0_page_3 := dk_seg dksX0_page_2 37 rfl rfl
theorem dksX0_page_4 : cX0_page.data.toList.drop 108 = dktX0_page_4 := dk_seg dksX0_page_3 24 rfl rfl
theorem dksX0_page_5 : cX0_page.data.toList.drop 131 = dktX0_page_5 := dk_seg dksX0_page_4 23 rfl rfl
theorem dksX0_page_6 : cX0_page.data.toList.drop 155 = dktX0_page_6 := dk_seg dksX0_page_5 24 rfl rfl
theorem dX0_page_0 : decode cX0_page 0 = .ok (.aload_n 0, 1) := dk_42 (dk_at dksX0_page_0 0 rfl rfl)
theorem dX0_page_1 : decode cX0_page 1 = .ok (.iload_n 1, 1) := dk_27 (dk_at dksX0_page_0 1 rfl rfl)
theorem dX0_page_2 : decode cX0_page 2 = .ok (.invokevirtual 159, 3) := dk_182 0 159 (dk_at dksX0_page_0 2 rfl rfl)
theorem dX0_page_5 : decode cX0_page 5 = .ok (.ifCond .ne 5, 3) := dk_154 0 5 (dk_at dksX0_page_0 5 rfl rfl)
theorem dX0_page_8 : decode cX0_page 8 = .ok (.iconst (-1), 1) := dk_2 (dk_at dksX0_page_0 8 rfl rfl)
theorem dX0_page_9 : decode cX0_page 9 = .ok (.ireturn, 1) := dk_172 (dk_at dksX0_page_0 9 rfl rfl)
theorem dX0_page_10 : decode cX0_page 10 = .ok (.aload_n 0, 1) := dk_42 (dk_at dksX0_page_0 10 rfl rfl)
theorem dX0_page_11 : decode cX0_page 11 = .ok (.getfield 39, 3) := dk_180 0 39 (dk_at dksX0_page_0 11 rfl rfl)
theorem dX0_page_14 : decode cX0_page 14 = .ok (.iload_n 1, 1) := dk_27 (dk_at dksX0_page_0 14 rfl rfl)
theorem dX0_page_15 : decode cX0_page 15 = .ok (.invokevirtual 162, 3) := dk_182 0 162 (dk_at dksX0_page_0 15 rfl rfl)
theorem dX0_page_18 : decode cX0_page 18 = .ok (.istore_n 3, 1) := dk_62 (dk_at dksX0_page_0 18 rfl rfl)
theorem dX0_page_19 : decode cX0_page 19 = .ok (.iload_n 1, 1) := dk_27 (dk_at dksX0_page_0 19 rfl rfl)
theorem dX0_page_20 : decode cX0_page 20 = .ok (.ifCond .eq 7, 3) := dk_153 0 7 (dk_at dksX0_page_0 20 rfl rfl)
theorem dX0_page_23 : decode cX0_page 23 = .ok (.iload_n 3, 1) := dk_29 (dk_at dksX0_page_0 23 rfl rfl)
theorem dX0_page_24 : decode cX0_page 24 = .ok (.ifCond .eq 7, 3) := dk_153 0 7 (dk_at dksX0_page_1 0 rfl rfl)
theorem dX0_page_27 : decode cX0_page 27 = .ok (.iconst 1, 1) := dk_4 (dk_at dksX0_page_1 3 rfl rfl)
theorem dX0_page_28 : decode cX0_page 28 = .ok (.goto 4, 3) := dk_167 0 4 (dk_at dksX0_page_1 4 rfl rfl)
theorem dX0_page_31 : decode cX0_page 31 = .ok (.iconst 0, 1) := dk_3 (dk_at dksX0_page_1 7 rfl rfl)
theorem dX0_page_32 : decode cX0_page 32 = .ok (.istore 4, 2) := dk_54 4 (dk_at dksX0_page_1 8 rfl rfl)
theorem dX0_page_34 : decode cX0_page 34 = .ok (.aload_n 0, 1) := dk_42 (dk_at dksX0_page_1 10 rfl rfl)
theorem dX0_page_35 : decode cX0_page 35 = .ok (.getfield 39, 3) := dk_180 0 39 (dk_at dksX0_page_1 11 rfl rfl)
theorem dX0_page_38 : decode cX0_page 38 = .ok (.iload_n 1, 1) := dk_27 (dk_at dksX0_page_1 14 rfl rfl)
theorem dX0_page_39 : decode cX0_page 39 = .ok (.aload_n 0, 1) := dk_42 (dk_at dksX0_page_1 15 rfl rfl)
theorem dX0_page_40 : decode cX0_page 40 = .ok (.getfield 53, 3) := dk_180 0 53 (dk_at dksX0_page_1 16 rfl rfl)
theorem dX0_page_43 : decode cX0_page 43 = .ok (.invokevirtual 165, 3) := dk_182 0 165 (dk_at dksX0_page_1 19 rfl rfl)
theorem dX0_page_46 : decode cX0_page 46 = .ok (.iload_n 2, 1) := dk_28 (dk_at dksX0_page_1 22 rfl rfl)
theorem dX0_page_47 : decode cX0_page 47 = .ok (.tableswitch 129 0 5 #[37, 49, 60, 78, 97, 117], 37) := by decide +kernel
theorem dX0_page_84 : decode cX0_page 84 = .ok (.aload_n 0, 1) := dk_42 (dk_at dksX0_page_3 0 rfl rfl)
theorem dX0_page_85 : decode cX0_page 85 = .ok (.getfield 39, 3) := dk_180 0 39 (dk_at dksX0_page_3 1 rfl rfl)
theorem dX0_page_88 : decode cX0_page 88 = .ok (.getfield 169, 3) := dk_180 0 169 (dk_at dksX0_page_3 4 rfl rfl)
theorem dX0_page_91 : decode cX0_page 91 = .ok (.iload_n 1, 1) := dk_27 (dk_at dksX0_page_3 7 rfl rfl)
theorem dX0_page_92 : decode cX0_page 92 = .ok (.iaload, 1) := dk_46 (dk_at dksX0_page_3 8 rfl rfl)
theorem dX0_page_93 : decode cX0_page 93 = .ok (.goto 84, 3) := dk_167 0 84 (dk_at dksX0_page_3 9 rfl rfl)
theorem dX0_page_96 : decode cX0_page 96 = .ok (.aload_n 0, 1) := dk_42 (dk_at dksX0_page_3 12 rfl rfl)
theorem dX0_page_97 : decode cX0_page 97 = .ok (.getfield 39, 3) := dk_180 0 39 (dk_at dksX0_page_3 13 rfl rfl)
theorem dX0_page_100 : decode cX0_page 100 = .ok (.iload_n 1, 1) := dk_27 (dk_at dksX0_page_3 16 rfl rfl)
theorem dX0_page_101 : decode cX0_page 101 = .ok (.invokevirtual 172, 3) := dk_182 0 172 (dk_at dksX0_page_3 17 rfl rfl)
theorem dX0_page_104 : decode cX0_page 104 = .ok (.goto 73, 3) := dk_167 0 73 (dk_at dksX0_page_3 20 rfl rfl)
theorem dX0_page_107 : decode cX0_page 107 = .ok (.iload_n 3, 1) := dk_29 (dk_at dksX0_page_3 23 rfl rfl)
theorem dX0_page_108 : decode cX0_page 108 = .ok (.ifCond .eq 7, 3) := dk_153 0 7 (dk_at dksX0_page_4 0 rfl rfl)
theorem dX0_page_111 : decode cX0_page 111 = .ok (.iconst 0, 1) := dk_3 (dk_at dksX0_page_4 3 rfl rfl)
theorem dX0_page_112 : decode cX0_page 112 = .ok (.goto 65, 3) := dk_167 0 65 (dk_at dksX0_page_4 4 rfl rfl)
theorem dX0_page_115 : decode cX0_page 115 = .ok (.aload_n 0, 1) := dk_42 (dk_at dksX0_page_4 7 rfl rfl)
theorem dX0_page_116 : decode cX0_page 116 = .ok (.getfield 53, 3) := dk_180 0 53 (dk_at dksX0_page_4 8 rfl rfl)
theorem dX0_page_119 : decode cX0_page 119 = .ok (.getfield 175, 3) := dk_180 0 175 (dk_at dksX0_page_4 11 rfl rfl)
theorem dX0_page_122 : decode cX0_page 122 = .ok (.goto 55, 3) := dk_167 0 55 (dk_at dksX0_page_4 14 rfl rfl)
theorem dX0_page_125 : decode cX0_page 125 = .ok (.iload 4, 2) := dk_21 4 (dk_at dksX0_page_4 17 rfl rfl)
theorem dX0_page_127 : decode cX0_page 127 = .ok (.ifCond .eq 7, 3) := dk_153 0 7 (dk_at dksX0_page_4 19 rfl rfl)
theorem dX0_page_130 : decode cX0_page 130 = .ok (.iconst 0, 1) := dk_3 (dk_at dksX0_page_4 22 rfl rfl)
theorem dX0_page_131 : decode cX0_page 131 = .ok (.goto 46, 3) := dk_167 0 46 (dk_at dksX0_page_5 0 rfl rfl)
theorem dX0_page_134 : decode cX0_page 134 = .ok (.aload_n 0, 1) := dk_42 (dk_at dksX0_page_5 3 rfl rfl)
theorem dX0_page_135 : decode cX0_page 135 = .ok (.getfield 53, 3) := dk_180 0 53 (dk_at dksX0_page_5 4 rfl rfl)
theorem dX0_page_138 : decode cX0_page 138 = .ok (.getfield 178, 3) := dk_180 0 178 (dk_at dksX0_page_5 7 rfl rfl)
theorem dX0_page_141 : decode cX0_page 141 = .ok (.goto 36, 3) := dk_167 0 36 (dk_at dksX0_page_5 10 rfl rfl)
theorem dX0_page_144 : decode cX0_page 144 = .ok (.iload 4, 2) := dk_21 4 (dk_at dksX0_page_5 13 rfl rfl)
theorem dX0_page_146 : decode cX0_page 146 = .ok (.ifCond .eq 8, 3) := dk_153 0 8 (dk_at dksX0_page_5 15 rfl rfl)
theorem dX0_page_149 : decode cX0_page 149 = .ok (.bipush (-2), 2) := dk_16 254 (dk_at dksX0_page_5 18 rfl rfl)
theorem dX0_page_151 : decode cX0_page 151 = .ok (.goto 26, 3) := dk_167 0 26 (dk_at dksX0_page_5 20 rfl rfl)
theorem dX0_page_154 : decode cX0_page 154 = .ok (.aload_n 0, 1) := dk_42 (dk_at dksX0_page_5 23 rfl rfl)
theorem dX0_page_155 : decode cX0_page 155 = .ok (.getfield 53, 3) := dk_180 0 53 (dk_at dksX0_page_6 0 rfl rfl)
theorem dX0_page_158 : decode cX0_page 158 = .ok (.getfield 181, 3) := dk_180 0 181 (dk_at dksX0_page_6 3 rfl rfl)
theorem dX0_page_161 : decode cX0_page 161 = .ok (.goto 16, 3) := dk_167 0 16 (dk_at dksX0_page_6 6 rfl rfl)
theorem dX0_page_164 : decode cX0_page 164 = .ok (.iload_n 3, 1) := dk_29 (dk_at dksX0_page_6 9 rfl rfl)
theorem dX0_page_165 : decode cX0_page 165 = .ok (.ifCond .eq 7, 3) := dk_153 0 7 (dk_at dksX0_page_6 10 rfl rfl)
theorem dX0_page_168 : decode cX0_page 168 = .ok (.iconst 1, 1) := dk_4 (dk_at dksX0_page_6 13 rfl rfl)
theorem dX0_page_169 : decode cX0_page 169 = .ok (.goto 8, 3) := dk_167 0 8 (dk_at dksX0_page_6 14 rfl rfl)
theorem dX0_page_172 : decode cX0_page 172 = .ok (.iconst 0, 1) := dk_3 (dk_at dksX0_page_6 17 rfl rfl)
theorem dX0_page_173 : decode cX0_page 173 = .ok (.goto 4, 3) := dk_167 0 4 (dk_at dksX0_page_6 18 rfl rfl)
theorem dX0_page_176 : decode cX0_page 176 = .ok (.iconst (-1), 1) := dk_2 (dk_at dksX0_page_6 21 rfl rfl)
theorem dX0_page_177 : decode cX0_page 177 = .ok (.ireturn, 1) := dk_172 (dk_at dksX0_page_6 22 rfl rfl)
abbrev cX0_isPage : ByteArray := prog_1_method_11_code
def yX0_isPage : MethodName := ⟨RX0, "isPage", "(I)Z"⟩
def dkwX0_isPage_0 : List UInt8 := [27, 3, 42, 180, 0, 39, 180, 0, 125, 4, 100, 184, 0, 121, 172]
abbrev dktX0_isPage_0 : List UInt8 := dkwX0_isPage_0 ++ []
theorem dksX0_isPage_0 : cX0_isPage.data.toList.drop 0 = dktX0_isPage_0 := by decide +kernel
theorem dX0_isPage_0 : decode cX0_isPage 0 = .ok (.iload_n 1, 1) := dk_27 (dk_at dksX0_isPage_0 0 rfl rfl)
theorem dX0_isPage_1 : decode cX0_isPage 1 = .ok (.iconst 0, 1) := dk_3 (dk_at dksX0_isPage_0 1 rfl rfl)
theorem dX0_isPage_2 : decode cX0_isPage 2 = .ok (.aload_n 0, 1) := dk_42 (dk_at dksX0_isPage_0 2 rfl rfl)
theorem dX0_isPage_3 : decode cX0_isPage 3 = .ok (.getfield 39, 3) := dk_180 0 39 (dk_at dksX0_isPage_0 3 rfl rfl)
theorem dX0_isPage_6 : decode cX0_isPage 6 = .ok (.getfield 125, 3) := dk_180 0 125 (dk_at dksX0_isPage_0 6 rfl rfl)
theorem dX0_isPage_9 : decode cX0_isPage 9 = .ok (.iconst 1, 1) := dk_4 (dk_at dksX0_isPage_0 9 rfl rfl)
theorem dX0_isPage_10 : decode cX0_isPage 10 = .ok (.isub, 1) := dk_100 (dk_at dksX0_isPage_0 10 rfl rfl)
theorem dX0_isPage_11 : decode cX0_isPage 11 = .ok (.invokestatic 121, 3) := dk_184 0 121 (dk_at dksX0_isPage_0 11 rfl rfl)
theorem dX0_isPage_14 : decode cX0_isPage 14 = .ok (.ireturn, 1) := dk_172 (dk_at dksX0_isPage_0 14 rfl rfl)
abbrev cX0_bound : ByteArray := prog_1_method_24_code
def yX0_bound : MethodName := ⟨RX0, "bound", "(II)I"⟩
def dkwX0_bound_2 : List UInt8 := [180, 0, 189, 27, 46, 167, 0, 4, 2, 172]
abbrev dktX0_bound_2 : List UInt8 := dkwX0_bound_2 ++ []
def dkwX0_bound_1 : List UInt8 := [167, 0, 31, 28, 154, 0, 12, 45, 180, 0, 188, 27, 46, 167, 0, 18, 28, 4, 160, 0, 12, 45]
abbrev dktX0_bound_1 : List UInt8 := dkwX0_bound_1 ++ dktX0_bound_2
def dkwX0_bound_0 : List UInt8 := [42, 180, 0, 39, 182, 0, 184, 78, 27, 3, 45, 180, 0, 175, 4, 100, 184, 0, 121, 154, 0, 7, 2]
abbrev dktX0_bound_0 : List UInt8 := dkwX0_bound_0 ++ dktX0_bound_1
theorem dksX0_bound_0 : cX0_bound.data.toList.drop 0 = dktX0_bound_0 := by decide +kernel
theorem dksX0_bound_1 : cX0_bound.data.toList.drop 23 = dktX0_bound_1 := dk_seg dksX0_bound_0 23 rfl rfl
theorem dksX0_bound_2 : cX0_bound.data.toList.drop 45 = dktX0_bound_2 := dk_seg dksX0_bound_1 22 rfl rfl
theorem dX0_bound_0 : decode cX0_bound 0 = .ok (.aload_n 0, 1) := dk_42 (dk_at dksX0_bound_0 0 rfl rfl)
theorem dX0_bound_1 : decode cX0_bound 1 = .ok (.getfield 39, 3) := dk_180 0 39 (dk_at dksX0_bound_0 1 rfl rfl)
theorem dX0_bound_4 : decode cX0_bound 4 = .ok (.invokevirtual 184, 3) := dk_182 0 184 (dk_at dksX0_bound_0 4 rfl rfl)
theorem dX0_bound_7 : decode cX0_bound 7 = .ok (.astore_n 3, 1) := dk_78 (dk_at dksX0_bound_0 7 rfl rfl)
theorem dX0_bound_8 : decode cX0_bound 8 = .ok (.iload_n 1, 1) := dk_27 (dk_at dksX0_bound_0 8 rfl rfl)
theorem dX0_bound_9 : decode cX0_bound 9 = .ok (.iconst 0, 1) := dk_3 (dk_at dksX0_bound_0 9 rfl rfl)
theorem dX0_bound_10 : decode cX0_bound 10 = .ok (.aload_n 3, 1) := dk_45 (dk_at dksX0_bound_0 10 rfl rfl)
theorem dX0_bound_11 : decode cX0_bound 11 = .ok (.getfield 175, 3) := dk_180 0 175 (dk_at dksX0_bound_0 11 rfl rfl)
theorem dX0_bound_14 : decode cX0_bound 14 = .ok (.iconst 1, 1) := dk_4 (dk_at dksX0_bound_0 14 rfl rfl)
theorem dX0_bound_15 : decode cX0_bound 15 = .ok (.isub, 1) := dk_100 (dk_at dksX0_bound_0 15 rfl rfl)
theorem dX0_bound_16 : decode cX0_bound 16 = .ok (.invokestatic 121, 3) := dk_184 0 121 (dk_at dksX0_bound_0 16 rfl rfl)
theorem dX0_bound_19 : decode cX0_bound 19 = .ok (.ifCond .ne 7, 3) := dk_154 0 7 (dk_at dksX0_bound_0 19 rfl rfl)
theorem dX0_bound_22 : decode cX0_bound 22 = .ok (.iconst (-1), 1) := dk_2 (dk_at dksX0_bound_0 22 rfl rfl)
theorem dX0_bound_23 : decode cX0_bound 23 = .ok (.goto 31, 3) := dk_167 0 31 (dk_at dksX0_bound_1 0 rfl rfl)
theorem dX0_bound_26 : decode cX0_bound 26 = .ok (.iload_n 2, 1) := dk_28 (dk_at dksX0_bound_1 3 rfl rfl)
theorem dX0_bound_27 : decode cX0_bound 27 = .ok (.ifCond .ne 12, 3) := dk_154 0 12 (dk_at dksX0_bound_1 4 rfl rfl)
theorem dX0_bound_30 : decode cX0_bound 30 = .ok (.aload_n 3, 1) := dk_45 (dk_at dksX0_bound_1 7 rfl rfl)
theorem dX0_bound_31 : decode cX0_bound 31 = .ok (.getfield 188, 3) := dk_180 0 188 (dk_at dksX0_bound_1 8 rfl rfl)
theorem dX0_bound_34 : decode cX0_bound 34 = .ok (.iload_n 1, 1) := dk_27 (dk_at dksX0_bound_1 11 rfl rfl)
theorem dX0_bound_35 : decode cX0_bound 35 = .ok (.iaload, 1) := dk_46 (dk_at dksX0_bound_1 12 rfl rfl)
theorem dX0_bound_36 : decode cX0_bound 36 = .ok (.goto 18, 3) := dk_167 0 18 (dk_at dksX0_bound_1 13 rfl rfl)
theorem dX0_bound_39 : decode cX0_bound 39 = .ok (.iload_n 2, 1) := dk_28 (dk_at dksX0_bound_1 16 rfl rfl)
theorem dX0_bound_40 : decode cX0_bound 40 = .ok (.iconst 1, 1) := dk_4 (dk_at dksX0_bound_1 17 rfl rfl)
theorem dX0_bound_41 : decode cX0_bound 41 = .ok (.if_icmp .ne 12, 3) := dk_160 0 12 (dk_at dksX0_bound_1 18 rfl rfl)
theorem dX0_bound_44 : decode cX0_bound 44 = .ok (.aload_n 3, 1) := dk_45 (dk_at dksX0_bound_1 21 rfl rfl)
theorem dX0_bound_45 : decode cX0_bound 45 = .ok (.getfield 189, 3) := dk_180 0 189 (dk_at dksX0_bound_2 0 rfl rfl)
theorem dX0_bound_48 : decode cX0_bound 48 = .ok (.iload_n 1, 1) := dk_27 (dk_at dksX0_bound_2 3 rfl rfl)
theorem dX0_bound_49 : decode cX0_bound 49 = .ok (.iaload, 1) := dk_46 (dk_at dksX0_bound_2 4 rfl rfl)
theorem dX0_bound_50 : decode cX0_bound 50 = .ok (.goto 4, 3) := dk_167 0 4 (dk_at dksX0_bound_2 5 rfl rfl)
theorem dX0_bound_53 : decode cX0_bound 53 = .ok (.iconst (-1), 1) := dk_2 (dk_at dksX0_bound_2 8 rfl rfl)
theorem dX0_bound_54 : decode cX0_bound 54 = .ok (.ireturn, 1) := dk_172 (dk_at dksX0_bound_2 9 rfl rfl)
abbrev cX0_record : ByteArray := prog_1_method_25_code
def yX0_record : MethodName := ⟨RX0, "record", "(II)I"⟩
def dkwX0_record_4 : List UInt8 := [3, 167, 0, 13, 45, 180, 0, 175, 167, 0, 6, 17, 252, 24, 172]
abbrev dktX0_record_4 : List UInt8 := dkwX0_record_4 ++ []
def dkwX0_record_3 : List UInt8 := [180, 0, 208, 167, 0, 35, 45, 180, 0, 211, 167, 0, 28, 45, 180, 0, 214, 153, 0, 7, 4, 167, 0, 17]
abbrev dktX0_record_3 : List UInt8 := dkwX0_record_3 ++ dktX0_record_4
def dkwX0_record_2 : List UInt8 := [45, 180, 0, 199, 167, 0, 56, 45, 180, 0, 202, 167, 0, 49, 45, 180, 0, 205, 167, 0, 42, 45]
abbrev dktX0_record_2 : List UInt8 := dkwX0_record_2 ++ dktX0_record_3
def dkwX0_record_1 : List UInt8 := [170, 0, 0, 0, 98, 0, 0, 0, 0, 0, 0, 0, 6, 0, 0, 0, 41, 0, 0, 0, 48, 0, 0, 0, 55, 0, 0, 0, 62, 0, 0, 0, 69, 0, 0, 0, 76, 0, 0, 0, 91]
abbrev dktX0_record_1 : List UInt8 := dkwX0_record_1 ++ dktX0_record_2
def dkwX0_record_0 : List UInt8 := [42, 27, 182, 0, 192, 154, 0, 7, 17, 252, 24, 172, 42, 180, 0, 39, 180, 0, 195, 27, 50, 78, 28]
abbrev dktX0_record_0 : List UInt8 := dkwX0_record_0 ++ dktX0_record_1
theorem dksX0_record_0 : cX0_record.data.toList.drop 0 = dktX0_record_0 := by decide +kernel
theorem dksX0_record_1 : cX0_record.data.toList.drop 23 = dktX0_record_1 := dk_seg dksX0_record_0 23 rfl rfl
theorem dksX0_record_2 : cX0_record.data.toList.drop 64 = dktX0_record_2 := dk_seg dksX0_record_1 41 rfl rfl
theorem dksX0_record_3 : cX0_record.data.toList.drop 86 = dktX0_record_3 := dk_seg dksX0_record_2 22 rfl rfl
theorem dksX0_record_4 : cX0_record.data.toList.drop 110 = dktX0_record_4 := dk_seg dksX0_record_3 24 rfl rfl
theorem dX0_record_0 : decode cX0_record 0 = .ok (.aload_n 0, 1) := dk_42 (dk_at dksX0_record_0 0 rfl rfl)
theorem dX0_record_1 : decode cX0_record 1 = .ok (.iload_n 1, 1) := dk_27 (dk_at dksX0_record_0 1 rfl rfl)
theorem dX0_record_2 : decode cX0_record 2 = .ok (.invokevirtual 192, 3) := dk_182 0 192 (dk_at dksX0_record_0 2 rfl rfl)
theorem dX0_record_5 : decode cX0_record 5 = .ok (.ifCond .ne 7, 3) := dk_154 0 7 (dk_at dksX0_record_0 5 rfl rfl)
theorem dX0_record_8 : decode cX0_record 8 = .ok (.sipush (-1000), 3) := dk_17 252 24 (dk_at dksX0_record_0 8 rfl rfl)
theorem dX0_record_11 : decode cX0_record 11 = .ok (.ireturn, 1) := dk_172 (dk_at dksX0_record_0 11 rfl rfl)
theorem dX0_record_12 : decode cX0_record 12 = .ok (.aload_n 0, 1) := dk_42 (dk_at dksX0_record_0 12 rfl rfl)
theorem dX0_record_13 : decode cX0_record 13 = .ok (.getfield 39, 3) := dk_180 0 39 (dk_at dksX0_record_0 13 rfl rfl)
theorem dX0_record_16 : decode cX0_record 16 = .ok (.getfield 195, 3) := dk_180 0 195 (dk_at dksX0_record_0 16 rfl rfl)
theorem dX0_record_19 : decode cX0_record 19 = .ok (.iload_n 1, 1) := dk_27 (dk_at dksX0_record_0 19 rfl rfl)
theorem dX0_record_20 : decode cX0_record 20 = .ok (.aaload, 1) := dk_50 (dk_at dksX0_record_0 20 rfl rfl)
theorem dX0_record_21 : decode cX0_record 21 = .ok (.astore_n 3, 1) := dk_78 (dk_at dksX0_record_0 21 rfl rfl)
theorem dX0_record_22 : decode cX0_record 22 = .ok (.iload_n 2, 1) := dk_28 (dk_at dksX0_record_0 22 rfl rfl)
theorem dX0_record_23 : decode cX0_record 23 = .ok (.tableswitch 98 0 6 #[41, 48, 55, 62, 69, 76, 91], 41) := by decide +kernel
theorem dX0_record_64 : decode cX0_record 64 = .ok (.aload_n 3, 1) := dk_45 (dk_at dksX0_record_2 0 rfl rfl)
theorem dX0_record_65 : decode cX0_record 65 = .ok (.getfield 199, 3) := dk_180 0 199 (dk_at dksX0_record_2 1 rfl rfl)
theorem dX0_record_68 : decode cX0_record 68 = .ok (.goto 56, 3) := dk_167 0 56 (dk_at dksX0_record_2 4 rfl rfl)
theorem dX0_record_71 : decode cX0_record 71 = .ok (.aload_n 3, 1) := dk_45 (dk_at dksX0_record_2 7 rfl rfl)
theorem dX0_record_72 : decode cX0_record 72 = .ok (.getfield 202, 3) := dk_180 0 202 (dk_at dksX0_record_2 8 rfl rfl)
theorem dX0_record_75 : decode cX0_record 75 = .ok (.goto 49, 3) := dk_167 0 49 (dk_at dksX0_record_2 11 rfl rfl)
theorem dX0_record_78 : decode cX0_record 78 = .ok (.aload_n 3, 1) := dk_45 (dk_at dksX0_record_2 14 rfl rfl)
theorem dX0_record_79 : decode cX0_record 79 = .ok (.getfield 205, 3) := dk_180 0 205 (dk_at dksX0_record_2 15 rfl rfl)
theorem dX0_record_82 : decode cX0_record 82 = .ok (.goto 42, 3) := dk_167 0 42 (dk_at dksX0_record_2 18 rfl rfl)
theorem dX0_record_85 : decode cX0_record 85 = .ok (.aload_n 3, 1) := dk_45 (dk_at dksX0_record_2 21 rfl rfl)
theorem dX0_record_86 : decode cX0_record 86 = .ok (.getfield 208, 3) := dk_180 0 208 (dk_at dksX0_record_3 0 rfl rfl)
theorem dX0_record_89 : decode cX0_record 89 = .ok (.goto 35, 3) := dk_167 0 35 (dk_at dksX0_record_3 3 rfl rfl)
theorem dX0_record_92 : decode cX0_record 92 = .ok (.aload_n 3, 1) := dk_45 (dk_at dksX0_record_3 6 rfl rfl)
theorem dX0_record_93 : decode cX0_record 93 = .ok (.getfield 211, 3) := dk_180 0 211 (dk_at dksX0_record_3 7 rfl rfl)
theorem dX0_record_96 : decode cX0_record 96 = .ok (.goto 28, 3) := dk_167 0 28 (dk_at dksX0_record_3 10 rfl rfl)
theorem dX0_record_99 : decode cX0_record 99 = .ok (.aload_n 3, 1) := dk_45 (dk_at dksX0_record_3 13 rfl rfl)
theorem dX0_record_100 : decode cX0_record 100 = .ok (.getfield 214, 3) := dk_180 0 214 (dk_at dksX0_record_3 14 rfl rfl)
theorem dX0_record_103 : decode cX0_record 103 = .ok (.ifCond .eq 7, 3) := dk_153 0 7 (dk_at dksX0_record_3 17 rfl rfl)
theorem dX0_record_106 : decode cX0_record 106 = .ok (.iconst 1, 1) := dk_4 (dk_at dksX0_record_3 20 rfl rfl)
theorem dX0_record_107 : decode cX0_record 107 = .ok (.goto 17, 3) := dk_167 0 17 (dk_at dksX0_record_3 21 rfl rfl)
theorem dX0_record_110 : decode cX0_record 110 = .ok (.iconst 0, 1) := dk_3 (dk_at dksX0_record_4 0 rfl rfl)
theorem dX0_record_111 : decode cX0_record 111 = .ok (.goto 13, 3) := dk_167 0 13 (dk_at dksX0_record_4 1 rfl rfl)
theorem dX0_record_114 : decode cX0_record 114 = .ok (.aload_n 3, 1) := dk_45 (dk_at dksX0_record_4 4 rfl rfl)
theorem dX0_record_115 : decode cX0_record 115 = .ok (.getfield 175, 3) := dk_180 0 175 (dk_at dksX0_record_4 5 rfl rfl)
theorem dX0_record_118 : decode cX0_record 118 = .ok (.goto 6, 3) := dk_167 0 6 (dk_at dksX0_record_4 8 rfl rfl)
theorem dX0_record_121 : decode cX0_record 121 = .ok (.sipush (-1000), 3) := dk_17 252 24 (dk_at dksX0_record_4 11 rfl rfl)
theorem dX0_record_124 : decode cX0_record 124 = .ok (.ireturn, 1) := dk_172 (dk_at dksX0_record_4 14 rfl rfl)
abbrev cX0_isRecord : ByteArray := prog_1_method_12_code
def yX0_isRecord : MethodName := ⟨RX0, "isRecord", "(I)Z"⟩
def dkwX0_isRecord_0 : List UInt8 := [27, 3, 42, 180, 0, 39, 180, 0, 128, 4, 100, 184, 0, 121, 172]
abbrev dktX0_isRecord_0 : List UInt8 := dkwX0_isRecord_0 ++ []
theorem dksX0_isRecord_0 : cX0_isRecord.data.toList.drop 0 = dktX0_isRecord_0 := by decide +kernel
theorem dX0_isRecord_0 : decode cX0_isRecord 0 = .ok (.iload_n 1, 1) := dk_27 (dk_at dksX0_isRecord_0 0 rfl rfl)
theorem dX0_isRecord_1 : decode cX0_isRecord 1 = .ok (.iconst 0, 1) := dk_3 (dk_at dksX0_isRecord_0 1 rfl rfl)
theorem dX0_isRecord_2 : decode cX0_isRecord 2 = .ok (.aload_n 0, 1) := dk_42 (dk_at dksX0_isRecord_0 2 rfl rfl)
theorem dX0_isRecord_3 : decode cX0_isRecord 3 = .ok (.getfield 39, 3) := dk_180 0 39 (dk_at dksX0_isRecord_0 3 rfl rfl)
theorem dX0_isRecord_6 : decode cX0_isRecord 6 = .ok (.getfield 128, 3) := dk_180 0 128 (dk_at dksX0_isRecord_0 6 rfl rfl)
theorem dX0_isRecord_9 : decode cX0_isRecord 9 = .ok (.iconst 1, 1) := dk_4 (dk_at dksX0_isRecord_0 9 rfl rfl)
theorem dX0_isRecord_10 : decode cX0_isRecord 10 = .ok (.isub, 1) := dk_100 (dk_at dksX0_isRecord_0 10 rfl rfl)
theorem dX0_isRecord_11 : decode cX0_isRecord 11 = .ok (.invokestatic 121, 3) := dk_184 0 121 (dk_at dksX0_isRecord_0 11 rfl rfl)
theorem dX0_isRecord_14 : decode cX0_isRecord 14 = .ok (.ireturn, 1) := dk_172 (dk_at dksX0_isRecord_0 14 rfl rfl)
abbrev cX0_base : ByteArray := prog_1_method_26_code
def yX0_base : MethodName := ⟨RX0, "base", "(III)I"⟩
def dkwX0_base_3 : List UInt8 := [46, 167, 0, 6, 17, 252, 24, 172]
abbrev dktX0_base_3 : List UInt8 := dkwX0_base_3 ++ []
def dkwX0_base_2 : List UInt8 := [154, 0, 13, 25, 4, 180, 0, 188, 28, 46, 167, 0, 21, 29, 4, 160, 0, 13, 25, 4, 180, 0, 189, 28]
abbrev dktX0_base_2 : List UInt8 := dkwX0_base_2 ++ dktX0_base_3
def dkwX0_base_1 : List UInt8 := [184, 0, 121, 154, 0, 7, 17, 252, 24, 172, 42, 180, 0, 39, 180, 0, 195, 27, 50, 58, 4, 29]
abbrev dktX0_base_1 : List UInt8 := dkwX0_base_1 ++ dktX0_base_2
def dkwX0_base_0 : List UInt8 := [42, 27, 182, 0, 192, 153, 0, 25, 28, 3, 42, 180, 0, 39, 180, 0, 195, 27, 50, 180, 0, 175, 4, 100]
abbrev dktX0_base_0 : List UInt8 := dkwX0_base_0 ++ dktX0_base_1
theorem dksX0_base_0 : cX0_base.data.toList.drop 0 = dktX0_base_0 := by decide +kernel
theorem dksX0_base_1 : cX0_base.data.toList.drop 24 = dktX0_base_1 := dk_seg dksX0_base_0 24 rfl rfl
theorem dksX0_base_2 : cX0_base.data.toList.drop 46 = dktX0_base_2 := dk_seg dksX0_base_1 22 rfl rfl
theorem dksX0_base_3 : cX0_base.data.toList.drop 70 = dktX0_base_3 := dk_seg dksX0_base_2 24 rfl rfl
theorem dX0_base_0 : decode cX0_base 0 = .ok (.aload_n 0, 1) := dk_42 (dk_at dksX0_base_0 0 rfl rfl)
theorem dX0_base_1 : decode cX0_base 1 = .ok (.iload_n 1, 1) := dk_27 (dk_at dksX0_base_0 1 rfl rfl)
theorem dX0_base_2 : decode cX0_base 2 = .ok (.invokevirtual 192, 3) := dk_182 0 192 (dk_at dksX0_base_0 2 rfl rfl)
theorem dX0_base_5 : decode cX0_base 5 = .ok (.ifCond .eq 25, 3) := dk_153 0 25 (dk_at dksX0_base_0 5 rfl rfl)
theorem dX0_base_8 : decode cX0_base 8 = .ok (.iload_n 2, 1) := dk_28 (dk_at dksX0_base_0 8 rfl rfl)
theorem dX0_base_9 : decode cX0_base 9 = .ok (.iconst 0, 1) := dk_3 (dk_at dksX0_base_0 9 rfl rfl)
theorem dX0_base_10 : decode cX0_base 10 = .ok (.aload_n 0, 1) := dk_42 (dk_at dksX0_base_0 10 rfl rfl)
theorem dX0_base_11 : decode cX0_base 11 = .ok (.getfield 39, 3) := dk_180 0 39 (dk_at dksX0_base_0 11 rfl rfl)
theorem dX0_base_14 : decode cX0_base 14 = .ok (.getfield 195, 3) := dk_180 0 195 (dk_at dksX0_base_0 14 rfl rfl)
theorem dX0_base_17 : decode cX0_base 17 = .ok (.iload_n 1, 1) := dk_27 (dk_at dksX0_base_0 17 rfl rfl)
theorem dX0_base_18 : decode cX0_base 18 = .ok (.aaload, 1) := dk_50 (dk_at dksX0_base_0 18 rfl rfl)
theorem dX0_base_19 : decode cX0_base 19 = .ok (.getfield 175, 3) := dk_180 0 175 (dk_at dksX0_base_0 19 rfl rfl)
theorem dX0_base_22 : decode cX0_base 22 = .ok (.iconst 1, 1) := dk_4 (dk_at dksX0_base_0 22 rfl rfl)
theorem dX0_base_23 : decode cX0_base 23 = .ok (.isub, 1) := dk_100 (dk_at dksX0_base_0 23 rfl rfl)
theorem dX0_base_24 : decode cX0_base 24 = .ok (.invokestatic 121, 3) := dk_184 0 121 (dk_at dksX0_base_1 0 rfl rfl)
theorem dX0_base_27 : decode cX0_base 27 = .ok (.ifCond .ne 7, 3) := dk_154 0 7 (dk_at dksX0_base_1 3 rfl rfl)
theorem dX0_base_30 : decode cX0_base 30 = .ok (.sipush (-1000), 3) := dk_17 252 24 (dk_at dksX0_base_1 6 rfl rfl)
theorem dX0_base_33 : decode cX0_base 33 = .ok (.ireturn, 1) := dk_172 (dk_at dksX0_base_1 9 rfl rfl)
theorem dX0_base_34 : decode cX0_base 34 = .ok (.aload_n 0, 1) := dk_42 (dk_at dksX0_base_1 10 rfl rfl)
theorem dX0_base_35 : decode cX0_base 35 = .ok (.getfield 39, 3) := dk_180 0 39 (dk_at dksX0_base_1 11 rfl rfl)
theorem dX0_base_38 : decode cX0_base 38 = .ok (.getfield 195, 3) := dk_180 0 195 (dk_at dksX0_base_1 14 rfl rfl)
theorem dX0_base_41 : decode cX0_base 41 = .ok (.iload_n 1, 1) := dk_27 (dk_at dksX0_base_1 17 rfl rfl)
theorem dX0_base_42 : decode cX0_base 42 = .ok (.aaload, 1) := dk_50 (dk_at dksX0_base_1 18 rfl rfl)
theorem dX0_base_43 : decode cX0_base 43 = .ok (.astore 4, 2) := dk_58 4 (dk_at dksX0_base_1 19 rfl rfl)
theorem dX0_base_45 : decode cX0_base 45 = .ok (.iload_n 3, 1) := dk_29 (dk_at dksX0_base_1 21 rfl rfl)
theorem dX0_base_46 : decode cX0_base 46 = .ok (.ifCond .ne 13, 3) := dk_154 0 13 (dk_at dksX0_base_2 0 rfl rfl)
theorem dX0_base_49 : decode cX0_base 49 = .ok (.aload 4, 2) := dk_25 4 (dk_at dksX0_base_2 3 rfl rfl)
theorem dX0_base_51 : decode cX0_base 51 = .ok (.getfield 188, 3) := dk_180 0 188 (dk_at dksX0_base_2 5 rfl rfl)
theorem dX0_base_54 : decode cX0_base 54 = .ok (.iload_n 2, 1) := dk_28 (dk_at dksX0_base_2 8 rfl rfl)
theorem dX0_base_55 : decode cX0_base 55 = .ok (.iaload, 1) := dk_46 (dk_at dksX0_base_2 9 rfl rfl)
theorem dX0_base_56 : decode cX0_base 56 = .ok (.goto 21, 3) := dk_167 0 21 (dk_at dksX0_base_2 10 rfl rfl)
theorem dX0_base_59 : decode cX0_base 59 = .ok (.iload_n 3, 1) := dk_29 (dk_at dksX0_base_2 13 rfl rfl)
theorem dX0_base_60 : decode cX0_base 60 = .ok (.iconst 1, 1) := dk_4 (dk_at dksX0_base_2 14 rfl rfl)
theorem dX0_base_61 : decode cX0_base 61 = .ok (.if_icmp .ne 13, 3) := dk_160 0 13 (dk_at dksX0_base_2 15 rfl rfl)
theorem dX0_base_64 : decode cX0_base 64 = .ok (.aload 4, 2) := dk_25 4 (dk_at dksX0_base_2 18 rfl rfl)
theorem dX0_base_66 : decode cX0_base 66 = .ok (.getfield 189, 3) := dk_180 0 189 (dk_at dksX0_base_2 20 rfl rfl)
theorem dX0_base_69 : decode cX0_base 69 = .ok (.iload_n 2, 1) := dk_28 (dk_at dksX0_base_2 23 rfl rfl)
theorem dX0_base_70 : decode cX0_base 70 = .ok (.iaload, 1) := dk_46 (dk_at dksX0_base_3 0 rfl rfl)
theorem dX0_base_71 : decode cX0_base 71 = .ok (.goto 6, 3) := dk_167 0 6 (dk_at dksX0_base_3 1 rfl rfl)
theorem dX0_base_74 : decode cX0_base 74 = .ok (.sipush (-1000), 3) := dk_17 252 24 (dk_at dksX0_base_3 4 rfl rfl)
theorem dX0_base_77 : decode cX0_base 77 = .ok (.ireturn, 1) := dk_172 (dk_at dksX0_base_3 7 rfl rfl)
abbrev cX0_hand : ByteArray := prog_1_method_27_code
def yX0_hand : MethodName := ⟨RX0, "hand", "(II)I"⟩
def dkwX0_hand_4 : List UInt8 := [167, 0, 4, 2, 172]
abbrev dktX0_hand_4 : List UInt8 := dkwX0_hand_4 ++ []
def dkwX0_hand_3 : List UInt8 := [180, 0, 231, 167, 0, 25, 45, 180, 0, 234, 167, 0, 18, 45, 180, 0, 236, 167, 0, 11, 45, 180, 0, 239]
abbrev dktX0_hand_3 : List UInt8 := dkwX0_hand_3 ++ dktX0_hand_4
def dkwX0_hand_2 : List UInt8 := [45, 180, 0, 222, 167, 0, 46, 45, 180, 0, 227, 167, 0, 39, 45, 180, 0, 230, 167, 0, 32, 45]
abbrev dktX0_hand_2 : List UInt8 := dkwX0_hand_2 ++ dktX0_hand_3
def dkwX0_hand_1 : List UInt8 := [170, 0, 0, 0, 0, 0, 0, 93, 0, 0, 0, 0, 0, 0, 0, 6, 0, 0, 0, 44, 0, 0, 0, 51, 0, 0, 0, 58, 0, 0, 0, 65, 0, 0, 0, 72, 0, 0, 0, 79, 0, 0, 0, 86]
abbrev dktX0_hand_1 : List UInt8 := dkwX0_hand_1 ++ dktX0_hand_2
def dkwX0_hand_0 : List UInt8 := [27, 184, 0, 131, 154, 0, 5, 2, 172, 42, 180, 0, 39, 180, 0, 218, 27, 50, 78, 28]
abbrev dktX0_hand_0 : List UInt8 := dkwX0_hand_0 ++ dktX0_hand_1
theorem dksX0_hand_0 : cX0_hand.data.toList.drop 0 = dktX0_hand_0 := by decide +kernel
theorem dksX0_hand_1 : cX0_hand.data.toList.drop 20 = dktX0_hand_1 := dk_seg dksX0_hand_0 20 rfl rfl
theorem dksX0_hand_2 : cX0_hand.data.toList.drop 64 = dktX0_hand_2 := dk_seg dksX0_hand_1 44 rfl rfl
theorem dksX0_hand_3 : cX0_hand.data.toList.drop 86 = dktX0_hand_3 := dk_seg dksX0_hand_2 22 rfl rfl
theorem dksX0_hand_4 : cX0_hand.data.toList.drop 110 = dktX0_hand_4 := dk_seg dksX0_hand_3 24 rfl rfl
theorem dX0_hand_0 : decode cX0_hand 0 = .ok (.iload_n 1, 1) := dk_27 (dk_at dksX0_hand_0 0 rfl rfl)
theorem dX0_hand_1 : decode cX0_hand 1 = .ok (.invokestatic 131, 3) := dk_184 0 131 (dk_at dksX0_hand_0 1 rfl rfl)
theorem dX0_hand_4 : decode cX0_hand 4 = .ok (.ifCond .ne 5, 3) := dk_154 0 5 (dk_at dksX0_hand_0 4 rfl rfl)
theorem dX0_hand_7 : decode cX0_hand 7 = .ok (.iconst (-1), 1) := dk_2 (dk_at dksX0_hand_0 7 rfl rfl)
theorem dX0_hand_8 : decode cX0_hand 8 = .ok (.ireturn, 1) := dk_172 (dk_at dksX0_hand_0 8 rfl rfl)
theorem dX0_hand_9 : decode cX0_hand 9 = .ok (.aload_n 0, 1) := dk_42 (dk_at dksX0_hand_0 9 rfl rfl)
theorem dX0_hand_10 : decode cX0_hand 10 = .ok (.getfield 39, 3) := dk_180 0 39 (dk_at dksX0_hand_0 10 rfl rfl)
theorem dX0_hand_13 : decode cX0_hand 13 = .ok (.getfield 218, 3) := dk_180 0 218 (dk_at dksX0_hand_0 13 rfl rfl)
theorem dX0_hand_16 : decode cX0_hand 16 = .ok (.iload_n 1, 1) := dk_27 (dk_at dksX0_hand_0 16 rfl rfl)
theorem dX0_hand_17 : decode cX0_hand 17 = .ok (.aaload, 1) := dk_50 (dk_at dksX0_hand_0 17 rfl rfl)
theorem dX0_hand_18 : decode cX0_hand 18 = .ok (.astore_n 3, 1) := dk_78 (dk_at dksX0_hand_0 18 rfl rfl)
theorem dX0_hand_19 : decode cX0_hand 19 = .ok (.iload_n 2, 1) := dk_28 (dk_at dksX0_hand_0 19 rfl rfl)
theorem dX0_hand_20 : decode cX0_hand 20 = .ok (.tableswitch 93 0 6 #[44, 51, 58, 65, 72, 79, 86], 44) := by decide +kernel
theorem dX0_hand_64 : decode cX0_hand 64 = .ok (.aload_n 3, 1) := dk_45 (dk_at dksX0_hand_2 0 rfl rfl)
theorem dX0_hand_65 : decode cX0_hand 65 = .ok (.getfield 222, 3) := dk_180 0 222 (dk_at dksX0_hand_2 1 rfl rfl)
theorem dX0_hand_68 : decode cX0_hand 68 = .ok (.goto 46, 3) := dk_167 0 46 (dk_at dksX0_hand_2 4 rfl rfl)
theorem dX0_hand_71 : decode cX0_hand 71 = .ok (.aload_n 3, 1) := dk_45 (dk_at dksX0_hand_2 7 rfl rfl)
theorem dX0_hand_72 : decode cX0_hand 72 = .ok (.getfield 227, 3) := dk_180 0 227 (dk_at dksX0_hand_2 8 rfl rfl)
theorem dX0_hand_75 : decode cX0_hand 75 = .ok (.goto 39, 3) := dk_167 0 39 (dk_at dksX0_hand_2 11 rfl rfl)
theorem dX0_hand_78 : decode cX0_hand 78 = .ok (.aload_n 3, 1) := dk_45 (dk_at dksX0_hand_2 14 rfl rfl)
theorem dX0_hand_79 : decode cX0_hand 79 = .ok (.getfield 230, 3) := dk_180 0 230 (dk_at dksX0_hand_2 15 rfl rfl)
theorem dX0_hand_82 : decode cX0_hand 82 = .ok (.goto 32, 3) := dk_167 0 32 (dk_at dksX0_hand_2 18 rfl rfl)
theorem dX0_hand_85 : decode cX0_hand 85 = .ok (.aload_n 3, 1) := dk_45 (dk_at dksX0_hand_2 21 rfl rfl)
theorem dX0_hand_86 : decode cX0_hand 86 = .ok (.getfield 231, 3) := dk_180 0 231 (dk_at dksX0_hand_3 0 rfl rfl)
theorem dX0_hand_89 : decode cX0_hand 89 = .ok (.goto 25, 3) := dk_167 0 25 (dk_at dksX0_hand_3 3 rfl rfl)
theorem dX0_hand_92 : decode cX0_hand 92 = .ok (.aload_n 3, 1) := dk_45 (dk_at dksX0_hand_3 6 rfl rfl)
theorem dX0_hand_93 : decode cX0_hand 93 = .ok (.getfield 234, 3) := dk_180 0 234 (dk_at dksX0_hand_3 7 rfl rfl)
theorem dX0_hand_96 : decode cX0_hand 96 = .ok (.goto 18, 3) := dk_167 0 18 (dk_at dksX0_hand_3 10 rfl rfl)
theorem dX0_hand_99 : decode cX0_hand 99 = .ok (.aload_n 3, 1) := dk_45 (dk_at dksX0_hand_3 13 rfl rfl)
theorem dX0_hand_100 : decode cX0_hand 100 = .ok (.getfield 236, 3) := dk_180 0 236 (dk_at dksX0_hand_3 14 rfl rfl)
theorem dX0_hand_103 : decode cX0_hand 103 = .ok (.goto 11, 3) := dk_167 0 11 (dk_at dksX0_hand_3 17 rfl rfl)
theorem dX0_hand_106 : decode cX0_hand 106 = .ok (.aload_n 3, 1) := dk_45 (dk_at dksX0_hand_3 20 rfl rfl)
theorem dX0_hand_107 : decode cX0_hand 107 = .ok (.getfield 239, 3) := dk_180 0 239 (dk_at dksX0_hand_3 21 rfl rfl)
theorem dX0_hand_110 : decode cX0_hand 110 = .ok (.goto 4, 3) := dk_167 0 4 (dk_at dksX0_hand_4 0 rfl rfl)
theorem dX0_hand_113 : decode cX0_hand 113 = .ok (.iconst (-1), 1) := dk_2 (dk_at dksX0_hand_4 3 rfl rfl)
theorem dX0_hand_114 : decode cX0_hand 114 = .ok (.ireturn, 1) := dk_172 (dk_at dksX0_hand_4 4 rfl rfl)
abbrev cX0_result : ByteArray := prog_1_method_28_code
def yX0_result : MethodName := ⟨RX0, "result", "(I)I"⟩
def dkwX0_result_0 : List UInt8 := [27, 184, 0, 131, 153, 0, 18, 42, 180, 0, 39, 180, 0, 218, 27, 50, 180, 0, 241, 167, 0, 4, 3, 172]
abbrev dktX0_result_0 : List UInt8 := dkwX0_result_0 ++ []
theorem dksX0_result_0 : cX0_result.data.toList.drop 0 = dktX0_result_0 := by decide +kernel
theorem dX0_result_0 : decode cX0_result 0 = .ok (.iload_n 1, 1) := dk_27 (dk_at dksX0_result_0 0 rfl rfl)
theorem dX0_result_1 : decode cX0_result 1 = .ok (.invokestatic 131, 3) := dk_184 0 131 (dk_at dksX0_result_0 1 rfl rfl)
theorem dX0_result_4 : decode cX0_result 4 = .ok (.ifCond .eq 18, 3) := dk_153 0 18 (dk_at dksX0_result_0 4 rfl rfl)
theorem dX0_result_7 : decode cX0_result 7 = .ok (.aload_n 0, 1) := dk_42 (dk_at dksX0_result_0 7 rfl rfl)
theorem dX0_result_8 : decode cX0_result 8 = .ok (.getfield 39, 3) := dk_180 0 39 (dk_at dksX0_result_0 8 rfl rfl)
theorem dX0_result_11 : decode cX0_result 11 = .ok (.getfield 218, 3) := dk_180 0 218 (dk_at dksX0_result_0 11 rfl rfl)
theorem dX0_result_14 : decode cX0_result 14 = .ok (.iload_n 1, 1) := dk_27 (dk_at dksX0_result_0 14 rfl rfl)
theorem dX0_result_15 : decode cX0_result 15 = .ok (.aaload, 1) := dk_50 (dk_at dksX0_result_0 15 rfl rfl)
theorem dX0_result_16 : decode cX0_result 16 = .ok (.getfield 241, 3) := dk_180 0 241 (dk_at dksX0_result_0 16 rfl rfl)
theorem dX0_result_19 : decode cX0_result 19 = .ok (.goto 4, 3) := dk_167 0 4 (dk_at dksX0_result_0 19 rfl rfl)
theorem dX0_result_22 : decode cX0_result 22 = .ok (.iconst 0, 1) := dk_3 (dk_at dksX0_result_0 22 rfl rfl)
theorem dX0_result_23 : decode cX0_result 23 = .ok (.ireturn, 1) := dk_172 (dk_at dksX0_result_0 23 rfl rfl)
abbrev cX0_halves : ByteArray := prog_1_method_29_code
def yX0_halves : MethodName := ⟨RX0, "halves", "(I)I"⟩
def dkwX0_halves_1 : List UInt8 := [182, 0, 247, 167, 0, 4, 2, 172]
abbrev dktX0_halves_1 : List UInt8 := dkwX0_halves_1 ++ []
def dkwX0_halves_0 : List UInt8 := [27, 154, 0, 13, 42, 180, 0, 39, 182, 0, 244, 167, 0, 19, 27, 4, 160, 0, 13, 42, 180, 0, 39]
abbrev dktX0_halves_0 : List UInt8 := dkwX0_halves_0 ++ dktX0_halves_1
theorem dksX0_halves_0 : cX0_halves.data.toList.drop 0 = dktX0_halves_0 := by decide +kernel
theorem dksX0_halves_1 : cX0_halves.data.toList.drop 23 = dktX0_halves_1 := dk_seg dksX0_halves_0 23 rfl rfl
theorem dX0_halves_0 : decode cX0_halves 0 = .ok (.iload_n 1, 1) := dk_27 (dk_at dksX0_halves_0 0 rfl rfl)
theorem dX0_halves_1 : decode cX0_halves 1 = .ok (.ifCond .ne 13, 3) := dk_154 0 13 (dk_at dksX0_halves_0 1 rfl rfl)
theorem dX0_halves_4 : decode cX0_halves 4 = .ok (.aload_n 0, 1) := dk_42 (dk_at dksX0_halves_0 4 rfl rfl)
theorem dX0_halves_5 : decode cX0_halves 5 = .ok (.getfield 39, 3) := dk_180 0 39 (dk_at dksX0_halves_0 5 rfl rfl)
theorem dX0_halves_8 : decode cX0_halves 8 = .ok (.invokevirtual 244, 3) := dk_182 0 244 (dk_at dksX0_halves_0 8 rfl rfl)
theorem dX0_halves_11 : decode cX0_halves 11 = .ok (.goto 19, 3) := dk_167 0 19 (dk_at dksX0_halves_0 11 rfl rfl)
theorem dX0_halves_14 : decode cX0_halves 14 = .ok (.iload_n 1, 1) := dk_27 (dk_at dksX0_halves_0 14 rfl rfl)
theorem dX0_halves_15 : decode cX0_halves 15 = .ok (.iconst 1, 1) := dk_4 (dk_at dksX0_halves_0 15 rfl rfl)
theorem dX0_halves_16 : decode cX0_halves 16 = .ok (.if_icmp .ne 13, 3) := dk_160 0 13 (dk_at dksX0_halves_0 16 rfl rfl)
theorem dX0_halves_19 : decode cX0_halves 19 = .ok (.aload_n 0, 1) := dk_42 (dk_at dksX0_halves_0 19 rfl rfl)
theorem dX0_halves_20 : decode cX0_halves 20 = .ok (.getfield 39, 3) := dk_180 0 39 (dk_at dksX0_halves_0 20 rfl rfl)
theorem dX0_halves_23 : decode cX0_halves 23 = .ok (.invokevirtual 247, 3) := dk_182 0 247 (dk_at dksX0_halves_1 0 rfl rfl)
theorem dX0_halves_26 : decode cX0_halves 26 = .ok (.goto 4, 3) := dk_167 0 4 (dk_at dksX0_halves_1 3 rfl rfl)
theorem dX0_halves_29 : decode cX0_halves 29 = .ok (.iconst (-1), 1) := dk_2 (dk_at dksX0_halves_1 6 rfl rfl)
theorem dX0_halves_30 : decode cX0_halves 30 = .ok (.ireturn, 1) := dk_172 (dk_at dksX0_halves_1 7 rfl rfl)
abbrev cX0_replay : ByteArray := prog_1_method_33_code
def yX0_replay : MethodName := ⟨RX0, "replay", "(IIII)I"⟩
def dkwX0_replay_8 : List UInt8 := [167, 0, 16, 21, 4, 5, 160, 0, 8, 21, 7, 167, 0, 5, 21, 8, 172]
abbrev dktX0_replay_8 : List UInt8 := dkwX0_replay_8 ++ []
def dkwX0_replay_7 : List UInt8 := [132, 10, 1, 167, 255, 147, 21, 4, 154, 0, 8, 21, 5, 167, 0, 27, 21, 4, 4, 160, 0, 8, 21, 6]
abbrev dktX0_replay_7 : List UInt8 := dkwX0_replay_7 ++ dktX0_replay_8
def dkwX0_replay_6 : List UInt8 := [28, 182, 1, 10, 21, 6, 163, 0, 6, 167, 0, 15, 42, 27, 28, 182, 1, 10, 54, 6, 21, 10, 54, 7]
abbrev dktX0_replay_6 : List UInt8 := dkwX0_replay_6 ++ dktX0_replay_7
def dkwX0_replay_5 : List UInt8 := [21, 8, 42, 180, 0, 43, 180, 0, 128, 42, 180, 0, 39, 180, 0, 128, 100, 184, 1, 4, 54, 8, 42, 27]
abbrev dktX0_replay_5 : List UInt8 := dkwX0_replay_5 ++ dktX0_replay_6
def dkwX0_replay_4 : List UInt8 := [182, 0, 153, 54, 9, 21, 5, 42, 21, 9, 182, 1, 1, 153, 0, 7, 4, 167, 0, 4, 3, 96, 54, 5]
abbrev dktX0_replay_4 : List UInt8 := dkwX0_replay_4 ++ dktX0_replay_5
def dkwX0_replay_3 : List UInt8 := [28, 29, 21, 10, 182, 0, 253, 21, 10, 154, 0, 20, 42, 180, 0, 43, 42, 180, 0, 68, 42, 180, 0, 71]
abbrev dktX0_replay_3 : List UInt8 := dkwX0_replay_3 ++ dktX0_replay_4
def dkwX0_replay_2 : List UInt8 := [3, 54, 7, 17, 7, 208, 54, 8, 3, 54, 9, 3, 54, 10, 21, 10, 4, 29, 120, 162, 0, 107, 42, 27]
abbrev dktX0_replay_2 : List UInt8 := dkwX0_replay_2 ++ dktX0_replay_3
def dkwX0_replay_1 : List UInt8 := [184, 0, 121, 153, 0, 13, 21, 4, 3, 6, 184, 0, 121, 154, 0, 5, 2, 172, 3, 54, 5, 2, 54, 6]
abbrev dktX0_replay_1 : List UInt8 := dkwX0_replay_1 ++ dktX0_replay_2
def dkwX0_replay_0 : List UInt8 := [27, 184, 0, 131, 153, 0, 35, 28, 184, 0, 131, 153, 0, 28, 27, 28, 159, 0, 23, 29, 3, 16, 8]
abbrev dktX0_replay_0 : List UInt8 := dkwX0_replay_0 ++ dktX0_replay_1
theorem dksX0_replay_0 : cX0_replay.data.toList.drop 0 = dktX0_replay_0 := by decide +kernel
theorem dksX0_replay_1 : cX0_replay.data.toList.drop 23 = dktX0_replay_1 := dk_seg dksX0_replay_0 23 rfl rfl
theorem dksX0_replay_2 : cX0_replay.data.toList.drop 47 = dktX0_replay_2 := dk_seg dksX0_replay_1 24 rfl rfl
theorem dksX0_replay_3 : cX0_replay.data.toList.drop 71 = dktX0_replay_3 := dk_seg dksX0_replay_2 24 rfl rfl
theorem dksX0_replay_4 : cX0_replay.data.toList.drop 95 = dktX0_replay_4 := dk_seg dksX0_replay_3 24 rfl rfl
theorem dksX0_replay_5 : cX0_replay.data.toList.drop 119 = dktX0_replay_5 := dk_seg dksX0_replay_4 24 rfl rfl
theorem dksX0_replay_6 : cX0_replay.data.toList.drop 143 = dktX0_replay_6 := dk_seg dksX0_replay_5 24 rfl rfl
theorem dksX0_replay_7 : cX0_replay.data.toList.drop 167 = dktX0_replay_7 := dk_seg dksX0_replay_6 24 rfl rfl
theorem dksX0_replay_8 : cX0_replay.data.toList.drop 191 = dktX0_replay_8 := dk_seg dksX0_replay_7 24 rfl rfl
theorem dX0_replay_0 : decode cX0_replay 0 = .ok (.iload_n 1, 1) := dk_27 (dk_at dksX0_replay_0 0 rfl rfl)
theorem dX0_replay_1 : decode cX0_replay 1 = .ok (.invokestatic 131, 3) := dk_184 0 131 (dk_at dksX0_replay_0 1 rfl rfl)
theorem dX0_replay_4 : decode cX0_replay 4 = .ok (.ifCond .eq 35, 3) := dk_153 0 35 (dk_at dksX0_replay_0 4 rfl rfl)
theorem dX0_replay_7 : decode cX0_replay 7 = .ok (.iload_n 2, 1) := dk_28 (dk_at dksX0_replay_0 7 rfl rfl)
theorem dX0_replay_8 : decode cX0_replay 8 = .ok (.invokestatic 131, 3) := dk_184 0 131 (dk_at dksX0_replay_0 8 rfl rfl)
theorem dX0_replay_11 : decode cX0_replay 11 = .ok (.ifCond .eq 28, 3) := dk_153 0 28 (dk_at dksX0_replay_0 11 rfl rfl)
theorem dX0_replay_14 : decode cX0_replay 14 = .ok (.iload_n 1, 1) := dk_27 (dk_at dksX0_replay_0 14 rfl rfl)
theorem dX0_replay_15 : decode cX0_replay 15 = .ok (.iload_n 2, 1) := dk_28 (dk_at dksX0_replay_0 15 rfl rfl)
theorem dX0_replay_16 : decode cX0_replay 16 = .ok (.if_icmp .eq 23, 3) := dk_159 0 23 (dk_at dksX0_replay_0 16 rfl rfl)
theorem dX0_replay_19 : decode cX0_replay 19 = .ok (.iload_n 3, 1) := dk_29 (dk_at dksX0_replay_0 19 rfl rfl)
theorem dX0_replay_20 : decode cX0_replay 20 = .ok (.iconst 0, 1) := dk_3 (dk_at dksX0_replay_0 20 rfl rfl)
theorem dX0_replay_21 : decode cX0_replay 21 = .ok (.bipush 8, 2) := dk_16 8 (dk_at dksX0_replay_0 21 rfl rfl)
theorem dX0_replay_23 : decode cX0_replay 23 = .ok (.invokestatic 121, 3) := dk_184 0 121 (dk_at dksX0_replay_1 0 rfl rfl)
theorem dX0_replay_26 : decode cX0_replay 26 = .ok (.ifCond .eq 13, 3) := dk_153 0 13 (dk_at dksX0_replay_1 3 rfl rfl)
theorem dX0_replay_29 : decode cX0_replay 29 = .ok (.iload 4, 2) := dk_21 4 (dk_at dksX0_replay_1 6 rfl rfl)
theorem dX0_replay_31 : decode cX0_replay 31 = .ok (.iconst 0, 1) := dk_3 (dk_at dksX0_replay_1 8 rfl rfl)
theorem dX0_replay_32 : decode cX0_replay 32 = .ok (.iconst 3, 1) := dk_6 (dk_at dksX0_replay_1 9 rfl rfl)
theorem dX0_replay_33 : decode cX0_replay 33 = .ok (.invokestatic 121, 3) := dk_184 0 121 (dk_at dksX0_replay_1 10 rfl rfl)
theorem dX0_replay_36 : decode cX0_replay 36 = .ok (.ifCond .ne 5, 3) := dk_154 0 5 (dk_at dksX0_replay_1 13 rfl rfl)
theorem dX0_replay_39 : decode cX0_replay 39 = .ok (.iconst (-1), 1) := dk_2 (dk_at dksX0_replay_1 16 rfl rfl)
theorem dX0_replay_40 : decode cX0_replay 40 = .ok (.ireturn, 1) := dk_172 (dk_at dksX0_replay_1 17 rfl rfl)
theorem dX0_replay_41 : decode cX0_replay 41 = .ok (.iconst 0, 1) := dk_3 (dk_at dksX0_replay_1 18 rfl rfl)
theorem dX0_replay_42 : decode cX0_replay 42 = .ok (.istore 5, 2) := dk_54 5 (dk_at dksX0_replay_1 19 rfl rfl)
theorem dX0_replay_44 : decode cX0_replay 44 = .ok (.iconst (-1), 1) := dk_2 (dk_at dksX0_replay_1 21 rfl rfl)
theorem dX0_replay_45 : decode cX0_replay 45 = .ok (.istore 6, 2) := dk_54 6 (dk_at dksX0_replay_1 22 rfl rfl)
theorem dX0_replay_47 : decode cX0_replay 47 = .ok (.iconst 0, 1) := dk_3 (dk_at dksX0_replay_2 0 rfl rfl)
theorem dX0_replay_48 : decode cX0_replay 48 = .ok (.istore 7, 2) := dk_54 7 (dk_at dksX0_replay_2 1 rfl rfl)
theorem dX0_replay_50 : decode cX0_replay 50 = .ok (.sipush 2000, 3) := dk_17 7 208 (dk_at dksX0_replay_2 3 rfl rfl)
theorem dX0_replay_53 : decode cX0_replay 53 = .ok (.istore 8, 2) := dk_54 8 (dk_at dksX0_replay_2 6 rfl rfl)
theorem dX0_replay_55 : decode cX0_replay 55 = .ok (.iconst 0, 1) := dk_3 (dk_at dksX0_replay_2 8 rfl rfl)
theorem dX0_replay_56 : decode cX0_replay 56 = .ok (.istore 9, 2) := dk_54 9 (dk_at dksX0_replay_2 9 rfl rfl)
theorem dX0_replay_58 : decode cX0_replay 58 = .ok (.iconst 0, 1) := dk_3 (dk_at dksX0_replay_2 11 rfl rfl)
theorem dX0_replay_59 : decode cX0_replay 59 = .ok (.istore 10, 2) := dk_54 10 (dk_at dksX0_replay_2 12 rfl rfl)
theorem dX0_replay_61 : decode cX0_replay 61 = .ok (.iload 10, 2) := dk_21 10 (dk_at dksX0_replay_2 14 rfl rfl)
theorem dX0_replay_63 : decode cX0_replay 63 = .ok (.iconst 1, 1) := dk_4 (dk_at dksX0_replay_2 16 rfl rfl)
theorem dX0_replay_64 : decode cX0_replay 64 = .ok (.iload_n 3, 1) := dk_29 (dk_at dksX0_replay_2 17 rfl rfl)
theorem dX0_replay_65 : decode cX0_replay 65 = .ok (.ishl, 1) := dk_120 (dk_at dksX0_replay_2 18 rfl rfl)
theorem dX0_replay_66 : decode cX0_replay 66 = .ok (.if_icmp .ge 107, 3) := dk_162 0 107 (dk_at dksX0_replay_2 19 rfl rfl)
theorem dX0_replay_69 : decode cX0_replay 69 = .ok (.aload_n 0, 1) := dk_42 (dk_at dksX0_replay_2 22 rfl rfl)
theorem dX0_replay_70 : decode cX0_replay 70 = .ok (.iload_n 1, 1) := dk_27 (dk_at dksX0_replay_2 23 rfl rfl)
theorem dX0_replay_71 : decode cX0_replay 71 = .ok (.iload_n 2, 1) := dk_28 (dk_at dksX0_replay_3 0 rfl rfl)
theorem dX0_replay_72 : decode cX0_replay 72 = .ok (.iload_n 3, 1) := dk_29 (dk_at dksX0_replay_3 1 rfl rfl)
theorem dX0_replay_73 : decode cX0_replay 73 = .ok (.iload 10, 2) := dk_21 10 (dk_at dksX0_replay_3 2 rfl rfl)
theorem dX0_replay_75 : decode cX0_replay 75 = .ok (.invokevirtual 253, 3) := dk_182 0 253 (dk_at dksX0_replay_3 4 rfl rfl)
theorem dX0_replay_78 : decode cX0_replay 78 = .ok (.iload 10, 2) := dk_21 10 (dk_at dksX0_replay_3 7 rfl rfl)
theorem dX0_replay_80 : decode cX0_replay 80 = .ok (.ifCond .ne 20, 3) := dk_154 0 20 (dk_at dksX0_replay_3 9 rfl rfl)
theorem dX0_replay_83 : decode cX0_replay 83 = .ok (.aload_n 0, 1) := dk_42 (dk_at dksX0_replay_3 12 rfl rfl)
theorem dX0_replay_84 : decode cX0_replay 84 = .ok (.getfield 43, 3) := dk_180 0 43 (dk_at dksX0_replay_3 13 rfl rfl)
theorem dX0_replay_87 : decode cX0_replay 87 = .ok (.aload_n 0, 1) := dk_42 (dk_at dksX0_replay_3 16 rfl rfl)
theorem dX0_replay_88 : decode cX0_replay 88 = .ok (.getfield 68, 3) := dk_180 0 68 (dk_at dksX0_replay_3 17 rfl rfl)
theorem dX0_replay_91 : decode cX0_replay 91 = .ok (.aload_n 0, 1) := dk_42 (dk_at dksX0_replay_3 20 rfl rfl)
theorem dX0_replay_92 : decode cX0_replay 92 = .ok (.getfield 71, 3) := dk_180 0 71 (dk_at dksX0_replay_3 21 rfl rfl)
theorem dX0_replay_95 : decode cX0_replay 95 = .ok (.invokevirtual 153, 3) := dk_182 0 153 (dk_at dksX0_replay_4 0 rfl rfl)
theorem dX0_replay_98 : decode cX0_replay 98 = .ok (.istore 9, 2) := dk_54 9 (dk_at dksX0_replay_4 3 rfl rfl)
theorem dX0_replay_100 : decode cX0_replay 100 = .ok (.iload 5, 2) := dk_21 5 (dk_at dksX0_replay_4 5 rfl rfl)
theorem dX0_replay_102 : decode cX0_replay 102 = .ok (.aload_n 0, 1) := dk_42 (dk_at dksX0_replay_4 7 rfl rfl)
theorem dX0_replay_103 : decode cX0_replay 103 = .ok (.iload 9, 2) := dk_21 9 (dk_at dksX0_replay_4 8 rfl rfl)
theorem dX0_replay_105 : decode cX0_replay 105 = .ok (.invokevirtual 257, 3) := dk_182 1 1 (dk_at dksX0_replay_4 10 rfl rfl)
theorem dX0_replay_108 : decode cX0_replay 108 = .ok (.ifCond .eq 7, 3) := dk_153 0 7 (dk_at dksX0_replay_4 13 rfl rfl)
theorem dX0_replay_111 : decode cX0_replay 111 = .ok (.iconst 1, 1) := dk_4 (dk_at dksX0_replay_4 16 rfl rfl)
theorem dX0_replay_112 : decode cX0_replay 112 = .ok (.goto 4, 3) := dk_167 0 4 (dk_at dksX0_replay_4 17 rfl rfl)
theorem dX0_replay_115 : decode cX0_replay 115 = .ok (.iconst 0, 1) := dk_3 (dk_at dksX0_replay_4 20 rfl rfl)
theorem dX0_replay_116 : decode cX0_replay 116 = .ok (.iadd, 1) := dk_96 (dk_at dksX0_replay_4 21 rfl rfl)
theorem dX0_replay_117 : decode cX0_replay 117 = .ok (.istore 5, 2) := dk_54 5 (dk_at dksX0_replay_4 22 rfl rfl)
theorem dX0_replay_119 : decode cX0_replay 119 = .ok (.iload 8, 2) := dk_21 8 (dk_at dksX0_replay_5 0 rfl rfl)
theorem dX0_replay_121 : decode cX0_replay 121 = .ok (.aload_n 0, 1) := dk_42 (dk_at dksX0_replay_5 2 rfl rfl)
theorem dX0_replay_122 : decode cX0_replay 122 = .ok (.getfield 43, 3) := dk_180 0 43 (dk_at dksX0_replay_5 3 rfl rfl)
theorem dX0_replay_125 : decode cX0_replay 125 = .ok (.getfield 128, 3) := dk_180 0 128 (dk_at dksX0_replay_5 6 rfl rfl)
theorem dX0_replay_128 : decode cX0_replay 128 = .ok (.aload_n 0, 1) := dk_42 (dk_at dksX0_replay_5 9 rfl rfl)
theorem dX0_replay_129 : decode cX0_replay 129 = .ok (.getfield 39, 3) := dk_180 0 39 (dk_at dksX0_replay_5 10 rfl rfl)
theorem dX0_replay_132 : decode cX0_replay 132 = .ok (.getfield 128, 3) := dk_180 0 128 (dk_at dksX0_replay_5 13 rfl rfl)
theorem dX0_replay_135 : decode cX0_replay 135 = .ok (.isub, 1) := dk_100 (dk_at dksX0_replay_5 16 rfl rfl)
theorem dX0_replay_136 : decode cX0_replay 136 = .ok (.invokestatic 260, 3) := dk_184 1 4 (dk_at dksX0_replay_5 17 rfl rfl)
theorem dX0_replay_139 : decode cX0_replay 139 = .ok (.istore 8, 2) := dk_54 8 (dk_at dksX0_replay_5 20 rfl rfl)
theorem dX0_replay_141 : decode cX0_replay 141 = .ok (.aload_n 0, 1) := dk_42 (dk_at dksX0_replay_5 22 rfl rfl)
theorem dX0_replay_142 : decode cX0_replay 142 = .ok (.iload_n 1, 1) := dk_27 (dk_at dksX0_replay_5 23 rfl rfl)
theorem dX0_replay_143 : decode cX0_replay 143 = .ok (.iload_n 2, 1) := dk_28 (dk_at dksX0_replay_6 0 rfl rfl)
theorem dX0_replay_144 : decode cX0_replay 144 = .ok (.invokevirtual 266, 3) := dk_182 1 10 (dk_at dksX0_replay_6 1 rfl rfl)
theorem dX0_replay_147 : decode cX0_replay 147 = .ok (.iload 6, 2) := dk_21 6 (dk_at dksX0_replay_6 4 rfl rfl)
theorem dX0_replay_149 : decode cX0_replay 149 = .ok (.if_icmp .gt 6, 3) := dk_163 0 6 (dk_at dksX0_replay_6 6 rfl rfl)
theorem dX0_replay_152 : decode cX0_replay 152 = .ok (.goto 15, 3) := dk_167 0 15 (dk_at dksX0_replay_6 9 rfl rfl)
theorem dX0_replay_155 : decode cX0_replay 155 = .ok (.aload_n 0, 1) := dk_42 (dk_at dksX0_replay_6 12 rfl rfl)
theorem dX0_replay_156 : decode cX0_replay 156 = .ok (.iload_n 1, 1) := dk_27 (dk_at dksX0_replay_6 13 rfl rfl)
theorem dX0_replay_157 : decode cX0_replay 157 = .ok (.iload_n 2, 1) := dk_28 (dk_at dksX0_replay_6 14 rfl rfl)
theorem dX0_replay_158 : decode cX0_replay 158 = .ok (.invokevirtual 266, 3) := dk_182 1 10 (dk_at dksX0_replay_6 15 rfl rfl)
theorem dX0_replay_161 : decode cX0_replay 161 = .ok (.istore 6, 2) := dk_54 6 (dk_at dksX0_replay_6 18 rfl rfl)
theorem dX0_replay_163 : decode cX0_replay 163 = .ok (.iload 10, 2) := dk_21 10 (dk_at dksX0_replay_6 20 rfl rfl)
theorem dX0_replay_165 : decode cX0_replay 165 = .ok (.istore 7, 2) := dk_54 7 (dk_at dksX0_replay_6 22 rfl rfl)
theorem dX0_replay_167 : decode cX0_replay 167 = .ok (.iinc 10 1, 3) := dk_132 10 1 (dk_at dksX0_replay_7 0 rfl rfl)
theorem dX0_replay_170 : decode cX0_replay 170 = .ok (.goto (-109), 3) := dk_167 255 147 (dk_at dksX0_replay_7 3 rfl rfl)
theorem dX0_replay_173 : decode cX0_replay 173 = .ok (.iload 4, 2) := dk_21 4 (dk_at dksX0_replay_7 6 rfl rfl)
theorem dX0_replay_175 : decode cX0_replay 175 = .ok (.ifCond .ne 8, 3) := dk_154 0 8 (dk_at dksX0_replay_7 8 rfl rfl)
theorem dX0_replay_178 : decode cX0_replay 178 = .ok (.iload 5, 2) := dk_21 5 (dk_at dksX0_replay_7 11 rfl rfl)
theorem dX0_replay_180 : decode cX0_replay 180 = .ok (.goto 27, 3) := dk_167 0 27 (dk_at dksX0_replay_7 13 rfl rfl)
theorem dX0_replay_183 : decode cX0_replay 183 = .ok (.iload 4, 2) := dk_21 4 (dk_at dksX0_replay_7 16 rfl rfl)
theorem dX0_replay_185 : decode cX0_replay 185 = .ok (.iconst 1, 1) := dk_4 (dk_at dksX0_replay_7 18 rfl rfl)
theorem dX0_replay_186 : decode cX0_replay 186 = .ok (.if_icmp .ne 8, 3) := dk_160 0 8 (dk_at dksX0_replay_7 19 rfl rfl)
theorem dX0_replay_189 : decode cX0_replay 189 = .ok (.iload 6, 2) := dk_21 6 (dk_at dksX0_replay_7 22 rfl rfl)
theorem dX0_replay_191 : decode cX0_replay 191 = .ok (.goto 16, 3) := dk_167 0 16 (dk_at dksX0_replay_8 0 rfl rfl)
theorem dX0_replay_194 : decode cX0_replay 194 = .ok (.iload 4, 2) := dk_21 4 (dk_at dksX0_replay_8 3 rfl rfl)
theorem dX0_replay_196 : decode cX0_replay 196 = .ok (.iconst 2, 1) := dk_5 (dk_at dksX0_replay_8 5 rfl rfl)
theorem dX0_replay_197 : decode cX0_replay 197 = .ok (.if_icmp .ne 8, 3) := dk_160 0 8 (dk_at dksX0_replay_8 6 rfl rfl)
theorem dX0_replay_200 : decode cX0_replay 200 = .ok (.iload 7, 2) := dk_21 7 (dk_at dksX0_replay_8 9 rfl rfl)
theorem dX0_replay_202 : decode cX0_replay 202 = .ok (.goto 5, 3) := dk_167 0 5 (dk_at dksX0_replay_8 11 rfl rfl)
theorem dX0_replay_205 : decode cX0_replay 205 = .ok (.iload 8, 2) := dk_21 8 (dk_at dksX0_replay_8 14 rfl rfl)
theorem dX0_replay_207 : decode cX0_replay 207 = .ok (.ireturn, 1) := dk_172 (dk_at dksX0_replay_8 16 rfl rfl)
abbrev cX0_replays : ByteArray := prog_1_method_30_code
def yX0_replays : MethodName := ⟨RX0, "replays", "(IIII)V"⟩
def dkwX0_replays_2 : List UInt8 := [167, 255, 224, 42, 180, 0, 43, 27, 182, 0, 146, 87, 42, 180, 0, 43, 28, 182, 0, 146, 87, 177]
abbrev dktX0_replays_2 : List UInt8 := dkwX0_replays_2 ++ []
def dkwX0_replays_1 : List UInt8 := [21, 4, 21, 5, 122, 4, 126, 154, 0, 7, 27, 167, 0, 4, 28, 182, 0, 142, 87, 132, 5, 1]
abbrev dktX0_replays_1 : List UInt8 := dkwX0_replays_1 ++ dktX0_replays_2
def dkwX0_replays_0 : List UInt8 := [42, 180, 0, 43, 42, 180, 0, 39, 182, 0, 250, 3, 54, 5, 21, 5, 29, 162, 0, 32, 42, 180, 0, 43]
abbrev dktX0_replays_0 : List UInt8 := dkwX0_replays_0 ++ dktX0_replays_1
theorem dksX0_replays_0 : cX0_replays.data.toList.drop 0 = dktX0_replays_0 := by decide +kernel
theorem dksX0_replays_1 : cX0_replays.data.toList.drop 24 = dktX0_replays_1 := dk_seg dksX0_replays_0 24 rfl rfl
theorem dksX0_replays_2 : cX0_replays.data.toList.drop 46 = dktX0_replays_2 := dk_seg dksX0_replays_1 22 rfl rfl
theorem dX0_replays_0 : decode cX0_replays 0 = .ok (.aload_n 0, 1) := dk_42 (dk_at dksX0_replays_0 0 rfl rfl)
theorem dX0_replays_1 : decode cX0_replays 1 = .ok (.getfield 43, 3) := dk_180 0 43 (dk_at dksX0_replays_0 1 rfl rfl)
theorem dX0_replays_4 : decode cX0_replays 4 = .ok (.aload_n 0, 1) := dk_42 (dk_at dksX0_replays_0 4 rfl rfl)
theorem dX0_replays_5 : decode cX0_replays 5 = .ok (.getfield 39, 3) := dk_180 0 39 (dk_at dksX0_replays_0 5 rfl rfl)
theorem dX0_replays_8 : decode cX0_replays 8 = .ok (.invokevirtual 250, 3) := dk_182 0 250 (dk_at dksX0_replays_0 8 rfl rfl)
theorem dX0_replays_11 : decode cX0_replays 11 = .ok (.iconst 0, 1) := dk_3 (dk_at dksX0_replays_0 11 rfl rfl)
theorem dX0_replays_12 : decode cX0_replays 12 = .ok (.istore 5, 2) := dk_54 5 (dk_at dksX0_replays_0 12 rfl rfl)
theorem dX0_replays_14 : decode cX0_replays 14 = .ok (.iload 5, 2) := dk_21 5 (dk_at dksX0_replays_0 14 rfl rfl)
theorem dX0_replays_16 : decode cX0_replays 16 = .ok (.iload_n 3, 1) := dk_29 (dk_at dksX0_replays_0 16 rfl rfl)
theorem dX0_replays_17 : decode cX0_replays 17 = .ok (.if_icmp .ge 32, 3) := dk_162 0 32 (dk_at dksX0_replays_0 17 rfl rfl)
theorem dX0_replays_20 : decode cX0_replays 20 = .ok (.aload_n 0, 1) := dk_42 (dk_at dksX0_replays_0 20 rfl rfl)
theorem dX0_replays_21 : decode cX0_replays 21 = .ok (.getfield 43, 3) := dk_180 0 43 (dk_at dksX0_replays_0 21 rfl rfl)
theorem dX0_replays_24 : decode cX0_replays 24 = .ok (.iload 4, 2) := dk_21 4 (dk_at dksX0_replays_1 0 rfl rfl)
theorem dX0_replays_26 : decode cX0_replays 26 = .ok (.iload 5, 2) := dk_21 5 (dk_at dksX0_replays_1 2 rfl rfl)
theorem dX0_replays_28 : decode cX0_replays 28 = .ok (.ishr, 1) := dk_122 (dk_at dksX0_replays_1 4 rfl rfl)
theorem dX0_replays_29 : decode cX0_replays 29 = .ok (.iconst 1, 1) := dk_4 (dk_at dksX0_replays_1 5 rfl rfl)
theorem dX0_replays_30 : decode cX0_replays 30 = .ok (.iand, 1) := dk_126 (dk_at dksX0_replays_1 6 rfl rfl)
theorem dX0_replays_31 : decode cX0_replays 31 = .ok (.ifCond .ne 7, 3) := dk_154 0 7 (dk_at dksX0_replays_1 7 rfl rfl)
theorem dX0_replays_34 : decode cX0_replays 34 = .ok (.iload_n 1, 1) := dk_27 (dk_at dksX0_replays_1 10 rfl rfl)
theorem dX0_replays_35 : decode cX0_replays 35 = .ok (.goto 4, 3) := dk_167 0 4 (dk_at dksX0_replays_1 11 rfl rfl)
theorem dX0_replays_38 : decode cX0_replays 38 = .ok (.iload_n 2, 1) := dk_28 (dk_at dksX0_replays_1 14 rfl rfl)
theorem dX0_replays_39 : decode cX0_replays 39 = .ok (.invokevirtual 142, 3) := dk_182 0 142 (dk_at dksX0_replays_1 15 rfl rfl)
theorem dX0_replays_42 : decode cX0_replays 42 = .ok (.pop, 1) := dk_87 (dk_at dksX0_replays_1 18 rfl rfl)
theorem dX0_replays_43 : decode cX0_replays 43 = .ok (.iinc 5 1, 3) := dk_132 5 1 (dk_at dksX0_replays_1 19 rfl rfl)
theorem dX0_replays_46 : decode cX0_replays 46 = .ok (.goto (-32), 3) := dk_167 255 224 (dk_at dksX0_replays_2 0 rfl rfl)
theorem dX0_replays_49 : decode cX0_replays 49 = .ok (.aload_n 0, 1) := dk_42 (dk_at dksX0_replays_2 3 rfl rfl)
theorem dX0_replays_50 : decode cX0_replays 50 = .ok (.getfield 43, 3) := dk_180 0 43 (dk_at dksX0_replays_2 4 rfl rfl)
theorem dX0_replays_53 : decode cX0_replays 53 = .ok (.iload_n 1, 1) := dk_27 (dk_at dksX0_replays_2 7 rfl rfl)
theorem dX0_replays_54 : decode cX0_replays 54 = .ok (.invokevirtual 146, 3) := dk_182 0 146 (dk_at dksX0_replays_2 8 rfl rfl)
theorem dX0_replays_57 : decode cX0_replays 57 = .ok (.pop, 1) := dk_87 (dk_at dksX0_replays_2 11 rfl rfl)
theorem dX0_replays_58 : decode cX0_replays 58 = .ok (.aload_n 0, 1) := dk_42 (dk_at dksX0_replays_2 12 rfl rfl)
theorem dX0_replays_59 : decode cX0_replays 59 = .ok (.getfield 43, 3) := dk_180 0 43 (dk_at dksX0_replays_2 13 rfl rfl)
theorem dX0_replays_62 : decode cX0_replays 62 = .ok (.iload_n 2, 1) := dk_28 (dk_at dksX0_replays_2 16 rfl rfl)
theorem dX0_replays_63 : decode cX0_replays 63 = .ok (.invokevirtual 146, 3) := dk_182 0 146 (dk_at dksX0_replays_2 17 rfl rfl)
theorem dX0_replays_66 : decode cX0_replays 66 = .ok (.pop, 1) := dk_87 (dk_at dksX0_replays_2 20 rfl rfl)
theorem dX0_replays_67 : decode cX0_replays 67 = .ok (.return_, 1) := dk_177 (dk_at dksX0_replays_2 21 rfl rfl)
abbrev cX0_isAsFirst : ByteArray := prog_1_method_31_code
def yX0_isAsFirst : MethodName := ⟨RX0, "isAsFirst", "(I)Z"⟩
def dkwX0_isAsFirst_3 : List UInt8 := [46, 160, 0, 7, 4, 167, 0, 4, 3, 62, 132, 4, 1, 167, 255, 203, 29, 172]
abbrev dktX0_isAsFirst_3 : List UInt8 := dkwX0_isAsFirst_3 ++ []
def dkwX0_isAsFirst_2 : List UInt8 := [46, 42, 180, 0, 68, 21, 4, 46, 160, 0, 24, 42, 180, 0, 65, 21, 4, 46, 42, 180, 0, 71, 21, 4]
abbrev dktX0_isAsFirst_2 : List UInt8 := dkwX0_isAsFirst_2 ++ dktX0_isAsFirst_3
def dkwX0_isAsFirst_1 : List UInt8 := [167, 0, 4, 3, 62, 3, 54, 4, 21, 4, 28, 162, 0, 53, 29, 153, 0, 49, 42, 180, 0, 61, 21, 4]
abbrev dktX0_isAsFirst_1 : List UInt8 := dkwX0_isAsFirst_1 ++ dktX0_isAsFirst_2
def dkwX0_isAsFirst_0 : List UInt8 := [42, 180, 0, 43, 42, 180, 0, 61, 42, 180, 0, 65, 182, 0, 153, 61, 28, 27, 160, 0, 7, 4]
abbrev dktX0_isAsFirst_0 : List UInt8 := dkwX0_isAsFirst_0 ++ dktX0_isAsFirst_1
theorem dksX0_isAsFirst_0 : cX0_isAsFirst.data.toList.drop 0 = dktX0_isAsFirst_0 := by decide +kernel
theorem dksX0_isAsFirst_1 : cX0_isAsFirst.data.toList.drop 22 = dktX0_isAsFirst_1 := dk_seg dksX0_isAsFirst_0 22 rfl rfl
theorem dksX0_isAsFirst_2 : cX0_isAsFirst.data.toList.drop 46 = dktX0_isAsFirst_2 := dk_seg dksX0_isAsFirst_1 24 rfl rfl
theorem dksX0_isAsFirst_3 : cX0_isAsFirst.data.toList.drop 70 = dktX0_isAsFirst_3 := dk_seg dksX0_isAsFirst_2 24 rfl rfl
theorem dX0_isAsFirst_0 : decode cX0_isAsFirst 0 = .ok (.aload_n 0, 1) := dk_42 (dk_at dksX0_isAsFirst_0 0 rfl rfl)
theorem dX0_isAsFirst_1 : decode cX0_isAsFirst 1 = .ok (.getfield 43, 3) := dk_180 0 43 (dk_at dksX0_isAsFirst_0 1 rfl rfl)
theorem dX0_isAsFirst_4 : decode cX0_isAsFirst 4 = .ok (.aload_n 0, 1) := dk_42 (dk_at dksX0_isAsFirst_0 4 rfl rfl)
theorem dX0_isAsFirst_5 : decode cX0_isAsFirst 5 = .ok (.getfield 61, 3) := dk_180 0 61 (dk_at dksX0_isAsFirst_0 5 rfl rfl)
theorem dX0_isAsFirst_8 : decode cX0_isAsFirst 8 = .ok (.aload_n 0, 1) := dk_42 (dk_at dksX0_isAsFirst_0 8 rfl rfl)
theorem dX0_isAsFirst_9 : decode cX0_isAsFirst 9 = .ok (.getfield 65, 3) := dk_180 0 65 (dk_at dksX0_isAsFirst_0 9 rfl rfl)
theorem dX0_isAsFirst_12 : decode cX0_isAsFirst 12 = .ok (.invokevirtual 153, 3) := dk_182 0 153 (dk_at dksX0_isAsFirst_0 12 rfl rfl)
theorem dX0_isAsFirst_15 : decode cX0_isAsFirst 15 = .ok (.istore_n 2, 1) := dk_61 (dk_at dksX0_isAsFirst_0 15 rfl rfl)
theorem dX0_isAsFirst_16 : decode cX0_isAsFirst 16 = .ok (.iload_n 2, 1) := dk_28 (dk_at dksX0_isAsFirst_0 16 rfl rfl)
theorem dX0_isAsFirst_17 : decode cX0_isAsFirst 17 = .ok (.iload_n 1, 1) := dk_27 (dk_at dksX0_isAsFirst_0 17 rfl rfl)
theorem dX0_isAsFirst_18 : decode cX0_isAsFirst 18 = .ok (.if_icmp .ne 7, 3) := dk_160 0 7 (dk_at dksX0_isAsFirst_0 18 rfl rfl)
theorem dX0_isAsFirst_21 : decode cX0_isAsFirst 21 = .ok (.iconst 1, 1) := dk_4 (dk_at dksX0_isAsFirst_0 21 rfl rfl)
theorem dX0_isAsFirst_22 : decode cX0_isAsFirst 22 = .ok (.goto 4, 3) := dk_167 0 4 (dk_at dksX0_isAsFirst_1 0 rfl rfl)
theorem dX0_isAsFirst_25 : decode cX0_isAsFirst 25 = .ok (.iconst 0, 1) := dk_3 (dk_at dksX0_isAsFirst_1 3 rfl rfl)
theorem dX0_isAsFirst_26 : decode cX0_isAsFirst 26 = .ok (.istore_n 3, 1) := dk_62 (dk_at dksX0_isAsFirst_1 4 rfl rfl)
theorem dX0_isAsFirst_27 : decode cX0_isAsFirst 27 = .ok (.iconst 0, 1) := dk_3 (dk_at dksX0_isAsFirst_1 5 rfl rfl)
theorem dX0_isAsFirst_28 : decode cX0_isAsFirst 28 = .ok (.istore 4, 2) := dk_54 4 (dk_at dksX0_isAsFirst_1 6 rfl rfl)
theorem dX0_isAsFirst_30 : decode cX0_isAsFirst 30 = .ok (.iload 4, 2) := dk_21 4 (dk_at dksX0_isAsFirst_1 8 rfl rfl)
theorem dX0_isAsFirst_32 : decode cX0_isAsFirst 32 = .ok (.iload_n 2, 1) := dk_28 (dk_at dksX0_isAsFirst_1 10 rfl rfl)
theorem dX0_isAsFirst_33 : decode cX0_isAsFirst 33 = .ok (.if_icmp .ge 53, 3) := dk_162 0 53 (dk_at dksX0_isAsFirst_1 11 rfl rfl)
theorem dX0_isAsFirst_36 : decode cX0_isAsFirst 36 = .ok (.iload_n 3, 1) := dk_29 (dk_at dksX0_isAsFirst_1 14 rfl rfl)
theorem dX0_isAsFirst_37 : decode cX0_isAsFirst 37 = .ok (.ifCond .eq 49, 3) := dk_153 0 49 (dk_at dksX0_isAsFirst_1 15 rfl rfl)
theorem dX0_isAsFirst_40 : decode cX0_isAsFirst 40 = .ok (.aload_n 0, 1) := dk_42 (dk_at dksX0_isAsFirst_1 18 rfl rfl)
theorem dX0_isAsFirst_41 : decode cX0_isAsFirst 41 = .ok (.getfield 61, 3) := dk_180 0 61 (dk_at dksX0_isAsFirst_1 19 rfl rfl)
theorem dX0_isAsFirst_44 : decode cX0_isAsFirst 44 = .ok (.iload 4, 2) := dk_21 4 (dk_at dksX0_isAsFirst_1 22 rfl rfl)
theorem dX0_isAsFirst_46 : decode cX0_isAsFirst 46 = .ok (.iaload, 1) := dk_46 (dk_at dksX0_isAsFirst_2 0 rfl rfl)
theorem dX0_isAsFirst_47 : decode cX0_isAsFirst 47 = .ok (.aload_n 0, 1) := dk_42 (dk_at dksX0_isAsFirst_2 1 rfl rfl)
theorem dX0_isAsFirst_48 : decode cX0_isAsFirst 48 = .ok (.getfield 68, 3) := dk_180 0 68 (dk_at dksX0_isAsFirst_2 2 rfl rfl)
theorem dX0_isAsFirst_51 : decode cX0_isAsFirst 51 = .ok (.iload 4, 2) := dk_21 4 (dk_at dksX0_isAsFirst_2 5 rfl rfl)
theorem dX0_isAsFirst_53 : decode cX0_isAsFirst 53 = .ok (.iaload, 1) := dk_46 (dk_at dksX0_isAsFirst_2 7 rfl rfl)
theorem dX0_isAsFirst_54 : decode cX0_isAsFirst 54 = .ok (.if_icmp .ne 24, 3) := dk_160 0 24 (dk_at dksX0_isAsFirst_2 8 rfl rfl)
theorem dX0_isAsFirst_57 : decode cX0_isAsFirst 57 = .ok (.aload_n 0, 1) := dk_42 (dk_at dksX0_isAsFirst_2 11 rfl rfl)
theorem dX0_isAsFirst_58 : decode cX0_isAsFirst 58 = .ok (.getfield 65, 3) := dk_180 0 65 (dk_at dksX0_isAsFirst_2 12 rfl rfl)
theorem dX0_isAsFirst_61 : decode cX0_isAsFirst 61 = .ok (.iload 4, 2) := dk_21 4 (dk_at dksX0_isAsFirst_2 15 rfl rfl)
theorem dX0_isAsFirst_63 : decode cX0_isAsFirst 63 = .ok (.iaload, 1) := dk_46 (dk_at dksX0_isAsFirst_2 17 rfl rfl)
theorem dX0_isAsFirst_64 : decode cX0_isAsFirst 64 = .ok (.aload_n 0, 1) := dk_42 (dk_at dksX0_isAsFirst_2 18 rfl rfl)
theorem dX0_isAsFirst_65 : decode cX0_isAsFirst 65 = .ok (.getfield 71, 3) := dk_180 0 71 (dk_at dksX0_isAsFirst_2 19 rfl rfl)
theorem dX0_isAsFirst_68 : decode cX0_isAsFirst 68 = .ok (.iload 4, 2) := dk_21 4 (dk_at dksX0_isAsFirst_2 22 rfl rfl)
theorem dX0_isAsFirst_70 : decode cX0_isAsFirst 70 = .ok (.iaload, 1) := dk_46 (dk_at dksX0_isAsFirst_3 0 rfl rfl)
theorem dX0_isAsFirst_71 : decode cX0_isAsFirst 71 = .ok (.if_icmp .ne 7, 3) := dk_160 0 7 (dk_at dksX0_isAsFirst_3 1 rfl rfl)
theorem dX0_isAsFirst_74 : decode cX0_isAsFirst 74 = .ok (.iconst 1, 1) := dk_4 (dk_at dksX0_isAsFirst_3 4 rfl rfl)
theorem dX0_isAsFirst_75 : decode cX0_isAsFirst 75 = .ok (.goto 4, 3) := dk_167 0 4 (dk_at dksX0_isAsFirst_3 5 rfl rfl)
theorem dX0_isAsFirst_78 : decode cX0_isAsFirst 78 = .ok (.iconst 0, 1) := dk_3 (dk_at dksX0_isAsFirst_3 8 rfl rfl)
theorem dX0_isAsFirst_79 : decode cX0_isAsFirst 79 = .ok (.istore_n 3, 1) := dk_62 (dk_at dksX0_isAsFirst_3 9 rfl rfl)
theorem dX0_isAsFirst_80 : decode cX0_isAsFirst 80 = .ok (.iinc 4 1, 3) := dk_132 4 1 (dk_at dksX0_isAsFirst_3 10 rfl rfl)
theorem dX0_isAsFirst_83 : decode cX0_isAsFirst 83 = .ok (.goto (-53), 3) := dk_167 255 203 (dk_at dksX0_isAsFirst_3 13 rfl rfl)
theorem dX0_isAsFirst_86 : decode cX0_isAsFirst 86 = .ok (.iload_n 3, 1) := dk_29 (dk_at dksX0_isAsFirst_3 16 rfl rfl)
theorem dX0_isAsFirst_87 : decode cX0_isAsFirst 87 = .ok (.ireturn, 1) := dk_172 (dk_at dksX0_isAsFirst_3 17 rfl rfl)
abbrev cX0_lostIn : ByteArray := prog_1_method_32_code
def yX0_lostIn : MethodName := ⟨RX0, "lostIn", "(II)I"⟩
def dkwX0_lostIn_2 : List UInt8 := [180, 0, 231, 100, 172]
abbrev dktX0_lostIn_2 : List UInt8 := dkwX0_lostIn_2 ++ []
def dkwX0_lostIn_1 : List UInt8 := [96, 42, 180, 0, 39, 180, 0, 218, 27, 50, 180, 0, 231, 100, 42, 180, 0, 39, 180, 0, 218, 28, 50]
abbrev dktX0_lostIn_1 : List UInt8 := dkwX0_lostIn_1 ++ dktX0_lostIn_2
def dkwX0_lostIn_0 : List UInt8 := [42, 180, 0, 43, 180, 0, 218, 27, 50, 180, 0, 231, 42, 180, 0, 43, 180, 0, 218, 28, 50, 180, 0, 231]
abbrev dktX0_lostIn_0 : List UInt8 := dkwX0_lostIn_0 ++ dktX0_lostIn_1
theorem dksX0_lostIn_0 : cX0_lostIn.data.toList.drop 0 = dktX0_lostIn_0 := by decide +kernel
theorem dksX0_lostIn_1 : cX0_lostIn.data.toList.drop 24 = dktX0_lostIn_1 := dk_seg dksX0_lostIn_0 24 rfl rfl
theorem dksX0_lostIn_2 : cX0_lostIn.data.toList.drop 47 = dktX0_lostIn_2 := dk_seg dksX0_lostIn_1 23 rfl rfl
theorem dX0_lostIn_0 : decode cX0_lostIn 0 = .ok (.aload_n 0, 1) := dk_42 (dk_at dksX0_lostIn_0 0 rfl rfl)
theorem dX0_lostIn_1 : decode cX0_lostIn 1 = .ok (.getfield 43, 3) := dk_180 0 43 (dk_at dksX0_lostIn_0 1 rfl rfl)
theorem dX0_lostIn_4 : decode cX0_lostIn 4 = .ok (.getfield 218, 3) := dk_180 0 218 (dk_at dksX0_lostIn_0 4 rfl rfl)
theorem dX0_lostIn_7 : decode cX0_lostIn 7 = .ok (.iload_n 1, 1) := dk_27 (dk_at dksX0_lostIn_0 7 rfl rfl)
theorem dX0_lostIn_8 : decode cX0_lostIn 8 = .ok (.aaload, 1) := dk_50 (dk_at dksX0_lostIn_0 8 rfl rfl)
theorem dX0_lostIn_9 : decode cX0_lostIn 9 = .ok (.getfield 231, 3) := dk_180 0 231 (dk_at dksX0_lostIn_0 9 rfl rfl)
theorem dX0_lostIn_12 : decode cX0_lostIn 12 = .ok (.aload_n 0, 1) := dk_42 (dk_at dksX0_lostIn_0 12 rfl rfl)
theorem dX0_lostIn_13 : decode cX0_lostIn 13 = .ok (.getfield 43, 3) := dk_180 0 43 (dk_at dksX0_lostIn_0 13 rfl rfl)
theorem dX0_lostIn_16 : decode cX0_lostIn 16 = .ok (.getfield 218, 3) := dk_180 0 218 (dk_at dksX0_lostIn_0 16 rfl rfl)
theorem dX0_lostIn_19 : decode cX0_lostIn 19 = .ok (.iload_n 2, 1) := dk_28 (dk_at dksX0_lostIn_0 19 rfl rfl)
theorem dX0_lostIn_20 : decode cX0_lostIn 20 = .ok (.aaload, 1) := dk_50 (dk_at dksX0_lostIn_0 20 rfl rfl)
theorem dX0_lostIn_21 : decode cX0_lostIn 21 = .ok (.getfield 231, 3) := dk_180 0 231 (dk_at dksX0_lostIn_0 21 rfl rfl)
theorem dX0_lostIn_24 : decode cX0_lostIn 24 = .ok (.iadd, 1) := dk_96 (dk_at dksX0_lostIn_1 0 rfl rfl)
theorem dX0_lostIn_25 : decode cX0_lostIn 25 = .ok (.aload_n 0, 1) := dk_42 (dk_at dksX0_lostIn_1 1 rfl rfl)
theorem dX0_lostIn_26 : decode cX0_lostIn 26 = .ok (.getfield 39, 3) := dk_180 0 39 (dk_at dksX0_lostIn_1 2 rfl rfl)
theorem dX0_lostIn_29 : decode cX0_lostIn 29 = .ok (.getfield 218, 3) := dk_180 0 218 (dk_at dksX0_lostIn_1 5 rfl rfl)
theorem dX0_lostIn_32 : decode cX0_lostIn 32 = .ok (.iload_n 1, 1) := dk_27 (dk_at dksX0_lostIn_1 8 rfl rfl)
theorem dX0_lostIn_33 : decode cX0_lostIn 33 = .ok (.aaload, 1) := dk_50 (dk_at dksX0_lostIn_1 9 rfl rfl)
theorem dX0_lostIn_34 : decode cX0_lostIn 34 = .ok (.getfield 231, 3) := dk_180 0 231 (dk_at dksX0_lostIn_1 10 rfl rfl)
theorem dX0_lostIn_37 : decode cX0_lostIn 37 = .ok (.isub, 1) := dk_100 (dk_at dksX0_lostIn_1 13 rfl rfl)
theorem dX0_lostIn_38 : decode cX0_lostIn 38 = .ok (.aload_n 0, 1) := dk_42 (dk_at dksX0_lostIn_1 14 rfl rfl)
theorem dX0_lostIn_39 : decode cX0_lostIn 39 = .ok (.getfield 39, 3) := dk_180 0 39 (dk_at dksX0_lostIn_1 15 rfl rfl)
theorem dX0_lostIn_42 : decode cX0_lostIn 42 = .ok (.getfield 218, 3) := dk_180 0 218 (dk_at dksX0_lostIn_1 18 rfl rfl)
theorem dX0_lostIn_45 : decode cX0_lostIn 45 = .ok (.iload_n 2, 1) := dk_28 (dk_at dksX0_lostIn_1 21 rfl rfl)
theorem dX0_lostIn_46 : decode cX0_lostIn 46 = .ok (.aaload, 1) := dk_50 (dk_at dksX0_lostIn_1 22 rfl rfl)
theorem dX0_lostIn_47 : decode cX0_lostIn 47 = .ok (.getfield 231, 3) := dk_180 0 231 (dk_at dksX0_lostIn_2 0 rfl rfl)
theorem dX0_lostIn_50 : decode cX0_lostIn 50 = .ok (.isub, 1) := dk_100 (dk_at dksX0_lostIn_2 3 rfl rfl)
theorem dX0_lostIn_51 : decode cX0_lostIn 51 = .ok (.ireturn, 1) := dk_172 (dk_at dksX0_lostIn_2 4 rfl rfl)
abbrev cX0_hold : ByteArray := prog_1_method_34_code
def yX0_hold : MethodName := ⟨RX0, "hold", "(I)Z"⟩
def dkwX0_hold_1 : List UInt8 := [42, 180, 0, 57, 27, 4, 84, 4, 172]
abbrev dktX0_hold_1 : List UInt8 := dkwX0_hold_1 ++ []
def dkwX0_hold_0 : List UInt8 := [27, 3, 5, 184, 0, 121, 154, 0, 5, 3, 172, 42, 180, 0, 46, 27, 50, 42, 180, 0, 39, 182, 0, 250]
abbrev dktX0_hold_0 : List UInt8 := dkwX0_hold_0 ++ dktX0_hold_1
theorem dksX0_hold_0 : cX0_hold.data.toList.drop 0 = dktX0_hold_0 := by decide +kernel
theorem dksX0_hold_1 : cX0_hold.data.toList.drop 24 = dktX0_hold_1 := dk_seg dksX0_hold_0 24 rfl rfl
theorem dX0_hold_0 : decode cX0_hold 0 = .ok (.iload_n 1, 1) := dk_27 (dk_at dksX0_hold_0 0 rfl rfl)
theorem dX0_hold_1 : decode cX0_hold 1 = .ok (.iconst 0, 1) := dk_3 (dk_at dksX0_hold_0 1 rfl rfl)
theorem dX0_hold_2 : decode cX0_hold 2 = .ok (.iconst 2, 1) := dk_5 (dk_at dksX0_hold_0 2 rfl rfl)
theorem dX0_hold_3 : decode cX0_hold 3 = .ok (.invokestatic 121, 3) := dk_184 0 121 (dk_at dksX0_hold_0 3 rfl rfl)
theorem dX0_hold_6 : decode cX0_hold 6 = .ok (.ifCond .ne 5, 3) := dk_154 0 5 (dk_at dksX0_hold_0 6 rfl rfl)
theorem dX0_hold_9 : decode cX0_hold 9 = .ok (.iconst 0, 1) := dk_3 (dk_at dksX0_hold_0 9 rfl rfl)
theorem dX0_hold_10 : decode cX0_hold 10 = .ok (.ireturn, 1) := dk_172 (dk_at dksX0_hold_0 10 rfl rfl)
theorem dX0_hold_11 : decode cX0_hold 11 = .ok (.aload_n 0, 1) := dk_42 (dk_at dksX0_hold_0 11 rfl rfl)
theorem dX0_hold_12 : decode cX0_hold 12 = .ok (.getfield 46, 3) := dk_180 0 46 (dk_at dksX0_hold_0 12 rfl rfl)
theorem dX0_hold_15 : decode cX0_hold 15 = .ok (.iload_n 1, 1) := dk_27 (dk_at dksX0_hold_0 15 rfl rfl)
theorem dX0_hold_16 : decode cX0_hold 16 = .ok (.aaload, 1) := dk_50 (dk_at dksX0_hold_0 16 rfl rfl)
theorem dX0_hold_17 : decode cX0_hold 17 = .ok (.aload_n 0, 1) := dk_42 (dk_at dksX0_hold_0 17 rfl rfl)
theorem dX0_hold_18 : decode cX0_hold 18 = .ok (.getfield 39, 3) := dk_180 0 39 (dk_at dksX0_hold_0 18 rfl rfl)
theorem dX0_hold_21 : decode cX0_hold 21 = .ok (.invokevirtual 250, 3) := dk_182 0 250 (dk_at dksX0_hold_0 21 rfl rfl)
theorem dX0_hold_24 : decode cX0_hold 24 = .ok (.aload_n 0, 1) := dk_42 (dk_at dksX0_hold_1 0 rfl rfl)
theorem dX0_hold_25 : decode cX0_hold 25 = .ok (.getfield 57, 3) := dk_180 0 57 (dk_at dksX0_hold_1 1 rfl rfl)
theorem dX0_hold_28 : decode cX0_hold 28 = .ok (.iload_n 1, 1) := dk_27 (dk_at dksX0_hold_1 4 rfl rfl)
theorem dX0_hold_29 : decode cX0_hold 29 = .ok (.iconst 1, 1) := dk_4 (dk_at dksX0_hold_1 5 rfl rfl)
theorem dX0_hold_30 : decode cX0_hold 30 = .ok (.bastore, 1) := dk_84 (dk_at dksX0_hold_1 6 rfl rfl)
theorem dX0_hold_31 : decode cX0_hold 31 = .ok (.iconst 1, 1) := dk_4 (dk_at dksX0_hold_1 7 rfl rfl)
theorem dX0_hold_32 : decode cX0_hold 32 = .ok (.ireturn, 1) := dk_172 (dk_at dksX0_hold_1 8 rfl rfl)
abbrev cX0_restore : ByteArray := prog_1_method_35_code
def yX0_restore : MethodName := ⟨RX0, "restore", "(I)Z"⟩
def dkwX0_restore_1 : List UInt8 := [42, 180, 0, 46, 27, 50, 182, 0, 250, 4, 172]
abbrev dktX0_restore_1 : List UInt8 := dkwX0_restore_1 ++ []
def dkwX0_restore_0 : List UInt8 := [27, 3, 5, 184, 0, 121, 153, 0, 12, 42, 180, 0, 57, 27, 51, 154, 0, 5, 3, 172, 42, 180, 0, 39]
abbrev dktX0_restore_0 : List UInt8 := dkwX0_restore_0 ++ dktX0_restore_1
theorem dksX0_restore_0 : cX0_restore.data.toList.drop 0 = dktX0_restore_0 := by decide +kernel
theorem dksX0_restore_1 : cX0_restore.data.toList.drop 24 = dktX0_restore_1 := dk_seg dksX0_restore_0 24 rfl rfl
theorem dX0_restore_0 : decode cX0_restore 0 = .ok (.iload_n 1, 1) := dk_27 (dk_at dksX0_restore_0 0 rfl rfl)
theorem dX0_restore_1 : decode cX0_restore 1 = .ok (.iconst 0, 1) := dk_3 (dk_at dksX0_restore_0 1 rfl rfl)
theorem dX0_restore_2 : decode cX0_restore 2 = .ok (.iconst 2, 1) := dk_5 (dk_at dksX0_restore_0 2 rfl rfl)
theorem dX0_restore_3 : decode cX0_restore 3 = .ok (.invokestatic 121, 3) := dk_184 0 121 (dk_at dksX0_restore_0 3 rfl rfl)
theorem dX0_restore_6 : decode cX0_restore 6 = .ok (.ifCond .eq 12, 3) := dk_153 0 12 (dk_at dksX0_restore_0 6 rfl rfl)
theorem dX0_restore_9 : decode cX0_restore 9 = .ok (.aload_n 0, 1) := dk_42 (dk_at dksX0_restore_0 9 rfl rfl)
theorem dX0_restore_10 : decode cX0_restore 10 = .ok (.getfield 57, 3) := dk_180 0 57 (dk_at dksX0_restore_0 10 rfl rfl)
theorem dX0_restore_13 : decode cX0_restore 13 = .ok (.iload_n 1, 1) := dk_27 (dk_at dksX0_restore_0 13 rfl rfl)
theorem dX0_restore_14 : decode cX0_restore 14 = .ok (.baload, 1) := dk_51 (dk_at dksX0_restore_0 14 rfl rfl)
theorem dX0_restore_15 : decode cX0_restore 15 = .ok (.ifCond .ne 5, 3) := dk_154 0 5 (dk_at dksX0_restore_0 15 rfl rfl)
theorem dX0_restore_18 : decode cX0_restore 18 = .ok (.iconst 0, 1) := dk_3 (dk_at dksX0_restore_0 18 rfl rfl)
theorem dX0_restore_19 : decode cX0_restore 19 = .ok (.ireturn, 1) := dk_172 (dk_at dksX0_restore_0 19 rfl rfl)
theorem dX0_restore_20 : decode cX0_restore 20 = .ok (.aload_n 0, 1) := dk_42 (dk_at dksX0_restore_0 20 rfl rfl)
theorem dX0_restore_21 : decode cX0_restore 21 = .ok (.getfield 39, 3) := dk_180 0 39 (dk_at dksX0_restore_0 21 rfl rfl)
theorem dX0_restore_24 : decode cX0_restore 24 = .ok (.aload_n 0, 1) := dk_42 (dk_at dksX0_restore_1 0 rfl rfl)
theorem dX0_restore_25 : decode cX0_restore 25 = .ok (.getfield 46, 3) := dk_180 0 46 (dk_at dksX0_restore_1 1 rfl rfl)
theorem dX0_restore_28 : decode cX0_restore 28 = .ok (.iload_n 1, 1) := dk_27 (dk_at dksX0_restore_1 4 rfl rfl)
theorem dX0_restore_29 : decode cX0_restore 29 = .ok (.aaload, 1) := dk_50 (dk_at dksX0_restore_1 5 rfl rfl)
theorem dX0_restore_30 : decode cX0_restore 30 = .ok (.invokevirtual 250, 3) := dk_182 0 250 (dk_at dksX0_restore_1 6 rfl rfl)
theorem dX0_restore_33 : decode cX0_restore 33 = .ok (.iconst 1, 1) := dk_4 (dk_at dksX0_restore_1 9 rfl rfl)
theorem dX0_restore_34 : decode cX0_restore 34 = .ok (.ireturn, 1) := dk_172 (dk_at dksX0_restore_1 10 rfl rfl)
abbrev cX0_count : ByteArray := prog_1_method_38_code
def yX0_count : MethodName := ⟨RX0, "count", "(I)I"⟩
def dkwX0_count_9 : List UInt8 := [167, 0, 4, 2, 172]
abbrev dktX0_count_9 : List UInt8 := dkwX0_count_9 ++ []
def dkwX0_count_8 : List UInt8 := [180, 0, 39, 180, 1, 29, 167, 0, 21, 42, 180, 0, 39, 180, 1, 32, 167, 0, 11, 42, 180, 0, 109]
abbrev dktX0_count_8 : List UInt8 := dkwX0_count_8 ++ dktX0_count_9
def dkwX0_count_7 : List UInt8 := [51, 153, 0, 7, 4, 167, 0, 4, 3, 96, 167, 0, 41, 42, 180, 0, 39, 180, 1, 26, 167, 0, 31, 42]
abbrev dktX0_count_7 : List UInt8 := dkwX0_count_7 ++ dktX0_count_8
def dkwX0_count_6 : List UInt8 := [167, 0, 4, 3, 42, 180, 0, 57, 4, 51, 153, 0, 7, 4, 167, 0, 4, 3, 96, 42, 180, 0, 57, 5]
abbrev dktX0_count_6 : List UInt8 := dkwX0_count_6 ++ dktX0_count_7
def dkwX0_count_5 : List UInt8 := [167, 0, 98, 42, 180, 0, 19, 180, 0, 81, 167, 0, 88, 42, 180, 0, 57, 3, 51, 153, 0, 7, 4]
abbrev dktX0_count_5 : List UInt8 := dkwX0_count_5 ++ dktX0_count_6
def dkwX0_count_4 : List UInt8 := [42, 4, 182, 1, 17, 167, 0, 115, 42, 182, 1, 20, 167, 0, 108, 42, 180, 0, 39, 182, 1, 23]
abbrev dktX0_count_4 : List UInt8 := dkwX0_count_4 ++ dktX0_count_5
def dkwX0_count_3 : List UInt8 := [180, 0, 125, 167, 0, 141, 42, 180, 0, 39, 180, 1, 16, 167, 0, 131, 42, 3, 182, 1, 17, 167, 0, 123]
abbrev dktX0_count_3 : List UInt8 := dkwX0_count_3 ++ dktX0_count_4
def dkwX0_count_2 : List UInt8 := [42, 180, 0, 39, 182, 1, 13, 167, 0, 161, 42, 180, 0, 39, 180, 0, 128, 167, 0, 151, 42, 180, 0, 39]
abbrev dktX0_count_2 : List UInt8 := dkwX0_count_2 ++ dktX0_count_3
def dkwX0_count_1 : List UInt8 := [170, 0, 0, 0, 0, 0, 238, 0, 0, 0, 0, 0, 0, 0, 13, 0, 0, 0, 71, 0, 0, 0, 81, 0, 0, 0, 91, 0, 0, 0, 101, 0, 0, 0, 111, 0, 0, 0, 119, 0, 0, 0, 127, 0, 0, 0, 134, 0, 0, 0, 144, 0, 0, 0, 154, 0, 0, 0, 201, 0, 0, 0, 211, 0, 0, 0, 221, 0, 0, 0, 231]
abbrev dktX0_count_1 : List UInt8 := dkwX0_count_1 ++ dktX0_count_2
def dkwX0_count_0 : List UInt8 := [27]
abbrev dktX0_count_0 : List UInt8 := dkwX0_count_0 ++ dktX0_count_1
theorem dksX0_count_0 : cX0_count.data.toList.drop 0 = dktX0_count_0 := by decide +kernel
theorem dksX0_count_1 : cX0_count.data.toList.drop 1 = dktX0_count_1 := dk_seg dksX0_count_0 1 rfl rfl
theorem dksX0_count_2 : cX0_count.data.toList.drop 72 = dktX0_count_2 := dk_seg dksX0_count_1 71 rfl rfl
theorem dksX0_count_3 : cX0_count.data.toList.drop 96 = dktX0_count_3 := dk_seg dksX0_count_2 24 rfl rfl
theorem dksX0_count_4 : cX0_count.data.toList.drop 120 = dktX0_count_4 := dk_seg dksX0_count_3 24 rfl rfl
theorem dksX0_count_5 : cX0_count.data.toList.drop 142 = dktX0_count_5 := dk_seg dksX0_count_4 22 rfl rfl
theorem dksX0_count_6 : cX0_count.data.toList.drop 165 = dktX0_count_6 := dk_seg dksX0_count_5 23 rfl rfl
theorem dksX0_count_7 : cX0_count.data.toList.drop 189 = dktX0_count_7 := dk_seg dksX0_count_6 24 rfl rfl
theorem dksX0_count_8 : cX0_count.data.toList.drop 213 = dktX0_count_8 := dk_seg dksX0_count_7 24 rfl rfl
theorem dksX0_count_9 : cX0_count.data.toList.drop 236 = dktX0_count_9 := dk_seg dksX0_count_8 23 rfl rfl
theorem dX0_count_0 : decode cX0_count 0 = .ok (.iload_n 1, 1) := dk_27 (dk_at dksX0_count_0 0 rfl rfl)
theorem dX0_count_1 : decode cX0_count 1 = .ok (.tableswitch 238 0 13 #[71, 81, 91, 101, 111, 119, 127, 134, 144, 154, 201, 211, 221, 231], 71) := by decide +kernel
theorem dX0_count_72 : decode cX0_count 72 = .ok (.aload_n 0, 1) := dk_42 (dk_at dksX0_count_2 0 rfl rfl)
theorem dX0_count_73 : decode cX0_count 73 = .ok (.getfield 39, 3) := dk_180 0 39 (dk_at dksX0_count_2 1 rfl rfl)
theorem dX0_count_76 : decode cX0_count 76 = .ok (.invokevirtual 269, 3) := dk_182 1 13 (dk_at dksX0_count_2 4 rfl rfl)
theorem dX0_count_79 : decode cX0_count 79 = .ok (.goto 161, 3) := dk_167 0 161 (dk_at dksX0_count_2 7 rfl rfl)
theorem dX0_count_82 : decode cX0_count 82 = .ok (.aload_n 0, 1) := dk_42 (dk_at dksX0_count_2 10 rfl rfl)
theorem dX0_count_83 : decode cX0_count 83 = .ok (.getfield 39, 3) := dk_180 0 39 (dk_at dksX0_count_2 11 rfl rfl)
theorem dX0_count_86 : decode cX0_count 86 = .ok (.getfield 128, 3) := dk_180 0 128 (dk_at dksX0_count_2 14 rfl rfl)
theorem dX0_count_89 : decode cX0_count 89 = .ok (.goto 151, 3) := dk_167 0 151 (dk_at dksX0_count_2 17 rfl rfl)
theorem dX0_count_92 : decode cX0_count 92 = .ok (.aload_n 0, 1) := dk_42 (dk_at dksX0_count_2 20 rfl rfl)
theorem dX0_count_93 : decode cX0_count 93 = .ok (.getfield 39, 3) := dk_180 0 39 (dk_at dksX0_count_2 21 rfl rfl)
theorem dX0_count_96 : decode cX0_count 96 = .ok (.getfield 125, 3) := dk_180 0 125 (dk_at dksX0_count_3 0 rfl rfl)
theorem dX0_count_99 : decode cX0_count 99 = .ok (.goto 141, 3) := dk_167 0 141 (dk_at dksX0_count_3 3 rfl rfl)
theorem dX0_count_102 : decode cX0_count 102 = .ok (.aload_n 0, 1) := dk_42 (dk_at dksX0_count_3 6 rfl rfl)
theorem dX0_count_103 : decode cX0_count 103 = .ok (.getfield 39, 3) := dk_180 0 39 (dk_at dksX0_count_3 7 rfl rfl)
theorem dX0_count_106 : decode cX0_count 106 = .ok (.getfield 272, 3) := dk_180 1 16 (dk_at dksX0_count_3 10 rfl rfl)
theorem dX0_count_109 : decode cX0_count 109 = .ok (.goto 131, 3) := dk_167 0 131 (dk_at dksX0_count_3 13 rfl rfl)
theorem dX0_count_112 : decode cX0_count 112 = .ok (.aload_n 0, 1) := dk_42 (dk_at dksX0_count_3 16 rfl rfl)
theorem dX0_count_113 : decode cX0_count 113 = .ok (.iconst 0, 1) := dk_3 (dk_at dksX0_count_3 17 rfl rfl)
theorem dX0_count_114 : decode cX0_count 114 = .ok (.invokevirtual 273, 3) := dk_182 1 17 (dk_at dksX0_count_3 18 rfl rfl)
theorem dX0_count_117 : decode cX0_count 117 = .ok (.goto 123, 3) := dk_167 0 123 (dk_at dksX0_count_3 21 rfl rfl)
theorem dX0_count_120 : decode cX0_count 120 = .ok (.aload_n 0, 1) := dk_42 (dk_at dksX0_count_4 0 rfl rfl)
theorem dX0_count_121 : decode cX0_count 121 = .ok (.iconst 1, 1) := dk_4 (dk_at dksX0_count_4 1 rfl rfl)
theorem dX0_count_122 : decode cX0_count 122 = .ok (.invokevirtual 273, 3) := dk_182 1 17 (dk_at dksX0_count_4 2 rfl rfl)
theorem dX0_count_125 : decode cX0_count 125 = .ok (.goto 115, 3) := dk_167 0 115 (dk_at dksX0_count_4 5 rfl rfl)
theorem dX0_count_128 : decode cX0_count 128 = .ok (.aload_n 0, 1) := dk_42 (dk_at dksX0_count_4 8 rfl rfl)
theorem dX0_count_129 : decode cX0_count 129 = .ok (.invokevirtual 276, 3) := dk_182 1 20 (dk_at dksX0_count_4 9 rfl rfl)
theorem dX0_count_132 : decode cX0_count 132 = .ok (.goto 108, 3) := dk_167 0 108 (dk_at dksX0_count_4 12 rfl rfl)
theorem dX0_count_135 : decode cX0_count 135 = .ok (.aload_n 0, 1) := dk_42 (dk_at dksX0_count_4 15 rfl rfl)
theorem dX0_count_136 : decode cX0_count 136 = .ok (.getfield 39, 3) := dk_180 0 39 (dk_at dksX0_count_4 16 rfl rfl)
theorem dX0_count_139 : decode cX0_count 139 = .ok (.invokevirtual 279, 3) := dk_182 1 23 (dk_at dksX0_count_4 19 rfl rfl)
theorem dX0_count_142 : decode cX0_count 142 = .ok (.goto 98, 3) := dk_167 0 98 (dk_at dksX0_count_5 0 rfl rfl)
theorem dX0_count_145 : decode cX0_count 145 = .ok (.aload_n 0, 1) := dk_42 (dk_at dksX0_count_5 3 rfl rfl)
theorem dX0_count_146 : decode cX0_count 146 = .ok (.getfield 19, 3) := dk_180 0 19 (dk_at dksX0_count_5 4 rfl rfl)
theorem dX0_count_149 : decode cX0_count 149 = .ok (.getfield 81, 3) := dk_180 0 81 (dk_at dksX0_count_5 7 rfl rfl)
theorem dX0_count_152 : decode cX0_count 152 = .ok (.goto 88, 3) := dk_167 0 88 (dk_at dksX0_count_5 10 rfl rfl)
theorem dX0_count_155 : decode cX0_count 155 = .ok (.aload_n 0, 1) := dk_42 (dk_at dksX0_count_5 13 rfl rfl)
theorem dX0_count_156 : decode cX0_count 156 = .ok (.getfield 57, 3) := dk_180 0 57 (dk_at dksX0_count_5 14 rfl rfl)
theorem dX0_count_159 : decode cX0_count 159 = .ok (.iconst 0, 1) := dk_3 (dk_at dksX0_count_5 17 rfl rfl)
theorem dX0_count_160 : decode cX0_count 160 = .ok (.baload, 1) := dk_51 (dk_at dksX0_count_5 18 rfl rfl)
theorem dX0_count_161 : decode cX0_count 161 = .ok (.ifCond .eq 7, 3) := dk_153 0 7 (dk_at dksX0_count_5 19 rfl rfl)
theorem dX0_count_164 : decode cX0_count 164 = .ok (.iconst 1, 1) := dk_4 (dk_at dksX0_count_5 22 rfl rfl)
theorem dX0_count_165 : decode cX0_count 165 = .ok (.goto 4, 3) := dk_167 0 4 (dk_at dksX0_count_6 0 rfl rfl)
theorem dX0_count_168 : decode cX0_count 168 = .ok (.iconst 0, 1) := dk_3 (dk_at dksX0_count_6 3 rfl rfl)
theorem dX0_count_169 : decode cX0_count 169 = .ok (.aload_n 0, 1) := dk_42 (dk_at dksX0_count_6 4 rfl rfl)
theorem dX0_count_170 : decode cX0_count 170 = .ok (.getfield 57, 3) := dk_180 0 57 (dk_at dksX0_count_6 5 rfl rfl)
theorem dX0_count_173 : decode cX0_count 173 = .ok (.iconst 1, 1) := dk_4 (dk_at dksX0_count_6 8 rfl rfl)
theorem dX0_count_174 : decode cX0_count 174 = .ok (.baload, 1) := dk_51 (dk_at dksX0_count_6 9 rfl rfl)
theorem dX0_count_175 : decode cX0_count 175 = .ok (.ifCond .eq 7, 3) := dk_153 0 7 (dk_at dksX0_count_6 10 rfl rfl)
theorem dX0_count_178 : decode cX0_count 178 = .ok (.iconst 1, 1) := dk_4 (dk_at dksX0_count_6 13 rfl rfl)
theorem dX0_count_179 : decode cX0_count 179 = .ok (.goto 4, 3) := dk_167 0 4 (dk_at dksX0_count_6 14 rfl rfl)
theorem dX0_count_182 : decode cX0_count 182 = .ok (.iconst 0, 1) := dk_3 (dk_at dksX0_count_6 17 rfl rfl)
theorem dX0_count_183 : decode cX0_count 183 = .ok (.iadd, 1) := dk_96 (dk_at dksX0_count_6 18 rfl rfl)
theorem dX0_count_184 : decode cX0_count 184 = .ok (.aload_n 0, 1) := dk_42 (dk_at dksX0_count_6 19 rfl rfl)
theorem dX0_count_185 : decode cX0_count 185 = .ok (.getfield 57, 3) := dk_180 0 57 (dk_at dksX0_count_6 20 rfl rfl)
theorem dX0_count_188 : decode cX0_count 188 = .ok (.iconst 2, 1) := dk_5 (dk_at dksX0_count_6 23 rfl rfl)
theorem dX0_count_189 : decode cX0_count 189 = .ok (.baload, 1) := dk_51 (dk_at dksX0_count_7 0 rfl rfl)
theorem dX0_count_190 : decode cX0_count 190 = .ok (.ifCond .eq 7, 3) := dk_153 0 7 (dk_at dksX0_count_7 1 rfl rfl)
theorem dX0_count_193 : decode cX0_count 193 = .ok (.iconst 1, 1) := dk_4 (dk_at dksX0_count_7 4 rfl rfl)
theorem dX0_count_194 : decode cX0_count 194 = .ok (.goto 4, 3) := dk_167 0 4 (dk_at dksX0_count_7 5 rfl rfl)
theorem dX0_count_197 : decode cX0_count 197 = .ok (.iconst 0, 1) := dk_3 (dk_at dksX0_count_7 8 rfl rfl)
theorem dX0_count_198 : decode cX0_count 198 = .ok (.iadd, 1) := dk_96 (dk_at dksX0_count_7 9 rfl rfl)
theorem dX0_count_199 : decode cX0_count 199 = .ok (.goto 41, 3) := dk_167 0 41 (dk_at dksX0_count_7 10 rfl rfl)
theorem dX0_count_202 : decode cX0_count 202 = .ok (.aload_n 0, 1) := dk_42 (dk_at dksX0_count_7 13 rfl rfl)
theorem dX0_count_203 : decode cX0_count 203 = .ok (.getfield 39, 3) := dk_180 0 39 (dk_at dksX0_count_7 14 rfl rfl)
theorem dX0_count_206 : decode cX0_count 206 = .ok (.getfield 282, 3) := dk_180 1 26 (dk_at dksX0_count_7 17 rfl rfl)
theorem dX0_count_209 : decode cX0_count 209 = .ok (.goto 31, 3) := dk_167 0 31 (dk_at dksX0_count_7 20 rfl rfl)
theorem dX0_count_212 : decode cX0_count 212 = .ok (.aload_n 0, 1) := dk_42 (dk_at dksX0_count_7 23 rfl rfl)
theorem dX0_count_213 : decode cX0_count 213 = .ok (.getfield 39, 3) := dk_180 0 39 (dk_at dksX0_count_8 0 rfl rfl)
theorem dX0_count_216 : decode cX0_count 216 = .ok (.getfield 285, 3) := dk_180 1 29 (dk_at dksX0_count_8 3 rfl rfl)
theorem dX0_count_219 : decode cX0_count 219 = .ok (.goto 21, 3) := dk_167 0 21 (dk_at dksX0_count_8 6 rfl rfl)
theorem dX0_count_222 : decode cX0_count 222 = .ok (.aload_n 0, 1) := dk_42 (dk_at dksX0_count_8 9 rfl rfl)
theorem dX0_count_223 : decode cX0_count 223 = .ok (.getfield 39, 3) := dk_180 0 39 (dk_at dksX0_count_8 10 rfl rfl)
theorem dX0_count_226 : decode cX0_count 226 = .ok (.getfield 288, 3) := dk_180 1 32 (dk_at dksX0_count_8 13 rfl rfl)
theorem dX0_count_229 : decode cX0_count 229 = .ok (.goto 11, 3) := dk_167 0 11 (dk_at dksX0_count_8 16 rfl rfl)
theorem dX0_count_232 : decode cX0_count 232 = .ok (.aload_n 0, 1) := dk_42 (dk_at dksX0_count_8 19 rfl rfl)
theorem dX0_count_233 : decode cX0_count 233 = .ok (.getfield 109, 3) := dk_180 0 109 (dk_at dksX0_count_8 20 rfl rfl)
theorem dX0_count_236 : decode cX0_count 236 = .ok (.goto 4, 3) := dk_167 0 4 (dk_at dksX0_count_9 0 rfl rfl)
theorem dX0_count_239 : decode cX0_count 239 = .ok (.iconst (-1), 1) := dk_2 (dk_at dksX0_count_9 3 rfl rfl)
theorem dX0_count_240 : decode cX0_count 240 = .ok (.ireturn, 1) := dk_172 (dk_at dksX0_count_9 4 rfl rfl)
abbrev cX0_retired : ByteArray := prog_1_method_37_code
def yX0_retired : MethodName := ⟨RX0, "retired", "(Z)I"⟩
def dkwX0_retired_2 : List UInt8 := [153, 0, 7, 4, 167, 0, 4, 3, 96, 61, 132, 3, 1, 167, 255, 200, 28, 172]
abbrev dktX0_retired_2 : List UInt8 := dkwX0_retired_2 ++ []
def dkwX0_retired_1 : List UInt8 := [50, 180, 0, 211, 155, 0, 26, 27, 153, 0, 18, 42, 180, 0, 39, 180, 0, 195, 29, 50, 180, 0, 214]
abbrev dktX0_retired_1 : List UInt8 := dkwX0_retired_1 ++ dktX0_retired_2
def dkwX0_retired_0 : List UInt8 := [3, 61, 3, 62, 29, 42, 180, 0, 39, 180, 0, 128, 162, 0, 51, 28, 42, 180, 0, 39, 180, 0, 195, 29]
abbrev dktX0_retired_0 : List UInt8 := dkwX0_retired_0 ++ dktX0_retired_1
theorem dksX0_retired_0 : cX0_retired.data.toList.drop 0 = dktX0_retired_0 := by decide +kernel
theorem dksX0_retired_1 : cX0_retired.data.toList.drop 24 = dktX0_retired_1 := dk_seg dksX0_retired_0 24 rfl rfl
theorem dksX0_retired_2 : cX0_retired.data.toList.drop 47 = dktX0_retired_2 := dk_seg dksX0_retired_1 23 rfl rfl
theorem dX0_retired_0 : decode cX0_retired 0 = .ok (.iconst 0, 1) := dk_3 (dk_at dksX0_retired_0 0 rfl rfl)
theorem dX0_retired_1 : decode cX0_retired 1 = .ok (.istore_n 2, 1) := dk_61 (dk_at dksX0_retired_0 1 rfl rfl)
theorem dX0_retired_2 : decode cX0_retired 2 = .ok (.iconst 0, 1) := dk_3 (dk_at dksX0_retired_0 2 rfl rfl)
theorem dX0_retired_3 : decode cX0_retired 3 = .ok (.istore_n 3, 1) := dk_62 (dk_at dksX0_retired_0 3 rfl rfl)
theorem dX0_retired_4 : decode cX0_retired 4 = .ok (.iload_n 3, 1) := dk_29 (dk_at dksX0_retired_0 4 rfl rfl)
theorem dX0_retired_5 : decode cX0_retired 5 = .ok (.aload_n 0, 1) := dk_42 (dk_at dksX0_retired_0 5 rfl rfl)
theorem dX0_retired_6 : decode cX0_retired 6 = .ok (.getfield 39, 3) := dk_180 0 39 (dk_at dksX0_retired_0 6 rfl rfl)
theorem dX0_retired_9 : decode cX0_retired 9 = .ok (.getfield 128, 3) := dk_180 0 128 (dk_at dksX0_retired_0 9 rfl rfl)
theorem dX0_retired_12 : decode cX0_retired 12 = .ok (.if_icmp .ge 51, 3) := dk_162 0 51 (dk_at dksX0_retired_0 12 rfl rfl)
theorem dX0_retired_15 : decode cX0_retired 15 = .ok (.iload_n 2, 1) := dk_28 (dk_at dksX0_retired_0 15 rfl rfl)
theorem dX0_retired_16 : decode cX0_retired 16 = .ok (.aload_n 0, 1) := dk_42 (dk_at dksX0_retired_0 16 rfl rfl)
theorem dX0_retired_17 : decode cX0_retired 17 = .ok (.getfield 39, 3) := dk_180 0 39 (dk_at dksX0_retired_0 17 rfl rfl)
theorem dX0_retired_20 : decode cX0_retired 20 = .ok (.getfield 195, 3) := dk_180 0 195 (dk_at dksX0_retired_0 20 rfl rfl)
theorem dX0_retired_23 : decode cX0_retired 23 = .ok (.iload_n 3, 1) := dk_29 (dk_at dksX0_retired_0 23 rfl rfl)
theorem dX0_retired_24 : decode cX0_retired 24 = .ok (.aaload, 1) := dk_50 (dk_at dksX0_retired_1 0 rfl rfl)
theorem dX0_retired_25 : decode cX0_retired 25 = .ok (.getfield 211, 3) := dk_180 0 211 (dk_at dksX0_retired_1 1 rfl rfl)
theorem dX0_retired_28 : decode cX0_retired 28 = .ok (.ifCond .lt 26, 3) := dk_155 0 26 (dk_at dksX0_retired_1 4 rfl rfl)
theorem dX0_retired_31 : decode cX0_retired 31 = .ok (.iload_n 1, 1) := dk_27 (dk_at dksX0_retired_1 7 rfl rfl)
theorem dX0_retired_32 : decode cX0_retired 32 = .ok (.ifCond .eq 18, 3) := dk_153 0 18 (dk_at dksX0_retired_1 8 rfl rfl)
theorem dX0_retired_35 : decode cX0_retired 35 = .ok (.aload_n 0, 1) := dk_42 (dk_at dksX0_retired_1 11 rfl rfl)
theorem dX0_retired_36 : decode cX0_retired 36 = .ok (.getfield 39, 3) := dk_180 0 39 (dk_at dksX0_retired_1 12 rfl rfl)
theorem dX0_retired_39 : decode cX0_retired 39 = .ok (.getfield 195, 3) := dk_180 0 195 (dk_at dksX0_retired_1 15 rfl rfl)
theorem dX0_retired_42 : decode cX0_retired 42 = .ok (.iload_n 3, 1) := dk_29 (dk_at dksX0_retired_1 18 rfl rfl)
theorem dX0_retired_43 : decode cX0_retired 43 = .ok (.aaload, 1) := dk_50 (dk_at dksX0_retired_1 19 rfl rfl)
theorem dX0_retired_44 : decode cX0_retired 44 = .ok (.getfield 214, 3) := dk_180 0 214 (dk_at dksX0_retired_1 20 rfl rfl)
theorem dX0_retired_47 : decode cX0_retired 47 = .ok (.ifCond .eq 7, 3) := dk_153 0 7 (dk_at dksX0_retired_2 0 rfl rfl)
theorem dX0_retired_50 : decode cX0_retired 50 = .ok (.iconst 1, 1) := dk_4 (dk_at dksX0_retired_2 3 rfl rfl)
theorem dX0_retired_51 : decode cX0_retired 51 = .ok (.goto 4, 3) := dk_167 0 4 (dk_at dksX0_retired_2 4 rfl rfl)
theorem dX0_retired_54 : decode cX0_retired 54 = .ok (.iconst 0, 1) := dk_3 (dk_at dksX0_retired_2 7 rfl rfl)
theorem dX0_retired_55 : decode cX0_retired 55 = .ok (.iadd, 1) := dk_96 (dk_at dksX0_retired_2 8 rfl rfl)
theorem dX0_retired_56 : decode cX0_retired 56 = .ok (.istore_n 2, 1) := dk_61 (dk_at dksX0_retired_2 9 rfl rfl)
theorem dX0_retired_57 : decode cX0_retired 57 = .ok (.iinc 3 1, 3) := dk_132 3 1 (dk_at dksX0_retired_2 10 rfl rfl)
theorem dX0_retired_60 : decode cX0_retired 60 = .ok (.goto (-56), 3) := dk_167 255 200 (dk_at dksX0_retired_2 13 rfl rfl)
theorem dX0_retired_63 : decode cX0_retired 63 = .ok (.iload_n 2, 1) := dk_28 (dk_at dksX0_retired_2 16 rfl rfl)
theorem dX0_retired_64 : decode cX0_retired 64 = .ok (.ireturn, 1) := dk_172 (dk_at dksX0_retired_2 17 rfl rfl)
abbrev cX0_busy : ByteArray := prog_1_method_36_code
def yX0_busy : MethodName := ⟨RX0, "busy", "()I"⟩
def dkwX0_busy_1 : List UInt8 := [153, 0, 9, 4, 28, 120, 167, 0, 4, 3, 128, 60, 132, 2, 1, 167, 255, 223, 27, 172]
abbrev dktX0_busy_1 : List UInt8 := dkwX0_busy_1 ++ []
def dkwX0_busy_0 : List UInt8 := [3, 60, 3, 61, 28, 7, 162, 0, 34, 27, 42, 180, 0, 39, 180, 0, 218, 28, 50, 180, 0, 227]
abbrev dktX0_busy_0 : List UInt8 := dkwX0_busy_0 ++ dktX0_busy_1
theorem dksX0_busy_0 : cX0_busy.data.toList.drop 0 = dktX0_busy_0 := by decide +kernel
theorem dksX0_busy_1 : cX0_busy.data.toList.drop 22 = dktX0_busy_1 := dk_seg dksX0_busy_0 22 rfl rfl
theorem dX0_busy_0 : decode cX0_busy 0 = .ok (.iconst 0, 1) := dk_3 (dk_at dksX0_busy_0 0 rfl rfl)
theorem dX0_busy_1 : decode cX0_busy 1 = .ok (.istore_n 1, 1) := dk_60 (dk_at dksX0_busy_0 1 rfl rfl)
theorem dX0_busy_2 : decode cX0_busy 2 = .ok (.iconst 0, 1) := dk_3 (dk_at dksX0_busy_0 2 rfl rfl)
theorem dX0_busy_3 : decode cX0_busy 3 = .ok (.istore_n 2, 1) := dk_61 (dk_at dksX0_busy_0 3 rfl rfl)
theorem dX0_busy_4 : decode cX0_busy 4 = .ok (.iload_n 2, 1) := dk_28 (dk_at dksX0_busy_0 4 rfl rfl)
theorem dX0_busy_5 : decode cX0_busy 5 = .ok (.iconst 4, 1) := dk_7 (dk_at dksX0_busy_0 5 rfl rfl)
theorem dX0_busy_6 : decode cX0_busy 6 = .ok (.if_icmp .ge 34, 3) := dk_162 0 34 (dk_at dksX0_busy_0 6 rfl rfl)
theorem dX0_busy_9 : decode cX0_busy 9 = .ok (.iload_n 1, 1) := dk_27 (dk_at dksX0_busy_0 9 rfl rfl)
theorem dX0_busy_10 : decode cX0_busy 10 = .ok (.aload_n 0, 1) := dk_42 (dk_at dksX0_busy_0 10 rfl rfl)
theorem dX0_busy_11 : decode cX0_busy 11 = .ok (.getfield 39, 3) := dk_180 0 39 (dk_at dksX0_busy_0 11 rfl rfl)
theorem dX0_busy_14 : decode cX0_busy 14 = .ok (.getfield 218, 3) := dk_180 0 218 (dk_at dksX0_busy_0 14 rfl rfl)
theorem dX0_busy_17 : decode cX0_busy 17 = .ok (.iload_n 2, 1) := dk_28 (dk_at dksX0_busy_0 17 rfl rfl)
theorem dX0_busy_18 : decode cX0_busy 18 = .ok (.aaload, 1) := dk_50 (dk_at dksX0_busy_0 18 rfl rfl)
theorem dX0_busy_19 : decode cX0_busy 19 = .ok (.getfield 227, 3) := dk_180 0 227 (dk_at dksX0_busy_0 19 rfl rfl)
theorem dX0_busy_22 : decode cX0_busy 22 = .ok (.ifCond .eq 9, 3) := dk_153 0 9 (dk_at dksX0_busy_1 0 rfl rfl)
theorem dX0_busy_25 : decode cX0_busy 25 = .ok (.iconst 1, 1) := dk_4 (dk_at dksX0_busy_1 3 rfl rfl)
theorem dX0_busy_26 : decode cX0_busy 26 = .ok (.iload_n 2, 1) := dk_28 (dk_at dksX0_busy_1 4 rfl rfl)
theorem dX0_busy_27 : decode cX0_busy 27 = .ok (.ishl, 1) := dk_120 (dk_at dksX0_busy_1 5 rfl rfl)
theorem dX0_busy_28 : decode cX0_busy 28 = .ok (.goto 4, 3) := dk_167 0 4 (dk_at dksX0_busy_1 6 rfl rfl)
theorem dX0_busy_31 : decode cX0_busy 31 = .ok (.iconst 0, 1) := dk_3 (dk_at dksX0_busy_1 9 rfl rfl)
theorem dX0_busy_32 : decode cX0_busy 32 = .ok (.ior, 1) := dk_128 (dk_at dksX0_busy_1 10 rfl rfl)
theorem dX0_busy_33 : decode cX0_busy 33 = .ok (.istore_n 1, 1) := dk_60 (dk_at dksX0_busy_1 11 rfl rfl)
theorem dX0_busy_34 : decode cX0_busy 34 = .ok (.iinc 2 1, 3) := dk_132 2 1 (dk_at dksX0_busy_1 12 rfl rfl)
theorem dX0_busy_37 : decode cX0_busy 37 = .ok (.goto (-33), 3) := dk_167 255 223 (dk_at dksX0_busy_1 15 rfl rfl)
theorem dX0_busy_40 : decode cX0_busy 40 = .ok (.iload_n 1, 1) := dk_27 (dk_at dksX0_busy_1 18 rfl rfl)
theorem dX0_busy_41 : decode cX0_busy 41 = .ok (.ireturn, 1) := dk_172 (dk_at dksX0_busy_1 19 rfl rfl)
theorem q143 : (Jvm.Cond.initialized "DeltaIndex") ∈ lw_all := lw_g (lw_at lw_m1 1 rfl) rfl
theorem q180 : (Jvm.Cond.instantiable "DeltaIndex" (14 : Nat)) ∈ lw_all := lw_g (lw_at lw_m1 38 rfl) rfl
theorem q182 : (Jvm.Cond.instanceMethod ({ cls := "DeltaIndex", name := "<init>", desc := "()V" } : Jvm.MethodName)) ∈ lw_all := lw_g (lw_at lw_m1 40 rfl) rfl
theorem q183 : (Jvm.Cond.code ({ cls := "DeltaIndex", name := "<init>", desc := "()V" } : Jvm.MethodName) prog_1_method_1_code (1 : Nat) (Option.none : Option Jvm.ClassFile.FieldType)) ∈ lw_all := lw_g (lw_at lw_m1 41 rfl) rfl
theorem q184 : (Jvm.Cond.methodLink "DeltaIndex" (1 : Nat) ({ cls := "java/lang/Object", name := "<init>", desc := "()V" } : Jvm.MethodName)) ∈ lw_all := lw_g (lw_at lw_m1 42 rfl) rfl
theorem q187 : (Jvm.Cond.classLink "DeltaIndex" (7 : Nat) "DeltaIndex$Fault") ∈ lw_all := lw_g (lw_at lw_m1 45 rfl) rfl
theorem q226 : (Jvm.Cond.methodLink "DeltaIndex" (9 : Nat) ({ cls := "DeltaIndex$Fault", name := "<init>", desc := "()V" } : Jvm.MethodName)) ∈ lw_all := lw_g (lw_at lw_m1 84 rfl) rfl
theorem q240 : (Jvm.Cond.fieldLink "DeltaIndex" (117 : Nat) "DeltaIndex$Fault" "number" "I") ∈ lw_all := lw_g (lw_at lw_m1 98 rfl) rfl
theorem q242 : (Jvm.Cond.fieldLink "DeltaIndex" (120 : Nat) "DeltaIndex$Fault" "place" "I") ∈ lw_all := lw_g (lw_at lw_m1 100 rfl) rfl
theorem q261 : (Jvm.Cond.classLink "DeltaIndex" (16 : Nat) "DeltaIndex$Tokens") ∈ lw_all := lw_g (lw_at lw_m1 119 rfl) rfl
theorem q263 : (Jvm.Cond.methodLinkNest "DeltaIndex" (18 : Nat) ({ cls := "DeltaIndex$Tokens", name := "<init>", desc := "()V" } : Jvm.MethodName) "DeltaIndex") ∈ lw_tbl := lw_at lw_m1 121 rfl
theorem q289 : (Jvm.Cond.fieldLink "DeltaIndex" (88 : Nat) "DeltaIndex$Tokens" "tape" "[B") ∈ lw_all := lw_g (lw_at lw_m1 147 rfl) rfl
theorem q291 : (Jvm.Cond.fieldLink "DeltaIndex" (81 : Nat) "DeltaIndex$Tokens" "taped" "I") ∈ lw_all := lw_g (lw_at lw_m1 149 rfl) rfl
theorem q318 : (Jvm.Cond.classLink "DeltaIndex" (23 : Nat) "DeltaIndex$Parser") ∈ lw_all := lw_g (lw_at lw_m1 176 rfl) rfl
theorem q320 : (Jvm.Cond.methodLink "DeltaIndex" (25 : Nat) ({ cls := "DeltaIndex$Parser", name := "<init>", desc := "(LDeltaIndex$Tokens;LDeltaIndex$Fault;)V" } : Jvm.MethodName)) ∈ lw_all := lw_g (lw_at lw_m1 178 rfl) rfl
theorem q349 : (Jvm.Cond.classLink "DeltaIndex" (36 : Nat) "DeltaIndex$Store") ∈ lw_all := lw_g (lw_at lw_m1 207 rfl) rfl
theorem q351 : (Jvm.Cond.methodLink "DeltaIndex" (38 : Nat) ({ cls := "DeltaIndex$Store", name := "<init>", desc := "()V" } : Jvm.MethodName)) ∈ lw_all := lw_g (lw_at lw_m1 209 rfl) rfl
theorem q366 : (Jvm.Cond.fieldLink "DeltaIndex" (188 : Nat) "DeltaIndex$Record" "key" "[I") ∈ lw_all := lw_g (lw_at lw_m1 224 rfl) rfl
theorem q369 : (Jvm.Cond.fieldLink "DeltaIndex" (189 : Nat) "DeltaIndex$Record" "val" "[I") ∈ lw_all := lw_g (lw_at lw_m1 227 rfl) rfl
theorem q372 : (Jvm.Cond.fieldLink "DeltaIndex" (199 : Nat) "DeltaIndex$Record" "sort" "I") ∈ lw_all := lw_g (lw_at lw_m1 230 rfl) rfl
theorem q375 : (Jvm.Cond.fieldLink "DeltaIndex" (175 : Nat) "DeltaIndex$Record" "many" "I") ∈ lw_all := lw_g (lw_at lw_m1 233 rfl) rfl
theorem q378 : (Jvm.Cond.fieldLink "DeltaIndex" (178 : Nat) "DeltaIndex$Record" "high" "I") ∈ lw_all := lw_g (lw_at lw_m1 236 rfl) rfl
theorem q381 : (Jvm.Cond.fieldLink "DeltaIndex" (181 : Nat) "DeltaIndex$Record" "right" "I") ∈ lw_all := lw_g (lw_at lw_m1 239 rfl) rfl
theorem q383 : (Jvm.Cond.fieldLink "DeltaIndex" (202 : Nat) "DeltaIndex$Record" "own" "I") ∈ lw_all := lw_g (lw_at lw_m2 1 rfl) rfl
theorem q385 : (Jvm.Cond.fieldLink "DeltaIndex" (205 : Nat) "DeltaIndex$Record" "page" "I") ∈ lw_all := lw_g (lw_at lw_m2 3 rfl) rfl
theorem q388 : (Jvm.Cond.fieldLink "DeltaIndex" (208 : Nat) "DeltaIndex$Record" "next" "I") ∈ lw_all := lw_g (lw_at lw_m2 6 rfl) rfl
theorem q393 : (Jvm.Cond.fieldLink "DeltaIndex" (211 : Nat) "DeltaIndex$Record" "retired" "I") ∈ lw_all := lw_g (lw_at lw_m2 11 rfl) rfl
theorem q395 : (Jvm.Cond.fieldLink "DeltaIndex" (214 : Nat) "DeltaIndex$Record" "free" "Z") ∈ lw_all := lw_g (lw_at lw_m2 13 rfl) rfl
theorem q430 : (Jvm.Cond.fieldLink "DeltaIndex" (222 : Nat) "DeltaIndex$Hand" "act" "I") ∈ lw_all := lw_g (lw_at lw_m2 48 rfl) rfl
theorem q433 : (Jvm.Cond.fieldLink "DeltaIndex" (239 : Nat) "DeltaIndex$Hand" "key" "I") ∈ lw_all := lw_g (lw_at lw_m2 51 rfl) rfl
theorem q438 : (Jvm.Cond.fieldLink "DeltaIndex" (227 : Nat) "DeltaIndex$Hand" "stage" "I") ∈ lw_all := lw_g (lw_at lw_m2 56 rfl) rfl
theorem q441 : (Jvm.Cond.fieldLink "DeltaIndex" (230 : Nat) "DeltaIndex$Hand" "page" "I") ∈ lw_all := lw_g (lw_at lw_m2 59 rfl) rfl
theorem q456 : (Jvm.Cond.fieldLink "DeltaIndex" (231 : Nat) "DeltaIndex$Hand" "lost" "I") ∈ lw_all := lw_g (lw_at lw_m2 74 rfl) rfl
theorem q459 : (Jvm.Cond.fieldLink "DeltaIndex" (234 : Nat) "DeltaIndex$Hand" "steps" "I") ∈ lw_all := lw_g (lw_at lw_m2 77 rfl) rfl
theorem q462 : (Jvm.Cond.fieldLink "DeltaIndex" (236 : Nat) "DeltaIndex$Hand" "epoch" "I") ∈ lw_all := lw_g (lw_at lw_m2 80 rfl) rfl
theorem q465 : (Jvm.Cond.fieldLink "DeltaIndex" (241 : Nat) "DeltaIndex$Hand" "result" "I") ∈ lw_all := lw_g (lw_at lw_m2 83 rfl) rfl
theorem q502 : (Jvm.Cond.fieldLink "DeltaIndex" (195 : Nat) "DeltaIndex$Store" "record" "[LDeltaIndex$Record;") ∈ lw_all := lw_g (lw_at lw_m2 120 rfl) rfl
theorem q504 : (Jvm.Cond.fieldLink "DeltaIndex" (169 : Nat) "DeltaIndex$Store" "top" "[I") ∈ lw_all := lw_g (lw_at lw_m2 122 rfl) rfl
theorem q506 : (Jvm.Cond.fieldLink "DeltaIndex" (218 : Nat) "DeltaIndex$Store" "hand" "[LDeltaIndex$Hand;") ∈ lw_all := lw_g (lw_at lw_m2 124 rfl) rfl
theorem q509 : (Jvm.Cond.fieldLink "DeltaIndex" (128 : Nat) "DeltaIndex$Store" "records" "I") ∈ lw_all := lw_g (lw_at lw_m2 127 rfl) rfl
theorem q511 : (Jvm.Cond.fieldLink "DeltaIndex" (125 : Nat) "DeltaIndex$Store" "pages" "I") ∈ lw_all := lw_g (lw_at lw_m2 129 rfl) rfl
theorem q513 : (Jvm.Cond.fieldLink "DeltaIndex" (272 : Nat) "DeltaIndex$Store" "epoch" "I") ∈ lw_all := lw_g (lw_at lw_m2 131 rfl) rfl
theorem q515 : (Jvm.Cond.fieldLink "DeltaIndex" (282 : Nat) "DeltaIndex$Store" "chain" "I") ∈ lw_all := lw_g (lw_at lw_m2 133 rfl) rfl
theorem q517 : (Jvm.Cond.fieldLink "DeltaIndex" (285 : Nat) "DeltaIndex$Store" "most" "I") ∈ lw_all := lw_g (lw_at lw_m2 135 rfl) rfl
theorem q519 : (Jvm.Cond.fieldLink "DeltaIndex" (288 : Nat) "DeltaIndex$Store" "least" "I") ∈ lw_all := lw_g (lw_at lw_m2 137 rfl) rfl
theorem q552 : (Jvm.Cond.classLink "DeltaIndex" (50 : Nat) "DeltaIndex$Record") ∈ lw_all := lw_g (lw_at lw_m2 170 rfl) rfl
theorem q553 : (Jvm.Cond.methodLinkNest "DeltaIndex" (52 : Nat) ({ cls := "DeltaIndex$Record", name := "<init>", desc := "()V" } : Jvm.MethodName) "DeltaIndex") ∈ lw_tbl := lw_at lw_m2 171 rfl
theorem q554 : (Jvm.Cond.classLink "DeltaIndex" (74 : Nat) "DeltaIndex$Text") ∈ lw_all := lw_g (lw_at lw_m2 172 rfl) rfl
theorem q556 : (Jvm.Cond.methodLinkNest "DeltaIndex" (76 : Nat) ({ cls := "DeltaIndex$Text", name := "<init>", desc := "()V" } : Jvm.MethodName) "DeltaIndex") ∈ lw_tbl := lw_at lw_m2 174 rfl
theorem q602 : (Jvm.Cond.fieldLink "DeltaIndex" (97 : Nat) "DeltaIndex$Text" "all" "LDeltaIndex$Rounds;") ∈ lw_all := lw_g (lw_at lw_m2 220 rfl) rfl
theorem q622 : (Jvm.Cond.methodLink "DeltaIndex" (77 : Nat) ({ cls := "DeltaIndex$Store", name := "begins", desc := "(LDeltaIndex$Text;)V" } : Jvm.MethodName)) ∈ lw_all := lw_g (lw_at lw_m3 0 rfl) rfl
theorem q646 : (Jvm.Cond.fieldLink "DeltaIndex" (10 : Nat) "DeltaIndex" "fault" "LDeltaIndex$Fault;") ∈ lw_all := lw_g (lw_at lw_m3 24 rfl) rfl
theorem q647 : (Jvm.Cond.fieldLink "DeltaIndex" (19 : Nat) "DeltaIndex" "tokens" "LDeltaIndex$Tokens;") ∈ lw_all := lw_g (lw_at lw_m3 25 rfl) rfl
theorem q648 : (Jvm.Cond.fieldLink "DeltaIndex" (28 : Nat) "DeltaIndex" "parser" "LDeltaIndex$Parser;") ∈ lw_all := lw_g (lw_at lw_m3 26 rfl) rfl
theorem q649 : (Jvm.Cond.fieldLink "DeltaIndex" (32 : Nat) "DeltaIndex" "place" "I") ∈ lw_all := lw_g (lw_at lw_m3 27 rfl) rfl
theorem q650 : (Jvm.Cond.fieldLink "DeltaIndex" (109 : Nat) "DeltaIndex" "done" "I") ∈ lw_all := lw_g (lw_at lw_m3 28 rfl) rfl
theorem q651 : (Jvm.Cond.fieldLink "DeltaIndex" (39 : Nat) "DeltaIndex" "store" "LDeltaIndex$Store;") ∈ lw_all := lw_g (lw_at lw_m3 29 rfl) rfl
theorem q652 : (Jvm.Cond.fieldLink "DeltaIndex" (43 : Nat) "DeltaIndex" "trial" "LDeltaIndex$Store;") ∈ lw_all := lw_g (lw_at lw_m3 30 rfl) rfl
theorem q653 : (Jvm.Cond.fieldLink "DeltaIndex" (46 : Nat) "DeltaIndex" "slots" "[LDeltaIndex$Store;") ∈ lw_all := lw_g (lw_at lw_m3 31 rfl) rfl
theorem q654 : (Jvm.Cond.fieldLink "DeltaIndex" (53 : Nat) "DeltaIndex" "laid" "LDeltaIndex$Record;") ∈ lw_all := lw_g (lw_at lw_m3 32 rfl) rfl
theorem q655 : (Jvm.Cond.fieldLink "DeltaIndex" (57 : Nat) "DeltaIndex" "held" "[Z") ∈ lw_all := lw_g (lw_at lw_m3 33 rfl) rfl
theorem q656 : (Jvm.Cond.fieldLink "DeltaIndex" (61 : Nat) "DeltaIndex" "key" "[I") ∈ lw_all := lw_g (lw_at lw_m3 34 rfl) rfl
theorem q657 : (Jvm.Cond.fieldLink "DeltaIndex" (65 : Nat) "DeltaIndex" "worth" "[I") ∈ lw_all := lw_g (lw_at lw_m3 35 rfl) rfl
theorem q658 : (Jvm.Cond.fieldLink "DeltaIndex" (68 : Nat) "DeltaIndex" "firstKey" "[I") ∈ lw_all := lw_g (lw_at lw_m3 36 rfl) rfl
theorem q659 : (Jvm.Cond.fieldLink "DeltaIndex" (71 : Nat) "DeltaIndex" "firstWorth" "[I") ∈ lw_all := lw_g (lw_at lw_m3 37 rfl) rfl
theorem q660 : (Jvm.Cond.laysFinal "DeltaIndex" "DeltaIndex" "fault" "LDeltaIndex$Fault;") ∈ lw_all := lw_g (lw_at lw_m3 38 rfl) rfl
theorem q661 : (Jvm.Cond.soleField "DeltaIndex" "fault") ∈ lw_all := lw_g (lw_at lw_m3 39 rfl) rfl
theorem q662 : (Jvm.Cond.laysFinal "DeltaIndex" "DeltaIndex" "tokens" "LDeltaIndex$Tokens;") ∈ lw_all := lw_g (lw_at lw_m3 40 rfl) rfl
theorem q663 : (Jvm.Cond.soleField "DeltaIndex" "tokens") ∈ lw_all := lw_g (lw_at lw_m3 41 rfl) rfl
theorem q664 : (Jvm.Cond.laysFinal "DeltaIndex" "DeltaIndex" "parser" "LDeltaIndex$Parser;") ∈ lw_all := lw_g (lw_at lw_m3 42 rfl) rfl
theorem q665 : (Jvm.Cond.soleField "DeltaIndex" "parser") ∈ lw_all := lw_g (lw_at lw_m3 43 rfl) rfl
theorem q666 : (Jvm.Cond.lays "DeltaIndex" "DeltaIndex" "place" "I") ∈ lw_all := lw_g (lw_at lw_m3 44 rfl) rfl
theorem q667 : (Jvm.Cond.soleField "DeltaIndex" "place") ∈ lw_all := lw_g (lw_at lw_m3 45 rfl) rfl
theorem q668 : (Jvm.Cond.lays "DeltaIndex" "DeltaIndex" "done" "I") ∈ lw_all := lw_g (lw_at lw_m3 46 rfl) rfl
theorem q669 : (Jvm.Cond.soleField "DeltaIndex" "done") ∈ lw_all := lw_g (lw_at lw_m3 47 rfl) rfl
theorem q670 : (Jvm.Cond.laysFinal "DeltaIndex" "DeltaIndex" "store" "LDeltaIndex$Store;") ∈ lw_all := lw_g (lw_at lw_m3 48 rfl) rfl
theorem q671 : (Jvm.Cond.soleField "DeltaIndex" "store") ∈ lw_all := lw_g (lw_at lw_m3 49 rfl) rfl
theorem q672 : (Jvm.Cond.laysFinal "DeltaIndex" "DeltaIndex" "trial" "LDeltaIndex$Store;") ∈ lw_all := lw_g (lw_at lw_m3 50 rfl) rfl
theorem q673 : (Jvm.Cond.soleField "DeltaIndex" "trial") ∈ lw_all := lw_g (lw_at lw_m3 51 rfl) rfl
theorem q674 : (Jvm.Cond.laysFinal "DeltaIndex" "DeltaIndex" "slots" "[LDeltaIndex$Store;") ∈ lw_all := lw_g (lw_at lw_m3 52 rfl) rfl
theorem q675 : (Jvm.Cond.soleField "DeltaIndex" "slots") ∈ lw_all := lw_g (lw_at lw_m3 53 rfl) rfl
theorem q676 : (Jvm.Cond.laysFinal "DeltaIndex" "DeltaIndex" "laid" "LDeltaIndex$Record;") ∈ lw_all := lw_g (lw_at lw_m3 54 rfl) rfl
theorem q677 : (Jvm.Cond.soleField "DeltaIndex" "laid") ∈ lw_all := lw_g (lw_at lw_m3 55 rfl) rfl
theorem q678 : (Jvm.Cond.laysFinal "DeltaIndex" "DeltaIndex" "held" "[Z") ∈ lw_all := lw_g (lw_at lw_m3 56 rfl) rfl
theorem q679 : (Jvm.Cond.soleField "DeltaIndex" "held") ∈ lw_all := lw_g (lw_at lw_m3 57 rfl) rfl
theorem q680 : (Jvm.Cond.laysFinal "DeltaIndex" "DeltaIndex" "key" "[I") ∈ lw_all := lw_g (lw_at lw_m3 58 rfl) rfl
theorem q681 : (Jvm.Cond.soleField "DeltaIndex" "key") ∈ lw_all := lw_g (lw_at lw_m3 59 rfl) rfl
theorem q682 : (Jvm.Cond.laysFinal "DeltaIndex" "DeltaIndex" "worth" "[I") ∈ lw_all := lw_g (lw_at lw_m3 60 rfl) rfl
theorem q683 : (Jvm.Cond.soleField "DeltaIndex" "worth") ∈ lw_all := lw_g (lw_at lw_m3 61 rfl) rfl
theorem q684 : (Jvm.Cond.laysFinal "DeltaIndex" "DeltaIndex" "firstKey" "[I") ∈ lw_all := lw_g (lw_at lw_m3 62 rfl) rfl
theorem q685 : (Jvm.Cond.soleField "DeltaIndex" "firstKey") ∈ lw_all := lw_g (lw_at lw_m3 63 rfl) rfl
theorem q686 : (Jvm.Cond.laysFinal "DeltaIndex" "DeltaIndex" "firstWorth" "[I") ∈ lw_all := lw_g (lw_at lw_m3 64 rfl) rfl
theorem q687 : (Jvm.Cond.soleField "DeltaIndex" "firstWorth") ∈ lw_all := lw_g (lw_at lw_m3 65 rfl) rfl
theorem q688 : (Jvm.Cond.superclass "DeltaIndex" "java/lang/Object") ∈ lw_all := lw_g (lw_at lw_m3 66 rfl) rfl
theorem q690 : (Jvm.Cond.instanceMethod ({ cls := "DeltaIndex", name := "feed", desc := "(IIIII)I" } : Jvm.MethodName)) ∈ lw_all := lw_g (lw_at lw_m3 68 rfl) rfl
theorem q691 : (Jvm.Cond.selects "DeltaIndex" ({ cls := "DeltaIndex", name := "feed", desc := "(IIIII)I" } : Jvm.MethodName) ({ cls := "DeltaIndex", name := "feed", desc := "(IIIII)I" } : Jvm.MethodName)) ∈ lw_all := lw_g (lw_at lw_m3 69 rfl) rfl
theorem q692 : (Jvm.Cond.code ({ cls := "DeltaIndex", name := "feed", desc := "(IIIII)I" } : Jvm.MethodName) prog_1_method_2_code (6 : Nat) (Option.some Jvm.ClassFile.FieldType.int)) ∈ lw_all := lw_g (lw_at lw_m3 70 rfl) rfl
theorem q693 : (Jvm.Cond.methodLink "DeltaIndex" (84 : Nat) ({ cls := "DeltaIndex", name := "typed", desc := "(I)V" } : Jvm.MethodName)) ∈ lw_all := lw_g (lw_at lw_m3 71 rfl) rfl
theorem q694 : (Jvm.Cond.privateMethod ({ cls := "DeltaIndex", name := "typed", desc := "(I)V" } : Jvm.MethodName)) ∈ lw_tbl := lw_at lw_m3 72 rfl
theorem q695 : (Jvm.Cond.instanceMethod ({ cls := "DeltaIndex", name := "typed", desc := "(I)V" } : Jvm.MethodName)) ∈ lw_all := lw_g (lw_at lw_m3 73 rfl) rfl
theorem q696 : (Jvm.Cond.code ({ cls := "DeltaIndex", name := "typed", desc := "(I)V" } : Jvm.MethodName) prog_1_method_3_code (3 : Nat) (Option.none : Option Jvm.ClassFile.FieldType)) ∈ lw_all := lw_g (lw_at lw_m3 74 rfl) rfl
theorem q698 : (Jvm.Cond.instanceMethod ({ cls := "DeltaIndex", name := "back", desc := "(I)I" } : Jvm.MethodName)) ∈ lw_all := lw_g (lw_at lw_m3 76 rfl) rfl
theorem q699 : (Jvm.Cond.selects "DeltaIndex" ({ cls := "DeltaIndex", name := "back", desc := "(I)I" } : Jvm.MethodName) ({ cls := "DeltaIndex", name := "back", desc := "(I)I" } : Jvm.MethodName)) ∈ lw_all := lw_g (lw_at lw_m3 77 rfl) rfl
theorem q700 : (Jvm.Cond.code ({ cls := "DeltaIndex", name := "back", desc := "(I)I" } : Jvm.MethodName) prog_1_method_4_code (2 : Nat) (Option.some Jvm.ClassFile.FieldType.int)) ∈ lw_all := lw_g (lw_at lw_m3 78 rfl) rfl
theorem q702 : (Jvm.Cond.instanceMethod ({ cls := "DeltaIndex", name := "read", desc := "()I" } : Jvm.MethodName)) ∈ lw_all := lw_g (lw_at lw_m3 80 rfl) rfl
theorem q703 : (Jvm.Cond.selects "DeltaIndex" ({ cls := "DeltaIndex", name := "read", desc := "()I" } : Jvm.MethodName) ({ cls := "DeltaIndex", name := "read", desc := "()I" } : Jvm.MethodName)) ∈ lw_all := lw_g (lw_at lw_m3 81 rfl) rfl
theorem q704 : (Jvm.Cond.codeWith ({ cls := "DeltaIndex", name := "read", desc := "()I" } : Jvm.MethodName) prog_1_method_6_code (3 : Nat) (Option.some Jvm.ClassFile.FieldType.int) [((7 : Nat), (18 : Nat), (21 : Nat), (7 : Nat))]) ∈ lw_all := lw_g (lw_at lw_m3 82 rfl) rfl
theorem q705 : (Jvm.Cond.methodLink "DeltaIndex" (110 : Nat) ({ cls := "DeltaIndex$Parser", name := "read", desc := "()LDeltaIndex$Text;" } : Jvm.MethodName)) ∈ lw_all := lw_g (lw_at lw_m3 83 rfl) rfl
theorem q1230 : (Jvm.Cond.selects "DeltaIndex" ({ cls := "java/lang/Object", name := "getClass", desc := "()Ljava/lang/Class;" } : Jvm.MethodName) ({ cls := "java/lang/Object", name := "getClass", desc := "()Ljava/lang/Class;" } : Jvm.MethodName)) ∈ lw_all := lw_g (lw_at lw_m5 128 rfl) rfl
theorem q1260 : (Jvm.Cond.methodLink "DeltaIndex" (114 : Nat) ({ cls := "DeltaIndex", name := "goesThrough", desc := "(LDeltaIndex$Text;)V" } : Jvm.MethodName)) ∈ lw_all := lw_g (lw_at lw_m5 158 rfl) rfl
theorem q1261 : (Jvm.Cond.privateMethod ({ cls := "DeltaIndex", name := "goesThrough", desc := "(LDeltaIndex$Text;)V" } : Jvm.MethodName)) ∈ lw_tbl := lw_at lw_m5 159 rfl
theorem q1262 : (Jvm.Cond.instanceMethod ({ cls := "DeltaIndex", name := "goesThrough", desc := "(LDeltaIndex$Text;)V" } : Jvm.MethodName)) ∈ lw_all := lw_g (lw_at lw_m5 160 rfl) rfl
theorem q1263 : (Jvm.Cond.code ({ cls := "DeltaIndex", name := "goesThrough", desc := "(LDeltaIndex$Text;)V" } : Jvm.MethodName) prog_1_method_5_code (4 : Nat) (Option.none : Option Jvm.ClassFile.FieldType)) ∈ lw_all := lw_g (lw_at lw_m5 161 rfl) rfl
theorem q1264 : (Jvm.Cond.classLink "DeltaIndex" (92 : Nat) "DeltaIndex$Run") ∈ lw_all := lw_g (lw_at lw_m5 162 rfl) rfl
theorem q1266 : (Jvm.Cond.methodLink "DeltaIndex" (94 : Nat) ({ cls := "DeltaIndex$Run", name := "<init>", desc := "(LDeltaIndex$Store;)V" } : Jvm.MethodName)) ∈ lw_all := lw_g (lw_at lw_m5 164 rfl) rfl
theorem q1283 : (Jvm.Cond.fieldLink "DeltaIndex" (106 : Nat) "DeltaIndex$Run" "done" "I") ∈ lw_all := lw_g (lw_at lw_m5 181 rfl) rfl
theorem q1295 : (Jvm.Cond.methodLink "DeltaIndex" (101 : Nat) ({ cls := "DeltaIndex$Rounds", name := "all", desc := "(LDeltaIndex$Run;)V" } : Jvm.MethodName)) ∈ lw_all := lw_g (lw_at lw_m5 193 rfl) rfl
theorem q1552 : (Jvm.Cond.instanceMethod ({ cls := "DeltaIndex", name := "place", desc := "()I" } : Jvm.MethodName)) ∈ lw_all := lw_g (lw_at lw_m6 210 rfl) rfl
theorem q1553 : (Jvm.Cond.selects "DeltaIndex" ({ cls := "DeltaIndex", name := "place", desc := "()I" } : Jvm.MethodName) ({ cls := "DeltaIndex", name := "place", desc := "()I" } : Jvm.MethodName)) ∈ lw_all := lw_g (lw_at lw_m6 211 rfl) rfl
theorem q1554 : (Jvm.Cond.code ({ cls := "DeltaIndex", name := "place", desc := "()I" } : Jvm.MethodName) prog_1_method_7_code (1 : Nat) (Option.some Jvm.ClassFile.FieldType.int)) ∈ lw_all := lw_g (lw_at lw_m6 212 rfl) rfl
theorem q1556 : (Jvm.Cond.instanceMethod ({ cls := "DeltaIndex", name := "begin", desc := "(IIII)Z" } : Jvm.MethodName)) ∈ lw_all := lw_g (lw_at lw_m6 214 rfl) rfl
theorem q1557 : (Jvm.Cond.selects "DeltaIndex" ({ cls := "DeltaIndex", name := "begin", desc := "(IIII)Z" } : Jvm.MethodName) ({ cls := "DeltaIndex", name := "begin", desc := "(IIII)Z" } : Jvm.MethodName)) ∈ lw_all := lw_g (lw_at lw_m6 215 rfl) rfl
theorem q1558 : (Jvm.Cond.code ({ cls := "DeltaIndex", name := "begin", desc := "(IIII)Z" } : Jvm.MethodName) prog_1_method_13_code (5 : Nat) (Option.some Jvm.ClassFile.FieldType.boolean)) ∈ lw_all := lw_g (lw_at lw_m6 216 rfl) rfl
theorem q1559 : (Jvm.Cond.methodLink "DeltaIndex" (131 : Nat) ({ cls := "DeltaIndex", name := "isHand", desc := "(I)Z" } : Jvm.MethodName)) ∈ lw_all := lw_g (lw_at lw_m6 217 rfl) rfl
theorem q1560 : (Jvm.Cond.static ({ cls := "DeltaIndex", name := "isHand", desc := "(I)Z" } : Jvm.MethodName)) ∈ lw_all := lw_g (lw_at lw_m6 218 rfl) rfl
theorem q1561 : (Jvm.Cond.code ({ cls := "DeltaIndex", name := "isHand", desc := "(I)Z" } : Jvm.MethodName) prog_1_method_10_code (1 : Nat) (Option.some Jvm.ClassFile.FieldType.boolean)) ∈ lw_all := lw_g (lw_at lw_m6 219 rfl) rfl
theorem q1562 : (Jvm.Cond.methodLink "DeltaIndex" (121 : Nat) ({ cls := "DeltaIndex", name := "isIn", desc := "(III)Z" } : Jvm.MethodName)) ∈ lw_all := lw_g (lw_at lw_m6 220 rfl) rfl
theorem q1563 : (Jvm.Cond.static ({ cls := "DeltaIndex", name := "isIn", desc := "(III)Z" } : Jvm.MethodName)) ∈ lw_all := lw_g (lw_at lw_m6 221 rfl) rfl
theorem q1564 : (Jvm.Cond.code ({ cls := "DeltaIndex", name := "isIn", desc := "(III)Z" } : Jvm.MethodName) prog_1_method_8_code (3 : Nat) (Option.some Jvm.ClassFile.FieldType.boolean)) ∈ lw_all := lw_g (lw_at lw_m6 222 rfl) rfl
theorem q1565 : (Jvm.Cond.methodLink "DeltaIndex" (135 : Nat) ({ cls := "DeltaIndex", name := "isKey", desc := "(I)Z" } : Jvm.MethodName)) ∈ lw_all := lw_g (lw_at lw_m6 223 rfl) rfl
theorem q1566 : (Jvm.Cond.static ({ cls := "DeltaIndex", name := "isKey", desc := "(I)Z" } : Jvm.MethodName)) ∈ lw_all := lw_g (lw_at lw_m6 224 rfl) rfl
theorem q1567 : (Jvm.Cond.code ({ cls := "DeltaIndex", name := "isKey", desc := "(I)Z" } : Jvm.MethodName) prog_1_method_9_code (1 : Nat) (Option.some Jvm.ClassFile.FieldType.boolean)) ∈ lw_all := lw_g (lw_at lw_m6 225 rfl) rfl
theorem q1568 : (Jvm.Cond.methodLink "DeltaIndex" (138 : Nat) ({ cls := "DeltaIndex$Store", name := "takesUp", desc := "(IIII)Z" } : Jvm.MethodName)) ∈ lw_all := lw_g (lw_at lw_m6 226 rfl) rfl
theorem q1570 : (Jvm.Cond.instanceMethod ({ cls := "DeltaIndex", name := "step", desc := "(I)I" } : Jvm.MethodName)) ∈ lw_all := lw_g (lw_at lw_m6 228 rfl) rfl
theorem q1571 : (Jvm.Cond.selects "DeltaIndex" ({ cls := "DeltaIndex", name := "step", desc := "(I)I" } : Jvm.MethodName) ({ cls := "DeltaIndex", name := "step", desc := "(I)I" } : Jvm.MethodName)) ∈ lw_all := lw_g (lw_at lw_m6 229 rfl) rfl
theorem q1572 : (Jvm.Cond.code ({ cls := "DeltaIndex", name := "step", desc := "(I)I" } : Jvm.MethodName) prog_1_method_14_code (2 : Nat) (Option.some Jvm.ClassFile.FieldType.int)) ∈ lw_all := lw_g (lw_at lw_m6 230 rfl) rfl
theorem q1573 : (Jvm.Cond.methodLink "DeltaIndex" (142 : Nat) ({ cls := "DeltaIndex$Store", name := "steps", desc := "(I)I" } : Jvm.MethodName)) ∈ lw_all := lw_g (lw_at lw_m6 231 rfl) rfl
theorem q1575 : (Jvm.Cond.instanceMethod ({ cls := "DeltaIndex", name := "close", desc := "(I)I" } : Jvm.MethodName)) ∈ lw_all := lw_g (lw_at lw_m6 233 rfl) rfl
theorem q1576 : (Jvm.Cond.selects "DeltaIndex" ({ cls := "DeltaIndex", name := "close", desc := "(I)I" } : Jvm.MethodName) ({ cls := "DeltaIndex", name := "close", desc := "(I)I" } : Jvm.MethodName)) ∈ lw_all := lw_g (lw_at lw_m6 234 rfl) rfl
theorem q1577 : (Jvm.Cond.code ({ cls := "DeltaIndex", name := "close", desc := "(I)I" } : Jvm.MethodName) prog_1_method_15_code (2 : Nat) (Option.some Jvm.ClassFile.FieldType.int)) ∈ lw_all := lw_g (lw_at lw_m6 235 rfl) rfl
theorem q1578 : (Jvm.Cond.methodLink "DeltaIndex" (146 : Nat) ({ cls := "DeltaIndex$Store", name := "closes", desc := "(I)I" } : Jvm.MethodName)) ∈ lw_all := lw_g (lw_at lw_m6 236 rfl) rfl
theorem q1580 : (Jvm.Cond.instanceMethod ({ cls := "DeltaIndex", name := "sweep", desc := "()I" } : Jvm.MethodName)) ∈ lw_all := lw_g (lw_at lw_m6 238 rfl) rfl
theorem q1581 : (Jvm.Cond.selects "DeltaIndex" ({ cls := "DeltaIndex", name := "sweep", desc := "()I" } : Jvm.MethodName) ({ cls := "DeltaIndex", name := "sweep", desc := "()I" } : Jvm.MethodName)) ∈ lw_all := lw_g (lw_at lw_m6 239 rfl) rfl
theorem q1582 : (Jvm.Cond.code ({ cls := "DeltaIndex", name := "sweep", desc := "()I" } : Jvm.MethodName) prog_1_method_16_code (1 : Nat) (Option.some Jvm.ClassFile.FieldType.int)) ∈ lw_all := lw_g (lw_at lw_m7 0 rfl) rfl
theorem q1583 : (Jvm.Cond.methodLink "DeltaIndex" (149 : Nat) ({ cls := "DeltaIndex$Store", name := "sweeps", desc := "()I" } : Jvm.MethodName)) ∈ lw_all := lw_g (lw_at lw_m7 1 rfl) rfl
theorem q1585 : (Jvm.Cond.instanceMethod ({ cls := "DeltaIndex", name := "has", desc := "(I)I" } : Jvm.MethodName)) ∈ lw_all := lw_g (lw_at lw_m7 3 rfl) rfl
theorem q1586 : (Jvm.Cond.selects "DeltaIndex" ({ cls := "DeltaIndex", name := "has", desc := "(I)I" } : Jvm.MethodName) ({ cls := "DeltaIndex", name := "has", desc := "(I)I" } : Jvm.MethodName)) ∈ lw_all := lw_g (lw_at lw_m7 4 rfl) rfl
theorem q1587 : (Jvm.Cond.code ({ cls := "DeltaIndex", name := "has", desc := "(I)I" } : Jvm.MethodName) prog_1_method_18_code (2 : Nat) (Option.some Jvm.ClassFile.FieldType.int)) ∈ lw_all := lw_g (lw_at lw_m7 5 rfl) rfl
theorem q1588 : (Jvm.Cond.methodLink "DeltaIndex" (156 : Nat) ({ cls := "DeltaIndex", name := "placeOf", desc := "(I)I" } : Jvm.MethodName)) ∈ lw_all := lw_g (lw_at lw_m7 6 rfl) rfl
theorem q1589 : (Jvm.Cond.privateMethod ({ cls := "DeltaIndex", name := "placeOf", desc := "(I)I" } : Jvm.MethodName)) ∈ lw_tbl := lw_at lw_m7 7 rfl
theorem q1590 : (Jvm.Cond.instanceMethod ({ cls := "DeltaIndex", name := "placeOf", desc := "(I)I" } : Jvm.MethodName)) ∈ lw_all := lw_g (lw_at lw_m7 8 rfl) rfl
theorem q1591 : (Jvm.Cond.code ({ cls := "DeltaIndex", name := "placeOf", desc := "(I)I" } : Jvm.MethodName) prog_1_method_17_code (4 : Nat) (Option.some Jvm.ClassFile.FieldType.int)) ∈ lw_all := lw_g (lw_at lw_m7 9 rfl) rfl
theorem q1592 : (Jvm.Cond.methodLink "DeltaIndex" (153 : Nat) ({ cls := "DeltaIndex$Store", name := "all", desc := "([I[I)I" } : Jvm.MethodName)) ∈ lw_all := lw_g (lw_at lw_m7 10 rfl) rfl
theorem q1597 : (Jvm.Cond.instanceMethod ({ cls := "DeltaIndex", name := "value", desc := "(I)I" } : Jvm.MethodName)) ∈ lw_all := lw_g (lw_at lw_m7 15 rfl) rfl
theorem q1598 : (Jvm.Cond.selects "DeltaIndex" ({ cls := "DeltaIndex", name := "value", desc := "(I)I" } : Jvm.MethodName) ({ cls := "DeltaIndex", name := "value", desc := "(I)I" } : Jvm.MethodName)) ∈ lw_all := lw_g (lw_at lw_m7 16 rfl) rfl
theorem q1599 : (Jvm.Cond.code ({ cls := "DeltaIndex", name := "value", desc := "(I)I" } : Jvm.MethodName) prog_1_method_19_code (3 : Nat) (Option.some Jvm.ClassFile.FieldType.int)) ∈ lw_all := lw_g (lw_at lw_m7 17 rfl) rfl
theorem q1601 : (Jvm.Cond.instanceMethod ({ cls := "DeltaIndex", name := "many", desc := "(II)I" } : Jvm.MethodName)) ∈ lw_all := lw_g (lw_at lw_m7 19 rfl) rfl
theorem q1602 : (Jvm.Cond.selects "DeltaIndex" ({ cls := "DeltaIndex", name := "many", desc := "(II)I" } : Jvm.MethodName) ({ cls := "DeltaIndex", name := "many", desc := "(II)I" } : Jvm.MethodName)) ∈ lw_all := lw_g (lw_at lw_m7 20 rfl) rfl
theorem q1603 : (Jvm.Cond.code ({ cls := "DeltaIndex", name := "many", desc := "(II)I" } : Jvm.MethodName) prog_1_method_20_code (6 : Nat) (Option.some Jvm.ClassFile.FieldType.int)) ∈ lw_all := lw_g (lw_at lw_m7 21 rfl) rfl
theorem q1605 : (Jvm.Cond.instanceMethod ({ cls := "DeltaIndex", name := "sum", desc := "(II)I" } : Jvm.MethodName)) ∈ lw_all := lw_g (lw_at lw_m7 23 rfl) rfl
theorem q1606 : (Jvm.Cond.selects "DeltaIndex" ({ cls := "DeltaIndex", name := "sum", desc := "(II)I" } : Jvm.MethodName) ({ cls := "DeltaIndex", name := "sum", desc := "(II)I" } : Jvm.MethodName)) ∈ lw_all := lw_g (lw_at lw_m7 24 rfl) rfl
theorem q1607 : (Jvm.Cond.code ({ cls := "DeltaIndex", name := "sum", desc := "(II)I" } : Jvm.MethodName) prog_1_method_21_code (6 : Nat) (Option.some Jvm.ClassFile.FieldType.int)) ∈ lw_all := lw_g (lw_at lw_m7 25 rfl) rfl
theorem q1609 : (Jvm.Cond.instanceMethod ({ cls := "DeltaIndex", name := "nth", desc := "(I)I" } : Jvm.MethodName)) ∈ lw_all := lw_g (lw_at lw_m7 27 rfl) rfl
theorem q1610 : (Jvm.Cond.selects "DeltaIndex" ({ cls := "DeltaIndex", name := "nth", desc := "(I)I" } : Jvm.MethodName) ({ cls := "DeltaIndex", name := "nth", desc := "(I)I" } : Jvm.MethodName)) ∈ lw_all := lw_g (lw_at lw_m7 28 rfl) rfl
theorem q1611 : (Jvm.Cond.code ({ cls := "DeltaIndex", name := "nth", desc := "(I)I" } : Jvm.MethodName) prog_1_method_22_code (3 : Nat) (Option.some Jvm.ClassFile.FieldType.int)) ∈ lw_all := lw_g (lw_at lw_m7 29 rfl) rfl
theorem q1613 : (Jvm.Cond.instanceMethod ({ cls := "DeltaIndex", name := "page", desc := "(II)I" } : Jvm.MethodName)) ∈ lw_all := lw_g (lw_at lw_m7 31 rfl) rfl
theorem q1614 : (Jvm.Cond.selects "DeltaIndex" ({ cls := "DeltaIndex", name := "page", desc := "(II)I" } : Jvm.MethodName) ({ cls := "DeltaIndex", name := "page", desc := "(II)I" } : Jvm.MethodName)) ∈ lw_all := lw_g (lw_at lw_m7 32 rfl) rfl
theorem q1615 : (Jvm.Cond.code ({ cls := "DeltaIndex", name := "page", desc := "(II)I" } : Jvm.MethodName) prog_1_method_23_code (5 : Nat) (Option.some Jvm.ClassFile.FieldType.int)) ∈ lw_all := lw_g (lw_at lw_m7 33 rfl) rfl
theorem q1616 : (Jvm.Cond.methodLink "DeltaIndex" (159 : Nat) ({ cls := "DeltaIndex", name := "isPage", desc := "(I)Z" } : Jvm.MethodName)) ∈ lw_all := lw_g (lw_at lw_m7 34 rfl) rfl
theorem q1617 : (Jvm.Cond.privateMethod ({ cls := "DeltaIndex", name := "isPage", desc := "(I)Z" } : Jvm.MethodName)) ∈ lw_tbl := lw_at lw_m7 35 rfl
theorem q1618 : (Jvm.Cond.instanceMethod ({ cls := "DeltaIndex", name := "isPage", desc := "(I)Z" } : Jvm.MethodName)) ∈ lw_all := lw_g (lw_at lw_m7 36 rfl) rfl
theorem q1619 : (Jvm.Cond.code ({ cls := "DeltaIndex", name := "isPage", desc := "(I)Z" } : Jvm.MethodName) prog_1_method_11_code (2 : Nat) (Option.some Jvm.ClassFile.FieldType.boolean)) ∈ lw_all := lw_g (lw_at lw_m7 37 rfl) rfl
theorem q1620 : (Jvm.Cond.methodLink "DeltaIndex" (162 : Nat) ({ cls := "DeltaIndex$Store", name := "isGone", desc := "(I)Z" } : Jvm.MethodName)) ∈ lw_all := lw_g (lw_at lw_m7 38 rfl) rfl
theorem q1621 : (Jvm.Cond.methodLink "DeltaIndex" (165 : Nat) ({ cls := "DeltaIndex$Store", name := "lays", desc := "(ILDeltaIndex$Record;)V" } : Jvm.MethodName)) ∈ lw_all := lw_g (lw_at lw_m7 39 rfl) rfl
theorem q1622 : (Jvm.Cond.methodLink "DeltaIndex" (172 : Nat) ({ cls := "DeltaIndex$Store", name := "length", desc := "(I)I" } : Jvm.MethodName)) ∈ lw_all := lw_g (lw_at lw_m7 40 rfl) rfl
theorem q1624 : (Jvm.Cond.instanceMethod ({ cls := "DeltaIndex", name := "bound", desc := "(II)I" } : Jvm.MethodName)) ∈ lw_all := lw_g (lw_at lw_m7 42 rfl) rfl
theorem q1625 : (Jvm.Cond.selects "DeltaIndex" ({ cls := "DeltaIndex", name := "bound", desc := "(II)I" } : Jvm.MethodName) ({ cls := "DeltaIndex", name := "bound", desc := "(II)I" } : Jvm.MethodName)) ∈ lw_all := lw_g (lw_at lw_m7 43 rfl) rfl
theorem q1626 : (Jvm.Cond.code ({ cls := "DeltaIndex", name := "bound", desc := "(II)I" } : Jvm.MethodName) prog_1_method_24_code (4 : Nat) (Option.some Jvm.ClassFile.FieldType.int)) ∈ lw_all := lw_g (lw_at lw_m7 44 rfl) rfl
theorem q1627 : (Jvm.Cond.methodLink "DeltaIndex" (184 : Nat) ({ cls := "DeltaIndex$Store", name := "bounds", desc := "()LDeltaIndex$Record;" } : Jvm.MethodName)) ∈ lw_all := lw_g (lw_at lw_m7 45 rfl) rfl
theorem q1629 : (Jvm.Cond.instanceMethod ({ cls := "DeltaIndex", name := "record", desc := "(II)I" } : Jvm.MethodName)) ∈ lw_all := lw_g (lw_at lw_m7 47 rfl) rfl
theorem q1630 : (Jvm.Cond.selects "DeltaIndex" ({ cls := "DeltaIndex", name := "record", desc := "(II)I" } : Jvm.MethodName) ({ cls := "DeltaIndex", name := "record", desc := "(II)I" } : Jvm.MethodName)) ∈ lw_all := lw_g (lw_at lw_m7 48 rfl) rfl
theorem q1631 : (Jvm.Cond.code ({ cls := "DeltaIndex", name := "record", desc := "(II)I" } : Jvm.MethodName) prog_1_method_25_code (4 : Nat) (Option.some Jvm.ClassFile.FieldType.int)) ∈ lw_all := lw_g (lw_at lw_m7 49 rfl) rfl
theorem q1632 : (Jvm.Cond.methodLink "DeltaIndex" (192 : Nat) ({ cls := "DeltaIndex", name := "isRecord", desc := "(I)Z" } : Jvm.MethodName)) ∈ lw_all := lw_g (lw_at lw_m7 50 rfl) rfl
theorem q1633 : (Jvm.Cond.privateMethod ({ cls := "DeltaIndex", name := "isRecord", desc := "(I)Z" } : Jvm.MethodName)) ∈ lw_tbl := lw_at lw_m7 51 rfl
theorem q1634 : (Jvm.Cond.instanceMethod ({ cls := "DeltaIndex", name := "isRecord", desc := "(I)Z" } : Jvm.MethodName)) ∈ lw_all := lw_g (lw_at lw_m7 52 rfl) rfl
theorem q1635 : (Jvm.Cond.code ({ cls := "DeltaIndex", name := "isRecord", desc := "(I)Z" } : Jvm.MethodName) prog_1_method_12_code (2 : Nat) (Option.some Jvm.ClassFile.FieldType.boolean)) ∈ lw_all := lw_g (lw_at lw_m7 53 rfl) rfl
theorem q1637 : (Jvm.Cond.instanceMethod ({ cls := "DeltaIndex", name := "base", desc := "(III)I" } : Jvm.MethodName)) ∈ lw_all := lw_g (lw_at lw_m7 55 rfl) rfl
theorem q1638 : (Jvm.Cond.selects "DeltaIndex" ({ cls := "DeltaIndex", name := "base", desc := "(III)I" } : Jvm.MethodName) ({ cls := "DeltaIndex", name := "base", desc := "(III)I" } : Jvm.MethodName)) ∈ lw_all := lw_g (lw_at lw_m7 56 rfl) rfl
theorem q1639 : (Jvm.Cond.code ({ cls := "DeltaIndex", name := "base", desc := "(III)I" } : Jvm.MethodName) prog_1_method_26_code (5 : Nat) (Option.some Jvm.ClassFile.FieldType.int)) ∈ lw_all := lw_g (lw_at lw_m7 57 rfl) rfl
theorem q1641 : (Jvm.Cond.instanceMethod ({ cls := "DeltaIndex", name := "hand", desc := "(II)I" } : Jvm.MethodName)) ∈ lw_all := lw_g (lw_at lw_m7 59 rfl) rfl
theorem q1642 : (Jvm.Cond.selects "DeltaIndex" ({ cls := "DeltaIndex", name := "hand", desc := "(II)I" } : Jvm.MethodName) ({ cls := "DeltaIndex", name := "hand", desc := "(II)I" } : Jvm.MethodName)) ∈ lw_all := lw_g (lw_at lw_m7 60 rfl) rfl
theorem q1643 : (Jvm.Cond.code ({ cls := "DeltaIndex", name := "hand", desc := "(II)I" } : Jvm.MethodName) prog_1_method_27_code (4 : Nat) (Option.some Jvm.ClassFile.FieldType.int)) ∈ lw_all := lw_g (lw_at lw_m7 61 rfl) rfl
theorem q1645 : (Jvm.Cond.instanceMethod ({ cls := "DeltaIndex", name := "result", desc := "(I)I" } : Jvm.MethodName)) ∈ lw_all := lw_g (lw_at lw_m7 63 rfl) rfl
theorem q1646 : (Jvm.Cond.selects "DeltaIndex" ({ cls := "DeltaIndex", name := "result", desc := "(I)I" } : Jvm.MethodName) ({ cls := "DeltaIndex", name := "result", desc := "(I)I" } : Jvm.MethodName)) ∈ lw_all := lw_g (lw_at lw_m7 64 rfl) rfl
theorem q1647 : (Jvm.Cond.code ({ cls := "DeltaIndex", name := "result", desc := "(I)I" } : Jvm.MethodName) prog_1_method_28_code (2 : Nat) (Option.some Jvm.ClassFile.FieldType.int)) ∈ lw_all := lw_g (lw_at lw_m7 65 rfl) rfl
theorem q1649 : (Jvm.Cond.instanceMethod ({ cls := "DeltaIndex", name := "halves", desc := "(I)I" } : Jvm.MethodName)) ∈ lw_all := lw_g (lw_at lw_m7 67 rfl) rfl
theorem q1650 : (Jvm.Cond.selects "DeltaIndex" ({ cls := "DeltaIndex", name := "halves", desc := "(I)I" } : Jvm.MethodName) ({ cls := "DeltaIndex", name := "halves", desc := "(I)I" } : Jvm.MethodName)) ∈ lw_all := lw_g (lw_at lw_m7 68 rfl) rfl
theorem q1651 : (Jvm.Cond.code ({ cls := "DeltaIndex", name := "halves", desc := "(I)I" } : Jvm.MethodName) prog_1_method_29_code (2 : Nat) (Option.some Jvm.ClassFile.FieldType.int)) ∈ lw_all := lw_g (lw_at lw_m7 69 rfl) rfl
theorem q1652 : (Jvm.Cond.methodLink "DeltaIndex" (244 : Nat) ({ cls := "DeltaIndex$Store", name := "splitsLeft", desc := "()I" } : Jvm.MethodName)) ∈ lw_all := lw_g (lw_at lw_m7 70 rfl) rfl
theorem q1656 : (Jvm.Cond.methodLink "DeltaIndex" (247 : Nat) ({ cls := "DeltaIndex$Store", name := "goneLeft", desc := "()I" } : Jvm.MethodName)) ∈ lw_all := lw_g (lw_at lw_m7 74 rfl) rfl
theorem q1661 : (Jvm.Cond.instanceMethod ({ cls := "DeltaIndex", name := "replay", desc := "(IIII)I" } : Jvm.MethodName)) ∈ lw_all := lw_g (lw_at lw_m7 79 rfl) rfl
theorem q1662 : (Jvm.Cond.selects "DeltaIndex" ({ cls := "DeltaIndex", name := "replay", desc := "(IIII)I" } : Jvm.MethodName) ({ cls := "DeltaIndex", name := "replay", desc := "(IIII)I" } : Jvm.MethodName)) ∈ lw_all := lw_g (lw_at lw_m7 80 rfl) rfl
theorem q1663 : (Jvm.Cond.code ({ cls := "DeltaIndex", name := "replay", desc := "(IIII)I" } : Jvm.MethodName) prog_1_method_33_code (11 : Nat) (Option.some Jvm.ClassFile.FieldType.int)) ∈ lw_all := lw_g (lw_at lw_m7 81 rfl) rfl
theorem q1664 : (Jvm.Cond.methodLink "DeltaIndex" (253 : Nat) ({ cls := "DeltaIndex", name := "replays", desc := "(IIII)V" } : Jvm.MethodName)) ∈ lw_all := lw_g (lw_at lw_m7 82 rfl) rfl
theorem q1665 : (Jvm.Cond.privateMethod ({ cls := "DeltaIndex", name := "replays", desc := "(IIII)V" } : Jvm.MethodName)) ∈ lw_tbl := lw_at lw_m7 83 rfl
theorem q1666 : (Jvm.Cond.instanceMethod ({ cls := "DeltaIndex", name := "replays", desc := "(IIII)V" } : Jvm.MethodName)) ∈ lw_all := lw_g (lw_at lw_m7 84 rfl) rfl
theorem q1667 : (Jvm.Cond.code ({ cls := "DeltaIndex", name := "replays", desc := "(IIII)V" } : Jvm.MethodName) prog_1_method_30_code (6 : Nat) (Option.none : Option Jvm.ClassFile.FieldType)) ∈ lw_all := lw_g (lw_at lw_m7 85 rfl) rfl
theorem q1668 : (Jvm.Cond.methodLink "DeltaIndex" (250 : Nat) ({ cls := "DeltaIndex$Store", name := "becomes", desc := "(LDeltaIndex$Store;)V" } : Jvm.MethodName)) ∈ lw_all := lw_g (lw_at lw_m7 86 rfl) rfl
theorem q1683 : (Jvm.Cond.methodLink "DeltaIndex" (257 : Nat) ({ cls := "DeltaIndex", name := "isAsFirst", desc := "(I)Z" } : Jvm.MethodName)) ∈ lw_all := lw_g (lw_at lw_m7 101 rfl) rfl
theorem q1684 : (Jvm.Cond.privateMethod ({ cls := "DeltaIndex", name := "isAsFirst", desc := "(I)Z" } : Jvm.MethodName)) ∈ lw_tbl := lw_at lw_m7 102 rfl
theorem q1685 : (Jvm.Cond.instanceMethod ({ cls := "DeltaIndex", name := "isAsFirst", desc := "(I)Z" } : Jvm.MethodName)) ∈ lw_all := lw_g (lw_at lw_m7 103 rfl) rfl
theorem q1686 : (Jvm.Cond.code ({ cls := "DeltaIndex", name := "isAsFirst", desc := "(I)Z" } : Jvm.MethodName) prog_1_method_31_code (5 : Nat) (Option.some Jvm.ClassFile.FieldType.boolean)) ∈ lw_all := lw_g (lw_at lw_m7 104 rfl) rfl
theorem q1687 : (Jvm.Cond.methodLink "DeltaIndex" (260 : Nat) ({ cls := "java/lang/Math", name := "min", desc := "(II)I" } : Jvm.MethodName)) ∈ lw_all := lw_g (lw_at lw_m7 105 rfl) rfl
theorem q1688 : (Jvm.Cond.methodLink "DeltaIndex" (266 : Nat) ({ cls := "DeltaIndex", name := "lostIn", desc := "(II)I" } : Jvm.MethodName)) ∈ lw_all := lw_g (lw_at lw_m7 106 rfl) rfl
theorem q1689 : (Jvm.Cond.privateMethod ({ cls := "DeltaIndex", name := "lostIn", desc := "(II)I" } : Jvm.MethodName)) ∈ lw_tbl := lw_at lw_m7 107 rfl
theorem q1690 : (Jvm.Cond.instanceMethod ({ cls := "DeltaIndex", name := "lostIn", desc := "(II)I" } : Jvm.MethodName)) ∈ lw_all := lw_g (lw_at lw_m7 108 rfl) rfl
theorem q1691 : (Jvm.Cond.code ({ cls := "DeltaIndex", name := "lostIn", desc := "(II)I" } : Jvm.MethodName) prog_1_method_32_code (3 : Nat) (Option.some Jvm.ClassFile.FieldType.int)) ∈ lw_all := lw_g (lw_at lw_m7 109 rfl) rfl
theorem q1693 : (Jvm.Cond.instanceMethod ({ cls := "DeltaIndex", name := "hold", desc := "(I)Z" } : Jvm.MethodName)) ∈ lw_all := lw_g (lw_at lw_m7 111 rfl) rfl
theorem q1694 : (Jvm.Cond.selects "DeltaIndex" ({ cls := "DeltaIndex", name := "hold", desc := "(I)Z" } : Jvm.MethodName) ({ cls := "DeltaIndex", name := "hold", desc := "(I)Z" } : Jvm.MethodName)) ∈ lw_all := lw_g (lw_at lw_m7 112 rfl) rfl
theorem q1695 : (Jvm.Cond.code ({ cls := "DeltaIndex", name := "hold", desc := "(I)Z" } : Jvm.MethodName) prog_1_method_34_code (2 : Nat) (Option.some Jvm.ClassFile.FieldType.boolean)) ∈ lw_all := lw_g (lw_at lw_m7 113 rfl) rfl
theorem q1697 : (Jvm.Cond.instanceMethod ({ cls := "DeltaIndex", name := "restore", desc := "(I)Z" } : Jvm.MethodName)) ∈ lw_all := lw_g (lw_at lw_m7 115 rfl) rfl
theorem q1698 : (Jvm.Cond.selects "DeltaIndex" ({ cls := "DeltaIndex", name := "restore", desc := "(I)Z" } : Jvm.MethodName) ({ cls := "DeltaIndex", name := "restore", desc := "(I)Z" } : Jvm.MethodName)) ∈ lw_all := lw_g (lw_at lw_m7 116 rfl) rfl
theorem q1699 : (Jvm.Cond.code ({ cls := "DeltaIndex", name := "restore", desc := "(I)Z" } : Jvm.MethodName) prog_1_method_35_code (2 : Nat) (Option.some Jvm.ClassFile.FieldType.boolean)) ∈ lw_all := lw_g (lw_at lw_m7 117 rfl) rfl
theorem q1701 : (Jvm.Cond.instanceMethod ({ cls := "DeltaIndex", name := "count", desc := "(I)I" } : Jvm.MethodName)) ∈ lw_all := lw_g (lw_at lw_m7 119 rfl) rfl
theorem q1702 : (Jvm.Cond.selects "DeltaIndex" ({ cls := "DeltaIndex", name := "count", desc := "(I)I" } : Jvm.MethodName) ({ cls := "DeltaIndex", name := "count", desc := "(I)I" } : Jvm.MethodName)) ∈ lw_all := lw_g (lw_at lw_m7 120 rfl) rfl
theorem q1703 : (Jvm.Cond.code ({ cls := "DeltaIndex", name := "count", desc := "(I)I" } : Jvm.MethodName) prog_1_method_38_code (2 : Nat) (Option.some Jvm.ClassFile.FieldType.int)) ∈ lw_all := lw_g (lw_at lw_m7 121 rfl) rfl
theorem q1704 : (Jvm.Cond.methodLink "DeltaIndex" (269 : Nat) ({ cls := "DeltaIndex$Store", name := "keys", desc := "()I" } : Jvm.MethodName)) ∈ lw_all := lw_g (lw_at lw_m7 122 rfl) rfl
theorem q1705 : (Jvm.Cond.methodLink "DeltaIndex" (273 : Nat) ({ cls := "DeltaIndex", name := "retired", desc := "(Z)I" } : Jvm.MethodName)) ∈ lw_all := lw_g (lw_at lw_m7 123 rfl) rfl
theorem q1706 : (Jvm.Cond.privateMethod ({ cls := "DeltaIndex", name := "retired", desc := "(Z)I" } : Jvm.MethodName)) ∈ lw_tbl := lw_at lw_m7 124 rfl
theorem q1707 : (Jvm.Cond.instanceMethod ({ cls := "DeltaIndex", name := "retired", desc := "(Z)I" } : Jvm.MethodName)) ∈ lw_all := lw_g (lw_at lw_m7 125 rfl) rfl
theorem q1708 : (Jvm.Cond.code ({ cls := "DeltaIndex", name := "retired", desc := "(Z)I" } : Jvm.MethodName) prog_1_method_37_code (4 : Nat) (Option.some Jvm.ClassFile.FieldType.int)) ∈ lw_all := lw_g (lw_at lw_m7 126 rfl) rfl
theorem q1709 : (Jvm.Cond.methodLink "DeltaIndex" (276 : Nat) ({ cls := "DeltaIndex", name := "busy", desc := "()I" } : Jvm.MethodName)) ∈ lw_all := lw_g (lw_at lw_m7 127 rfl) rfl
theorem q1710 : (Jvm.Cond.privateMethod ({ cls := "DeltaIndex", name := "busy", desc := "()I" } : Jvm.MethodName)) ∈ lw_tbl := lw_at lw_m7 128 rfl
theorem q1711 : (Jvm.Cond.instanceMethod ({ cls := "DeltaIndex", name := "busy", desc := "()I" } : Jvm.MethodName)) ∈ lw_all := lw_g (lw_at lw_m7 129 rfl) rfl
theorem q1712 : (Jvm.Cond.code ({ cls := "DeltaIndex", name := "busy", desc := "()I" } : Jvm.MethodName) prog_1_method_36_code (3 : Nat) (Option.some Jvm.ClassFile.FieldType.int)) ∈ lw_all := lw_g (lw_at lw_m7 130 rfl) rfl
theorem q1713 : (Jvm.Cond.methodLink "DeltaIndex" (279 : Nat) ({ cls := "DeltaIndex$Store", name := "lostOfAll", desc := "()I" } : Jvm.MethodName)) ∈ lw_all := lw_g (lw_at lw_m7 131 rfl) rfl
theorem q2360 : (Jvm.Cond.castable "DeltaIndex" "java/lang/Object") ∈ lw_tbl := lw_at lw_m10 58 rfl
theorem in_X0 : ∀ w ∈ wsX00, w ∈ lw_all := lw_in wsX00 [660, 662, 664, 666, 668, 670, 672, 674, 676, 678, 680, 682, 684, 686] (by decide +kernel) (by decide +kernel)

/-! the law's own entry -/
set_option maxRecDepth 100000
abbrev cL_law : ByteArray := code
def dkwL_law_33 : List UInt8 := [172]
abbrev dktL_law_33 : List UInt8 := dkwL_law_33 ++ []
def dkwL_law_32 : List UInt8 := [182, 0, 113, 44, 42, 29, 4, 96, 46, 182, 0, 116, 159, 0, 5, 3, 172, 132, 3, 6, 167, 252, 193, 4]
abbrev dktL_law_32 : List UInt8 := dkwL_law_32 ++ dktL_law_33
def dkwL_law_31 : List UInt8 := [182, 0, 109, 44, 42, 29, 4, 96, 46, 182, 0, 112, 159, 0, 28, 3, 172, 43, 42, 29, 4, 96, 46]
abbrev dktL_law_31 : List UInt8 := dkwL_law_31 ++ dktL_law_32
def dkwL_law_30 : List UInt8 := [182, 0, 104, 44, 42, 29, 4, 96, 46, 182, 0, 108, 159, 0, 51, 3, 172, 43, 42, 29, 4, 96, 46]
abbrev dktL_law_30 : List UInt8 := dkwL_law_30 ++ dktL_law_31
def dkwL_law_29 : List UInt8 := [29, 6, 96, 46, 42, 29, 7, 96, 46, 182, 0, 103, 159, 0, 74, 3, 172, 43, 42, 29, 4, 96, 46]
abbrev dktL_law_29 : List UInt8 := dkwL_law_29 ++ dktL_law_30
def dkwL_law_28 : List UInt8 := [29, 6, 96, 46, 42, 29, 7, 96, 46, 182, 0, 99, 44, 42, 29, 4, 96, 46, 42, 29, 5, 96, 46, 42]
abbrev dktL_law_28 : List UInt8 := dkwL_law_28 ++ dktL_law_29
def dkwL_law_27 : List UInt8 := [29, 4, 96, 46, 182, 0, 98, 159, 0, 127, 3, 172, 43, 42, 29, 4, 96, 46, 42, 29, 5, 96, 46, 42]
abbrev dktL_law_27 : List UInt8 := dkwL_law_27 ++ dktL_law_28
def dkwL_law_26 : List UInt8 := [42, 29, 4, 96, 46, 182, 0, 94, 159, 0, 150, 3, 172, 43, 42, 29, 4, 96, 46, 182, 0, 95, 44, 42]
abbrev dktL_law_26 : List UInt8 := dkwL_law_26 ++ dktL_law_27
def dkwL_law_25 : List UInt8 := [46, 42, 29, 5, 96, 46, 182, 0, 90, 159, 0, 173, 3, 172, 43, 42, 29, 4, 96, 46, 182, 0, 91, 44]
abbrev dktL_law_25 : List UInt8 := dkwL_law_25 ++ dktL_law_26
def dkwL_law_24 : List UInt8 := [159, 0, 206, 3, 172, 43, 42, 29, 4, 96, 46, 42, 29, 5, 96, 46, 182, 0, 87, 44, 42, 29, 4, 96]
abbrev dktL_law_24 : List UInt8 := dkwL_law_24 ++ dktL_law_25
def dkwL_law_23 : List UInt8 := [182, 0, 82, 44, 42, 29, 4, 96, 46, 42, 29, 5, 96, 46, 42, 29, 6, 96, 46, 182, 0, 86]
abbrev dktL_law_23 : List UInt8 := dkwL_law_23 ++ dktL_law_24
def dkwL_law_22 : List UInt8 := [182, 0, 81, 159, 0, 249, 3, 172, 43, 42, 29, 4, 96, 46, 42, 29, 5, 96, 46, 42, 29, 6, 96, 46]
abbrev dktL_law_22 : List UInt8 := dkwL_law_22 ++ dktL_law_23
def dkwL_law_21 : List UInt8 := [42, 29, 4, 96, 46, 42, 29, 5, 96, 46, 182, 0, 78, 44, 42, 29, 4, 96, 46, 42, 29, 5, 96, 46]
abbrev dktL_law_21 : List UInt8 := dkwL_law_21 ++ dktL_law_22
def dkwL_law_20 : List UInt8 := [46, 182, 0, 74, 44, 42, 29, 4, 96, 46, 42, 29, 5, 96, 46, 182, 0, 77, 159, 1, 26, 3, 172, 43]
abbrev dktL_law_20 : List UInt8 := dkwL_law_20 ++ dktL_law_21
def dkwL_law_19 : List UInt8 := [46, 42, 29, 5, 96, 46, 182, 0, 73, 159, 1, 59, 3, 172, 43, 42, 29, 4, 96, 46, 42, 29, 5, 96]
abbrev dktL_law_19 : List UInt8 := dkwL_law_19 ++ dktL_law_20
def dkwL_law_18 : List UInt8 := [159, 1, 92, 3, 172, 43, 42, 29, 4, 96, 46, 42, 29, 5, 96, 46, 182, 0, 70, 44, 42, 29, 4, 96]
abbrev dktL_law_18 : List UInt8 := dkwL_law_18 ++ dktL_law_19
def dkwL_law_17 : List UInt8 := [159, 1, 115, 3, 172, 43, 42, 29, 4, 96, 46, 182, 0, 66, 44, 42, 29, 4, 96, 46, 182, 0, 69]
abbrev dktL_law_17 : List UInt8 := dkwL_law_17 ++ dktL_law_18
def dkwL_law_16 : List UInt8 := [46, 42, 29, 5, 96, 46, 182, 0, 62, 44, 42, 29, 4, 96, 46, 42, 29, 5, 96, 46, 182, 0, 65]
abbrev dktL_law_16 : List UInt8 := dkwL_law_16 ++ dktL_law_17
def dkwL_law_15 : List UInt8 := [44, 42, 29, 4, 96, 46, 42, 29, 5, 96, 46, 182, 0, 61, 159, 1, 148, 3, 172, 43, 42, 29, 4, 96]
abbrev dktL_law_15 : List UInt8 := dkwL_law_15 ++ dktL_law_16
def dkwL_law_14 : List UInt8 := [96, 46, 182, 0, 56, 159, 1, 181, 3, 172, 43, 42, 29, 4, 96, 46, 42, 29, 5, 96, 46, 182, 0, 57]
abbrev dktL_law_14 : List UInt8 := dkwL_law_14 ++ dktL_law_15
def dkwL_law_13 : List UInt8 := [4, 96, 46, 182, 0, 52, 159, 1, 204, 3, 172, 43, 42, 29, 4, 96, 46, 182, 0, 53, 44, 42, 29, 4]
abbrev dktL_law_13 : List UInt8 := dkwL_law_13 ++ dktL_law_14
def dkwL_law_12 : List UInt8 := [182, 0, 45, 44, 182, 0, 48, 159, 1, 227, 3, 172, 43, 42, 29, 4, 96, 46, 182, 0, 49, 44, 42, 29]
abbrev dktL_law_12 : List UInt8 := dkwL_law_12 ++ dktL_law_13
def dkwL_law_11 : List UInt8 := [29, 4, 96, 46, 182, 0, 41, 44, 42, 29, 4, 96, 46, 182, 0, 44, 159, 1, 240, 3, 172, 43]
abbrev dktL_law_11 : List UInt8 := dkwL_law_11 ++ dktL_law_12
def dkwL_law_10 : List UInt8 := [42, 29, 4, 96, 46, 182, 0, 37, 44, 42, 29, 4, 96, 46, 182, 0, 40, 159, 2, 7, 3, 172, 43, 42]
abbrev dktL_law_10 : List UInt8 := dkwL_law_10 ++ dktL_law_11
def dkwL_law_9 : List UInt8 := [42, 29, 5, 96, 46, 42, 29, 6, 96, 46, 42, 29, 7, 96, 46, 182, 0, 36, 159, 2, 30, 3, 172, 43]
abbrev dktL_law_9 : List UInt8 := dkwL_law_9 ++ dktL_law_10
def dkwL_law_8 : List UInt8 := [42, 29, 5, 96, 46, 42, 29, 6, 96, 46, 42, 29, 7, 96, 46, 182, 0, 32, 44, 42, 29, 4, 96, 46]
abbrev dktL_law_8 : List UInt8 := dkwL_law_8 ++ dktL_law_9
def dkwL_law_7 : List UInt8 := [159, 2, 96, 3, 172, 43, 182, 0, 28, 44, 182, 0, 31, 159, 2, 83, 3, 172, 43, 42, 29, 4, 96, 46]
abbrev dktL_law_7 : List UInt8 := dkwL_law_7 ++ dktL_law_8
def dkwL_law_6 : List UInt8 := [44, 42, 29, 4, 96, 46, 182, 0, 22, 159, 2, 109, 3, 172, 43, 182, 0, 23, 44, 182, 0, 27]
abbrev dktL_law_6 : List UInt8 := dkwL_law_6 ++ dktL_law_7
def dkwL_law_5 : List UInt8 := [96, 46, 42, 29, 8, 96, 46, 182, 0, 17, 159, 2, 132, 3, 172, 43, 42, 29, 4, 96, 46, 182, 0, 18]
abbrev dktL_law_5 : List UInt8 := dkwL_law_5 ++ dktL_law_6
def dkwL_law_4 : List UInt8 := [96, 46, 182, 0, 13, 44, 42, 29, 4, 96, 46, 42, 29, 5, 96, 46, 42, 29, 6, 96, 46, 42, 29, 7]
abbrev dktL_law_4 : List UInt8 := dkwL_law_4 ++ dktL_law_5
def dkwL_law_3 : List UInt8 := [43, 42, 29, 4, 96, 46, 42, 29, 5, 96, 46, 42, 29, 6, 96, 46, 42, 29, 7, 96, 46, 42, 29, 8]
abbrev dktL_law_3 : List UInt8 := dkwL_law_3 ++ dktL_law_4
def dkwL_law_2 : List UInt8 := [170, 0, 0, 0, 0, 3, 45, 0, 0, 0, 0, 0, 0, 0, 23, 0, 0, 0, 111, 0, 0, 0, 174, 0, 0, 0, 197, 0, 0, 0, 210, 0, 0, 0, 223, 0, 0, 1, 20, 0, 0, 1, 43, 0, 0, 1, 66, 0, 0, 1, 79, 0, 0, 1, 102, 0, 0, 1, 125, 0, 0, 1, 158, 0, 0, 1, 191, 0, 0, 1, 214, 0, 0, 1, 247, 0, 0, 2, 24, 0, 0, 2, 57, 0, 0, 2, 100, 0, 0, 2, 133, 0, 0, 2, 156, 0, 0, 2, 179, 0, 0, 2, 232, 0, 0, 2, 255, 0, 0, 3, 22]
abbrev dktL_law_2 : List UInt8 := dkwL_law_2 ++ dktL_law_3
def dkwL_law_1 : List UInt8 := [163, 3, 60, 42, 29, 46, 16, 31, 126]
abbrev dktL_law_1 : List UInt8 := dkwL_law_1 ++ dktL_law_2
def dkwL_law_0 : List UInt8 := [187, 0, 7, 89, 183, 0, 9, 76, 187, 0, 10, 89, 183, 0, 12, 77, 3, 62, 29, 42, 190, 16, 6, 100]
abbrev dktL_law_0 : List UInt8 := dkwL_law_0 ++ dktL_law_1
theorem dksL_law_0 : cL_law.data.toList.drop 0 = dktL_law_0 := by decide +kernel
theorem dksL_law_1 : cL_law.data.toList.drop 24 = dktL_law_1 := dk_seg dksL_law_0 24 rfl rfl
theorem dksL_law_2 : cL_law.data.toList.drop 33 = dktL_law_2 := dk_seg dksL_law_1 9 rfl rfl
theorem dksL_law_3 : cL_law.data.toList.drop 144 = dktL_law_3 := dk_seg dksL_law_2 111 rfl rfl
theorem dksL_law_4 : cL_law.data.toList.drop 168 = dktL_law_4 := dk_seg dksL_law_3 24 rfl rfl
theorem dksL_law_5 : cL_law.data.toList.drop 192 = dktL_law_5 := dk_seg dksL_law_4 24 rfl rfl
theorem dksL_law_6 : cL_law.data.toList.drop 216 = dktL_law_6 := dk_seg dksL_law_5 24 rfl rfl
theorem dksL_law_7 : cL_law.data.toList.drop 238 = dktL_law_7 := dk_seg dksL_law_6 22 rfl rfl
theorem dksL_law_8 : cL_law.data.toList.drop 262 = dktL_law_8 := dk_seg dksL_law_7 24 rfl rfl
theorem dksL_law_9 : cL_law.data.toList.drop 286 = dktL_law_9 := dk_seg dksL_law_8 24 rfl rfl
theorem dksL_law_10 : cL_law.data.toList.drop 310 = dktL_law_10 := dk_seg dksL_law_9 24 rfl rfl
theorem dksL_law_11 : cL_law.data.toList.drop 334 = dktL_law_11 := dk_seg dksL_law_10 24 rfl rfl
theorem dksL_law_12 : cL_law.data.toList.drop 356 = dktL_law_12 := dk_seg dksL_law_11 22 rfl rfl
theorem dksL_law_13 : cL_law.data.toList.drop 380 = dktL_law_13 := dk_seg dksL_law_12 24 rfl rfl
theorem dksL_law_14 : cL_law.data.toList.drop 404 = dktL_law_14 := dk_seg dksL_law_13 24 rfl rfl
theorem dksL_law_15 : cL_law.data.toList.drop 428 = dktL_law_15 := dk_seg dksL_law_14 24 rfl rfl
theorem dksL_law_16 : cL_law.data.toList.drop 452 = dktL_law_16 := dk_seg dksL_law_15 24 rfl rfl
theorem dksL_law_17 : cL_law.data.toList.drop 475 = dktL_law_17 := dk_seg dksL_law_16 23 rfl rfl
theorem dksL_law_18 : cL_law.data.toList.drop 498 = dktL_law_18 := dk_seg dksL_law_17 23 rfl rfl
theorem dksL_law_19 : cL_law.data.toList.drop 522 = dktL_law_19 := dk_seg dksL_law_18 24 rfl rfl
theorem dksL_law_20 : cL_law.data.toList.drop 546 = dktL_law_20 := dk_seg dksL_law_19 24 rfl rfl
theorem dksL_law_21 : cL_law.data.toList.drop 570 = dktL_law_21 := dk_seg dksL_law_20 24 rfl rfl
theorem dksL_law_22 : cL_law.data.toList.drop 594 = dktL_law_22 := dk_seg dksL_law_21 24 rfl rfl
theorem dksL_law_23 : cL_law.data.toList.drop 618 = dktL_law_23 := dk_seg dksL_law_22 24 rfl rfl
theorem dksL_law_24 : cL_law.data.toList.drop 640 = dktL_law_24 := dk_seg dksL_law_23 22 rfl rfl
theorem dksL_law_25 : cL_law.data.toList.drop 664 = dktL_law_25 := dk_seg dksL_law_24 24 rfl rfl
theorem dksL_law_26 : cL_law.data.toList.drop 688 = dktL_law_26 := dk_seg dksL_law_25 24 rfl rfl
theorem dksL_law_27 : cL_law.data.toList.drop 712 = dktL_law_27 := dk_seg dksL_law_26 24 rfl rfl
theorem dksL_law_28 : cL_law.data.toList.drop 736 = dktL_law_28 := dk_seg dksL_law_27 24 rfl rfl
theorem dksL_law_29 : cL_law.data.toList.drop 760 = dktL_law_29 := dk_seg dksL_law_28 24 rfl rfl
theorem dksL_law_30 : cL_law.data.toList.drop 783 = dktL_law_30 := dk_seg dksL_law_29 23 rfl rfl
theorem dksL_law_31 : cL_law.data.toList.drop 806 = dktL_law_31 := dk_seg dksL_law_30 23 rfl rfl
theorem dksL_law_32 : cL_law.data.toList.drop 829 = dktL_law_32 := dk_seg dksL_law_31 23 rfl rfl
theorem dksL_law_33 : cL_law.data.toList.drop 853 = dktL_law_33 := dk_seg dksL_law_32 24 rfl rfl
theorem dL_law_0 : decode cL_law 0 = .ok (.new 7, 3) := dk_187 0 7 (dk_at dksL_law_0 0 rfl rfl)
theorem dL_law_3 : decode cL_law 3 = .ok (.dup, 1) := dk_89 (dk_at dksL_law_0 3 rfl rfl)
theorem dL_law_4 : decode cL_law 4 = .ok (.invokespecial 9, 3) := dk_183 0 9 (dk_at dksL_law_0 4 rfl rfl)
theorem dL_law_7 : decode cL_law 7 = .ok (.astore_n 1, 1) := dk_76 (dk_at dksL_law_0 7 rfl rfl)
theorem dL_law_8 : decode cL_law 8 = .ok (.new 10, 3) := dk_187 0 10 (dk_at dksL_law_0 8 rfl rfl)
theorem dL_law_11 : decode cL_law 11 = .ok (.dup, 1) := dk_89 (dk_at dksL_law_0 11 rfl rfl)
theorem dL_law_12 : decode cL_law 12 = .ok (.invokespecial 12, 3) := dk_183 0 12 (dk_at dksL_law_0 12 rfl rfl)
theorem dL_law_15 : decode cL_law 15 = .ok (.astore_n 2, 1) := dk_77 (dk_at dksL_law_0 15 rfl rfl)
theorem dL_law_16 : decode cL_law 16 = .ok (.iconst 0, 1) := dk_3 (dk_at dksL_law_0 16 rfl rfl)
theorem dL_law_17 : decode cL_law 17 = .ok (.istore_n 3, 1) := dk_62 (dk_at dksL_law_0 17 rfl rfl)
theorem dL_law_18 : decode cL_law 18 = .ok (.iload_n 3, 1) := dk_29 (dk_at dksL_law_0 18 rfl rfl)
theorem dL_law_19 : decode cL_law 19 = .ok (.aload_n 0, 1) := dk_42 (dk_at dksL_law_0 19 rfl rfl)
theorem dL_law_20 : decode cL_law 20 = .ok (.arraylength, 1) := dk_190 (dk_at dksL_law_0 20 rfl rfl)
theorem dL_law_21 : decode cL_law 21 = .ok (.bipush 6, 2) := dk_16 6 (dk_at dksL_law_0 21 rfl rfl)
theorem dL_law_23 : decode cL_law 23 = .ok (.isub, 1) := dk_100 (dk_at dksL_law_0 23 rfl rfl)
theorem dL_law_24 : decode cL_law 24 = .ok (.if_icmp .gt 828, 3) := dk_163 3 60 (dk_at dksL_law_1 0 rfl rfl)
theorem dL_law_27 : decode cL_law 27 = .ok (.aload_n 0, 1) := dk_42 (dk_at dksL_law_1 3 rfl rfl)
theorem dL_law_28 : decode cL_law 28 = .ok (.iload_n 3, 1) := dk_29 (dk_at dksL_law_1 4 rfl rfl)
theorem dL_law_29 : decode cL_law 29 = .ok (.iaload, 1) := dk_46 (dk_at dksL_law_1 5 rfl rfl)
theorem dL_law_30 : decode cL_law 30 = .ok (.bipush 31, 2) := dk_16 31 (dk_at dksL_law_1 6 rfl rfl)
theorem dL_law_32 : decode cL_law 32 = .ok (.iand, 1) := dk_126 (dk_at dksL_law_1 8 rfl rfl)
theorem dL_law_33 : decode cL_law 33 = .ok (.tableswitch 813 0 23 #[111, 174, 197, 210, 223, 276, 299, 322, 335, 358, 381, 414, 447, 470, 503, 536, 569, 612, 645, 668, 691, 744, 767, 790], 111) := by decide +kernel
theorem dL_law_144 : decode cL_law 144 = .ok (.aload_n 1, 1) := dk_43 (dk_at dksL_law_3 0 rfl rfl)
theorem dL_law_145 : decode cL_law 145 = .ok (.aload_n 0, 1) := dk_42 (dk_at dksL_law_3 1 rfl rfl)
theorem dL_law_146 : decode cL_law 146 = .ok (.iload_n 3, 1) := dk_29 (dk_at dksL_law_3 2 rfl rfl)
theorem dL_law_147 : decode cL_law 147 = .ok (.iconst 1, 1) := dk_4 (dk_at dksL_law_3 3 rfl rfl)
theorem dL_law_148 : decode cL_law 148 = .ok (.iadd, 1) := dk_96 (dk_at dksL_law_3 4 rfl rfl)
theorem dL_law_149 : decode cL_law 149 = .ok (.iaload, 1) := dk_46 (dk_at dksL_law_3 5 rfl rfl)
theorem dL_law_150 : decode cL_law 150 = .ok (.aload_n 0, 1) := dk_42 (dk_at dksL_law_3 6 rfl rfl)
theorem dL_law_151 : decode cL_law 151 = .ok (.iload_n 3, 1) := dk_29 (dk_at dksL_law_3 7 rfl rfl)
theorem dL_law_152 : decode cL_law 152 = .ok (.iconst 2, 1) := dk_5 (dk_at dksL_law_3 8 rfl rfl)
theorem dL_law_153 : decode cL_law 153 = .ok (.iadd, 1) := dk_96 (dk_at dksL_law_3 9 rfl rfl)
theorem dL_law_154 : decode cL_law 154 = .ok (.iaload, 1) := dk_46 (dk_at dksL_law_3 10 rfl rfl)
theorem dL_law_155 : decode cL_law 155 = .ok (.aload_n 0, 1) := dk_42 (dk_at dksL_law_3 11 rfl rfl)
theorem dL_law_156 : decode cL_law 156 = .ok (.iload_n 3, 1) := dk_29 (dk_at dksL_law_3 12 rfl rfl)
theorem dL_law_157 : decode cL_law 157 = .ok (.iconst 3, 1) := dk_6 (dk_at dksL_law_3 13 rfl rfl)
theorem dL_law_158 : decode cL_law 158 = .ok (.iadd, 1) := dk_96 (dk_at dksL_law_3 14 rfl rfl)
theorem dL_law_159 : decode cL_law 159 = .ok (.iaload, 1) := dk_46 (dk_at dksL_law_3 15 rfl rfl)
theorem dL_law_160 : decode cL_law 160 = .ok (.aload_n 0, 1) := dk_42 (dk_at dksL_law_3 16 rfl rfl)
theorem dL_law_161 : decode cL_law 161 = .ok (.iload_n 3, 1) := dk_29 (dk_at dksL_law_3 17 rfl rfl)
theorem dL_law_162 : decode cL_law 162 = .ok (.iconst 4, 1) := dk_7 (dk_at dksL_law_3 18 rfl rfl)
theorem dL_law_163 : decode cL_law 163 = .ok (.iadd, 1) := dk_96 (dk_at dksL_law_3 19 rfl rfl)
theorem dL_law_164 : decode cL_law 164 = .ok (.iaload, 1) := dk_46 (dk_at dksL_law_3 20 rfl rfl)
theorem dL_law_165 : decode cL_law 165 = .ok (.aload_n 0, 1) := dk_42 (dk_at dksL_law_3 21 rfl rfl)
theorem dL_law_166 : decode cL_law 166 = .ok (.iload_n 3, 1) := dk_29 (dk_at dksL_law_3 22 rfl rfl)
theorem dL_law_167 : decode cL_law 167 = .ok (.iconst 5, 1) := dk_8 (dk_at dksL_law_3 23 rfl rfl)
theorem dL_law_168 : decode cL_law 168 = .ok (.iadd, 1) := dk_96 (dk_at dksL_law_4 0 rfl rfl)
theorem dL_law_169 : decode cL_law 169 = .ok (.iaload, 1) := dk_46 (dk_at dksL_law_4 1 rfl rfl)
theorem dL_law_170 : decode cL_law 170 = .ok (.invokevirtual 13, 3) := dk_182 0 13 (dk_at dksL_law_4 2 rfl rfl)
theorem dL_law_173 : decode cL_law 173 = .ok (.aload_n 2, 1) := dk_44 (dk_at dksL_law_4 5 rfl rfl)
theorem dL_law_174 : decode cL_law 174 = .ok (.aload_n 0, 1) := dk_42 (dk_at dksL_law_4 6 rfl rfl)
theorem dL_law_175 : decode cL_law 175 = .ok (.iload_n 3, 1) := dk_29 (dk_at dksL_law_4 7 rfl rfl)
theorem dL_law_176 : decode cL_law 176 = .ok (.iconst 1, 1) := dk_4 (dk_at dksL_law_4 8 rfl rfl)
theorem dL_law_177 : decode cL_law 177 = .ok (.iadd, 1) := dk_96 (dk_at dksL_law_4 9 rfl rfl)
theorem dL_law_178 : decode cL_law 178 = .ok (.iaload, 1) := dk_46 (dk_at dksL_law_4 10 rfl rfl)
theorem dL_law_179 : decode cL_law 179 = .ok (.aload_n 0, 1) := dk_42 (dk_at dksL_law_4 11 rfl rfl)
theorem dL_law_180 : decode cL_law 180 = .ok (.iload_n 3, 1) := dk_29 (dk_at dksL_law_4 12 rfl rfl)
theorem dL_law_181 : decode cL_law 181 = .ok (.iconst 2, 1) := dk_5 (dk_at dksL_law_4 13 rfl rfl)
theorem dL_law_182 : decode cL_law 182 = .ok (.iadd, 1) := dk_96 (dk_at dksL_law_4 14 rfl rfl)
theorem dL_law_183 : decode cL_law 183 = .ok (.iaload, 1) := dk_46 (dk_at dksL_law_4 15 rfl rfl)
theorem dL_law_184 : decode cL_law 184 = .ok (.aload_n 0, 1) := dk_42 (dk_at dksL_law_4 16 rfl rfl)
theorem dL_law_185 : decode cL_law 185 = .ok (.iload_n 3, 1) := dk_29 (dk_at dksL_law_4 17 rfl rfl)
theorem dL_law_186 : decode cL_law 186 = .ok (.iconst 3, 1) := dk_6 (dk_at dksL_law_4 18 rfl rfl)
theorem dL_law_187 : decode cL_law 187 = .ok (.iadd, 1) := dk_96 (dk_at dksL_law_4 19 rfl rfl)
theorem dL_law_188 : decode cL_law 188 = .ok (.iaload, 1) := dk_46 (dk_at dksL_law_4 20 rfl rfl)
theorem dL_law_189 : decode cL_law 189 = .ok (.aload_n 0, 1) := dk_42 (dk_at dksL_law_4 21 rfl rfl)
theorem dL_law_190 : decode cL_law 190 = .ok (.iload_n 3, 1) := dk_29 (dk_at dksL_law_4 22 rfl rfl)
theorem dL_law_191 : decode cL_law 191 = .ok (.iconst 4, 1) := dk_7 (dk_at dksL_law_4 23 rfl rfl)
theorem dL_law_192 : decode cL_law 192 = .ok (.iadd, 1) := dk_96 (dk_at dksL_law_5 0 rfl rfl)
theorem dL_law_193 : decode cL_law 193 = .ok (.iaload, 1) := dk_46 (dk_at dksL_law_5 1 rfl rfl)
theorem dL_law_194 : decode cL_law 194 = .ok (.aload_n 0, 1) := dk_42 (dk_at dksL_law_5 2 rfl rfl)
theorem dL_law_195 : decode cL_law 195 = .ok (.iload_n 3, 1) := dk_29 (dk_at dksL_law_5 3 rfl rfl)
theorem dL_law_196 : decode cL_law 196 = .ok (.iconst 5, 1) := dk_8 (dk_at dksL_law_5 4 rfl rfl)
theorem dL_law_197 : decode cL_law 197 = .ok (.iadd, 1) := dk_96 (dk_at dksL_law_5 5 rfl rfl)
theorem dL_law_198 : decode cL_law 198 = .ok (.iaload, 1) := dk_46 (dk_at dksL_law_5 6 rfl rfl)
theorem dL_law_199 : decode cL_law 199 = .ok (.invokevirtual 17, 3) := dk_182 0 17 (dk_at dksL_law_5 7 rfl rfl)
theorem dL_law_202 : decode cL_law 202 = .ok (.if_icmp .eq 644, 3) := dk_159 2 132 (dk_at dksL_law_5 10 rfl rfl)
theorem dL_law_205 : decode cL_law 205 = .ok (.iconst 0, 1) := dk_3 (dk_at dksL_law_5 13 rfl rfl)
theorem dL_law_206 : decode cL_law 206 = .ok (.ireturn, 1) := dk_172 (dk_at dksL_law_5 14 rfl rfl)
theorem dL_law_207 : decode cL_law 207 = .ok (.aload_n 1, 1) := dk_43 (dk_at dksL_law_5 15 rfl rfl)
theorem dL_law_208 : decode cL_law 208 = .ok (.aload_n 0, 1) := dk_42 (dk_at dksL_law_5 16 rfl rfl)
theorem dL_law_209 : decode cL_law 209 = .ok (.iload_n 3, 1) := dk_29 (dk_at dksL_law_5 17 rfl rfl)
theorem dL_law_210 : decode cL_law 210 = .ok (.iconst 1, 1) := dk_4 (dk_at dksL_law_5 18 rfl rfl)
theorem dL_law_211 : decode cL_law 211 = .ok (.iadd, 1) := dk_96 (dk_at dksL_law_5 19 rfl rfl)
theorem dL_law_212 : decode cL_law 212 = .ok (.iaload, 1) := dk_46 (dk_at dksL_law_5 20 rfl rfl)
theorem dL_law_213 : decode cL_law 213 = .ok (.invokevirtual 18, 3) := dk_182 0 18 (dk_at dksL_law_5 21 rfl rfl)
theorem dL_law_216 : decode cL_law 216 = .ok (.aload_n 2, 1) := dk_44 (dk_at dksL_law_6 0 rfl rfl)
theorem dL_law_217 : decode cL_law 217 = .ok (.aload_n 0, 1) := dk_42 (dk_at dksL_law_6 1 rfl rfl)
theorem dL_law_218 : decode cL_law 218 = .ok (.iload_n 3, 1) := dk_29 (dk_at dksL_law_6 2 rfl rfl)
theorem dL_law_219 : decode cL_law 219 = .ok (.iconst 1, 1) := dk_4 (dk_at dksL_law_6 3 rfl rfl)
theorem dL_law_220 : decode cL_law 220 = .ok (.iadd, 1) := dk_96 (dk_at dksL_law_6 4 rfl rfl)
theorem dL_law_221 : decode cL_law 221 = .ok (.iaload, 1) := dk_46 (dk_at dksL_law_6 5 rfl rfl)
theorem dL_law_222 : decode cL_law 222 = .ok (.invokevirtual 22, 3) := dk_182 0 22 (dk_at dksL_law_6 6 rfl rfl)
theorem dL_law_225 : decode cL_law 225 = .ok (.if_icmp .eq 621, 3) := dk_159 2 109 (dk_at dksL_law_6 9 rfl rfl)
theorem dL_law_228 : decode cL_law 228 = .ok (.iconst 0, 1) := dk_3 (dk_at dksL_law_6 12 rfl rfl)
theorem dL_law_229 : decode cL_law 229 = .ok (.ireturn, 1) := dk_172 (dk_at dksL_law_6 13 rfl rfl)
theorem dL_law_230 : decode cL_law 230 = .ok (.aload_n 1, 1) := dk_43 (dk_at dksL_law_6 14 rfl rfl)
theorem dL_law_231 : decode cL_law 231 = .ok (.invokevirtual 23, 3) := dk_182 0 23 (dk_at dksL_law_6 15 rfl rfl)
theorem dL_law_234 : decode cL_law 234 = .ok (.aload_n 2, 1) := dk_44 (dk_at dksL_law_6 18 rfl rfl)
theorem dL_law_235 : decode cL_law 235 = .ok (.invokevirtual 27, 3) := dk_182 0 27 (dk_at dksL_law_6 19 rfl rfl)
theorem dL_law_238 : decode cL_law 238 = .ok (.if_icmp .eq 608, 3) := dk_159 2 96 (dk_at dksL_law_7 0 rfl rfl)
theorem dL_law_241 : decode cL_law 241 = .ok (.iconst 0, 1) := dk_3 (dk_at dksL_law_7 3 rfl rfl)
theorem dL_law_242 : decode cL_law 242 = .ok (.ireturn, 1) := dk_172 (dk_at dksL_law_7 4 rfl rfl)
theorem dL_law_243 : decode cL_law 243 = .ok (.aload_n 1, 1) := dk_43 (dk_at dksL_law_7 5 rfl rfl)
theorem dL_law_244 : decode cL_law 244 = .ok (.invokevirtual 28, 3) := dk_182 0 28 (dk_at dksL_law_7 6 rfl rfl)
theorem dL_law_247 : decode cL_law 247 = .ok (.aload_n 2, 1) := dk_44 (dk_at dksL_law_7 9 rfl rfl)
theorem dL_law_248 : decode cL_law 248 = .ok (.invokevirtual 31, 3) := dk_182 0 31 (dk_at dksL_law_7 10 rfl rfl)
theorem dL_law_251 : decode cL_law 251 = .ok (.if_icmp .eq 595, 3) := dk_159 2 83 (dk_at dksL_law_7 13 rfl rfl)
theorem dL_law_254 : decode cL_law 254 = .ok (.iconst 0, 1) := dk_3 (dk_at dksL_law_7 16 rfl rfl)
theorem dL_law_255 : decode cL_law 255 = .ok (.ireturn, 1) := dk_172 (dk_at dksL_law_7 17 rfl rfl)
theorem dL_law_256 : decode cL_law 256 = .ok (.aload_n 1, 1) := dk_43 (dk_at dksL_law_7 18 rfl rfl)
theorem dL_law_257 : decode cL_law 257 = .ok (.aload_n 0, 1) := dk_42 (dk_at dksL_law_7 19 rfl rfl)
theorem dL_law_258 : decode cL_law 258 = .ok (.iload_n 3, 1) := dk_29 (dk_at dksL_law_7 20 rfl rfl)
theorem dL_law_259 : decode cL_law 259 = .ok (.iconst 1, 1) := dk_4 (dk_at dksL_law_7 21 rfl rfl)
theorem dL_law_260 : decode cL_law 260 = .ok (.iadd, 1) := dk_96 (dk_at dksL_law_7 22 rfl rfl)
theorem dL_law_261 : decode cL_law 261 = .ok (.iaload, 1) := dk_46 (dk_at dksL_law_7 23 rfl rfl)
theorem dL_law_262 : decode cL_law 262 = .ok (.aload_n 0, 1) := dk_42 (dk_at dksL_law_8 0 rfl rfl)
theorem dL_law_263 : decode cL_law 263 = .ok (.iload_n 3, 1) := dk_29 (dk_at dksL_law_8 1 rfl rfl)
theorem dL_law_264 : decode cL_law 264 = .ok (.iconst 2, 1) := dk_5 (dk_at dksL_law_8 2 rfl rfl)
theorem dL_law_265 : decode cL_law 265 = .ok (.iadd, 1) := dk_96 (dk_at dksL_law_8 3 rfl rfl)
theorem dL_law_266 : decode cL_law 266 = .ok (.iaload, 1) := dk_46 (dk_at dksL_law_8 4 rfl rfl)
theorem dL_law_267 : decode cL_law 267 = .ok (.aload_n 0, 1) := dk_42 (dk_at dksL_law_8 5 rfl rfl)
theorem dL_law_268 : decode cL_law 268 = .ok (.iload_n 3, 1) := dk_29 (dk_at dksL_law_8 6 rfl rfl)
theorem dL_law_269 : decode cL_law 269 = .ok (.iconst 3, 1) := dk_6 (dk_at dksL_law_8 7 rfl rfl)
theorem dL_law_270 : decode cL_law 270 = .ok (.iadd, 1) := dk_96 (dk_at dksL_law_8 8 rfl rfl)
theorem dL_law_271 : decode cL_law 271 = .ok (.iaload, 1) := dk_46 (dk_at dksL_law_8 9 rfl rfl)
theorem dL_law_272 : decode cL_law 272 = .ok (.aload_n 0, 1) := dk_42 (dk_at dksL_law_8 10 rfl rfl)
theorem dL_law_273 : decode cL_law 273 = .ok (.iload_n 3, 1) := dk_29 (dk_at dksL_law_8 11 rfl rfl)
theorem dL_law_274 : decode cL_law 274 = .ok (.iconst 4, 1) := dk_7 (dk_at dksL_law_8 12 rfl rfl)
theorem dL_law_275 : decode cL_law 275 = .ok (.iadd, 1) := dk_96 (dk_at dksL_law_8 13 rfl rfl)
theorem dL_law_276 : decode cL_law 276 = .ok (.iaload, 1) := dk_46 (dk_at dksL_law_8 14 rfl rfl)
theorem dL_law_277 : decode cL_law 277 = .ok (.invokevirtual 32, 3) := dk_182 0 32 (dk_at dksL_law_8 15 rfl rfl)
theorem dL_law_280 : decode cL_law 280 = .ok (.aload_n 2, 1) := dk_44 (dk_at dksL_law_8 18 rfl rfl)
theorem dL_law_281 : decode cL_law 281 = .ok (.aload_n 0, 1) := dk_42 (dk_at dksL_law_8 19 rfl rfl)
theorem dL_law_282 : decode cL_law 282 = .ok (.iload_n 3, 1) := dk_29 (dk_at dksL_law_8 20 rfl rfl)
theorem dL_law_283 : decode cL_law 283 = .ok (.iconst 1, 1) := dk_4 (dk_at dksL_law_8 21 rfl rfl)
theorem dL_law_284 : decode cL_law 284 = .ok (.iadd, 1) := dk_96 (dk_at dksL_law_8 22 rfl rfl)
theorem dL_law_285 : decode cL_law 285 = .ok (.iaload, 1) := dk_46 (dk_at dksL_law_8 23 rfl rfl)
theorem dL_law_286 : decode cL_law 286 = .ok (.aload_n 0, 1) := dk_42 (dk_at dksL_law_9 0 rfl rfl)
theorem dL_law_287 : decode cL_law 287 = .ok (.iload_n 3, 1) := dk_29 (dk_at dksL_law_9 1 rfl rfl)
theorem dL_law_288 : decode cL_law 288 = .ok (.iconst 2, 1) := dk_5 (dk_at dksL_law_9 2 rfl rfl)
theorem dL_law_289 : decode cL_law 289 = .ok (.iadd, 1) := dk_96 (dk_at dksL_law_9 3 rfl rfl)
theorem dL_law_290 : decode cL_law 290 = .ok (.iaload, 1) := dk_46 (dk_at dksL_law_9 4 rfl rfl)
theorem dL_law_291 : decode cL_law 291 = .ok (.aload_n 0, 1) := dk_42 (dk_at dksL_law_9 5 rfl rfl)
theorem dL_law_292 : decode cL_law 292 = .ok (.iload_n 3, 1) := dk_29 (dk_at dksL_law_9 6 rfl rfl)
theorem dL_law_293 : decode cL_law 293 = .ok (.iconst 3, 1) := dk_6 (dk_at dksL_law_9 7 rfl rfl)
theorem dL_law_294 : decode cL_law 294 = .ok (.iadd, 1) := dk_96 (dk_at dksL_law_9 8 rfl rfl)
theorem dL_law_295 : decode cL_law 295 = .ok (.iaload, 1) := dk_46 (dk_at dksL_law_9 9 rfl rfl)
theorem dL_law_296 : decode cL_law 296 = .ok (.aload_n 0, 1) := dk_42 (dk_at dksL_law_9 10 rfl rfl)
theorem dL_law_297 : decode cL_law 297 = .ok (.iload_n 3, 1) := dk_29 (dk_at dksL_law_9 11 rfl rfl)
theorem dL_law_298 : decode cL_law 298 = .ok (.iconst 4, 1) := dk_7 (dk_at dksL_law_9 12 rfl rfl)
theorem dL_law_299 : decode cL_law 299 = .ok (.iadd, 1) := dk_96 (dk_at dksL_law_9 13 rfl rfl)
theorem dL_law_300 : decode cL_law 300 = .ok (.iaload, 1) := dk_46 (dk_at dksL_law_9 14 rfl rfl)
theorem dL_law_301 : decode cL_law 301 = .ok (.invokevirtual 36, 3) := dk_182 0 36 (dk_at dksL_law_9 15 rfl rfl)
theorem dL_law_304 : decode cL_law 304 = .ok (.if_icmp .eq 542, 3) := dk_159 2 30 (dk_at dksL_law_9 18 rfl rfl)
theorem dL_law_307 : decode cL_law 307 = .ok (.iconst 0, 1) := dk_3 (dk_at dksL_law_9 21 rfl rfl)
theorem dL_law_308 : decode cL_law 308 = .ok (.ireturn, 1) := dk_172 (dk_at dksL_law_9 22 rfl rfl)
theorem dL_law_309 : decode cL_law 309 = .ok (.aload_n 1, 1) := dk_43 (dk_at dksL_law_9 23 rfl rfl)
theorem dL_law_310 : decode cL_law 310 = .ok (.aload_n 0, 1) := dk_42 (dk_at dksL_law_10 0 rfl rfl)
theorem dL_law_311 : decode cL_law 311 = .ok (.iload_n 3, 1) := dk_29 (dk_at dksL_law_10 1 rfl rfl)
theorem dL_law_312 : decode cL_law 312 = .ok (.iconst 1, 1) := dk_4 (dk_at dksL_law_10 2 rfl rfl)
theorem dL_law_313 : decode cL_law 313 = .ok (.iadd, 1) := dk_96 (dk_at dksL_law_10 3 rfl rfl)
theorem dL_law_314 : decode cL_law 314 = .ok (.iaload, 1) := dk_46 (dk_at dksL_law_10 4 rfl rfl)
theorem dL_law_315 : decode cL_law 315 = .ok (.invokevirtual 37, 3) := dk_182 0 37 (dk_at dksL_law_10 5 rfl rfl)
theorem dL_law_318 : decode cL_law 318 = .ok (.aload_n 2, 1) := dk_44 (dk_at dksL_law_10 8 rfl rfl)
theorem dL_law_319 : decode cL_law 319 = .ok (.aload_n 0, 1) := dk_42 (dk_at dksL_law_10 9 rfl rfl)
theorem dL_law_320 : decode cL_law 320 = .ok (.iload_n 3, 1) := dk_29 (dk_at dksL_law_10 10 rfl rfl)
theorem dL_law_321 : decode cL_law 321 = .ok (.iconst 1, 1) := dk_4 (dk_at dksL_law_10 11 rfl rfl)
theorem dL_law_322 : decode cL_law 322 = .ok (.iadd, 1) := dk_96 (dk_at dksL_law_10 12 rfl rfl)
theorem dL_law_323 : decode cL_law 323 = .ok (.iaload, 1) := dk_46 (dk_at dksL_law_10 13 rfl rfl)
theorem dL_law_324 : decode cL_law 324 = .ok (.invokevirtual 40, 3) := dk_182 0 40 (dk_at dksL_law_10 14 rfl rfl)
theorem dL_law_327 : decode cL_law 327 = .ok (.if_icmp .eq 519, 3) := dk_159 2 7 (dk_at dksL_law_10 17 rfl rfl)
theorem dL_law_330 : decode cL_law 330 = .ok (.iconst 0, 1) := dk_3 (dk_at dksL_law_10 20 rfl rfl)
theorem dL_law_331 : decode cL_law 331 = .ok (.ireturn, 1) := dk_172 (dk_at dksL_law_10 21 rfl rfl)
theorem dL_law_332 : decode cL_law 332 = .ok (.aload_n 1, 1) := dk_43 (dk_at dksL_law_10 22 rfl rfl)
theorem dL_law_333 : decode cL_law 333 = .ok (.aload_n 0, 1) := dk_42 (dk_at dksL_law_10 23 rfl rfl)
theorem dL_law_334 : decode cL_law 334 = .ok (.iload_n 3, 1) := dk_29 (dk_at dksL_law_11 0 rfl rfl)
theorem dL_law_335 : decode cL_law 335 = .ok (.iconst 1, 1) := dk_4 (dk_at dksL_law_11 1 rfl rfl)
theorem dL_law_336 : decode cL_law 336 = .ok (.iadd, 1) := dk_96 (dk_at dksL_law_11 2 rfl rfl)
theorem dL_law_337 : decode cL_law 337 = .ok (.iaload, 1) := dk_46 (dk_at dksL_law_11 3 rfl rfl)
theorem dL_law_338 : decode cL_law 338 = .ok (.invokevirtual 41, 3) := dk_182 0 41 (dk_at dksL_law_11 4 rfl rfl)
theorem dL_law_341 : decode cL_law 341 = .ok (.aload_n 2, 1) := dk_44 (dk_at dksL_law_11 7 rfl rfl)
theorem dL_law_342 : decode cL_law 342 = .ok (.aload_n 0, 1) := dk_42 (dk_at dksL_law_11 8 rfl rfl)
theorem dL_law_343 : decode cL_law 343 = .ok (.iload_n 3, 1) := dk_29 (dk_at dksL_law_11 9 rfl rfl)
theorem dL_law_344 : decode cL_law 344 = .ok (.iconst 1, 1) := dk_4 (dk_at dksL_law_11 10 rfl rfl)
theorem dL_law_345 : decode cL_law 345 = .ok (.iadd, 1) := dk_96 (dk_at dksL_law_11 11 rfl rfl)
theorem dL_law_346 : decode cL_law 346 = .ok (.iaload, 1) := dk_46 (dk_at dksL_law_11 12 rfl rfl)
theorem dL_law_347 : decode cL_law 347 = .ok (.invokevirtual 44, 3) := dk_182 0 44 (dk_at dksL_law_11 13 rfl rfl)
theorem dL_law_350 : decode cL_law 350 = .ok (.if_icmp .eq 496, 3) := dk_159 1 240 (dk_at dksL_law_11 16 rfl rfl)
theorem dL_law_353 : decode cL_law 353 = .ok (.iconst 0, 1) := dk_3 (dk_at dksL_law_11 19 rfl rfl)
theorem dL_law_354 : decode cL_law 354 = .ok (.ireturn, 1) := dk_172 (dk_at dksL_law_11 20 rfl rfl)
theorem dL_law_355 : decode cL_law 355 = .ok (.aload_n 1, 1) := dk_43 (dk_at dksL_law_11 21 rfl rfl)
theorem dL_law_356 : decode cL_law 356 = .ok (.invokevirtual 45, 3) := dk_182 0 45 (dk_at dksL_law_12 0 rfl rfl)
theorem dL_law_359 : decode cL_law 359 = .ok (.aload_n 2, 1) := dk_44 (dk_at dksL_law_12 3 rfl rfl)
theorem dL_law_360 : decode cL_law 360 = .ok (.invokevirtual 48, 3) := dk_182 0 48 (dk_at dksL_law_12 4 rfl rfl)
theorem dL_law_363 : decode cL_law 363 = .ok (.if_icmp .eq 483, 3) := dk_159 1 227 (dk_at dksL_law_12 7 rfl rfl)
theorem dL_law_366 : decode cL_law 366 = .ok (.iconst 0, 1) := dk_3 (dk_at dksL_law_12 10 rfl rfl)
theorem dL_law_367 : decode cL_law 367 = .ok (.ireturn, 1) := dk_172 (dk_at dksL_law_12 11 rfl rfl)
theorem dL_law_368 : decode cL_law 368 = .ok (.aload_n 1, 1) := dk_43 (dk_at dksL_law_12 12 rfl rfl)
theorem dL_law_369 : decode cL_law 369 = .ok (.aload_n 0, 1) := dk_42 (dk_at dksL_law_12 13 rfl rfl)
theorem dL_law_370 : decode cL_law 370 = .ok (.iload_n 3, 1) := dk_29 (dk_at dksL_law_12 14 rfl rfl)
theorem dL_law_371 : decode cL_law 371 = .ok (.iconst 1, 1) := dk_4 (dk_at dksL_law_12 15 rfl rfl)
theorem dL_law_372 : decode cL_law 372 = .ok (.iadd, 1) := dk_96 (dk_at dksL_law_12 16 rfl rfl)
theorem dL_law_373 : decode cL_law 373 = .ok (.iaload, 1) := dk_46 (dk_at dksL_law_12 17 rfl rfl)
theorem dL_law_374 : decode cL_law 374 = .ok (.invokevirtual 49, 3) := dk_182 0 49 (dk_at dksL_law_12 18 rfl rfl)
theorem dL_law_377 : decode cL_law 377 = .ok (.aload_n 2, 1) := dk_44 (dk_at dksL_law_12 21 rfl rfl)
theorem dL_law_378 : decode cL_law 378 = .ok (.aload_n 0, 1) := dk_42 (dk_at dksL_law_12 22 rfl rfl)
theorem dL_law_379 : decode cL_law 379 = .ok (.iload_n 3, 1) := dk_29 (dk_at dksL_law_12 23 rfl rfl)
theorem dL_law_380 : decode cL_law 380 = .ok (.iconst 1, 1) := dk_4 (dk_at dksL_law_13 0 rfl rfl)
theorem dL_law_381 : decode cL_law 381 = .ok (.iadd, 1) := dk_96 (dk_at dksL_law_13 1 rfl rfl)
theorem dL_law_382 : decode cL_law 382 = .ok (.iaload, 1) := dk_46 (dk_at dksL_law_13 2 rfl rfl)
theorem dL_law_383 : decode cL_law 383 = .ok (.invokevirtual 52, 3) := dk_182 0 52 (dk_at dksL_law_13 3 rfl rfl)
theorem dL_law_386 : decode cL_law 386 = .ok (.if_icmp .eq 460, 3) := dk_159 1 204 (dk_at dksL_law_13 6 rfl rfl)
theorem dL_law_389 : decode cL_law 389 = .ok (.iconst 0, 1) := dk_3 (dk_at dksL_law_13 9 rfl rfl)
theorem dL_law_390 : decode cL_law 390 = .ok (.ireturn, 1) := dk_172 (dk_at dksL_law_13 10 rfl rfl)
theorem dL_law_391 : decode cL_law 391 = .ok (.aload_n 1, 1) := dk_43 (dk_at dksL_law_13 11 rfl rfl)
theorem dL_law_392 : decode cL_law 392 = .ok (.aload_n 0, 1) := dk_42 (dk_at dksL_law_13 12 rfl rfl)
theorem dL_law_393 : decode cL_law 393 = .ok (.iload_n 3, 1) := dk_29 (dk_at dksL_law_13 13 rfl rfl)
theorem dL_law_394 : decode cL_law 394 = .ok (.iconst 1, 1) := dk_4 (dk_at dksL_law_13 14 rfl rfl)
theorem dL_law_395 : decode cL_law 395 = .ok (.iadd, 1) := dk_96 (dk_at dksL_law_13 15 rfl rfl)
theorem dL_law_396 : decode cL_law 396 = .ok (.iaload, 1) := dk_46 (dk_at dksL_law_13 16 rfl rfl)
theorem dL_law_397 : decode cL_law 397 = .ok (.invokevirtual 53, 3) := dk_182 0 53 (dk_at dksL_law_13 17 rfl rfl)
theorem dL_law_400 : decode cL_law 400 = .ok (.aload_n 2, 1) := dk_44 (dk_at dksL_law_13 20 rfl rfl)
theorem dL_law_401 : decode cL_law 401 = .ok (.aload_n 0, 1) := dk_42 (dk_at dksL_law_13 21 rfl rfl)
theorem dL_law_402 : decode cL_law 402 = .ok (.iload_n 3, 1) := dk_29 (dk_at dksL_law_13 22 rfl rfl)
theorem dL_law_403 : decode cL_law 403 = .ok (.iconst 1, 1) := dk_4 (dk_at dksL_law_13 23 rfl rfl)
theorem dL_law_404 : decode cL_law 404 = .ok (.iadd, 1) := dk_96 (dk_at dksL_law_14 0 rfl rfl)
theorem dL_law_405 : decode cL_law 405 = .ok (.iaload, 1) := dk_46 (dk_at dksL_law_14 1 rfl rfl)
theorem dL_law_406 : decode cL_law 406 = .ok (.invokevirtual 56, 3) := dk_182 0 56 (dk_at dksL_law_14 2 rfl rfl)
theorem dL_law_409 : decode cL_law 409 = .ok (.if_icmp .eq 437, 3) := dk_159 1 181 (dk_at dksL_law_14 5 rfl rfl)
theorem dL_law_412 : decode cL_law 412 = .ok (.iconst 0, 1) := dk_3 (dk_at dksL_law_14 8 rfl rfl)
theorem dL_law_413 : decode cL_law 413 = .ok (.ireturn, 1) := dk_172 (dk_at dksL_law_14 9 rfl rfl)
theorem dL_law_414 : decode cL_law 414 = .ok (.aload_n 1, 1) := dk_43 (dk_at dksL_law_14 10 rfl rfl)
theorem dL_law_415 : decode cL_law 415 = .ok (.aload_n 0, 1) := dk_42 (dk_at dksL_law_14 11 rfl rfl)
theorem dL_law_416 : decode cL_law 416 = .ok (.iload_n 3, 1) := dk_29 (dk_at dksL_law_14 12 rfl rfl)
theorem dL_law_417 : decode cL_law 417 = .ok (.iconst 1, 1) := dk_4 (dk_at dksL_law_14 13 rfl rfl)
theorem dL_law_418 : decode cL_law 418 = .ok (.iadd, 1) := dk_96 (dk_at dksL_law_14 14 rfl rfl)
theorem dL_law_419 : decode cL_law 419 = .ok (.iaload, 1) := dk_46 (dk_at dksL_law_14 15 rfl rfl)
theorem dL_law_420 : decode cL_law 420 = .ok (.aload_n 0, 1) := dk_42 (dk_at dksL_law_14 16 rfl rfl)
theorem dL_law_421 : decode cL_law 421 = .ok (.iload_n 3, 1) := dk_29 (dk_at dksL_law_14 17 rfl rfl)
theorem dL_law_422 : decode cL_law 422 = .ok (.iconst 2, 1) := dk_5 (dk_at dksL_law_14 18 rfl rfl)
theorem dL_law_423 : decode cL_law 423 = .ok (.iadd, 1) := dk_96 (dk_at dksL_law_14 19 rfl rfl)
theorem dL_law_424 : decode cL_law 424 = .ok (.iaload, 1) := dk_46 (dk_at dksL_law_14 20 rfl rfl)
theorem dL_law_425 : decode cL_law 425 = .ok (.invokevirtual 57, 3) := dk_182 0 57 (dk_at dksL_law_14 21 rfl rfl)
theorem dL_law_428 : decode cL_law 428 = .ok (.aload_n 2, 1) := dk_44 (dk_at dksL_law_15 0 rfl rfl)
theorem dL_law_429 : decode cL_law 429 = .ok (.aload_n 0, 1) := dk_42 (dk_at dksL_law_15 1 rfl rfl)
theorem dL_law_430 : decode cL_law 430 = .ok (.iload_n 3, 1) := dk_29 (dk_at dksL_law_15 2 rfl rfl)
theorem dL_law_431 : decode cL_law 431 = .ok (.iconst 1, 1) := dk_4 (dk_at dksL_law_15 3 rfl rfl)
theorem dL_law_432 : decode cL_law 432 = .ok (.iadd, 1) := dk_96 (dk_at dksL_law_15 4 rfl rfl)
theorem dL_law_433 : decode cL_law 433 = .ok (.iaload, 1) := dk_46 (dk_at dksL_law_15 5 rfl rfl)
theorem dL_law_434 : decode cL_law 434 = .ok (.aload_n 0, 1) := dk_42 (dk_at dksL_law_15 6 rfl rfl)
theorem dL_law_435 : decode cL_law 435 = .ok (.iload_n 3, 1) := dk_29 (dk_at dksL_law_15 7 rfl rfl)
theorem dL_law_436 : decode cL_law 436 = .ok (.iconst 2, 1) := dk_5 (dk_at dksL_law_15 8 rfl rfl)
theorem dL_law_437 : decode cL_law 437 = .ok (.iadd, 1) := dk_96 (dk_at dksL_law_15 9 rfl rfl)
theorem dL_law_438 : decode cL_law 438 = .ok (.iaload, 1) := dk_46 (dk_at dksL_law_15 10 rfl rfl)
theorem dL_law_439 : decode cL_law 439 = .ok (.invokevirtual 61, 3) := dk_182 0 61 (dk_at dksL_law_15 11 rfl rfl)
theorem dL_law_442 : decode cL_law 442 = .ok (.if_icmp .eq 404, 3) := dk_159 1 148 (dk_at dksL_law_15 14 rfl rfl)
theorem dL_law_445 : decode cL_law 445 = .ok (.iconst 0, 1) := dk_3 (dk_at dksL_law_15 17 rfl rfl)
theorem dL_law_446 : decode cL_law 446 = .ok (.ireturn, 1) := dk_172 (dk_at dksL_law_15 18 rfl rfl)
theorem dL_law_447 : decode cL_law 447 = .ok (.aload_n 1, 1) := dk_43 (dk_at dksL_law_15 19 rfl rfl)
theorem dL_law_448 : decode cL_law 448 = .ok (.aload_n 0, 1) := dk_42 (dk_at dksL_law_15 20 rfl rfl)
theorem dL_law_449 : decode cL_law 449 = .ok (.iload_n 3, 1) := dk_29 (dk_at dksL_law_15 21 rfl rfl)
theorem dL_law_450 : decode cL_law 450 = .ok (.iconst 1, 1) := dk_4 (dk_at dksL_law_15 22 rfl rfl)
theorem dL_law_451 : decode cL_law 451 = .ok (.iadd, 1) := dk_96 (dk_at dksL_law_15 23 rfl rfl)
theorem dL_law_452 : decode cL_law 452 = .ok (.iaload, 1) := dk_46 (dk_at dksL_law_16 0 rfl rfl)
theorem dL_law_453 : decode cL_law 453 = .ok (.aload_n 0, 1) := dk_42 (dk_at dksL_law_16 1 rfl rfl)
theorem dL_law_454 : decode cL_law 454 = .ok (.iload_n 3, 1) := dk_29 (dk_at dksL_law_16 2 rfl rfl)
theorem dL_law_455 : decode cL_law 455 = .ok (.iconst 2, 1) := dk_5 (dk_at dksL_law_16 3 rfl rfl)
theorem dL_law_456 : decode cL_law 456 = .ok (.iadd, 1) := dk_96 (dk_at dksL_law_16 4 rfl rfl)
theorem dL_law_457 : decode cL_law 457 = .ok (.iaload, 1) := dk_46 (dk_at dksL_law_16 5 rfl rfl)
theorem dL_law_458 : decode cL_law 458 = .ok (.invokevirtual 62, 3) := dk_182 0 62 (dk_at dksL_law_16 6 rfl rfl)
theorem dL_law_461 : decode cL_law 461 = .ok (.aload_n 2, 1) := dk_44 (dk_at dksL_law_16 9 rfl rfl)
theorem dL_law_462 : decode cL_law 462 = .ok (.aload_n 0, 1) := dk_42 (dk_at dksL_law_16 10 rfl rfl)
theorem dL_law_463 : decode cL_law 463 = .ok (.iload_n 3, 1) := dk_29 (dk_at dksL_law_16 11 rfl rfl)
theorem dL_law_464 : decode cL_law 464 = .ok (.iconst 1, 1) := dk_4 (dk_at dksL_law_16 12 rfl rfl)
theorem dL_law_465 : decode cL_law 465 = .ok (.iadd, 1) := dk_96 (dk_at dksL_law_16 13 rfl rfl)
theorem dL_law_466 : decode cL_law 466 = .ok (.iaload, 1) := dk_46 (dk_at dksL_law_16 14 rfl rfl)
theorem dL_law_467 : decode cL_law 467 = .ok (.aload_n 0, 1) := dk_42 (dk_at dksL_law_16 15 rfl rfl)
theorem dL_law_468 : decode cL_law 468 = .ok (.iload_n 3, 1) := dk_29 (dk_at dksL_law_16 16 rfl rfl)
theorem dL_law_469 : decode cL_law 469 = .ok (.iconst 2, 1) := dk_5 (dk_at dksL_law_16 17 rfl rfl)
theorem dL_law_470 : decode cL_law 470 = .ok (.iadd, 1) := dk_96 (dk_at dksL_law_16 18 rfl rfl)
theorem dL_law_471 : decode cL_law 471 = .ok (.iaload, 1) := dk_46 (dk_at dksL_law_16 19 rfl rfl)
theorem dL_law_472 : decode cL_law 472 = .ok (.invokevirtual 65, 3) := dk_182 0 65 (dk_at dksL_law_16 20 rfl rfl)
theorem dL_law_475 : decode cL_law 475 = .ok (.if_icmp .eq 371, 3) := dk_159 1 115 (dk_at dksL_law_17 0 rfl rfl)
theorem dL_law_478 : decode cL_law 478 = .ok (.iconst 0, 1) := dk_3 (dk_at dksL_law_17 3 rfl rfl)
theorem dL_law_479 : decode cL_law 479 = .ok (.ireturn, 1) := dk_172 (dk_at dksL_law_17 4 rfl rfl)
theorem dL_law_480 : decode cL_law 480 = .ok (.aload_n 1, 1) := dk_43 (dk_at dksL_law_17 5 rfl rfl)
theorem dL_law_481 : decode cL_law 481 = .ok (.aload_n 0, 1) := dk_42 (dk_at dksL_law_17 6 rfl rfl)
theorem dL_law_482 : decode cL_law 482 = .ok (.iload_n 3, 1) := dk_29 (dk_at dksL_law_17 7 rfl rfl)
theorem dL_law_483 : decode cL_law 483 = .ok (.iconst 1, 1) := dk_4 (dk_at dksL_law_17 8 rfl rfl)
theorem dL_law_484 : decode cL_law 484 = .ok (.iadd, 1) := dk_96 (dk_at dksL_law_17 9 rfl rfl)
theorem dL_law_485 : decode cL_law 485 = .ok (.iaload, 1) := dk_46 (dk_at dksL_law_17 10 rfl rfl)
theorem dL_law_486 : decode cL_law 486 = .ok (.invokevirtual 66, 3) := dk_182 0 66 (dk_at dksL_law_17 11 rfl rfl)
theorem dL_law_489 : decode cL_law 489 = .ok (.aload_n 2, 1) := dk_44 (dk_at dksL_law_17 14 rfl rfl)
theorem dL_law_490 : decode cL_law 490 = .ok (.aload_n 0, 1) := dk_42 (dk_at dksL_law_17 15 rfl rfl)
theorem dL_law_491 : decode cL_law 491 = .ok (.iload_n 3, 1) := dk_29 (dk_at dksL_law_17 16 rfl rfl)
theorem dL_law_492 : decode cL_law 492 = .ok (.iconst 1, 1) := dk_4 (dk_at dksL_law_17 17 rfl rfl)
theorem dL_law_493 : decode cL_law 493 = .ok (.iadd, 1) := dk_96 (dk_at dksL_law_17 18 rfl rfl)
theorem dL_law_494 : decode cL_law 494 = .ok (.iaload, 1) := dk_46 (dk_at dksL_law_17 19 rfl rfl)
theorem dL_law_495 : decode cL_law 495 = .ok (.invokevirtual 69, 3) := dk_182 0 69 (dk_at dksL_law_17 20 rfl rfl)
theorem dL_law_498 : decode cL_law 498 = .ok (.if_icmp .eq 348, 3) := dk_159 1 92 (dk_at dksL_law_18 0 rfl rfl)
theorem dL_law_501 : decode cL_law 501 = .ok (.iconst 0, 1) := dk_3 (dk_at dksL_law_18 3 rfl rfl)
theorem dL_law_502 : decode cL_law 502 = .ok (.ireturn, 1) := dk_172 (dk_at dksL_law_18 4 rfl rfl)
theorem dL_law_503 : decode cL_law 503 = .ok (.aload_n 1, 1) := dk_43 (dk_at dksL_law_18 5 rfl rfl)
theorem dL_law_504 : decode cL_law 504 = .ok (.aload_n 0, 1) := dk_42 (dk_at dksL_law_18 6 rfl rfl)
theorem dL_law_505 : decode cL_law 505 = .ok (.iload_n 3, 1) := dk_29 (dk_at dksL_law_18 7 rfl rfl)
theorem dL_law_506 : decode cL_law 506 = .ok (.iconst 1, 1) := dk_4 (dk_at dksL_law_18 8 rfl rfl)
theorem dL_law_507 : decode cL_law 507 = .ok (.iadd, 1) := dk_96 (dk_at dksL_law_18 9 rfl rfl)
theorem dL_law_508 : decode cL_law 508 = .ok (.iaload, 1) := dk_46 (dk_at dksL_law_18 10 rfl rfl)
theorem dL_law_509 : decode cL_law 509 = .ok (.aload_n 0, 1) := dk_42 (dk_at dksL_law_18 11 rfl rfl)
theorem dL_law_510 : decode cL_law 510 = .ok (.iload_n 3, 1) := dk_29 (dk_at dksL_law_18 12 rfl rfl)
theorem dL_law_511 : decode cL_law 511 = .ok (.iconst 2, 1) := dk_5 (dk_at dksL_law_18 13 rfl rfl)
theorem dL_law_512 : decode cL_law 512 = .ok (.iadd, 1) := dk_96 (dk_at dksL_law_18 14 rfl rfl)
theorem dL_law_513 : decode cL_law 513 = .ok (.iaload, 1) := dk_46 (dk_at dksL_law_18 15 rfl rfl)
theorem dL_law_514 : decode cL_law 514 = .ok (.invokevirtual 70, 3) := dk_182 0 70 (dk_at dksL_law_18 16 rfl rfl)
theorem dL_law_517 : decode cL_law 517 = .ok (.aload_n 2, 1) := dk_44 (dk_at dksL_law_18 19 rfl rfl)
theorem dL_law_518 : decode cL_law 518 = .ok (.aload_n 0, 1) := dk_42 (dk_at dksL_law_18 20 rfl rfl)
theorem dL_law_519 : decode cL_law 519 = .ok (.iload_n 3, 1) := dk_29 (dk_at dksL_law_18 21 rfl rfl)
theorem dL_law_520 : decode cL_law 520 = .ok (.iconst 1, 1) := dk_4 (dk_at dksL_law_18 22 rfl rfl)
theorem dL_law_521 : decode cL_law 521 = .ok (.iadd, 1) := dk_96 (dk_at dksL_law_18 23 rfl rfl)
theorem dL_law_522 : decode cL_law 522 = .ok (.iaload, 1) := dk_46 (dk_at dksL_law_19 0 rfl rfl)
theorem dL_law_523 : decode cL_law 523 = .ok (.aload_n 0, 1) := dk_42 (dk_at dksL_law_19 1 rfl rfl)
theorem dL_law_524 : decode cL_law 524 = .ok (.iload_n 3, 1) := dk_29 (dk_at dksL_law_19 2 rfl rfl)
theorem dL_law_525 : decode cL_law 525 = .ok (.iconst 2, 1) := dk_5 (dk_at dksL_law_19 3 rfl rfl)
theorem dL_law_526 : decode cL_law 526 = .ok (.iadd, 1) := dk_96 (dk_at dksL_law_19 4 rfl rfl)
theorem dL_law_527 : decode cL_law 527 = .ok (.iaload, 1) := dk_46 (dk_at dksL_law_19 5 rfl rfl)
theorem dL_law_528 : decode cL_law 528 = .ok (.invokevirtual 73, 3) := dk_182 0 73 (dk_at dksL_law_19 6 rfl rfl)
theorem dL_law_531 : decode cL_law 531 = .ok (.if_icmp .eq 315, 3) := dk_159 1 59 (dk_at dksL_law_19 9 rfl rfl)
theorem dL_law_534 : decode cL_law 534 = .ok (.iconst 0, 1) := dk_3 (dk_at dksL_law_19 12 rfl rfl)
theorem dL_law_535 : decode cL_law 535 = .ok (.ireturn, 1) := dk_172 (dk_at dksL_law_19 13 rfl rfl)
theorem dL_law_536 : decode cL_law 536 = .ok (.aload_n 1, 1) := dk_43 (dk_at dksL_law_19 14 rfl rfl)
theorem dL_law_537 : decode cL_law 537 = .ok (.aload_n 0, 1) := dk_42 (dk_at dksL_law_19 15 rfl rfl)
theorem dL_law_538 : decode cL_law 538 = .ok (.iload_n 3, 1) := dk_29 (dk_at dksL_law_19 16 rfl rfl)
theorem dL_law_539 : decode cL_law 539 = .ok (.iconst 1, 1) := dk_4 (dk_at dksL_law_19 17 rfl rfl)
theorem dL_law_540 : decode cL_law 540 = .ok (.iadd, 1) := dk_96 (dk_at dksL_law_19 18 rfl rfl)
theorem dL_law_541 : decode cL_law 541 = .ok (.iaload, 1) := dk_46 (dk_at dksL_law_19 19 rfl rfl)
theorem dL_law_542 : decode cL_law 542 = .ok (.aload_n 0, 1) := dk_42 (dk_at dksL_law_19 20 rfl rfl)
theorem dL_law_543 : decode cL_law 543 = .ok (.iload_n 3, 1) := dk_29 (dk_at dksL_law_19 21 rfl rfl)
theorem dL_law_544 : decode cL_law 544 = .ok (.iconst 2, 1) := dk_5 (dk_at dksL_law_19 22 rfl rfl)
theorem dL_law_545 : decode cL_law 545 = .ok (.iadd, 1) := dk_96 (dk_at dksL_law_19 23 rfl rfl)
theorem dL_law_546 : decode cL_law 546 = .ok (.iaload, 1) := dk_46 (dk_at dksL_law_20 0 rfl rfl)
theorem dL_law_547 : decode cL_law 547 = .ok (.invokevirtual 74, 3) := dk_182 0 74 (dk_at dksL_law_20 1 rfl rfl)
theorem dL_law_550 : decode cL_law 550 = .ok (.aload_n 2, 1) := dk_44 (dk_at dksL_law_20 4 rfl rfl)
theorem dL_law_551 : decode cL_law 551 = .ok (.aload_n 0, 1) := dk_42 (dk_at dksL_law_20 5 rfl rfl)
theorem dL_law_552 : decode cL_law 552 = .ok (.iload_n 3, 1) := dk_29 (dk_at dksL_law_20 6 rfl rfl)
theorem dL_law_553 : decode cL_law 553 = .ok (.iconst 1, 1) := dk_4 (dk_at dksL_law_20 7 rfl rfl)
theorem dL_law_554 : decode cL_law 554 = .ok (.iadd, 1) := dk_96 (dk_at dksL_law_20 8 rfl rfl)
theorem dL_law_555 : decode cL_law 555 = .ok (.iaload, 1) := dk_46 (dk_at dksL_law_20 9 rfl rfl)
theorem dL_law_556 : decode cL_law 556 = .ok (.aload_n 0, 1) := dk_42 (dk_at dksL_law_20 10 rfl rfl)
theorem dL_law_557 : decode cL_law 557 = .ok (.iload_n 3, 1) := dk_29 (dk_at dksL_law_20 11 rfl rfl)
theorem dL_law_558 : decode cL_law 558 = .ok (.iconst 2, 1) := dk_5 (dk_at dksL_law_20 12 rfl rfl)
theorem dL_law_559 : decode cL_law 559 = .ok (.iadd, 1) := dk_96 (dk_at dksL_law_20 13 rfl rfl)
theorem dL_law_560 : decode cL_law 560 = .ok (.iaload, 1) := dk_46 (dk_at dksL_law_20 14 rfl rfl)
theorem dL_law_561 : decode cL_law 561 = .ok (.invokevirtual 77, 3) := dk_182 0 77 (dk_at dksL_law_20 15 rfl rfl)
theorem dL_law_564 : decode cL_law 564 = .ok (.if_icmp .eq 282, 3) := dk_159 1 26 (dk_at dksL_law_20 18 rfl rfl)
theorem dL_law_567 : decode cL_law 567 = .ok (.iconst 0, 1) := dk_3 (dk_at dksL_law_20 21 rfl rfl)
theorem dL_law_568 : decode cL_law 568 = .ok (.ireturn, 1) := dk_172 (dk_at dksL_law_20 22 rfl rfl)
theorem dL_law_569 : decode cL_law 569 = .ok (.aload_n 1, 1) := dk_43 (dk_at dksL_law_20 23 rfl rfl)
theorem dL_law_570 : decode cL_law 570 = .ok (.aload_n 0, 1) := dk_42 (dk_at dksL_law_21 0 rfl rfl)
theorem dL_law_571 : decode cL_law 571 = .ok (.iload_n 3, 1) := dk_29 (dk_at dksL_law_21 1 rfl rfl)
theorem dL_law_572 : decode cL_law 572 = .ok (.iconst 1, 1) := dk_4 (dk_at dksL_law_21 2 rfl rfl)
theorem dL_law_573 : decode cL_law 573 = .ok (.iadd, 1) := dk_96 (dk_at dksL_law_21 3 rfl rfl)
theorem dL_law_574 : decode cL_law 574 = .ok (.iaload, 1) := dk_46 (dk_at dksL_law_21 4 rfl rfl)
theorem dL_law_575 : decode cL_law 575 = .ok (.aload_n 0, 1) := dk_42 (dk_at dksL_law_21 5 rfl rfl)
theorem dL_law_576 : decode cL_law 576 = .ok (.iload_n 3, 1) := dk_29 (dk_at dksL_law_21 6 rfl rfl)
theorem dL_law_577 : decode cL_law 577 = .ok (.iconst 2, 1) := dk_5 (dk_at dksL_law_21 7 rfl rfl)
theorem dL_law_578 : decode cL_law 578 = .ok (.iadd, 1) := dk_96 (dk_at dksL_law_21 8 rfl rfl)
theorem dL_law_579 : decode cL_law 579 = .ok (.iaload, 1) := dk_46 (dk_at dksL_law_21 9 rfl rfl)
theorem dL_law_580 : decode cL_law 580 = .ok (.invokevirtual 78, 3) := dk_182 0 78 (dk_at dksL_law_21 10 rfl rfl)
theorem dL_law_583 : decode cL_law 583 = .ok (.aload_n 2, 1) := dk_44 (dk_at dksL_law_21 13 rfl rfl)
theorem dL_law_584 : decode cL_law 584 = .ok (.aload_n 0, 1) := dk_42 (dk_at dksL_law_21 14 rfl rfl)
theorem dL_law_585 : decode cL_law 585 = .ok (.iload_n 3, 1) := dk_29 (dk_at dksL_law_21 15 rfl rfl)
theorem dL_law_586 : decode cL_law 586 = .ok (.iconst 1, 1) := dk_4 (dk_at dksL_law_21 16 rfl rfl)
theorem dL_law_587 : decode cL_law 587 = .ok (.iadd, 1) := dk_96 (dk_at dksL_law_21 17 rfl rfl)
theorem dL_law_588 : decode cL_law 588 = .ok (.iaload, 1) := dk_46 (dk_at dksL_law_21 18 rfl rfl)
theorem dL_law_589 : decode cL_law 589 = .ok (.aload_n 0, 1) := dk_42 (dk_at dksL_law_21 19 rfl rfl)
theorem dL_law_590 : decode cL_law 590 = .ok (.iload_n 3, 1) := dk_29 (dk_at dksL_law_21 20 rfl rfl)
theorem dL_law_591 : decode cL_law 591 = .ok (.iconst 2, 1) := dk_5 (dk_at dksL_law_21 21 rfl rfl)
theorem dL_law_592 : decode cL_law 592 = .ok (.iadd, 1) := dk_96 (dk_at dksL_law_21 22 rfl rfl)
theorem dL_law_593 : decode cL_law 593 = .ok (.iaload, 1) := dk_46 (dk_at dksL_law_21 23 rfl rfl)
theorem dL_law_594 : decode cL_law 594 = .ok (.invokevirtual 81, 3) := dk_182 0 81 (dk_at dksL_law_22 0 rfl rfl)
theorem dL_law_597 : decode cL_law 597 = .ok (.if_icmp .eq 249, 3) := dk_159 0 249 (dk_at dksL_law_22 3 rfl rfl)
theorem dL_law_600 : decode cL_law 600 = .ok (.iconst 0, 1) := dk_3 (dk_at dksL_law_22 6 rfl rfl)
theorem dL_law_601 : decode cL_law 601 = .ok (.ireturn, 1) := dk_172 (dk_at dksL_law_22 7 rfl rfl)
theorem dL_law_602 : decode cL_law 602 = .ok (.aload_n 1, 1) := dk_43 (dk_at dksL_law_22 8 rfl rfl)
theorem dL_law_603 : decode cL_law 603 = .ok (.aload_n 0, 1) := dk_42 (dk_at dksL_law_22 9 rfl rfl)
theorem dL_law_604 : decode cL_law 604 = .ok (.iload_n 3, 1) := dk_29 (dk_at dksL_law_22 10 rfl rfl)
theorem dL_law_605 : decode cL_law 605 = .ok (.iconst 1, 1) := dk_4 (dk_at dksL_law_22 11 rfl rfl)
theorem dL_law_606 : decode cL_law 606 = .ok (.iadd, 1) := dk_96 (dk_at dksL_law_22 12 rfl rfl)
theorem dL_law_607 : decode cL_law 607 = .ok (.iaload, 1) := dk_46 (dk_at dksL_law_22 13 rfl rfl)
theorem dL_law_608 : decode cL_law 608 = .ok (.aload_n 0, 1) := dk_42 (dk_at dksL_law_22 14 rfl rfl)
theorem dL_law_609 : decode cL_law 609 = .ok (.iload_n 3, 1) := dk_29 (dk_at dksL_law_22 15 rfl rfl)
theorem dL_law_610 : decode cL_law 610 = .ok (.iconst 2, 1) := dk_5 (dk_at dksL_law_22 16 rfl rfl)
theorem dL_law_611 : decode cL_law 611 = .ok (.iadd, 1) := dk_96 (dk_at dksL_law_22 17 rfl rfl)
theorem dL_law_612 : decode cL_law 612 = .ok (.iaload, 1) := dk_46 (dk_at dksL_law_22 18 rfl rfl)
theorem dL_law_613 : decode cL_law 613 = .ok (.aload_n 0, 1) := dk_42 (dk_at dksL_law_22 19 rfl rfl)
theorem dL_law_614 : decode cL_law 614 = .ok (.iload_n 3, 1) := dk_29 (dk_at dksL_law_22 20 rfl rfl)
theorem dL_law_615 : decode cL_law 615 = .ok (.iconst 3, 1) := dk_6 (dk_at dksL_law_22 21 rfl rfl)
theorem dL_law_616 : decode cL_law 616 = .ok (.iadd, 1) := dk_96 (dk_at dksL_law_22 22 rfl rfl)
theorem dL_law_617 : decode cL_law 617 = .ok (.iaload, 1) := dk_46 (dk_at dksL_law_22 23 rfl rfl)
theorem dL_law_618 : decode cL_law 618 = .ok (.invokevirtual 82, 3) := dk_182 0 82 (dk_at dksL_law_23 0 rfl rfl)
theorem dL_law_621 : decode cL_law 621 = .ok (.aload_n 2, 1) := dk_44 (dk_at dksL_law_23 3 rfl rfl)
theorem dL_law_622 : decode cL_law 622 = .ok (.aload_n 0, 1) := dk_42 (dk_at dksL_law_23 4 rfl rfl)
theorem dL_law_623 : decode cL_law 623 = .ok (.iload_n 3, 1) := dk_29 (dk_at dksL_law_23 5 rfl rfl)
theorem dL_law_624 : decode cL_law 624 = .ok (.iconst 1, 1) := dk_4 (dk_at dksL_law_23 6 rfl rfl)
theorem dL_law_625 : decode cL_law 625 = .ok (.iadd, 1) := dk_96 (dk_at dksL_law_23 7 rfl rfl)
theorem dL_law_626 : decode cL_law 626 = .ok (.iaload, 1) := dk_46 (dk_at dksL_law_23 8 rfl rfl)
theorem dL_law_627 : decode cL_law 627 = .ok (.aload_n 0, 1) := dk_42 (dk_at dksL_law_23 9 rfl rfl)
theorem dL_law_628 : decode cL_law 628 = .ok (.iload_n 3, 1) := dk_29 (dk_at dksL_law_23 10 rfl rfl)
theorem dL_law_629 : decode cL_law 629 = .ok (.iconst 2, 1) := dk_5 (dk_at dksL_law_23 11 rfl rfl)
theorem dL_law_630 : decode cL_law 630 = .ok (.iadd, 1) := dk_96 (dk_at dksL_law_23 12 rfl rfl)
theorem dL_law_631 : decode cL_law 631 = .ok (.iaload, 1) := dk_46 (dk_at dksL_law_23 13 rfl rfl)
theorem dL_law_632 : decode cL_law 632 = .ok (.aload_n 0, 1) := dk_42 (dk_at dksL_law_23 14 rfl rfl)
theorem dL_law_633 : decode cL_law 633 = .ok (.iload_n 3, 1) := dk_29 (dk_at dksL_law_23 15 rfl rfl)
theorem dL_law_634 : decode cL_law 634 = .ok (.iconst 3, 1) := dk_6 (dk_at dksL_law_23 16 rfl rfl)
theorem dL_law_635 : decode cL_law 635 = .ok (.iadd, 1) := dk_96 (dk_at dksL_law_23 17 rfl rfl)
theorem dL_law_636 : decode cL_law 636 = .ok (.iaload, 1) := dk_46 (dk_at dksL_law_23 18 rfl rfl)
theorem dL_law_637 : decode cL_law 637 = .ok (.invokevirtual 86, 3) := dk_182 0 86 (dk_at dksL_law_23 19 rfl rfl)
theorem dL_law_640 : decode cL_law 640 = .ok (.if_icmp .eq 206, 3) := dk_159 0 206 (dk_at dksL_law_24 0 rfl rfl)
theorem dL_law_643 : decode cL_law 643 = .ok (.iconst 0, 1) := dk_3 (dk_at dksL_law_24 3 rfl rfl)
theorem dL_law_644 : decode cL_law 644 = .ok (.ireturn, 1) := dk_172 (dk_at dksL_law_24 4 rfl rfl)
theorem dL_law_645 : decode cL_law 645 = .ok (.aload_n 1, 1) := dk_43 (dk_at dksL_law_24 5 rfl rfl)
theorem dL_law_646 : decode cL_law 646 = .ok (.aload_n 0, 1) := dk_42 (dk_at dksL_law_24 6 rfl rfl)
theorem dL_law_647 : decode cL_law 647 = .ok (.iload_n 3, 1) := dk_29 (dk_at dksL_law_24 7 rfl rfl)
theorem dL_law_648 : decode cL_law 648 = .ok (.iconst 1, 1) := dk_4 (dk_at dksL_law_24 8 rfl rfl)
theorem dL_law_649 : decode cL_law 649 = .ok (.iadd, 1) := dk_96 (dk_at dksL_law_24 9 rfl rfl)
theorem dL_law_650 : decode cL_law 650 = .ok (.iaload, 1) := dk_46 (dk_at dksL_law_24 10 rfl rfl)
theorem dL_law_651 : decode cL_law 651 = .ok (.aload_n 0, 1) := dk_42 (dk_at dksL_law_24 11 rfl rfl)
theorem dL_law_652 : decode cL_law 652 = .ok (.iload_n 3, 1) := dk_29 (dk_at dksL_law_24 12 rfl rfl)
theorem dL_law_653 : decode cL_law 653 = .ok (.iconst 2, 1) := dk_5 (dk_at dksL_law_24 13 rfl rfl)
theorem dL_law_654 : decode cL_law 654 = .ok (.iadd, 1) := dk_96 (dk_at dksL_law_24 14 rfl rfl)
theorem dL_law_655 : decode cL_law 655 = .ok (.iaload, 1) := dk_46 (dk_at dksL_law_24 15 rfl rfl)
theorem dL_law_656 : decode cL_law 656 = .ok (.invokevirtual 87, 3) := dk_182 0 87 (dk_at dksL_law_24 16 rfl rfl)
theorem dL_law_659 : decode cL_law 659 = .ok (.aload_n 2, 1) := dk_44 (dk_at dksL_law_24 19 rfl rfl)
theorem dL_law_660 : decode cL_law 660 = .ok (.aload_n 0, 1) := dk_42 (dk_at dksL_law_24 20 rfl rfl)
theorem dL_law_661 : decode cL_law 661 = .ok (.iload_n 3, 1) := dk_29 (dk_at dksL_law_24 21 rfl rfl)
theorem dL_law_662 : decode cL_law 662 = .ok (.iconst 1, 1) := dk_4 (dk_at dksL_law_24 22 rfl rfl)
theorem dL_law_663 : decode cL_law 663 = .ok (.iadd, 1) := dk_96 (dk_at dksL_law_24 23 rfl rfl)
theorem dL_law_664 : decode cL_law 664 = .ok (.iaload, 1) := dk_46 (dk_at dksL_law_25 0 rfl rfl)
theorem dL_law_665 : decode cL_law 665 = .ok (.aload_n 0, 1) := dk_42 (dk_at dksL_law_25 1 rfl rfl)
theorem dL_law_666 : decode cL_law 666 = .ok (.iload_n 3, 1) := dk_29 (dk_at dksL_law_25 2 rfl rfl)
theorem dL_law_667 : decode cL_law 667 = .ok (.iconst 2, 1) := dk_5 (dk_at dksL_law_25 3 rfl rfl)
theorem dL_law_668 : decode cL_law 668 = .ok (.iadd, 1) := dk_96 (dk_at dksL_law_25 4 rfl rfl)
theorem dL_law_669 : decode cL_law 669 = .ok (.iaload, 1) := dk_46 (dk_at dksL_law_25 5 rfl rfl)
theorem dL_law_670 : decode cL_law 670 = .ok (.invokevirtual 90, 3) := dk_182 0 90 (dk_at dksL_law_25 6 rfl rfl)
theorem dL_law_673 : decode cL_law 673 = .ok (.if_icmp .eq 173, 3) := dk_159 0 173 (dk_at dksL_law_25 9 rfl rfl)
theorem dL_law_676 : decode cL_law 676 = .ok (.iconst 0, 1) := dk_3 (dk_at dksL_law_25 12 rfl rfl)
theorem dL_law_677 : decode cL_law 677 = .ok (.ireturn, 1) := dk_172 (dk_at dksL_law_25 13 rfl rfl)
theorem dL_law_678 : decode cL_law 678 = .ok (.aload_n 1, 1) := dk_43 (dk_at dksL_law_25 14 rfl rfl)
theorem dL_law_679 : decode cL_law 679 = .ok (.aload_n 0, 1) := dk_42 (dk_at dksL_law_25 15 rfl rfl)
theorem dL_law_680 : decode cL_law 680 = .ok (.iload_n 3, 1) := dk_29 (dk_at dksL_law_25 16 rfl rfl)
theorem dL_law_681 : decode cL_law 681 = .ok (.iconst 1, 1) := dk_4 (dk_at dksL_law_25 17 rfl rfl)
theorem dL_law_682 : decode cL_law 682 = .ok (.iadd, 1) := dk_96 (dk_at dksL_law_25 18 rfl rfl)
theorem dL_law_683 : decode cL_law 683 = .ok (.iaload, 1) := dk_46 (dk_at dksL_law_25 19 rfl rfl)
theorem dL_law_684 : decode cL_law 684 = .ok (.invokevirtual 91, 3) := dk_182 0 91 (dk_at dksL_law_25 20 rfl rfl)
theorem dL_law_687 : decode cL_law 687 = .ok (.aload_n 2, 1) := dk_44 (dk_at dksL_law_25 23 rfl rfl)
theorem dL_law_688 : decode cL_law 688 = .ok (.aload_n 0, 1) := dk_42 (dk_at dksL_law_26 0 rfl rfl)
theorem dL_law_689 : decode cL_law 689 = .ok (.iload_n 3, 1) := dk_29 (dk_at dksL_law_26 1 rfl rfl)
theorem dL_law_690 : decode cL_law 690 = .ok (.iconst 1, 1) := dk_4 (dk_at dksL_law_26 2 rfl rfl)
theorem dL_law_691 : decode cL_law 691 = .ok (.iadd, 1) := dk_96 (dk_at dksL_law_26 3 rfl rfl)
theorem dL_law_692 : decode cL_law 692 = .ok (.iaload, 1) := dk_46 (dk_at dksL_law_26 4 rfl rfl)
theorem dL_law_693 : decode cL_law 693 = .ok (.invokevirtual 94, 3) := dk_182 0 94 (dk_at dksL_law_26 5 rfl rfl)
theorem dL_law_696 : decode cL_law 696 = .ok (.if_icmp .eq 150, 3) := dk_159 0 150 (dk_at dksL_law_26 8 rfl rfl)
theorem dL_law_699 : decode cL_law 699 = .ok (.iconst 0, 1) := dk_3 (dk_at dksL_law_26 11 rfl rfl)
theorem dL_law_700 : decode cL_law 700 = .ok (.ireturn, 1) := dk_172 (dk_at dksL_law_26 12 rfl rfl)
theorem dL_law_701 : decode cL_law 701 = .ok (.aload_n 1, 1) := dk_43 (dk_at dksL_law_26 13 rfl rfl)
theorem dL_law_702 : decode cL_law 702 = .ok (.aload_n 0, 1) := dk_42 (dk_at dksL_law_26 14 rfl rfl)
theorem dL_law_703 : decode cL_law 703 = .ok (.iload_n 3, 1) := dk_29 (dk_at dksL_law_26 15 rfl rfl)
theorem dL_law_704 : decode cL_law 704 = .ok (.iconst 1, 1) := dk_4 (dk_at dksL_law_26 16 rfl rfl)
theorem dL_law_705 : decode cL_law 705 = .ok (.iadd, 1) := dk_96 (dk_at dksL_law_26 17 rfl rfl)
theorem dL_law_706 : decode cL_law 706 = .ok (.iaload, 1) := dk_46 (dk_at dksL_law_26 18 rfl rfl)
theorem dL_law_707 : decode cL_law 707 = .ok (.invokevirtual 95, 3) := dk_182 0 95 (dk_at dksL_law_26 19 rfl rfl)
theorem dL_law_710 : decode cL_law 710 = .ok (.aload_n 2, 1) := dk_44 (dk_at dksL_law_26 22 rfl rfl)
theorem dL_law_711 : decode cL_law 711 = .ok (.aload_n 0, 1) := dk_42 (dk_at dksL_law_26 23 rfl rfl)
theorem dL_law_712 : decode cL_law 712 = .ok (.iload_n 3, 1) := dk_29 (dk_at dksL_law_27 0 rfl rfl)
theorem dL_law_713 : decode cL_law 713 = .ok (.iconst 1, 1) := dk_4 (dk_at dksL_law_27 1 rfl rfl)
theorem dL_law_714 : decode cL_law 714 = .ok (.iadd, 1) := dk_96 (dk_at dksL_law_27 2 rfl rfl)
theorem dL_law_715 : decode cL_law 715 = .ok (.iaload, 1) := dk_46 (dk_at dksL_law_27 3 rfl rfl)
theorem dL_law_716 : decode cL_law 716 = .ok (.invokevirtual 98, 3) := dk_182 0 98 (dk_at dksL_law_27 4 rfl rfl)
theorem dL_law_719 : decode cL_law 719 = .ok (.if_icmp .eq 127, 3) := dk_159 0 127 (dk_at dksL_law_27 7 rfl rfl)
theorem dL_law_722 : decode cL_law 722 = .ok (.iconst 0, 1) := dk_3 (dk_at dksL_law_27 10 rfl rfl)
theorem dL_law_723 : decode cL_law 723 = .ok (.ireturn, 1) := dk_172 (dk_at dksL_law_27 11 rfl rfl)
theorem dL_law_724 : decode cL_law 724 = .ok (.aload_n 1, 1) := dk_43 (dk_at dksL_law_27 12 rfl rfl)
theorem dL_law_725 : decode cL_law 725 = .ok (.aload_n 0, 1) := dk_42 (dk_at dksL_law_27 13 rfl rfl)
theorem dL_law_726 : decode cL_law 726 = .ok (.iload_n 3, 1) := dk_29 (dk_at dksL_law_27 14 rfl rfl)
theorem dL_law_727 : decode cL_law 727 = .ok (.iconst 1, 1) := dk_4 (dk_at dksL_law_27 15 rfl rfl)
theorem dL_law_728 : decode cL_law 728 = .ok (.iadd, 1) := dk_96 (dk_at dksL_law_27 16 rfl rfl)
theorem dL_law_729 : decode cL_law 729 = .ok (.iaload, 1) := dk_46 (dk_at dksL_law_27 17 rfl rfl)
theorem dL_law_730 : decode cL_law 730 = .ok (.aload_n 0, 1) := dk_42 (dk_at dksL_law_27 18 rfl rfl)
theorem dL_law_731 : decode cL_law 731 = .ok (.iload_n 3, 1) := dk_29 (dk_at dksL_law_27 19 rfl rfl)
theorem dL_law_732 : decode cL_law 732 = .ok (.iconst 2, 1) := dk_5 (dk_at dksL_law_27 20 rfl rfl)
theorem dL_law_733 : decode cL_law 733 = .ok (.iadd, 1) := dk_96 (dk_at dksL_law_27 21 rfl rfl)
theorem dL_law_734 : decode cL_law 734 = .ok (.iaload, 1) := dk_46 (dk_at dksL_law_27 22 rfl rfl)
theorem dL_law_735 : decode cL_law 735 = .ok (.aload_n 0, 1) := dk_42 (dk_at dksL_law_27 23 rfl rfl)
theorem dL_law_736 : decode cL_law 736 = .ok (.iload_n 3, 1) := dk_29 (dk_at dksL_law_28 0 rfl rfl)
theorem dL_law_737 : decode cL_law 737 = .ok (.iconst 3, 1) := dk_6 (dk_at dksL_law_28 1 rfl rfl)
theorem dL_law_738 : decode cL_law 738 = .ok (.iadd, 1) := dk_96 (dk_at dksL_law_28 2 rfl rfl)
theorem dL_law_739 : decode cL_law 739 = .ok (.iaload, 1) := dk_46 (dk_at dksL_law_28 3 rfl rfl)
theorem dL_law_740 : decode cL_law 740 = .ok (.aload_n 0, 1) := dk_42 (dk_at dksL_law_28 4 rfl rfl)
theorem dL_law_741 : decode cL_law 741 = .ok (.iload_n 3, 1) := dk_29 (dk_at dksL_law_28 5 rfl rfl)
theorem dL_law_742 : decode cL_law 742 = .ok (.iconst 4, 1) := dk_7 (dk_at dksL_law_28 6 rfl rfl)
theorem dL_law_743 : decode cL_law 743 = .ok (.iadd, 1) := dk_96 (dk_at dksL_law_28 7 rfl rfl)
theorem dL_law_744 : decode cL_law 744 = .ok (.iaload, 1) := dk_46 (dk_at dksL_law_28 8 rfl rfl)
theorem dL_law_745 : decode cL_law 745 = .ok (.invokevirtual 99, 3) := dk_182 0 99 (dk_at dksL_law_28 9 rfl rfl)
theorem dL_law_748 : decode cL_law 748 = .ok (.aload_n 2, 1) := dk_44 (dk_at dksL_law_28 12 rfl rfl)
theorem dL_law_749 : decode cL_law 749 = .ok (.aload_n 0, 1) := dk_42 (dk_at dksL_law_28 13 rfl rfl)
theorem dL_law_750 : decode cL_law 750 = .ok (.iload_n 3, 1) := dk_29 (dk_at dksL_law_28 14 rfl rfl)
theorem dL_law_751 : decode cL_law 751 = .ok (.iconst 1, 1) := dk_4 (dk_at dksL_law_28 15 rfl rfl)
theorem dL_law_752 : decode cL_law 752 = .ok (.iadd, 1) := dk_96 (dk_at dksL_law_28 16 rfl rfl)
theorem dL_law_753 : decode cL_law 753 = .ok (.iaload, 1) := dk_46 (dk_at dksL_law_28 17 rfl rfl)
theorem dL_law_754 : decode cL_law 754 = .ok (.aload_n 0, 1) := dk_42 (dk_at dksL_law_28 18 rfl rfl)
theorem dL_law_755 : decode cL_law 755 = .ok (.iload_n 3, 1) := dk_29 (dk_at dksL_law_28 19 rfl rfl)
theorem dL_law_756 : decode cL_law 756 = .ok (.iconst 2, 1) := dk_5 (dk_at dksL_law_28 20 rfl rfl)
theorem dL_law_757 : decode cL_law 757 = .ok (.iadd, 1) := dk_96 (dk_at dksL_law_28 21 rfl rfl)
theorem dL_law_758 : decode cL_law 758 = .ok (.iaload, 1) := dk_46 (dk_at dksL_law_28 22 rfl rfl)
theorem dL_law_759 : decode cL_law 759 = .ok (.aload_n 0, 1) := dk_42 (dk_at dksL_law_28 23 rfl rfl)
theorem dL_law_760 : decode cL_law 760 = .ok (.iload_n 3, 1) := dk_29 (dk_at dksL_law_29 0 rfl rfl)
theorem dL_law_761 : decode cL_law 761 = .ok (.iconst 3, 1) := dk_6 (dk_at dksL_law_29 1 rfl rfl)
theorem dL_law_762 : decode cL_law 762 = .ok (.iadd, 1) := dk_96 (dk_at dksL_law_29 2 rfl rfl)
theorem dL_law_763 : decode cL_law 763 = .ok (.iaload, 1) := dk_46 (dk_at dksL_law_29 3 rfl rfl)
theorem dL_law_764 : decode cL_law 764 = .ok (.aload_n 0, 1) := dk_42 (dk_at dksL_law_29 4 rfl rfl)
theorem dL_law_765 : decode cL_law 765 = .ok (.iload_n 3, 1) := dk_29 (dk_at dksL_law_29 5 rfl rfl)
theorem dL_law_766 : decode cL_law 766 = .ok (.iconst 4, 1) := dk_7 (dk_at dksL_law_29 6 rfl rfl)
theorem dL_law_767 : decode cL_law 767 = .ok (.iadd, 1) := dk_96 (dk_at dksL_law_29 7 rfl rfl)
theorem dL_law_768 : decode cL_law 768 = .ok (.iaload, 1) := dk_46 (dk_at dksL_law_29 8 rfl rfl)
theorem dL_law_769 : decode cL_law 769 = .ok (.invokevirtual 103, 3) := dk_182 0 103 (dk_at dksL_law_29 9 rfl rfl)
theorem dL_law_772 : decode cL_law 772 = .ok (.if_icmp .eq 74, 3) := dk_159 0 74 (dk_at dksL_law_29 12 rfl rfl)
theorem dL_law_775 : decode cL_law 775 = .ok (.iconst 0, 1) := dk_3 (dk_at dksL_law_29 15 rfl rfl)
theorem dL_law_776 : decode cL_law 776 = .ok (.ireturn, 1) := dk_172 (dk_at dksL_law_29 16 rfl rfl)
theorem dL_law_777 : decode cL_law 777 = .ok (.aload_n 1, 1) := dk_43 (dk_at dksL_law_29 17 rfl rfl)
theorem dL_law_778 : decode cL_law 778 = .ok (.aload_n 0, 1) := dk_42 (dk_at dksL_law_29 18 rfl rfl)
theorem dL_law_779 : decode cL_law 779 = .ok (.iload_n 3, 1) := dk_29 (dk_at dksL_law_29 19 rfl rfl)
theorem dL_law_780 : decode cL_law 780 = .ok (.iconst 1, 1) := dk_4 (dk_at dksL_law_29 20 rfl rfl)
theorem dL_law_781 : decode cL_law 781 = .ok (.iadd, 1) := dk_96 (dk_at dksL_law_29 21 rfl rfl)
theorem dL_law_782 : decode cL_law 782 = .ok (.iaload, 1) := dk_46 (dk_at dksL_law_29 22 rfl rfl)
theorem dL_law_783 : decode cL_law 783 = .ok (.invokevirtual 104, 3) := dk_182 0 104 (dk_at dksL_law_30 0 rfl rfl)
theorem dL_law_786 : decode cL_law 786 = .ok (.aload_n 2, 1) := dk_44 (dk_at dksL_law_30 3 rfl rfl)
theorem dL_law_787 : decode cL_law 787 = .ok (.aload_n 0, 1) := dk_42 (dk_at dksL_law_30 4 rfl rfl)
theorem dL_law_788 : decode cL_law 788 = .ok (.iload_n 3, 1) := dk_29 (dk_at dksL_law_30 5 rfl rfl)
theorem dL_law_789 : decode cL_law 789 = .ok (.iconst 1, 1) := dk_4 (dk_at dksL_law_30 6 rfl rfl)
theorem dL_law_790 : decode cL_law 790 = .ok (.iadd, 1) := dk_96 (dk_at dksL_law_30 7 rfl rfl)
theorem dL_law_791 : decode cL_law 791 = .ok (.iaload, 1) := dk_46 (dk_at dksL_law_30 8 rfl rfl)
theorem dL_law_792 : decode cL_law 792 = .ok (.invokevirtual 108, 3) := dk_182 0 108 (dk_at dksL_law_30 9 rfl rfl)
theorem dL_law_795 : decode cL_law 795 = .ok (.if_icmp .eq 51, 3) := dk_159 0 51 (dk_at dksL_law_30 12 rfl rfl)
theorem dL_law_798 : decode cL_law 798 = .ok (.iconst 0, 1) := dk_3 (dk_at dksL_law_30 15 rfl rfl)
theorem dL_law_799 : decode cL_law 799 = .ok (.ireturn, 1) := dk_172 (dk_at dksL_law_30 16 rfl rfl)
theorem dL_law_800 : decode cL_law 800 = .ok (.aload_n 1, 1) := dk_43 (dk_at dksL_law_30 17 rfl rfl)
theorem dL_law_801 : decode cL_law 801 = .ok (.aload_n 0, 1) := dk_42 (dk_at dksL_law_30 18 rfl rfl)
theorem dL_law_802 : decode cL_law 802 = .ok (.iload_n 3, 1) := dk_29 (dk_at dksL_law_30 19 rfl rfl)
theorem dL_law_803 : decode cL_law 803 = .ok (.iconst 1, 1) := dk_4 (dk_at dksL_law_30 20 rfl rfl)
theorem dL_law_804 : decode cL_law 804 = .ok (.iadd, 1) := dk_96 (dk_at dksL_law_30 21 rfl rfl)
theorem dL_law_805 : decode cL_law 805 = .ok (.iaload, 1) := dk_46 (dk_at dksL_law_30 22 rfl rfl)
theorem dL_law_806 : decode cL_law 806 = .ok (.invokevirtual 109, 3) := dk_182 0 109 (dk_at dksL_law_31 0 rfl rfl)
theorem dL_law_809 : decode cL_law 809 = .ok (.aload_n 2, 1) := dk_44 (dk_at dksL_law_31 3 rfl rfl)
theorem dL_law_810 : decode cL_law 810 = .ok (.aload_n 0, 1) := dk_42 (dk_at dksL_law_31 4 rfl rfl)
theorem dL_law_811 : decode cL_law 811 = .ok (.iload_n 3, 1) := dk_29 (dk_at dksL_law_31 5 rfl rfl)
theorem dL_law_812 : decode cL_law 812 = .ok (.iconst 1, 1) := dk_4 (dk_at dksL_law_31 6 rfl rfl)
theorem dL_law_813 : decode cL_law 813 = .ok (.iadd, 1) := dk_96 (dk_at dksL_law_31 7 rfl rfl)
theorem dL_law_814 : decode cL_law 814 = .ok (.iaload, 1) := dk_46 (dk_at dksL_law_31 8 rfl rfl)
theorem dL_law_815 : decode cL_law 815 = .ok (.invokevirtual 112, 3) := dk_182 0 112 (dk_at dksL_law_31 9 rfl rfl)
theorem dL_law_818 : decode cL_law 818 = .ok (.if_icmp .eq 28, 3) := dk_159 0 28 (dk_at dksL_law_31 12 rfl rfl)
theorem dL_law_821 : decode cL_law 821 = .ok (.iconst 0, 1) := dk_3 (dk_at dksL_law_31 15 rfl rfl)
theorem dL_law_822 : decode cL_law 822 = .ok (.ireturn, 1) := dk_172 (dk_at dksL_law_31 16 rfl rfl)
theorem dL_law_823 : decode cL_law 823 = .ok (.aload_n 1, 1) := dk_43 (dk_at dksL_law_31 17 rfl rfl)
theorem dL_law_824 : decode cL_law 824 = .ok (.aload_n 0, 1) := dk_42 (dk_at dksL_law_31 18 rfl rfl)
theorem dL_law_825 : decode cL_law 825 = .ok (.iload_n 3, 1) := dk_29 (dk_at dksL_law_31 19 rfl rfl)
theorem dL_law_826 : decode cL_law 826 = .ok (.iconst 1, 1) := dk_4 (dk_at dksL_law_31 20 rfl rfl)
theorem dL_law_827 : decode cL_law 827 = .ok (.iadd, 1) := dk_96 (dk_at dksL_law_31 21 rfl rfl)
theorem dL_law_828 : decode cL_law 828 = .ok (.iaload, 1) := dk_46 (dk_at dksL_law_31 22 rfl rfl)
theorem dL_law_829 : decode cL_law 829 = .ok (.invokevirtual 113, 3) := dk_182 0 113 (dk_at dksL_law_32 0 rfl rfl)
theorem dL_law_832 : decode cL_law 832 = .ok (.aload_n 2, 1) := dk_44 (dk_at dksL_law_32 3 rfl rfl)
theorem dL_law_833 : decode cL_law 833 = .ok (.aload_n 0, 1) := dk_42 (dk_at dksL_law_32 4 rfl rfl)
theorem dL_law_834 : decode cL_law 834 = .ok (.iload_n 3, 1) := dk_29 (dk_at dksL_law_32 5 rfl rfl)
theorem dL_law_835 : decode cL_law 835 = .ok (.iconst 1, 1) := dk_4 (dk_at dksL_law_32 6 rfl rfl)
theorem dL_law_836 : decode cL_law 836 = .ok (.iadd, 1) := dk_96 (dk_at dksL_law_32 7 rfl rfl)
theorem dL_law_837 : decode cL_law 837 = .ok (.iaload, 1) := dk_46 (dk_at dksL_law_32 8 rfl rfl)
theorem dL_law_838 : decode cL_law 838 = .ok (.invokevirtual 116, 3) := dk_182 0 116 (dk_at dksL_law_32 9 rfl rfl)
theorem dL_law_841 : decode cL_law 841 = .ok (.if_icmp .eq 5, 3) := dk_159 0 5 (dk_at dksL_law_32 12 rfl rfl)
theorem dL_law_844 : decode cL_law 844 = .ok (.iconst 0, 1) := dk_3 (dk_at dksL_law_32 15 rfl rfl)
theorem dL_law_845 : decode cL_law 845 = .ok (.ireturn, 1) := dk_172 (dk_at dksL_law_32 16 rfl rfl)
theorem dL_law_846 : decode cL_law 846 = .ok (.iinc 3 6, 3) := dk_132 3 6 (dk_at dksL_law_32 17 rfl rfl)
theorem dL_law_849 : decode cL_law 849 = .ok (.goto (-831), 3) := dk_167 252 193 (dk_at dksL_law_32 20 rfl rfl)
theorem dL_law_852 : decode cL_law 852 = .ok (.iconst 1, 1) := dk_4 (dk_at dksL_law_32 23 rfl rfl)
theorem dL_law_853 : decode cL_law 853 = .ok (.ireturn, 1) := dk_172 (dk_at dksL_law_33 0 rfl rfl)
