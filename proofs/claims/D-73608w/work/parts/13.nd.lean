/-! DeltaIndex$Store -/
set_option maxRecDepth 100000
def RX4 : String := "DeltaIndex$Store"
def TX4 : u_T := fun k => match k with
  | 0 => ("DeltaIndex$Store", "record", "[LDeltaIndex$Record;", true)
  | 1 => ("DeltaIndex$Store", "top", "[I", true)
  | 2 => ("DeltaIndex$Store", "hand", "[LDeltaIndex$Hand;", true)
  | 3 => ("DeltaIndex$Store", "records", "I", false)
  | 4 => ("DeltaIndex$Store", "pages", "I", false)
  | 5 => ("DeltaIndex$Store", "epoch", "I", false)
  | 6 => ("DeltaIndex$Store", "chain", "I", false)
  | 7 => ("DeltaIndex$Store", "most", "I", false)
  | 8 => ("DeltaIndex$Store", "least", "I", false)
  | 9 => ("DeltaIndex$Store", "here", "LDeltaIndex$Record;", true)
  | 10 => ("DeltaIndex$Store", "bounds", "LDeltaIndex$Record;", true)
  | 11 => ("DeltaIndex$Store", "near", "LDeltaIndex$Record;", true)
  | _ => ("DeltaIndex$Store", "above", "[I", true)
def tyX4 : Nat → FieldType := fun k => match k with
  | 0 => .array (.object "DeltaIndex$Record")
  | 1 => .array .int
  | 2 => .array (.object "DeltaIndex$Hand")
  | 3 => .int
  | 4 => .int
  | 5 => .int
  | 6 => .int
  | 7 => .int
  | 8 => .int
  | 9 => .object "DeltaIndex$Record"
  | 10 => .object "DeltaIndex$Record"
  | 11 => .object "DeltaIndex$Record"
  | _ => .array .int
abbrev wsX40 : List Cond := u_ws RX4 TX4 13
set_option maxRecDepth 100000 in
theorem nmX4 : ∀ a, a < 13 → ∀ b, b < 13 → a ≠ b → (TX4 a).2.1 ≠ (TX4 b).2.1 := by decide +kernel
set_option maxRecDepth 100000 in
theorem tyX4_ok : ∀ k, k < 13 → parseFieldDescriptor (TX4 k).2.2.1 = some (tyX4 k) := by decide +kernel
abbrev cX4_init : ByteArray := prog_12_method_1_code
def yX4_init : MethodName := ⟨RX4, "<init>", "()V"⟩
def dkwX4_init_4 : List UInt8 := [132, 1, 1, 167, 255, 235, 177]
abbrev dktX4_init_4 : List UInt8 := dkwX4_init_4 ++ []
def dkwX4_init_3 : List UInt8 := [181, 0, 38, 3, 60, 27, 7, 162, 0, 22, 42, 180, 0, 23, 27, 187, 0, 21, 89, 183, 0, 41, 83]
abbrev dktX4_init_3 : List UInt8 := dkwX4_init_3 ++ dktX4_init_4
def dkwX4_init_2 : List UInt8 := [183, 0, 27, 181, 0, 32, 42, 187, 0, 9, 89, 183, 0, 27, 181, 0, 35, 42, 17, 7, 208, 188, 10]
abbrev dktX4_init_2 : List UInt8 := dkwX4_init_2 ++ dktX4_init_3
def dkwX4_init_1 : List UInt8 := [189, 0, 21, 181, 0, 23, 42, 187, 0, 9, 89, 183, 0, 27, 181, 0, 28, 42, 187, 0, 9, 89]
abbrev dktX4_init_1 : List UInt8 := dkwX4_init_1 ++ dktX4_init_2
def dkwX4_init_0 : List UInt8 := [42, 183, 0, 3, 42, 17, 7, 208, 189, 0, 9, 181, 0, 11, 42, 16, 32, 188, 10, 181, 0, 17, 42, 7]
abbrev dktX4_init_0 : List UInt8 := dkwX4_init_0 ++ dktX4_init_1
theorem dksX4_init_0 : cX4_init.data.toList.drop 0 = dktX4_init_0 := by decide +kernel
theorem dksX4_init_1 : cX4_init.data.toList.drop 24 = dktX4_init_1 := dk_seg dksX4_init_0 24 rfl rfl
theorem dksX4_init_2 : cX4_init.data.toList.drop 46 = dktX4_init_2 := dk_seg dksX4_init_1 22 rfl rfl
theorem dksX4_init_3 : cX4_init.data.toList.drop 69 = dktX4_init_3 := dk_seg dksX4_init_2 23 rfl rfl
theorem dksX4_init_4 : cX4_init.data.toList.drop 92 = dktX4_init_4 := dk_seg dksX4_init_3 23 rfl rfl
theorem dX4_init_0 : decode cX4_init 0 = .ok (.aload_n 0, 1) := dk_42 (dk_at dksX4_init_0 0 rfl rfl)
theorem dX4_init_1 : decode cX4_init 1 = .ok (.invokespecial 3, 3) := dk_183 0 3 (dk_at dksX4_init_0 1 rfl rfl)
theorem dX4_init_4 : decode cX4_init 4 = .ok (.aload_n 0, 1) := dk_42 (dk_at dksX4_init_0 4 rfl rfl)
theorem dX4_init_5 : decode cX4_init 5 = .ok (.sipush 2000, 3) := dk_17 7 208 (dk_at dksX4_init_0 5 rfl rfl)
theorem dX4_init_8 : decode cX4_init 8 = .ok (.anewarray 9, 3) := dk_189 0 9 (dk_at dksX4_init_0 8 rfl rfl)
theorem dX4_init_11 : decode cX4_init 11 = .ok (.putfield 11, 3) := dk_181 0 11 (dk_at dksX4_init_0 11 rfl rfl)
theorem dX4_init_14 : decode cX4_init 14 = .ok (.aload_n 0, 1) := dk_42 (dk_at dksX4_init_0 14 rfl rfl)
theorem dX4_init_15 : decode cX4_init 15 = .ok (.bipush 32, 2) := dk_16 32 (dk_at dksX4_init_0 15 rfl rfl)
theorem dX4_init_17 : decode cX4_init 17 = .ok (.newarray .int, 2) := dk_188_10 (dk_at dksX4_init_0 17 rfl rfl)
theorem dX4_init_19 : decode cX4_init 19 = .ok (.putfield 17, 3) := dk_181 0 17 (dk_at dksX4_init_0 19 rfl rfl)
theorem dX4_init_22 : decode cX4_init 22 = .ok (.aload_n 0, 1) := dk_42 (dk_at dksX4_init_0 22 rfl rfl)
theorem dX4_init_23 : decode cX4_init 23 = .ok (.iconst 4, 1) := dk_7 (dk_at dksX4_init_0 23 rfl rfl)
theorem dX4_init_24 : decode cX4_init 24 = .ok (.anewarray 21, 3) := dk_189 0 21 (dk_at dksX4_init_1 0 rfl rfl)
theorem dX4_init_27 : decode cX4_init 27 = .ok (.putfield 23, 3) := dk_181 0 23 (dk_at dksX4_init_1 3 rfl rfl)
theorem dX4_init_30 : decode cX4_init 30 = .ok (.aload_n 0, 1) := dk_42 (dk_at dksX4_init_1 6 rfl rfl)
theorem dX4_init_31 : decode cX4_init 31 = .ok (.new 9, 3) := dk_187 0 9 (dk_at dksX4_init_1 7 rfl rfl)
theorem dX4_init_34 : decode cX4_init 34 = .ok (.dup, 1) := dk_89 (dk_at dksX4_init_1 10 rfl rfl)
theorem dX4_init_35 : decode cX4_init 35 = .ok (.invokespecial 27, 3) := dk_183 0 27 (dk_at dksX4_init_1 11 rfl rfl)
theorem dX4_init_38 : decode cX4_init 38 = .ok (.putfield 28, 3) := dk_181 0 28 (dk_at dksX4_init_1 14 rfl rfl)
theorem dX4_init_41 : decode cX4_init 41 = .ok (.aload_n 0, 1) := dk_42 (dk_at dksX4_init_1 17 rfl rfl)
theorem dX4_init_42 : decode cX4_init 42 = .ok (.new 9, 3) := dk_187 0 9 (dk_at dksX4_init_1 18 rfl rfl)
theorem dX4_init_45 : decode cX4_init 45 = .ok (.dup, 1) := dk_89 (dk_at dksX4_init_1 21 rfl rfl)
theorem dX4_init_46 : decode cX4_init 46 = .ok (.invokespecial 27, 3) := dk_183 0 27 (dk_at dksX4_init_2 0 rfl rfl)
theorem dX4_init_49 : decode cX4_init 49 = .ok (.putfield 32, 3) := dk_181 0 32 (dk_at dksX4_init_2 3 rfl rfl)
theorem dX4_init_52 : decode cX4_init 52 = .ok (.aload_n 0, 1) := dk_42 (dk_at dksX4_init_2 6 rfl rfl)
theorem dX4_init_53 : decode cX4_init 53 = .ok (.new 9, 3) := dk_187 0 9 (dk_at dksX4_init_2 7 rfl rfl)
theorem dX4_init_56 : decode cX4_init 56 = .ok (.dup, 1) := dk_89 (dk_at dksX4_init_2 10 rfl rfl)
theorem dX4_init_57 : decode cX4_init 57 = .ok (.invokespecial 27, 3) := dk_183 0 27 (dk_at dksX4_init_2 11 rfl rfl)
theorem dX4_init_60 : decode cX4_init 60 = .ok (.putfield 35, 3) := dk_181 0 35 (dk_at dksX4_init_2 14 rfl rfl)
theorem dX4_init_63 : decode cX4_init 63 = .ok (.aload_n 0, 1) := dk_42 (dk_at dksX4_init_2 17 rfl rfl)
theorem dX4_init_64 : decode cX4_init 64 = .ok (.sipush 2000, 3) := dk_17 7 208 (dk_at dksX4_init_2 18 rfl rfl)
theorem dX4_init_67 : decode cX4_init 67 = .ok (.newarray .int, 2) := dk_188_10 (dk_at dksX4_init_2 21 rfl rfl)
theorem dX4_init_69 : decode cX4_init 69 = .ok (.putfield 38, 3) := dk_181 0 38 (dk_at dksX4_init_3 0 rfl rfl)
theorem dX4_init_72 : decode cX4_init 72 = .ok (.iconst 0, 1) := dk_3 (dk_at dksX4_init_3 3 rfl rfl)
theorem dX4_init_73 : decode cX4_init 73 = .ok (.istore_n 1, 1) := dk_60 (dk_at dksX4_init_3 4 rfl rfl)
theorem dX4_init_74 : decode cX4_init 74 = .ok (.iload_n 1, 1) := dk_27 (dk_at dksX4_init_3 5 rfl rfl)
theorem dX4_init_75 : decode cX4_init 75 = .ok (.iconst 4, 1) := dk_7 (dk_at dksX4_init_3 6 rfl rfl)
theorem dX4_init_76 : decode cX4_init 76 = .ok (.if_icmp .ge 22, 3) := dk_162 0 22 (dk_at dksX4_init_3 7 rfl rfl)
theorem dX4_init_79 : decode cX4_init 79 = .ok (.aload_n 0, 1) := dk_42 (dk_at dksX4_init_3 10 rfl rfl)
theorem dX4_init_80 : decode cX4_init 80 = .ok (.getfield 23, 3) := dk_180 0 23 (dk_at dksX4_init_3 11 rfl rfl)
theorem dX4_init_83 : decode cX4_init 83 = .ok (.iload_n 1, 1) := dk_27 (dk_at dksX4_init_3 14 rfl rfl)
theorem dX4_init_84 : decode cX4_init 84 = .ok (.new 21, 3) := dk_187 0 21 (dk_at dksX4_init_3 15 rfl rfl)
theorem dX4_init_87 : decode cX4_init 87 = .ok (.dup, 1) := dk_89 (dk_at dksX4_init_3 18 rfl rfl)
theorem dX4_init_88 : decode cX4_init 88 = .ok (.invokespecial 41, 3) := dk_183 0 41 (dk_at dksX4_init_3 19 rfl rfl)
theorem dX4_init_91 : decode cX4_init 91 = .ok (.aastore, 1) := dk_83 (dk_at dksX4_init_3 22 rfl rfl)
theorem dX4_init_92 : decode cX4_init 92 = .ok (.iinc 1 1, 3) := dk_132 1 1 (dk_at dksX4_init_4 0 rfl rfl)
theorem dX4_init_95 : decode cX4_init 95 = .ok (.goto (-21), 3) := dk_167 255 235 (dk_at dksX4_init_4 3 rfl rfl)
theorem dX4_init_98 : decode cX4_init 98 = .ok (.return_, 1) := dk_177 (dk_at dksX4_init_4 6 rfl rfl)
abbrev cX4_begins : ByteArray := prog_12_method_2_code
def yX4_begins : MethodName := ⟨RX4, "begins", "(LDeltaIndex$Text;)V"⟩
def dkwX4_begins_5 : List UInt8 := [17, 3, 232, 181, 0, 74, 42, 5, 181, 0, 77, 177]
abbrev dktX4_begins_5 : List UInt8 := dkwX4_begins_5 ++ []
def dkwX4_begins_4 : List UInt8 := [4, 42, 3, 16, 254, 16, 254, 16, 254, 182, 0, 66, 79, 42, 180, 0, 11, 42, 180, 0, 17, 4, 46, 50]
abbrev dktX4_begins_4 : List UInt8 := dkwX4_begins_4 ++ dktX4_begins_5
def dkwX4_begins_3 : List UInt8 := [182, 0, 66, 79, 42, 180, 0, 11, 42, 180, 0, 17, 3, 46, 50, 3, 4, 182, 0, 70, 42, 180, 0, 17]
abbrev dktX4_begins_3 : List UInt8 := dkwX4_begins_3 ++ dktX4_begins_4
def dkwX4_begins_2 : List UInt8 := [182, 0, 63, 132, 2, 1, 167, 255, 239, 42, 180, 0, 17, 3, 42, 3, 16, 254, 16, 254, 16, 254]
abbrev dktX4_begins_2 : List UInt8 := dkwX4_begins_2 ++ dktX4_begins_3
def dkwX4_begins_1 : List UInt8 := [42, 3, 181, 0, 57, 42, 3, 181, 0, 60, 3, 61, 28, 7, 162, 0, 18, 42, 180, 0, 23, 28, 50]
abbrev dktX4_begins_1 : List UInt8 := dkwX4_begins_1 ++ dktX4_begins_2
def dkwX4_begins_0 : List UInt8 := [42, 43, 180, 0, 42, 181, 0, 48, 42, 43, 180, 0, 49, 181, 0, 52, 42, 43, 180, 0, 53, 181, 0, 56]
abbrev dktX4_begins_0 : List UInt8 := dkwX4_begins_0 ++ dktX4_begins_1
theorem dksX4_begins_0 : cX4_begins.data.toList.drop 0 = dktX4_begins_0 := by decide +kernel
theorem dksX4_begins_1 : cX4_begins.data.toList.drop 24 = dktX4_begins_1 := dk_seg dksX4_begins_0 24 rfl rfl
theorem dksX4_begins_2 : cX4_begins.data.toList.drop 47 = dktX4_begins_2 := dk_seg dksX4_begins_1 23 rfl rfl
theorem dksX4_begins_3 : cX4_begins.data.toList.drop 69 = dktX4_begins_3 := dk_seg dksX4_begins_2 22 rfl rfl
theorem dksX4_begins_4 : cX4_begins.data.toList.drop 93 = dktX4_begins_4 := dk_seg dksX4_begins_3 24 rfl rfl
theorem dksX4_begins_5 : cX4_begins.data.toList.drop 117 = dktX4_begins_5 := dk_seg dksX4_begins_4 24 rfl rfl
theorem dX4_begins_0 : decode cX4_begins 0 = .ok (.aload_n 0, 1) := dk_42 (dk_at dksX4_begins_0 0 rfl rfl)
theorem dX4_begins_1 : decode cX4_begins 1 = .ok (.aload_n 1, 1) := dk_43 (dk_at dksX4_begins_0 1 rfl rfl)
theorem dX4_begins_2 : decode cX4_begins 2 = .ok (.getfield 42, 3) := dk_180 0 42 (dk_at dksX4_begins_0 2 rfl rfl)
theorem dX4_begins_5 : decode cX4_begins 5 = .ok (.putfield 48, 3) := dk_181 0 48 (dk_at dksX4_begins_0 5 rfl rfl)
theorem dX4_begins_8 : decode cX4_begins 8 = .ok (.aload_n 0, 1) := dk_42 (dk_at dksX4_begins_0 8 rfl rfl)
theorem dX4_begins_9 : decode cX4_begins 9 = .ok (.aload_n 1, 1) := dk_43 (dk_at dksX4_begins_0 9 rfl rfl)
theorem dX4_begins_10 : decode cX4_begins 10 = .ok (.getfield 49, 3) := dk_180 0 49 (dk_at dksX4_begins_0 10 rfl rfl)
theorem dX4_begins_13 : decode cX4_begins 13 = .ok (.putfield 52, 3) := dk_181 0 52 (dk_at dksX4_begins_0 13 rfl rfl)
theorem dX4_begins_16 : decode cX4_begins 16 = .ok (.aload_n 0, 1) := dk_42 (dk_at dksX4_begins_0 16 rfl rfl)
theorem dX4_begins_17 : decode cX4_begins 17 = .ok (.aload_n 1, 1) := dk_43 (dk_at dksX4_begins_0 17 rfl rfl)
theorem dX4_begins_18 : decode cX4_begins 18 = .ok (.getfield 53, 3) := dk_180 0 53 (dk_at dksX4_begins_0 18 rfl rfl)
theorem dX4_begins_21 : decode cX4_begins 21 = .ok (.putfield 56, 3) := dk_181 0 56 (dk_at dksX4_begins_0 21 rfl rfl)
theorem dX4_begins_24 : decode cX4_begins 24 = .ok (.aload_n 0, 1) := dk_42 (dk_at dksX4_begins_1 0 rfl rfl)
theorem dX4_begins_25 : decode cX4_begins 25 = .ok (.iconst 0, 1) := dk_3 (dk_at dksX4_begins_1 1 rfl rfl)
theorem dX4_begins_26 : decode cX4_begins 26 = .ok (.putfield 57, 3) := dk_181 0 57 (dk_at dksX4_begins_1 2 rfl rfl)
theorem dX4_begins_29 : decode cX4_begins 29 = .ok (.aload_n 0, 1) := dk_42 (dk_at dksX4_begins_1 5 rfl rfl)
theorem dX4_begins_30 : decode cX4_begins 30 = .ok (.iconst 0, 1) := dk_3 (dk_at dksX4_begins_1 6 rfl rfl)
theorem dX4_begins_31 : decode cX4_begins 31 = .ok (.putfield 60, 3) := dk_181 0 60 (dk_at dksX4_begins_1 7 rfl rfl)
theorem dX4_begins_34 : decode cX4_begins 34 = .ok (.iconst 0, 1) := dk_3 (dk_at dksX4_begins_1 10 rfl rfl)
theorem dX4_begins_35 : decode cX4_begins 35 = .ok (.istore_n 2, 1) := dk_61 (dk_at dksX4_begins_1 11 rfl rfl)
theorem dX4_begins_36 : decode cX4_begins 36 = .ok (.iload_n 2, 1) := dk_28 (dk_at dksX4_begins_1 12 rfl rfl)
theorem dX4_begins_37 : decode cX4_begins 37 = .ok (.iconst 4, 1) := dk_7 (dk_at dksX4_begins_1 13 rfl rfl)
theorem dX4_begins_38 : decode cX4_begins 38 = .ok (.if_icmp .ge 18, 3) := dk_162 0 18 (dk_at dksX4_begins_1 14 rfl rfl)
theorem dX4_begins_41 : decode cX4_begins 41 = .ok (.aload_n 0, 1) := dk_42 (dk_at dksX4_begins_1 17 rfl rfl)
theorem dX4_begins_42 : decode cX4_begins 42 = .ok (.getfield 23, 3) := dk_180 0 23 (dk_at dksX4_begins_1 18 rfl rfl)
theorem dX4_begins_45 : decode cX4_begins 45 = .ok (.iload_n 2, 1) := dk_28 (dk_at dksX4_begins_1 21 rfl rfl)
theorem dX4_begins_46 : decode cX4_begins 46 = .ok (.aaload, 1) := dk_50 (dk_at dksX4_begins_1 22 rfl rfl)
theorem dX4_begins_47 : decode cX4_begins 47 = .ok (.invokevirtual 63, 3) := dk_182 0 63 (dk_at dksX4_begins_2 0 rfl rfl)
theorem dX4_begins_50 : decode cX4_begins 50 = .ok (.iinc 2 1, 3) := dk_132 2 1 (dk_at dksX4_begins_2 3 rfl rfl)
theorem dX4_begins_53 : decode cX4_begins 53 = .ok (.goto (-17), 3) := dk_167 255 239 (dk_at dksX4_begins_2 6 rfl rfl)
theorem dX4_begins_56 : decode cX4_begins 56 = .ok (.aload_n 0, 1) := dk_42 (dk_at dksX4_begins_2 9 rfl rfl)
theorem dX4_begins_57 : decode cX4_begins 57 = .ok (.getfield 17, 3) := dk_180 0 17 (dk_at dksX4_begins_2 10 rfl rfl)
theorem dX4_begins_60 : decode cX4_begins 60 = .ok (.iconst 0, 1) := dk_3 (dk_at dksX4_begins_2 13 rfl rfl)
theorem dX4_begins_61 : decode cX4_begins 61 = .ok (.aload_n 0, 1) := dk_42 (dk_at dksX4_begins_2 14 rfl rfl)
theorem dX4_begins_62 : decode cX4_begins 62 = .ok (.iconst 0, 1) := dk_3 (dk_at dksX4_begins_2 15 rfl rfl)
theorem dX4_begins_63 : decode cX4_begins 63 = .ok (.bipush (-2), 2) := dk_16 254 (dk_at dksX4_begins_2 16 rfl rfl)
theorem dX4_begins_65 : decode cX4_begins 65 = .ok (.bipush (-2), 2) := dk_16 254 (dk_at dksX4_begins_2 18 rfl rfl)
theorem dX4_begins_67 : decode cX4_begins 67 = .ok (.bipush (-2), 2) := dk_16 254 (dk_at dksX4_begins_2 20 rfl rfl)
theorem dX4_begins_69 : decode cX4_begins 69 = .ok (.invokevirtual 66, 3) := dk_182 0 66 (dk_at dksX4_begins_3 0 rfl rfl)
theorem dX4_begins_72 : decode cX4_begins 72 = .ok (.iastore, 1) := dk_79 (dk_at dksX4_begins_3 3 rfl rfl)
theorem dX4_begins_73 : decode cX4_begins 73 = .ok (.aload_n 0, 1) := dk_42 (dk_at dksX4_begins_3 4 rfl rfl)
theorem dX4_begins_74 : decode cX4_begins 74 = .ok (.getfield 11, 3) := dk_180 0 11 (dk_at dksX4_begins_3 5 rfl rfl)
theorem dX4_begins_77 : decode cX4_begins 77 = .ok (.aload_n 0, 1) := dk_42 (dk_at dksX4_begins_3 8 rfl rfl)
theorem dX4_begins_78 : decode cX4_begins 78 = .ok (.getfield 17, 3) := dk_180 0 17 (dk_at dksX4_begins_3 9 rfl rfl)
theorem dX4_begins_81 : decode cX4_begins 81 = .ok (.iconst 0, 1) := dk_3 (dk_at dksX4_begins_3 12 rfl rfl)
theorem dX4_begins_82 : decode cX4_begins 82 = .ok (.iaload, 1) := dk_46 (dk_at dksX4_begins_3 13 rfl rfl)
theorem dX4_begins_83 : decode cX4_begins 83 = .ok (.aaload, 1) := dk_50 (dk_at dksX4_begins_3 14 rfl rfl)
theorem dX4_begins_84 : decode cX4_begins 84 = .ok (.iconst 0, 1) := dk_3 (dk_at dksX4_begins_3 15 rfl rfl)
theorem dX4_begins_85 : decode cX4_begins 85 = .ok (.iconst 1, 1) := dk_4 (dk_at dksX4_begins_3 16 rfl rfl)
theorem dX4_begins_86 : decode cX4_begins 86 = .ok (.invokevirtual 70, 3) := dk_182 0 70 (dk_at dksX4_begins_3 17 rfl rfl)
theorem dX4_begins_89 : decode cX4_begins 89 = .ok (.aload_n 0, 1) := dk_42 (dk_at dksX4_begins_3 20 rfl rfl)
theorem dX4_begins_90 : decode cX4_begins 90 = .ok (.getfield 17, 3) := dk_180 0 17 (dk_at dksX4_begins_3 21 rfl rfl)
theorem dX4_begins_93 : decode cX4_begins 93 = .ok (.iconst 1, 1) := dk_4 (dk_at dksX4_begins_4 0 rfl rfl)
theorem dX4_begins_94 : decode cX4_begins 94 = .ok (.aload_n 0, 1) := dk_42 (dk_at dksX4_begins_4 1 rfl rfl)
theorem dX4_begins_95 : decode cX4_begins 95 = .ok (.iconst 0, 1) := dk_3 (dk_at dksX4_begins_4 2 rfl rfl)
theorem dX4_begins_96 : decode cX4_begins 96 = .ok (.bipush (-2), 2) := dk_16 254 (dk_at dksX4_begins_4 3 rfl rfl)
theorem dX4_begins_98 : decode cX4_begins 98 = .ok (.bipush (-2), 2) := dk_16 254 (dk_at dksX4_begins_4 5 rfl rfl)
theorem dX4_begins_100 : decode cX4_begins 100 = .ok (.bipush (-2), 2) := dk_16 254 (dk_at dksX4_begins_4 7 rfl rfl)
theorem dX4_begins_102 : decode cX4_begins 102 = .ok (.invokevirtual 66, 3) := dk_182 0 66 (dk_at dksX4_begins_4 9 rfl rfl)
theorem dX4_begins_105 : decode cX4_begins 105 = .ok (.iastore, 1) := dk_79 (dk_at dksX4_begins_4 12 rfl rfl)
theorem dX4_begins_106 : decode cX4_begins 106 = .ok (.aload_n 0, 1) := dk_42 (dk_at dksX4_begins_4 13 rfl rfl)
theorem dX4_begins_107 : decode cX4_begins 107 = .ok (.getfield 11, 3) := dk_180 0 11 (dk_at dksX4_begins_4 14 rfl rfl)
theorem dX4_begins_110 : decode cX4_begins 110 = .ok (.aload_n 0, 1) := dk_42 (dk_at dksX4_begins_4 17 rfl rfl)
theorem dX4_begins_111 : decode cX4_begins 111 = .ok (.getfield 17, 3) := dk_180 0 17 (dk_at dksX4_begins_4 18 rfl rfl)
theorem dX4_begins_114 : decode cX4_begins 114 = .ok (.iconst 1, 1) := dk_4 (dk_at dksX4_begins_4 21 rfl rfl)
theorem dX4_begins_115 : decode cX4_begins 115 = .ok (.iaload, 1) := dk_46 (dk_at dksX4_begins_4 22 rfl rfl)
theorem dX4_begins_116 : decode cX4_begins 116 = .ok (.aaload, 1) := dk_50 (dk_at dksX4_begins_4 23 rfl rfl)
theorem dX4_begins_117 : decode cX4_begins 117 = .ok (.sipush 1000, 3) := dk_17 3 232 (dk_at dksX4_begins_5 0 rfl rfl)
theorem dX4_begins_120 : decode cX4_begins 120 = .ok (.putfield 74, 3) := dk_181 0 74 (dk_at dksX4_begins_5 3 rfl rfl)
theorem dX4_begins_123 : decode cX4_begins 123 = .ok (.aload_n 0, 1) := dk_42 (dk_at dksX4_begins_5 6 rfl rfl)
theorem dX4_begins_124 : decode cX4_begins 124 = .ok (.iconst 2, 1) := dk_5 (dk_at dksX4_begins_5 7 rfl rfl)
theorem dX4_begins_125 : decode cX4_begins 125 = .ok (.putfield 77, 3) := dk_181 0 77 (dk_at dksX4_begins_5 8 rfl rfl)
theorem dX4_begins_128 : decode cX4_begins 128 = .ok (.return_, 1) := dk_177 (dk_at dksX4_begins_5 11 rfl rfl)
abbrev cX4_makes : ByteArray := prog_12_method_4_code
def yX4_makes : MethodName := ⟨RX4, "makes", "(IIII)I"⟩
def dkwX4_makes_2 : List UInt8 := [180, 0, 57, 4, 96, 181, 0, 57, 42, 180, 0, 57, 4, 100, 172]
abbrev dktX4_makes_2 : List UInt8 := dkwX4_makes_2 ++ []
def dkwX4_makes_1 : List UInt8 := [183, 0, 27, 83, 42, 180, 0, 11, 42, 180, 0, 57, 50, 27, 28, 29, 21, 4, 182, 0, 93, 42, 89]
abbrev dktX4_makes_1 : List UInt8 := dkwX4_makes_1 ++ dktX4_makes_2
def dkwX4_makes_0 : List UInt8 := [42, 180, 0, 11, 42, 180, 0, 57, 50, 199, 0, 19, 42, 180, 0, 11, 42, 180, 0, 57, 187, 0, 9, 89]
abbrev dktX4_makes_0 : List UInt8 := dkwX4_makes_0 ++ dktX4_makes_1
theorem dksX4_makes_0 : cX4_makes.data.toList.drop 0 = dktX4_makes_0 := by decide +kernel
theorem dksX4_makes_1 : cX4_makes.data.toList.drop 24 = dktX4_makes_1 := dk_seg dksX4_makes_0 24 rfl rfl
theorem dksX4_makes_2 : cX4_makes.data.toList.drop 47 = dktX4_makes_2 := dk_seg dksX4_makes_1 23 rfl rfl
theorem dX4_makes_0 : decode cX4_makes 0 = .ok (.aload_n 0, 1) := dk_42 (dk_at dksX4_makes_0 0 rfl rfl)
theorem dX4_makes_1 : decode cX4_makes 1 = .ok (.getfield 11, 3) := dk_180 0 11 (dk_at dksX4_makes_0 1 rfl rfl)
theorem dX4_makes_4 : decode cX4_makes 4 = .ok (.aload_n 0, 1) := dk_42 (dk_at dksX4_makes_0 4 rfl rfl)
theorem dX4_makes_5 : decode cX4_makes 5 = .ok (.getfield 57, 3) := dk_180 0 57 (dk_at dksX4_makes_0 5 rfl rfl)
theorem dX4_makes_8 : decode cX4_makes 8 = .ok (.aaload, 1) := dk_50 (dk_at dksX4_makes_0 8 rfl rfl)
theorem dX4_makes_9 : decode cX4_makes 9 = .ok (.ifnonnull 19, 3) := dk_199 0 19 (dk_at dksX4_makes_0 9 rfl rfl)
theorem dX4_makes_12 : decode cX4_makes 12 = .ok (.aload_n 0, 1) := dk_42 (dk_at dksX4_makes_0 12 rfl rfl)
theorem dX4_makes_13 : decode cX4_makes 13 = .ok (.getfield 11, 3) := dk_180 0 11 (dk_at dksX4_makes_0 13 rfl rfl)
theorem dX4_makes_16 : decode cX4_makes 16 = .ok (.aload_n 0, 1) := dk_42 (dk_at dksX4_makes_0 16 rfl rfl)
theorem dX4_makes_17 : decode cX4_makes 17 = .ok (.getfield 57, 3) := dk_180 0 57 (dk_at dksX4_makes_0 17 rfl rfl)
theorem dX4_makes_20 : decode cX4_makes 20 = .ok (.new 9, 3) := dk_187 0 9 (dk_at dksX4_makes_0 20 rfl rfl)
theorem dX4_makes_23 : decode cX4_makes 23 = .ok (.dup, 1) := dk_89 (dk_at dksX4_makes_0 23 rfl rfl)
theorem dX4_makes_24 : decode cX4_makes 24 = .ok (.invokespecial 27, 3) := dk_183 0 27 (dk_at dksX4_makes_1 0 rfl rfl)
theorem dX4_makes_27 : decode cX4_makes 27 = .ok (.aastore, 1) := dk_83 (dk_at dksX4_makes_1 3 rfl rfl)
theorem dX4_makes_28 : decode cX4_makes 28 = .ok (.aload_n 0, 1) := dk_42 (dk_at dksX4_makes_1 4 rfl rfl)
theorem dX4_makes_29 : decode cX4_makes 29 = .ok (.getfield 11, 3) := dk_180 0 11 (dk_at dksX4_makes_1 5 rfl rfl)
theorem dX4_makes_32 : decode cX4_makes 32 = .ok (.aload_n 0, 1) := dk_42 (dk_at dksX4_makes_1 8 rfl rfl)
theorem dX4_makes_33 : decode cX4_makes 33 = .ok (.getfield 57, 3) := dk_180 0 57 (dk_at dksX4_makes_1 9 rfl rfl)
theorem dX4_makes_36 : decode cX4_makes 36 = .ok (.aaload, 1) := dk_50 (dk_at dksX4_makes_1 12 rfl rfl)
theorem dX4_makes_37 : decode cX4_makes 37 = .ok (.iload_n 1, 1) := dk_27 (dk_at dksX4_makes_1 13 rfl rfl)
theorem dX4_makes_38 : decode cX4_makes 38 = .ok (.iload_n 2, 1) := dk_28 (dk_at dksX4_makes_1 14 rfl rfl)
theorem dX4_makes_39 : decode cX4_makes 39 = .ok (.iload_n 3, 1) := dk_29 (dk_at dksX4_makes_1 15 rfl rfl)
theorem dX4_makes_40 : decode cX4_makes 40 = .ok (.iload 4, 2) := dk_21 4 (dk_at dksX4_makes_1 16 rfl rfl)
theorem dX4_makes_42 : decode cX4_makes 42 = .ok (.invokevirtual 93, 3) := dk_182 0 93 (dk_at dksX4_makes_1 18 rfl rfl)
theorem dX4_makes_45 : decode cX4_makes 45 = .ok (.aload_n 0, 1) := dk_42 (dk_at dksX4_makes_1 21 rfl rfl)
theorem dX4_makes_46 : decode cX4_makes 46 = .ok (.dup, 1) := dk_89 (dk_at dksX4_makes_1 22 rfl rfl)
theorem dX4_makes_47 : decode cX4_makes 47 = .ok (.getfield 57, 3) := dk_180 0 57 (dk_at dksX4_makes_2 0 rfl rfl)
theorem dX4_makes_50 : decode cX4_makes 50 = .ok (.iconst 1, 1) := dk_4 (dk_at dksX4_makes_2 3 rfl rfl)
theorem dX4_makes_51 : decode cX4_makes 51 = .ok (.iadd, 1) := dk_96 (dk_at dksX4_makes_2 4 rfl rfl)
theorem dX4_makes_52 : decode cX4_makes 52 = .ok (.putfield 57, 3) := dk_181 0 57 (dk_at dksX4_makes_2 5 rfl rfl)
theorem dX4_makes_55 : decode cX4_makes 55 = .ok (.aload_n 0, 1) := dk_42 (dk_at dksX4_makes_2 8 rfl rfl)
theorem dX4_makes_56 : decode cX4_makes 56 = .ok (.getfield 57, 3) := dk_180 0 57 (dk_at dksX4_makes_2 9 rfl rfl)
theorem dX4_makes_59 : decode cX4_makes 59 = .ok (.iconst 1, 1) := dk_4 (dk_at dksX4_makes_2 12 rfl rfl)
theorem dX4_makes_60 : decode cX4_makes 60 = .ok (.isub, 1) := dk_100 (dk_at dksX4_makes_2 13 rfl rfl)
theorem dX4_makes_61 : decode cX4_makes 61 = .ok (.ireturn, 1) := dk_172 (dk_at dksX4_makes_2 14 rfl rfl)
abbrev cX4_keys : ByteArray := prog_12_method_13_code
def yX4_keys : MethodName := ⟨RX4, "keys", "()I"⟩
def dkwX4_keys_1 : List UInt8 := [180, 0, 120, 96, 60, 42, 180, 0, 35, 180, 0, 133, 61, 167, 255, 225, 27, 172]
abbrev dktX4_keys_1 : List UInt8 := dkwX4_keys_1 ++ []
def dkwX4_keys_0 : List UInt8 := [3, 60, 4, 61, 28, 155, 0, 33, 42, 28, 42, 180, 0, 35, 182, 0, 113, 27, 42, 180, 0, 35]
abbrev dktX4_keys_0 : List UInt8 := dkwX4_keys_0 ++ dktX4_keys_1
theorem dksX4_keys_0 : cX4_keys.data.toList.drop 0 = dktX4_keys_0 := by decide +kernel
theorem dksX4_keys_1 : cX4_keys.data.toList.drop 22 = dktX4_keys_1 := dk_seg dksX4_keys_0 22 rfl rfl
theorem dX4_keys_0 : decode cX4_keys 0 = .ok (.iconst 0, 1) := dk_3 (dk_at dksX4_keys_0 0 rfl rfl)
theorem dX4_keys_1 : decode cX4_keys 1 = .ok (.istore_n 1, 1) := dk_60 (dk_at dksX4_keys_0 1 rfl rfl)
theorem dX4_keys_2 : decode cX4_keys 2 = .ok (.iconst 1, 1) := dk_4 (dk_at dksX4_keys_0 2 rfl rfl)
theorem dX4_keys_3 : decode cX4_keys 3 = .ok (.istore_n 2, 1) := dk_61 (dk_at dksX4_keys_0 3 rfl rfl)
theorem dX4_keys_4 : decode cX4_keys 4 = .ok (.iload_n 2, 1) := dk_28 (dk_at dksX4_keys_0 4 rfl rfl)
theorem dX4_keys_5 : decode cX4_keys 5 = .ok (.ifCond .lt 33, 3) := dk_155 0 33 (dk_at dksX4_keys_0 5 rfl rfl)
theorem dX4_keys_8 : decode cX4_keys 8 = .ok (.aload_n 0, 1) := dk_42 (dk_at dksX4_keys_0 8 rfl rfl)
theorem dX4_keys_9 : decode cX4_keys 9 = .ok (.iload_n 2, 1) := dk_28 (dk_at dksX4_keys_0 9 rfl rfl)
theorem dX4_keys_10 : decode cX4_keys 10 = .ok (.aload_n 0, 1) := dk_42 (dk_at dksX4_keys_0 10 rfl rfl)
theorem dX4_keys_11 : decode cX4_keys 11 = .ok (.getfield 35, 3) := dk_180 0 35 (dk_at dksX4_keys_0 11 rfl rfl)
theorem dX4_keys_14 : decode cX4_keys 14 = .ok (.invokevirtual 113, 3) := dk_182 0 113 (dk_at dksX4_keys_0 14 rfl rfl)
theorem dX4_keys_17 : decode cX4_keys 17 = .ok (.iload_n 1, 1) := dk_27 (dk_at dksX4_keys_0 17 rfl rfl)
theorem dX4_keys_18 : decode cX4_keys 18 = .ok (.aload_n 0, 1) := dk_42 (dk_at dksX4_keys_0 18 rfl rfl)
theorem dX4_keys_19 : decode cX4_keys 19 = .ok (.getfield 35, 3) := dk_180 0 35 (dk_at dksX4_keys_0 19 rfl rfl)
theorem dX4_keys_22 : decode cX4_keys 22 = .ok (.getfield 120, 3) := dk_180 0 120 (dk_at dksX4_keys_1 0 rfl rfl)
theorem dX4_keys_25 : decode cX4_keys 25 = .ok (.iadd, 1) := dk_96 (dk_at dksX4_keys_1 3 rfl rfl)
theorem dX4_keys_26 : decode cX4_keys 26 = .ok (.istore_n 1, 1) := dk_60 (dk_at dksX4_keys_1 4 rfl rfl)
theorem dX4_keys_27 : decode cX4_keys 27 = .ok (.aload_n 0, 1) := dk_42 (dk_at dksX4_keys_1 5 rfl rfl)
theorem dX4_keys_28 : decode cX4_keys 28 = .ok (.getfield 35, 3) := dk_180 0 35 (dk_at dksX4_keys_1 6 rfl rfl)
theorem dX4_keys_31 : decode cX4_keys 31 = .ok (.getfield 133, 3) := dk_180 0 133 (dk_at dksX4_keys_1 9 rfl rfl)
theorem dX4_keys_34 : decode cX4_keys 34 = .ok (.istore_n 2, 1) := dk_61 (dk_at dksX4_keys_1 12 rfl rfl)
theorem dX4_keys_35 : decode cX4_keys 35 = .ok (.goto (-31), 3) := dk_167 255 225 (dk_at dksX4_keys_1 13 rfl rfl)
theorem dX4_keys_38 : decode cX4_keys 38 = .ok (.iload_n 1, 1) := dk_27 (dk_at dksX4_keys_1 16 rfl rfl)
theorem dX4_keys_39 : decode cX4_keys 39 = .ok (.ireturn, 1) := dk_172 (dk_at dksX4_keys_1 17 rfl rfl)
abbrev cX4_lays : ByteArray := prog_12_method_7_code
def yX4_lays : MethodName := ⟨RX4, "lays", "(ILDeltaIndex$Record;)V"⟩
def dkwX4_lays_4 : List UInt8 := [177]
abbrev dktX4_lays_4 : List UInt8 := dkwX4_lays_4 ++ []
def dkwX4_lays_3 : List UInt8 := [180, 0, 11, 42, 180, 0, 38, 21, 4, 46, 50, 42, 180, 0, 11, 182, 0, 109, 132, 4, 255, 167, 255, 228]
abbrev dktX4_lays_3 : List UInt8 := dkwX4_lays_3 ++ dktX4_lays_4
def dkwX4_lays_2 : List UInt8 := [167, 255, 220, 44, 42, 27, 182, 0, 102, 182, 0, 106, 29, 4, 100, 54, 4, 21, 4, 155, 0, 29, 44, 42]
abbrev dktX4_lays_2 : List UInt8 := dkwX4_lays_2 ++ dktX4_lays_3
def dkwX4_lays_1 : List UInt8 := [180, 0, 38, 29, 21, 4, 79, 132, 3, 1, 42, 180, 0, 11, 21, 4, 50, 180, 0, 99, 54, 4]
abbrev dktX4_lays_1 : List UInt8 := dkwX4_lays_1 ++ dktX4_lays_2
def dkwX4_lays_0 : List UInt8 := [3, 62, 42, 180, 0, 17, 27, 46, 54, 4, 42, 180, 0, 11, 21, 4, 50, 180, 0, 96, 153, 0, 29, 42]
abbrev dktX4_lays_0 : List UInt8 := dkwX4_lays_0 ++ dktX4_lays_1
theorem dksX4_lays_0 : cX4_lays.data.toList.drop 0 = dktX4_lays_0 := by decide +kernel
theorem dksX4_lays_1 : cX4_lays.data.toList.drop 24 = dktX4_lays_1 := dk_seg dksX4_lays_0 24 rfl rfl
theorem dksX4_lays_2 : cX4_lays.data.toList.drop 46 = dktX4_lays_2 := dk_seg dksX4_lays_1 22 rfl rfl
theorem dksX4_lays_3 : cX4_lays.data.toList.drop 70 = dktX4_lays_3 := dk_seg dksX4_lays_2 24 rfl rfl
theorem dksX4_lays_4 : cX4_lays.data.toList.drop 94 = dktX4_lays_4 := dk_seg dksX4_lays_3 24 rfl rfl
theorem dX4_lays_0 : decode cX4_lays 0 = .ok (.iconst 0, 1) := dk_3 (dk_at dksX4_lays_0 0 rfl rfl)
theorem dX4_lays_1 : decode cX4_lays 1 = .ok (.istore_n 3, 1) := dk_62 (dk_at dksX4_lays_0 1 rfl rfl)
theorem dX4_lays_2 : decode cX4_lays 2 = .ok (.aload_n 0, 1) := dk_42 (dk_at dksX4_lays_0 2 rfl rfl)
theorem dX4_lays_3 : decode cX4_lays 3 = .ok (.getfield 17, 3) := dk_180 0 17 (dk_at dksX4_lays_0 3 rfl rfl)
theorem dX4_lays_6 : decode cX4_lays 6 = .ok (.iload_n 1, 1) := dk_27 (dk_at dksX4_lays_0 6 rfl rfl)
theorem dX4_lays_7 : decode cX4_lays 7 = .ok (.iaload, 1) := dk_46 (dk_at dksX4_lays_0 7 rfl rfl)
theorem dX4_lays_8 : decode cX4_lays 8 = .ok (.istore 4, 2) := dk_54 4 (dk_at dksX4_lays_0 8 rfl rfl)
theorem dX4_lays_10 : decode cX4_lays 10 = .ok (.aload_n 0, 1) := dk_42 (dk_at dksX4_lays_0 10 rfl rfl)
theorem dX4_lays_11 : decode cX4_lays 11 = .ok (.getfield 11, 3) := dk_180 0 11 (dk_at dksX4_lays_0 11 rfl rfl)
theorem dX4_lays_14 : decode cX4_lays 14 = .ok (.iload 4, 2) := dk_21 4 (dk_at dksX4_lays_0 14 rfl rfl)
theorem dX4_lays_16 : decode cX4_lays 16 = .ok (.aaload, 1) := dk_50 (dk_at dksX4_lays_0 16 rfl rfl)
theorem dX4_lays_17 : decode cX4_lays 17 = .ok (.getfield 96, 3) := dk_180 0 96 (dk_at dksX4_lays_0 17 rfl rfl)
theorem dX4_lays_20 : decode cX4_lays 20 = .ok (.ifCond .eq 29, 3) := dk_153 0 29 (dk_at dksX4_lays_0 20 rfl rfl)
theorem dX4_lays_23 : decode cX4_lays 23 = .ok (.aload_n 0, 1) := dk_42 (dk_at dksX4_lays_0 23 rfl rfl)
theorem dX4_lays_24 : decode cX4_lays 24 = .ok (.getfield 38, 3) := dk_180 0 38 (dk_at dksX4_lays_1 0 rfl rfl)
theorem dX4_lays_27 : decode cX4_lays 27 = .ok (.iload_n 3, 1) := dk_29 (dk_at dksX4_lays_1 3 rfl rfl)
theorem dX4_lays_28 : decode cX4_lays 28 = .ok (.iload 4, 2) := dk_21 4 (dk_at dksX4_lays_1 4 rfl rfl)
theorem dX4_lays_30 : decode cX4_lays 30 = .ok (.iastore, 1) := dk_79 (dk_at dksX4_lays_1 6 rfl rfl)
theorem dX4_lays_31 : decode cX4_lays 31 = .ok (.iinc 3 1, 3) := dk_132 3 1 (dk_at dksX4_lays_1 7 rfl rfl)
theorem dX4_lays_34 : decode cX4_lays 34 = .ok (.aload_n 0, 1) := dk_42 (dk_at dksX4_lays_1 10 rfl rfl)
theorem dX4_lays_35 : decode cX4_lays 35 = .ok (.getfield 11, 3) := dk_180 0 11 (dk_at dksX4_lays_1 11 rfl rfl)
theorem dX4_lays_38 : decode cX4_lays 38 = .ok (.iload 4, 2) := dk_21 4 (dk_at dksX4_lays_1 14 rfl rfl)
theorem dX4_lays_40 : decode cX4_lays 40 = .ok (.aaload, 1) := dk_50 (dk_at dksX4_lays_1 16 rfl rfl)
theorem dX4_lays_41 : decode cX4_lays 41 = .ok (.getfield 99, 3) := dk_180 0 99 (dk_at dksX4_lays_1 17 rfl rfl)
theorem dX4_lays_44 : decode cX4_lays 44 = .ok (.istore 4, 2) := dk_54 4 (dk_at dksX4_lays_1 20 rfl rfl)
theorem dX4_lays_46 : decode cX4_lays 46 = .ok (.goto (-36), 3) := dk_167 255 220 (dk_at dksX4_lays_2 0 rfl rfl)
theorem dX4_lays_49 : decode cX4_lays 49 = .ok (.aload_n 2, 1) := dk_44 (dk_at dksX4_lays_2 3 rfl rfl)
theorem dX4_lays_50 : decode cX4_lays 50 = .ok (.aload_n 0, 1) := dk_42 (dk_at dksX4_lays_2 4 rfl rfl)
theorem dX4_lays_51 : decode cX4_lays 51 = .ok (.iload_n 1, 1) := dk_27 (dk_at dksX4_lays_2 5 rfl rfl)
theorem dX4_lays_52 : decode cX4_lays 52 = .ok (.invokevirtual 102, 3) := dk_182 0 102 (dk_at dksX4_lays_2 6 rfl rfl)
theorem dX4_lays_55 : decode cX4_lays 55 = .ok (.invokevirtual 106, 3) := dk_182 0 106 (dk_at dksX4_lays_2 9 rfl rfl)
theorem dX4_lays_58 : decode cX4_lays 58 = .ok (.iload_n 3, 1) := dk_29 (dk_at dksX4_lays_2 12 rfl rfl)
theorem dX4_lays_59 : decode cX4_lays 59 = .ok (.iconst 1, 1) := dk_4 (dk_at dksX4_lays_2 13 rfl rfl)
theorem dX4_lays_60 : decode cX4_lays 60 = .ok (.isub, 1) := dk_100 (dk_at dksX4_lays_2 14 rfl rfl)
theorem dX4_lays_61 : decode cX4_lays 61 = .ok (.istore 4, 2) := dk_54 4 (dk_at dksX4_lays_2 15 rfl rfl)
theorem dX4_lays_63 : decode cX4_lays 63 = .ok (.iload 4, 2) := dk_21 4 (dk_at dksX4_lays_2 17 rfl rfl)
theorem dX4_lays_65 : decode cX4_lays 65 = .ok (.ifCond .lt 29, 3) := dk_155 0 29 (dk_at dksX4_lays_2 19 rfl rfl)
theorem dX4_lays_68 : decode cX4_lays 68 = .ok (.aload_n 2, 1) := dk_44 (dk_at dksX4_lays_2 22 rfl rfl)
theorem dX4_lays_69 : decode cX4_lays 69 = .ok (.aload_n 0, 1) := dk_42 (dk_at dksX4_lays_2 23 rfl rfl)
theorem dX4_lays_70 : decode cX4_lays 70 = .ok (.getfield 11, 3) := dk_180 0 11 (dk_at dksX4_lays_3 0 rfl rfl)
theorem dX4_lays_73 : decode cX4_lays 73 = .ok (.aload_n 0, 1) := dk_42 (dk_at dksX4_lays_3 3 rfl rfl)
theorem dX4_lays_74 : decode cX4_lays 74 = .ok (.getfield 38, 3) := dk_180 0 38 (dk_at dksX4_lays_3 4 rfl rfl)
theorem dX4_lays_77 : decode cX4_lays 77 = .ok (.iload 4, 2) := dk_21 4 (dk_at dksX4_lays_3 7 rfl rfl)
theorem dX4_lays_79 : decode cX4_lays 79 = .ok (.iaload, 1) := dk_46 (dk_at dksX4_lays_3 9 rfl rfl)
theorem dX4_lays_80 : decode cX4_lays 80 = .ok (.aaload, 1) := dk_50 (dk_at dksX4_lays_3 10 rfl rfl)
theorem dX4_lays_81 : decode cX4_lays 81 = .ok (.aload_n 0, 1) := dk_42 (dk_at dksX4_lays_3 11 rfl rfl)
theorem dX4_lays_82 : decode cX4_lays 82 = .ok (.getfield 11, 3) := dk_180 0 11 (dk_at dksX4_lays_3 12 rfl rfl)
theorem dX4_lays_85 : decode cX4_lays 85 = .ok (.invokevirtual 109, 3) := dk_182 0 109 (dk_at dksX4_lays_3 15 rfl rfl)
theorem dX4_lays_88 : decode cX4_lays 88 = .ok (.iinc 4 (-1), 3) := dk_132 4 255 (dk_at dksX4_lays_3 18 rfl rfl)
theorem dX4_lays_91 : decode cX4_lays 91 = .ok (.goto (-28), 3) := dk_167 255 228 (dk_at dksX4_lays_3 21 rfl rfl)
theorem dX4_lays_94 : decode cX4_lays 94 = .ok (.return_, 1) := dk_177 (dk_at dksX4_lays_4 0 rfl rfl)
abbrev cX4_baseOf : ByteArray := prog_12_method_5_code
def yX4_baseOf : MethodName := ⟨RX4, "baseOf", "(I)LDeltaIndex$Record;"⟩
def dkwX4_baseOf_1 : List UInt8 := [50, 180, 0, 99, 61, 167, 255, 234, 42, 180, 0, 11, 28, 50, 176]
abbrev dktX4_baseOf_1 : List UInt8 := dkwX4_baseOf_1 ++ []
def dkwX4_baseOf_0 : List UInt8 := [42, 180, 0, 17, 27, 46, 61, 42, 180, 0, 11, 28, 50, 180, 0, 96, 153, 0, 16, 42, 180, 0, 11, 28]
abbrev dktX4_baseOf_0 : List UInt8 := dkwX4_baseOf_0 ++ dktX4_baseOf_1
theorem dksX4_baseOf_0 : cX4_baseOf.data.toList.drop 0 = dktX4_baseOf_0 := by decide +kernel
theorem dksX4_baseOf_1 : cX4_baseOf.data.toList.drop 24 = dktX4_baseOf_1 := dk_seg dksX4_baseOf_0 24 rfl rfl
theorem dX4_baseOf_0 : decode cX4_baseOf 0 = .ok (.aload_n 0, 1) := dk_42 (dk_at dksX4_baseOf_0 0 rfl rfl)
theorem dX4_baseOf_1 : decode cX4_baseOf 1 = .ok (.getfield 17, 3) := dk_180 0 17 (dk_at dksX4_baseOf_0 1 rfl rfl)
theorem dX4_baseOf_4 : decode cX4_baseOf 4 = .ok (.iload_n 1, 1) := dk_27 (dk_at dksX4_baseOf_0 4 rfl rfl)
theorem dX4_baseOf_5 : decode cX4_baseOf 5 = .ok (.iaload, 1) := dk_46 (dk_at dksX4_baseOf_0 5 rfl rfl)
theorem dX4_baseOf_6 : decode cX4_baseOf 6 = .ok (.istore_n 2, 1) := dk_61 (dk_at dksX4_baseOf_0 6 rfl rfl)
theorem dX4_baseOf_7 : decode cX4_baseOf 7 = .ok (.aload_n 0, 1) := dk_42 (dk_at dksX4_baseOf_0 7 rfl rfl)
theorem dX4_baseOf_8 : decode cX4_baseOf 8 = .ok (.getfield 11, 3) := dk_180 0 11 (dk_at dksX4_baseOf_0 8 rfl rfl)
theorem dX4_baseOf_11 : decode cX4_baseOf 11 = .ok (.iload_n 2, 1) := dk_28 (dk_at dksX4_baseOf_0 11 rfl rfl)
theorem dX4_baseOf_12 : decode cX4_baseOf 12 = .ok (.aaload, 1) := dk_50 (dk_at dksX4_baseOf_0 12 rfl rfl)
theorem dX4_baseOf_13 : decode cX4_baseOf 13 = .ok (.getfield 96, 3) := dk_180 0 96 (dk_at dksX4_baseOf_0 13 rfl rfl)
theorem dX4_baseOf_16 : decode cX4_baseOf 16 = .ok (.ifCond .eq 16, 3) := dk_153 0 16 (dk_at dksX4_baseOf_0 16 rfl rfl)
theorem dX4_baseOf_19 : decode cX4_baseOf 19 = .ok (.aload_n 0, 1) := dk_42 (dk_at dksX4_baseOf_0 19 rfl rfl)
theorem dX4_baseOf_20 : decode cX4_baseOf 20 = .ok (.getfield 11, 3) := dk_180 0 11 (dk_at dksX4_baseOf_0 20 rfl rfl)
theorem dX4_baseOf_23 : decode cX4_baseOf 23 = .ok (.iload_n 2, 1) := dk_28 (dk_at dksX4_baseOf_0 23 rfl rfl)
theorem dX4_baseOf_24 : decode cX4_baseOf 24 = .ok (.aaload, 1) := dk_50 (dk_at dksX4_baseOf_1 0 rfl rfl)
theorem dX4_baseOf_25 : decode cX4_baseOf 25 = .ok (.getfield 99, 3) := dk_180 0 99 (dk_at dksX4_baseOf_1 1 rfl rfl)
theorem dX4_baseOf_28 : decode cX4_baseOf 28 = .ok (.istore_n 2, 1) := dk_61 (dk_at dksX4_baseOf_1 4 rfl rfl)
theorem dX4_baseOf_29 : decode cX4_baseOf 29 = .ok (.goto (-22), 3) := dk_167 255 234 (dk_at dksX4_baseOf_1 5 rfl rfl)
theorem dX4_baseOf_32 : decode cX4_baseOf 32 = .ok (.aload_n 0, 1) := dk_42 (dk_at dksX4_baseOf_1 8 rfl rfl)
theorem dX4_baseOf_33 : decode cX4_baseOf 33 = .ok (.getfield 11, 3) := dk_180 0 11 (dk_at dksX4_baseOf_1 9 rfl rfl)
theorem dX4_baseOf_36 : decode cX4_baseOf 36 = .ok (.iload_n 2, 1) := dk_28 (dk_at dksX4_baseOf_1 12 rfl rfl)
theorem dX4_baseOf_37 : decode cX4_baseOf 37 = .ok (.aaload, 1) := dk_50 (dk_at dksX4_baseOf_1 13 rfl rfl)
theorem dX4_baseOf_38 : decode cX4_baseOf 38 = .ok (.areturn, 1) := dk_176 (dk_at dksX4_baseOf_1 14 rfl rfl)
abbrev cX4_lostOfAll : ByteArray := prog_12_method_14_code
def yX4_lostOfAll : MethodName := ⟨RX4, "lostOfAll", "()I"⟩
def dkwX4_lostOfAll_1 : List UInt8 := [167, 255, 236, 27, 172]
abbrev dktX4_lostOfAll_1 : List UInt8 := dkwX4_lostOfAll_1 ++ []
def dkwX4_lostOfAll_0 : List UInt8 := [3, 60, 3, 61, 28, 7, 162, 0, 21, 27, 42, 180, 0, 23, 28, 50, 180, 0, 136, 96, 60, 132, 2, 1]
abbrev dktX4_lostOfAll_0 : List UInt8 := dkwX4_lostOfAll_0 ++ dktX4_lostOfAll_1
theorem dksX4_lostOfAll_0 : cX4_lostOfAll.data.toList.drop 0 = dktX4_lostOfAll_0 := by decide +kernel
theorem dksX4_lostOfAll_1 : cX4_lostOfAll.data.toList.drop 24 = dktX4_lostOfAll_1 := dk_seg dksX4_lostOfAll_0 24 rfl rfl
theorem dX4_lostOfAll_0 : decode cX4_lostOfAll 0 = .ok (.iconst 0, 1) := dk_3 (dk_at dksX4_lostOfAll_0 0 rfl rfl)
theorem dX4_lostOfAll_1 : decode cX4_lostOfAll 1 = .ok (.istore_n 1, 1) := dk_60 (dk_at dksX4_lostOfAll_0 1 rfl rfl)
theorem dX4_lostOfAll_2 : decode cX4_lostOfAll 2 = .ok (.iconst 0, 1) := dk_3 (dk_at dksX4_lostOfAll_0 2 rfl rfl)
theorem dX4_lostOfAll_3 : decode cX4_lostOfAll 3 = .ok (.istore_n 2, 1) := dk_61 (dk_at dksX4_lostOfAll_0 3 rfl rfl)
theorem dX4_lostOfAll_4 : decode cX4_lostOfAll 4 = .ok (.iload_n 2, 1) := dk_28 (dk_at dksX4_lostOfAll_0 4 rfl rfl)
theorem dX4_lostOfAll_5 : decode cX4_lostOfAll 5 = .ok (.iconst 4, 1) := dk_7 (dk_at dksX4_lostOfAll_0 5 rfl rfl)
theorem dX4_lostOfAll_6 : decode cX4_lostOfAll 6 = .ok (.if_icmp .ge 21, 3) := dk_162 0 21 (dk_at dksX4_lostOfAll_0 6 rfl rfl)
theorem dX4_lostOfAll_9 : decode cX4_lostOfAll 9 = .ok (.iload_n 1, 1) := dk_27 (dk_at dksX4_lostOfAll_0 9 rfl rfl)
theorem dX4_lostOfAll_10 : decode cX4_lostOfAll 10 = .ok (.aload_n 0, 1) := dk_42 (dk_at dksX4_lostOfAll_0 10 rfl rfl)
theorem dX4_lostOfAll_11 : decode cX4_lostOfAll 11 = .ok (.getfield 23, 3) := dk_180 0 23 (dk_at dksX4_lostOfAll_0 11 rfl rfl)
theorem dX4_lostOfAll_14 : decode cX4_lostOfAll 14 = .ok (.iload_n 2, 1) := dk_28 (dk_at dksX4_lostOfAll_0 14 rfl rfl)
theorem dX4_lostOfAll_15 : decode cX4_lostOfAll 15 = .ok (.aaload, 1) := dk_50 (dk_at dksX4_lostOfAll_0 15 rfl rfl)
theorem dX4_lostOfAll_16 : decode cX4_lostOfAll 16 = .ok (.getfield 136, 3) := dk_180 0 136 (dk_at dksX4_lostOfAll_0 16 rfl rfl)
theorem dX4_lostOfAll_19 : decode cX4_lostOfAll 19 = .ok (.iadd, 1) := dk_96 (dk_at dksX4_lostOfAll_0 19 rfl rfl)
theorem dX4_lostOfAll_20 : decode cX4_lostOfAll 20 = .ok (.istore_n 1, 1) := dk_60 (dk_at dksX4_lostOfAll_0 20 rfl rfl)
theorem dX4_lostOfAll_21 : decode cX4_lostOfAll 21 = .ok (.iinc 2 1, 3) := dk_132 2 1 (dk_at dksX4_lostOfAll_0 21 rfl rfl)
theorem dX4_lostOfAll_24 : decode cX4_lostOfAll 24 = .ok (.goto (-20), 3) := dk_167 255 236 (dk_at dksX4_lostOfAll_1 0 rfl rfl)
theorem dX4_lostOfAll_27 : decode cX4_lostOfAll 27 = .ok (.iload_n 1, 1) := dk_27 (dk_at dksX4_lostOfAll_1 3 rfl rfl)
theorem dX4_lostOfAll_28 : decode cX4_lostOfAll 28 = .ok (.ireturn, 1) := dk_172 (dk_at dksX4_lostOfAll_1 4 rfl rfl)
abbrev cX4_takesUp : ByteArray := prog_12_method_17_code
def yX4_takesUp : MethodName := ⟨RX4, "takesUp", "(IIII)Z"⟩
def dkwX4_takesUp_3 : List UInt8 := [3, 181, 0, 161, 25, 5, 42, 180, 0, 60, 181, 0, 165, 4, 172]
abbrev dktX4_takesUp_3 : List UInt8 := dkwX4_takesUp_3 ++ []
def dkwX4_takesUp_2 : List UInt8 := [181, 0, 153, 25, 5, 21, 4, 181, 0, 155, 25, 5, 4, 181, 0, 147, 25, 5, 3, 181, 0, 158, 25, 5]
abbrev dktX4_takesUp_2 : List UInt8 := dkwX4_takesUp_2 ++ dktX4_takesUp_3
def dkwX4_takesUp_1 : List UInt8 := [162, 0, 12, 42, 180, 0, 77, 16, 28, 161, 0, 5, 3, 172, 25, 5, 28, 181, 0, 150, 25, 5, 29]
abbrev dktX4_takesUp_1 : List UInt8 := dkwX4_takesUp_1 ++ dktX4_takesUp_2
def dkwX4_takesUp_0 : List UInt8 := [42, 180, 0, 23, 27, 50, 58, 5, 25, 5, 180, 0, 147, 154, 0, 22, 42, 180, 0, 57, 17, 2, 128]
abbrev dktX4_takesUp_0 : List UInt8 := dkwX4_takesUp_0 ++ dktX4_takesUp_1
theorem dksX4_takesUp_0 : cX4_takesUp.data.toList.drop 0 = dktX4_takesUp_0 := by decide +kernel
theorem dksX4_takesUp_1 : cX4_takesUp.data.toList.drop 23 = dktX4_takesUp_1 := dk_seg dksX4_takesUp_0 23 rfl rfl
theorem dksX4_takesUp_2 : cX4_takesUp.data.toList.drop 46 = dktX4_takesUp_2 := dk_seg dksX4_takesUp_1 23 rfl rfl
theorem dksX4_takesUp_3 : cX4_takesUp.data.toList.drop 70 = dktX4_takesUp_3 := dk_seg dksX4_takesUp_2 24 rfl rfl
theorem dX4_takesUp_0 : decode cX4_takesUp 0 = .ok (.aload_n 0, 1) := dk_42 (dk_at dksX4_takesUp_0 0 rfl rfl)
theorem dX4_takesUp_1 : decode cX4_takesUp 1 = .ok (.getfield 23, 3) := dk_180 0 23 (dk_at dksX4_takesUp_0 1 rfl rfl)
theorem dX4_takesUp_4 : decode cX4_takesUp 4 = .ok (.iload_n 1, 1) := dk_27 (dk_at dksX4_takesUp_0 4 rfl rfl)
theorem dX4_takesUp_5 : decode cX4_takesUp 5 = .ok (.aaload, 1) := dk_50 (dk_at dksX4_takesUp_0 5 rfl rfl)
theorem dX4_takesUp_6 : decode cX4_takesUp 6 = .ok (.astore 5, 2) := dk_58 5 (dk_at dksX4_takesUp_0 6 rfl rfl)
theorem dX4_takesUp_8 : decode cX4_takesUp 8 = .ok (.aload 5, 2) := dk_25 5 (dk_at dksX4_takesUp_0 8 rfl rfl)
theorem dX4_takesUp_10 : decode cX4_takesUp 10 = .ok (.getfield 147, 3) := dk_180 0 147 (dk_at dksX4_takesUp_0 10 rfl rfl)
theorem dX4_takesUp_13 : decode cX4_takesUp 13 = .ok (.ifCond .ne 22, 3) := dk_154 0 22 (dk_at dksX4_takesUp_0 13 rfl rfl)
theorem dX4_takesUp_16 : decode cX4_takesUp 16 = .ok (.aload_n 0, 1) := dk_42 (dk_at dksX4_takesUp_0 16 rfl rfl)
theorem dX4_takesUp_17 : decode cX4_takesUp 17 = .ok (.getfield 57, 3) := dk_180 0 57 (dk_at dksX4_takesUp_0 17 rfl rfl)
theorem dX4_takesUp_20 : decode cX4_takesUp 20 = .ok (.sipush 640, 3) := dk_17 2 128 (dk_at dksX4_takesUp_0 20 rfl rfl)
theorem dX4_takesUp_23 : decode cX4_takesUp 23 = .ok (.if_icmp .ge 12, 3) := dk_162 0 12 (dk_at dksX4_takesUp_1 0 rfl rfl)
theorem dX4_takesUp_26 : decode cX4_takesUp 26 = .ok (.aload_n 0, 1) := dk_42 (dk_at dksX4_takesUp_1 3 rfl rfl)
theorem dX4_takesUp_27 : decode cX4_takesUp 27 = .ok (.getfield 77, 3) := dk_180 0 77 (dk_at dksX4_takesUp_1 4 rfl rfl)
theorem dX4_takesUp_30 : decode cX4_takesUp 30 = .ok (.bipush 28, 2) := dk_16 28 (dk_at dksX4_takesUp_1 7 rfl rfl)
theorem dX4_takesUp_32 : decode cX4_takesUp 32 = .ok (.if_icmp .lt 5, 3) := dk_161 0 5 (dk_at dksX4_takesUp_1 9 rfl rfl)
theorem dX4_takesUp_35 : decode cX4_takesUp 35 = .ok (.iconst 0, 1) := dk_3 (dk_at dksX4_takesUp_1 12 rfl rfl)
theorem dX4_takesUp_36 : decode cX4_takesUp 36 = .ok (.ireturn, 1) := dk_172 (dk_at dksX4_takesUp_1 13 rfl rfl)
theorem dX4_takesUp_37 : decode cX4_takesUp 37 = .ok (.aload 5, 2) := dk_25 5 (dk_at dksX4_takesUp_1 14 rfl rfl)
theorem dX4_takesUp_39 : decode cX4_takesUp 39 = .ok (.iload_n 2, 1) := dk_28 (dk_at dksX4_takesUp_1 16 rfl rfl)
theorem dX4_takesUp_40 : decode cX4_takesUp 40 = .ok (.putfield 150, 3) := dk_181 0 150 (dk_at dksX4_takesUp_1 17 rfl rfl)
theorem dX4_takesUp_43 : decode cX4_takesUp 43 = .ok (.aload 5, 2) := dk_25 5 (dk_at dksX4_takesUp_1 20 rfl rfl)
theorem dX4_takesUp_45 : decode cX4_takesUp 45 = .ok (.iload_n 3, 1) := dk_29 (dk_at dksX4_takesUp_1 22 rfl rfl)
theorem dX4_takesUp_46 : decode cX4_takesUp 46 = .ok (.putfield 153, 3) := dk_181 0 153 (dk_at dksX4_takesUp_2 0 rfl rfl)
theorem dX4_takesUp_49 : decode cX4_takesUp 49 = .ok (.aload 5, 2) := dk_25 5 (dk_at dksX4_takesUp_2 3 rfl rfl)
theorem dX4_takesUp_51 : decode cX4_takesUp 51 = .ok (.iload 4, 2) := dk_21 4 (dk_at dksX4_takesUp_2 5 rfl rfl)
theorem dX4_takesUp_53 : decode cX4_takesUp 53 = .ok (.putfield 155, 3) := dk_181 0 155 (dk_at dksX4_takesUp_2 7 rfl rfl)
theorem dX4_takesUp_56 : decode cX4_takesUp 56 = .ok (.aload 5, 2) := dk_25 5 (dk_at dksX4_takesUp_2 10 rfl rfl)
theorem dX4_takesUp_58 : decode cX4_takesUp 58 = .ok (.iconst 1, 1) := dk_4 (dk_at dksX4_takesUp_2 12 rfl rfl)
theorem dX4_takesUp_59 : decode cX4_takesUp 59 = .ok (.putfield 147, 3) := dk_181 0 147 (dk_at dksX4_takesUp_2 13 rfl rfl)
theorem dX4_takesUp_62 : decode cX4_takesUp 62 = .ok (.aload 5, 2) := dk_25 5 (dk_at dksX4_takesUp_2 16 rfl rfl)
theorem dX4_takesUp_64 : decode cX4_takesUp 64 = .ok (.iconst 0, 1) := dk_3 (dk_at dksX4_takesUp_2 18 rfl rfl)
theorem dX4_takesUp_65 : decode cX4_takesUp 65 = .ok (.putfield 158, 3) := dk_181 0 158 (dk_at dksX4_takesUp_2 19 rfl rfl)
theorem dX4_takesUp_68 : decode cX4_takesUp 68 = .ok (.aload 5, 2) := dk_25 5 (dk_at dksX4_takesUp_2 22 rfl rfl)
theorem dX4_takesUp_70 : decode cX4_takesUp 70 = .ok (.iconst 0, 1) := dk_3 (dk_at dksX4_takesUp_3 0 rfl rfl)
theorem dX4_takesUp_71 : decode cX4_takesUp 71 = .ok (.putfield 161, 3) := dk_181 0 161 (dk_at dksX4_takesUp_3 1 rfl rfl)
theorem dX4_takesUp_74 : decode cX4_takesUp 74 = .ok (.aload 5, 2) := dk_25 5 (dk_at dksX4_takesUp_3 4 rfl rfl)
theorem dX4_takesUp_76 : decode cX4_takesUp 76 = .ok (.aload_n 0, 1) := dk_42 (dk_at dksX4_takesUp_3 6 rfl rfl)
theorem dX4_takesUp_77 : decode cX4_takesUp 77 = .ok (.getfield 60, 3) := dk_180 0 60 (dk_at dksX4_takesUp_3 7 rfl rfl)
theorem dX4_takesUp_80 : decode cX4_takesUp 80 = .ok (.putfield 165, 3) := dk_181 0 165 (dk_at dksX4_takesUp_3 10 rfl rfl)
theorem dX4_takesUp_83 : decode cX4_takesUp 83 = .ok (.iconst 1, 1) := dk_4 (dk_at dksX4_takesUp_3 13 rfl rfl)
theorem dX4_takesUp_84 : decode cX4_takesUp 84 = .ok (.ireturn, 1) := dk_172 (dk_at dksX4_takesUp_3 14 rfl rfl)
abbrev cX4_closes : ByteArray := prog_12_method_19_code
def yX4_closes : MethodName := ⟨RX4, "closes", "(I)I"⟩
def dkwX4_closes_1 : List UInt8 := [182, 0, 209, 87, 132, 2, 1, 167, 255, 228, 28, 172]
abbrev dktX4_closes_1 : List UInt8 := dkwX4_closes_1 ++ []
def dkwX4_closes_0 : List UInt8 := [3, 61, 42, 180, 0, 23, 27, 50, 180, 0, 147, 153, 0, 22, 28, 17, 0, 200, 162, 0, 15, 42, 27]
abbrev dktX4_closes_0 : List UInt8 := dkwX4_closes_0 ++ dktX4_closes_1
theorem dksX4_closes_0 : cX4_closes.data.toList.drop 0 = dktX4_closes_0 := by decide +kernel
theorem dksX4_closes_1 : cX4_closes.data.toList.drop 23 = dktX4_closes_1 := dk_seg dksX4_closes_0 23 rfl rfl
theorem dX4_closes_0 : decode cX4_closes 0 = .ok (.iconst 0, 1) := dk_3 (dk_at dksX4_closes_0 0 rfl rfl)
theorem dX4_closes_1 : decode cX4_closes 1 = .ok (.istore_n 2, 1) := dk_61 (dk_at dksX4_closes_0 1 rfl rfl)
theorem dX4_closes_2 : decode cX4_closes 2 = .ok (.aload_n 0, 1) := dk_42 (dk_at dksX4_closes_0 2 rfl rfl)
theorem dX4_closes_3 : decode cX4_closes 3 = .ok (.getfield 23, 3) := dk_180 0 23 (dk_at dksX4_closes_0 3 rfl rfl)
theorem dX4_closes_6 : decode cX4_closes 6 = .ok (.iload_n 1, 1) := dk_27 (dk_at dksX4_closes_0 6 rfl rfl)
theorem dX4_closes_7 : decode cX4_closes 7 = .ok (.aaload, 1) := dk_50 (dk_at dksX4_closes_0 7 rfl rfl)
theorem dX4_closes_8 : decode cX4_closes 8 = .ok (.getfield 147, 3) := dk_180 0 147 (dk_at dksX4_closes_0 8 rfl rfl)
theorem dX4_closes_11 : decode cX4_closes 11 = .ok (.ifCond .eq 22, 3) := dk_153 0 22 (dk_at dksX4_closes_0 11 rfl rfl)
theorem dX4_closes_14 : decode cX4_closes 14 = .ok (.iload_n 2, 1) := dk_28 (dk_at dksX4_closes_0 14 rfl rfl)
theorem dX4_closes_15 : decode cX4_closes 15 = .ok (.sipush 200, 3) := dk_17 0 200 (dk_at dksX4_closes_0 15 rfl rfl)
theorem dX4_closes_18 : decode cX4_closes 18 = .ok (.if_icmp .ge 15, 3) := dk_162 0 15 (dk_at dksX4_closes_0 18 rfl rfl)
theorem dX4_closes_21 : decode cX4_closes 21 = .ok (.aload_n 0, 1) := dk_42 (dk_at dksX4_closes_0 21 rfl rfl)
theorem dX4_closes_22 : decode cX4_closes 22 = .ok (.iload_n 1, 1) := dk_27 (dk_at dksX4_closes_0 22 rfl rfl)
theorem dX4_closes_23 : decode cX4_closes 23 = .ok (.invokevirtual 209, 3) := dk_182 0 209 (dk_at dksX4_closes_1 0 rfl rfl)
theorem dX4_closes_26 : decode cX4_closes 26 = .ok (.pop, 1) := dk_87 (dk_at dksX4_closes_1 3 rfl rfl)
theorem dX4_closes_27 : decode cX4_closes 27 = .ok (.iinc 2 1, 3) := dk_132 2 1 (dk_at dksX4_closes_1 4 rfl rfl)
theorem dX4_closes_30 : decode cX4_closes 30 = .ok (.goto (-28), 3) := dk_167 255 228 (dk_at dksX4_closes_1 7 rfl rfl)
theorem dX4_closes_33 : decode cX4_closes 33 = .ok (.iload_n 2, 1) := dk_28 (dk_at dksX4_closes_1 10 rfl rfl)
theorem dX4_closes_34 : decode cX4_closes 34 = .ok (.ireturn, 1) := dk_172 (dk_at dksX4_closes_1 11 rfl rfl)
abbrev cX4_steps : ByteArray := prog_12_method_18_code
def yX4_steps : MethodName := ⟨RX4, "steps", "(I)I"⟩
def dkwX4_steps_7 : List UInt8 := [42, 44, 182, 0, 206, 181, 0, 147, 44, 180, 0, 147, 172]
abbrev dktX4_steps_7 : List UInt8 := dkwX4_steps_7 ++ []
def dkwX4_steps_6 : List UInt8 := [42, 44, 182, 0, 197, 167, 0, 24, 42, 44, 182, 0, 200, 167, 0, 16, 42, 44, 182, 0, 203, 167, 0, 8]
abbrev dktX4_steps_6 : List UInt8 := dkwX4_steps_6 ++ dktX4_steps_7
def dkwX4_steps_5 : List UInt8 := [42, 44, 182, 0, 188, 167, 0, 48, 42, 44, 182, 0, 191, 167, 0, 40, 42, 44, 182, 0, 194, 167, 0, 32]
abbrev dktX4_steps_5 : List UInt8 := dkwX4_steps_5 ++ dktX4_steps_6
def dkwX4_steps_4 : List UInt8 := [42, 44, 182, 0, 179, 167, 0, 72, 42, 44, 182, 0, 182, 167, 0, 64, 42, 44, 182, 0, 185, 167, 0, 56]
abbrev dktX4_steps_4 : List UInt8 := dkwX4_steps_4 ++ dktX4_steps_5
def dkwX4_steps_3 : List UInt8 := [42, 44, 182, 0, 169, 167, 0, 96, 42, 44, 182, 0, 173, 167, 0, 88, 42, 44, 182, 0, 176, 167, 0, 80]
abbrev dktX4_steps_3 : List UInt8 := dkwX4_steps_3 ++ dktX4_steps_4
def dkwX4_steps_2 : List UInt8 := [170, 0, 0, 0, 157, 0, 0, 0, 1, 0, 0, 0, 12, 0, 0, 0, 61, 0, 0, 0, 69, 0, 0, 0, 77, 0, 0, 0, 85, 0, 0, 0, 93, 0, 0, 0, 101, 0, 0, 0, 109, 0, 0, 0, 117, 0, 0, 0, 125, 0, 0, 0, 133, 0, 0, 0, 141, 0, 0, 0, 149]
abbrev dktX4_steps_2 : List UInt8 := dkwX4_steps_2 ++ dktX4_steps_3
def dkwX4_steps_1 : List UInt8 := [181, 0, 166, 44, 44, 180, 0, 147]
abbrev dktX4_steps_1 : List UInt8 := dkwX4_steps_1 ++ dktX4_steps_2
def dkwX4_steps_0 : List UInt8 := [42, 180, 0, 23, 27, 50, 77, 44, 180, 0, 147, 154, 0, 5, 2, 172, 44, 89, 180, 0, 166, 4, 96]
abbrev dktX4_steps_0 : List UInt8 := dkwX4_steps_0 ++ dktX4_steps_1
theorem dksX4_steps_0 : cX4_steps.data.toList.drop 0 = dktX4_steps_0 := by decide +kernel
theorem dksX4_steps_1 : cX4_steps.data.toList.drop 23 = dktX4_steps_1 := dk_seg dksX4_steps_0 23 rfl rfl
theorem dksX4_steps_2 : cX4_steps.data.toList.drop 31 = dktX4_steps_2 := dk_seg dksX4_steps_1 8 rfl rfl
theorem dksX4_steps_3 : cX4_steps.data.toList.drop 92 = dktX4_steps_3 := dk_seg dksX4_steps_2 61 rfl rfl
theorem dksX4_steps_4 : cX4_steps.data.toList.drop 116 = dktX4_steps_4 := dk_seg dksX4_steps_3 24 rfl rfl
theorem dksX4_steps_5 : cX4_steps.data.toList.drop 140 = dktX4_steps_5 := dk_seg dksX4_steps_4 24 rfl rfl
theorem dksX4_steps_6 : cX4_steps.data.toList.drop 164 = dktX4_steps_6 := dk_seg dksX4_steps_5 24 rfl rfl
theorem dksX4_steps_7 : cX4_steps.data.toList.drop 188 = dktX4_steps_7 := dk_seg dksX4_steps_6 24 rfl rfl
theorem dX4_steps_0 : decode cX4_steps 0 = .ok (.aload_n 0, 1) := dk_42 (dk_at dksX4_steps_0 0 rfl rfl)
theorem dX4_steps_1 : decode cX4_steps 1 = .ok (.getfield 23, 3) := dk_180 0 23 (dk_at dksX4_steps_0 1 rfl rfl)
theorem dX4_steps_4 : decode cX4_steps 4 = .ok (.iload_n 1, 1) := dk_27 (dk_at dksX4_steps_0 4 rfl rfl)
theorem dX4_steps_5 : decode cX4_steps 5 = .ok (.aaload, 1) := dk_50 (dk_at dksX4_steps_0 5 rfl rfl)
theorem dX4_steps_6 : decode cX4_steps 6 = .ok (.astore_n 2, 1) := dk_77 (dk_at dksX4_steps_0 6 rfl rfl)
theorem dX4_steps_7 : decode cX4_steps 7 = .ok (.aload_n 2, 1) := dk_44 (dk_at dksX4_steps_0 7 rfl rfl)
theorem dX4_steps_8 : decode cX4_steps 8 = .ok (.getfield 147, 3) := dk_180 0 147 (dk_at dksX4_steps_0 8 rfl rfl)
theorem dX4_steps_11 : decode cX4_steps 11 = .ok (.ifCond .ne 5, 3) := dk_154 0 5 (dk_at dksX4_steps_0 11 rfl rfl)
theorem dX4_steps_14 : decode cX4_steps 14 = .ok (.iconst (-1), 1) := dk_2 (dk_at dksX4_steps_0 14 rfl rfl)
theorem dX4_steps_15 : decode cX4_steps 15 = .ok (.ireturn, 1) := dk_172 (dk_at dksX4_steps_0 15 rfl rfl)
theorem dX4_steps_16 : decode cX4_steps 16 = .ok (.aload_n 2, 1) := dk_44 (dk_at dksX4_steps_0 16 rfl rfl)
theorem dX4_steps_17 : decode cX4_steps 17 = .ok (.dup, 1) := dk_89 (dk_at dksX4_steps_0 17 rfl rfl)
theorem dX4_steps_18 : decode cX4_steps 18 = .ok (.getfield 166, 3) := dk_180 0 166 (dk_at dksX4_steps_0 18 rfl rfl)
theorem dX4_steps_21 : decode cX4_steps 21 = .ok (.iconst 1, 1) := dk_4 (dk_at dksX4_steps_0 21 rfl rfl)
theorem dX4_steps_22 : decode cX4_steps 22 = .ok (.iadd, 1) := dk_96 (dk_at dksX4_steps_0 22 rfl rfl)
theorem dX4_steps_23 : decode cX4_steps 23 = .ok (.putfield 166, 3) := dk_181 0 166 (dk_at dksX4_steps_1 0 rfl rfl)
theorem dX4_steps_26 : decode cX4_steps 26 = .ok (.aload_n 2, 1) := dk_44 (dk_at dksX4_steps_1 3 rfl rfl)
theorem dX4_steps_27 : decode cX4_steps 27 = .ok (.aload_n 2, 1) := dk_44 (dk_at dksX4_steps_1 4 rfl rfl)
theorem dX4_steps_28 : decode cX4_steps 28 = .ok (.getfield 147, 3) := dk_180 0 147 (dk_at dksX4_steps_1 5 rfl rfl)
theorem dX4_steps_31 : decode cX4_steps 31 = .ok (.tableswitch 157 1 12 #[61, 69, 77, 85, 93, 101, 109, 117, 125, 133, 141, 149], 61) := by decide +kernel
theorem dX4_steps_92 : decode cX4_steps 92 = .ok (.aload_n 0, 1) := dk_42 (dk_at dksX4_steps_3 0 rfl rfl)
theorem dX4_steps_93 : decode cX4_steps 93 = .ok (.aload_n 2, 1) := dk_44 (dk_at dksX4_steps_3 1 rfl rfl)
theorem dX4_steps_94 : decode cX4_steps 94 = .ok (.invokevirtual 169, 3) := dk_182 0 169 (dk_at dksX4_steps_3 2 rfl rfl)
theorem dX4_steps_97 : decode cX4_steps 97 = .ok (.goto 96, 3) := dk_167 0 96 (dk_at dksX4_steps_3 5 rfl rfl)
theorem dX4_steps_100 : decode cX4_steps 100 = .ok (.aload_n 0, 1) := dk_42 (dk_at dksX4_steps_3 8 rfl rfl)
theorem dX4_steps_101 : decode cX4_steps 101 = .ok (.aload_n 2, 1) := dk_44 (dk_at dksX4_steps_3 9 rfl rfl)
theorem dX4_steps_102 : decode cX4_steps 102 = .ok (.invokevirtual 173, 3) := dk_182 0 173 (dk_at dksX4_steps_3 10 rfl rfl)
theorem dX4_steps_105 : decode cX4_steps 105 = .ok (.goto 88, 3) := dk_167 0 88 (dk_at dksX4_steps_3 13 rfl rfl)
theorem dX4_steps_108 : decode cX4_steps 108 = .ok (.aload_n 0, 1) := dk_42 (dk_at dksX4_steps_3 16 rfl rfl)
theorem dX4_steps_109 : decode cX4_steps 109 = .ok (.aload_n 2, 1) := dk_44 (dk_at dksX4_steps_3 17 rfl rfl)
theorem dX4_steps_110 : decode cX4_steps 110 = .ok (.invokevirtual 176, 3) := dk_182 0 176 (dk_at dksX4_steps_3 18 rfl rfl)
theorem dX4_steps_113 : decode cX4_steps 113 = .ok (.goto 80, 3) := dk_167 0 80 (dk_at dksX4_steps_3 21 rfl rfl)
theorem dX4_steps_116 : decode cX4_steps 116 = .ok (.aload_n 0, 1) := dk_42 (dk_at dksX4_steps_4 0 rfl rfl)
theorem dX4_steps_117 : decode cX4_steps 117 = .ok (.aload_n 2, 1) := dk_44 (dk_at dksX4_steps_4 1 rfl rfl)
theorem dX4_steps_118 : decode cX4_steps 118 = .ok (.invokevirtual 179, 3) := dk_182 0 179 (dk_at dksX4_steps_4 2 rfl rfl)
theorem dX4_steps_121 : decode cX4_steps 121 = .ok (.goto 72, 3) := dk_167 0 72 (dk_at dksX4_steps_4 5 rfl rfl)
theorem dX4_steps_124 : decode cX4_steps 124 = .ok (.aload_n 0, 1) := dk_42 (dk_at dksX4_steps_4 8 rfl rfl)
theorem dX4_steps_125 : decode cX4_steps 125 = .ok (.aload_n 2, 1) := dk_44 (dk_at dksX4_steps_4 9 rfl rfl)
theorem dX4_steps_126 : decode cX4_steps 126 = .ok (.invokevirtual 182, 3) := dk_182 0 182 (dk_at dksX4_steps_4 10 rfl rfl)
theorem dX4_steps_129 : decode cX4_steps 129 = .ok (.goto 64, 3) := dk_167 0 64 (dk_at dksX4_steps_4 13 rfl rfl)
theorem dX4_steps_132 : decode cX4_steps 132 = .ok (.aload_n 0, 1) := dk_42 (dk_at dksX4_steps_4 16 rfl rfl)
theorem dX4_steps_133 : decode cX4_steps 133 = .ok (.aload_n 2, 1) := dk_44 (dk_at dksX4_steps_4 17 rfl rfl)
theorem dX4_steps_134 : decode cX4_steps 134 = .ok (.invokevirtual 185, 3) := dk_182 0 185 (dk_at dksX4_steps_4 18 rfl rfl)
theorem dX4_steps_137 : decode cX4_steps 137 = .ok (.goto 56, 3) := dk_167 0 56 (dk_at dksX4_steps_4 21 rfl rfl)
theorem dX4_steps_140 : decode cX4_steps 140 = .ok (.aload_n 0, 1) := dk_42 (dk_at dksX4_steps_5 0 rfl rfl)
theorem dX4_steps_141 : decode cX4_steps 141 = .ok (.aload_n 2, 1) := dk_44 (dk_at dksX4_steps_5 1 rfl rfl)
theorem dX4_steps_142 : decode cX4_steps 142 = .ok (.invokevirtual 188, 3) := dk_182 0 188 (dk_at dksX4_steps_5 2 rfl rfl)
theorem dX4_steps_145 : decode cX4_steps 145 = .ok (.goto 48, 3) := dk_167 0 48 (dk_at dksX4_steps_5 5 rfl rfl)
theorem dX4_steps_148 : decode cX4_steps 148 = .ok (.aload_n 0, 1) := dk_42 (dk_at dksX4_steps_5 8 rfl rfl)
theorem dX4_steps_149 : decode cX4_steps 149 = .ok (.aload_n 2, 1) := dk_44 (dk_at dksX4_steps_5 9 rfl rfl)
theorem dX4_steps_150 : decode cX4_steps 150 = .ok (.invokevirtual 191, 3) := dk_182 0 191 (dk_at dksX4_steps_5 10 rfl rfl)
theorem dX4_steps_153 : decode cX4_steps 153 = .ok (.goto 40, 3) := dk_167 0 40 (dk_at dksX4_steps_5 13 rfl rfl)
theorem dX4_steps_156 : decode cX4_steps 156 = .ok (.aload_n 0, 1) := dk_42 (dk_at dksX4_steps_5 16 rfl rfl)
theorem dX4_steps_157 : decode cX4_steps 157 = .ok (.aload_n 2, 1) := dk_44 (dk_at dksX4_steps_5 17 rfl rfl)
theorem dX4_steps_158 : decode cX4_steps 158 = .ok (.invokevirtual 194, 3) := dk_182 0 194 (dk_at dksX4_steps_5 18 rfl rfl)
theorem dX4_steps_161 : decode cX4_steps 161 = .ok (.goto 32, 3) := dk_167 0 32 (dk_at dksX4_steps_5 21 rfl rfl)
theorem dX4_steps_164 : decode cX4_steps 164 = .ok (.aload_n 0, 1) := dk_42 (dk_at dksX4_steps_6 0 rfl rfl)
theorem dX4_steps_165 : decode cX4_steps 165 = .ok (.aload_n 2, 1) := dk_44 (dk_at dksX4_steps_6 1 rfl rfl)
theorem dX4_steps_166 : decode cX4_steps 166 = .ok (.invokevirtual 197, 3) := dk_182 0 197 (dk_at dksX4_steps_6 2 rfl rfl)
theorem dX4_steps_169 : decode cX4_steps 169 = .ok (.goto 24, 3) := dk_167 0 24 (dk_at dksX4_steps_6 5 rfl rfl)
theorem dX4_steps_172 : decode cX4_steps 172 = .ok (.aload_n 0, 1) := dk_42 (dk_at dksX4_steps_6 8 rfl rfl)
theorem dX4_steps_173 : decode cX4_steps 173 = .ok (.aload_n 2, 1) := dk_44 (dk_at dksX4_steps_6 9 rfl rfl)
theorem dX4_steps_174 : decode cX4_steps 174 = .ok (.invokevirtual 200, 3) := dk_182 0 200 (dk_at dksX4_steps_6 10 rfl rfl)
theorem dX4_steps_177 : decode cX4_steps 177 = .ok (.goto 16, 3) := dk_167 0 16 (dk_at dksX4_steps_6 13 rfl rfl)
theorem dX4_steps_180 : decode cX4_steps 180 = .ok (.aload_n 0, 1) := dk_42 (dk_at dksX4_steps_6 16 rfl rfl)
theorem dX4_steps_181 : decode cX4_steps 181 = .ok (.aload_n 2, 1) := dk_44 (dk_at dksX4_steps_6 17 rfl rfl)
theorem dX4_steps_182 : decode cX4_steps 182 = .ok (.invokevirtual 203, 3) := dk_182 0 203 (dk_at dksX4_steps_6 18 rfl rfl)
theorem dX4_steps_185 : decode cX4_steps 185 = .ok (.goto 8, 3) := dk_167 0 8 (dk_at dksX4_steps_6 21 rfl rfl)
theorem dX4_steps_188 : decode cX4_steps 188 = .ok (.aload_n 0, 1) := dk_42 (dk_at dksX4_steps_7 0 rfl rfl)
theorem dX4_steps_189 : decode cX4_steps 189 = .ok (.aload_n 2, 1) := dk_44 (dk_at dksX4_steps_7 1 rfl rfl)
theorem dX4_steps_190 : decode cX4_steps 190 = .ok (.invokevirtual 206, 3) := dk_182 0 206 (dk_at dksX4_steps_7 2 rfl rfl)
theorem dX4_steps_193 : decode cX4_steps 193 = .ok (.putfield 147, 3) := dk_181 0 147 (dk_at dksX4_steps_7 5 rfl rfl)
theorem dX4_steps_196 : decode cX4_steps 196 = .ok (.aload_n 2, 1) := dk_44 (dk_at dksX4_steps_7 8 rfl rfl)
theorem dX4_steps_197 : decode cX4_steps 197 = .ok (.getfield 147, 3) := dk_180 0 147 (dk_at dksX4_steps_7 9 rfl rfl)
theorem dX4_steps_200 : decode cX4_steps 200 = .ok (.ireturn, 1) := dk_172 (dk_at dksX4_steps_7 12 rfl rfl)
abbrev cX4_finds : ByteArray := prog_12_method_20_code
def yX4_finds : MethodName := ⟨RX4, "finds", "(LDeltaIndex$Hand;)I"⟩
def dkwX4_finds_0 : List UInt8 := [42, 182, 0, 117, 77, 43, 44, 180, 0, 123, 44, 43, 180, 0, 153, 182, 0, 211, 46, 181, 0, 214, 5, 172]
abbrev dktX4_finds_0 : List UInt8 := dkwX4_finds_0 ++ []
theorem dksX4_finds_0 : cX4_finds.data.toList.drop 0 = dktX4_finds_0 := by decide +kernel
theorem dX4_finds_0 : decode cX4_finds 0 = .ok (.aload_n 0, 1) := dk_42 (dk_at dksX4_finds_0 0 rfl rfl)
theorem dX4_finds_1 : decode cX4_finds 1 = .ok (.invokevirtual 117, 3) := dk_182 0 117 (dk_at dksX4_finds_0 1 rfl rfl)
theorem dX4_finds_4 : decode cX4_finds 4 = .ok (.astore_n 2, 1) := dk_77 (dk_at dksX4_finds_0 4 rfl rfl)
theorem dX4_finds_5 : decode cX4_finds 5 = .ok (.aload_n 1, 1) := dk_43 (dk_at dksX4_finds_0 5 rfl rfl)
theorem dX4_finds_6 : decode cX4_finds 6 = .ok (.aload_n 2, 1) := dk_44 (dk_at dksX4_finds_0 6 rfl rfl)
theorem dX4_finds_7 : decode cX4_finds 7 = .ok (.getfield 123, 3) := dk_180 0 123 (dk_at dksX4_finds_0 7 rfl rfl)
theorem dX4_finds_10 : decode cX4_finds 10 = .ok (.aload_n 2, 1) := dk_44 (dk_at dksX4_finds_0 10 rfl rfl)
theorem dX4_finds_11 : decode cX4_finds 11 = .ok (.aload_n 1, 1) := dk_43 (dk_at dksX4_finds_0 11 rfl rfl)
theorem dX4_finds_12 : decode cX4_finds 12 = .ok (.getfield 153, 3) := dk_180 0 153 (dk_at dksX4_finds_0 12 rfl rfl)
theorem dX4_finds_15 : decode cX4_finds 15 = .ok (.invokevirtual 211, 3) := dk_182 0 211 (dk_at dksX4_finds_0 15 rfl rfl)
theorem dX4_finds_18 : decode cX4_finds 18 = .ok (.iaload, 1) := dk_46 (dk_at dksX4_finds_0 18 rfl rfl)
theorem dX4_finds_19 : decode cX4_finds 19 = .ok (.putfield 214, 3) := dk_181 0 214 (dk_at dksX4_finds_0 19 rfl rfl)
theorem dX4_finds_22 : decode cX4_finds 22 = .ok (.iconst 2, 1) := dk_5 (dk_at dksX4_finds_0 22 rfl rfl)
theorem dX4_finds_23 : decode cX4_finds 23 = .ok (.ireturn, 1) := dk_172 (dk_at dksX4_finds_0 23 rfl rfl)
abbrev cX4_bounds : ByteArray := prog_12_method_9_code
def yX4_bounds : MethodName := ⟨RX4, "bounds", "()LDeltaIndex$Record;"⟩
def dkwX4_bounds_0 : List UInt8 := [42, 3, 42, 180, 0, 32, 182, 0, 113, 42, 180, 0, 32, 176]
abbrev dktX4_bounds_0 : List UInt8 := dkwX4_bounds_0 ++ []
theorem dksX4_bounds_0 : cX4_bounds.data.toList.drop 0 = dktX4_bounds_0 := by decide +kernel
theorem dX4_bounds_0 : decode cX4_bounds 0 = .ok (.aload_n 0, 1) := dk_42 (dk_at dksX4_bounds_0 0 rfl rfl)
theorem dX4_bounds_1 : decode cX4_bounds 1 = .ok (.iconst 0, 1) := dk_3 (dk_at dksX4_bounds_0 1 rfl rfl)
theorem dX4_bounds_2 : decode cX4_bounds 2 = .ok (.aload_n 0, 1) := dk_42 (dk_at dksX4_bounds_0 2 rfl rfl)
theorem dX4_bounds_3 : decode cX4_bounds 3 = .ok (.getfield 32, 3) := dk_180 0 32 (dk_at dksX4_bounds_0 3 rfl rfl)
theorem dX4_bounds_6 : decode cX4_bounds 6 = .ok (.invokevirtual 113, 3) := dk_182 0 113 (dk_at dksX4_bounds_0 6 rfl rfl)
theorem dX4_bounds_9 : decode cX4_bounds 9 = .ok (.aload_n 0, 1) := dk_42 (dk_at dksX4_bounds_0 9 rfl rfl)
theorem dX4_bounds_10 : decode cX4_bounds 10 = .ok (.getfield 32, 3) := dk_180 0 32 (dk_at dksX4_bounds_0 10 rfl rfl)
theorem dX4_bounds_13 : decode cX4_bounds 13 = .ok (.areturn, 1) := dk_176 (dk_at dksX4_bounds_0 13 rfl rfl)
abbrev cX4_reads : ByteArray := prog_12_method_22_code
def yX4_reads : MethodName := ⟨RX4, "reads", "(LDeltaIndex$Hand;)I"⟩
def dkwX4_reads_9 : List UInt8 := [43, 180, 0, 214, 46, 181, 0, 238, 6, 172]
abbrev dktX4_reads_9 : List UInt8 := dkwX4_reads_9 ++ []
def dkwX4_reads_8 : List UInt8 := [156, 0, 19, 42, 182, 0, 234, 16, 40, 161, 0, 10, 43, 16, 253, 182, 0, 228, 172, 43, 42, 180, 0, 17]
abbrev dktX4_reads_8 : List UInt8 := dkwX4_reads_8 ++ dktX4_reads_9
def dkwX4_reads_7 : List UInt8 := [180, 0, 214, 182, 0, 231, 16, 24, 161, 0, 5, 7, 172, 43, 180, 0, 150, 4, 160, 0, 23, 28]
abbrev dktX4_reads_7 : List UInt8 := dkwX4_reads_7 ++ dktX4_reads_8
def dkwX4_reads_6 : List UInt8 := [182, 0, 228, 172, 43, 180, 0, 150, 5, 160, 0, 13, 28, 156, 0, 9, 43, 3, 182, 0, 228, 172, 42, 43]
abbrev dktX4_reads_6 : List UInt8 := dkwX4_reads_6 ++ dktX4_reads_7
def dkwX4_reads_5 : List UInt8 := [6, 160, 0, 25, 43, 28, 156, 0, 7, 3, 167, 0, 12, 42, 180, 0, 28, 180, 0, 123, 28, 46]
abbrev dktX4_reads_5 : List UInt8 := dkwX4_reads_5 ++ dktX4_reads_6
def dkwX4_reads_4 : List UInt8 := [180, 0, 133, 181, 0, 214, 5, 172, 42, 180, 0, 28, 43, 180, 0, 153, 182, 0, 129, 61, 43, 180, 0, 150]
abbrev dktX4_reads_4 : List UInt8 := dkwX4_reads_4 ++ dktX4_reads_5
def dkwX4_reads_3 : List UInt8 := [180, 0, 28, 180, 0, 74, 42, 180, 0, 28, 180, 0, 133, 182, 0, 224, 172, 43, 42, 180, 0, 28]
abbrev dktX4_reads_3 : List UInt8 := dkwX4_reads_3 ++ dktX4_reads_4
def dkwX4_reads_2 : List UInt8 := [42, 42, 180, 0, 28, 180, 0, 74, 42, 180, 0, 28, 180, 0, 133, 182, 0, 143, 154, 0, 23, 42, 43, 42]
abbrev dktX4_reads_2 : List UInt8 := dkwX4_reads_2 ++ dktX4_reads_3
def dkwX4_reads_1 : List UInt8 := [180, 0, 214, 42, 180, 0, 28, 182, 0, 113, 43, 180, 0, 153, 42, 180, 0, 28, 180, 0, 74, 161, 0, 57]
abbrev dktX4_reads_1 : List UInt8 := dkwX4_reads_1 ++ dktX4_reads_2
def dkwX4_reads_0 : List UInt8 := [42, 43, 180, 0, 214, 182, 0, 139, 153, 0, 14, 43, 43, 180, 0, 214, 181, 0, 221, 16, 10, 172, 42, 43]
abbrev dktX4_reads_0 : List UInt8 := dkwX4_reads_0 ++ dktX4_reads_1
theorem dksX4_reads_0 : cX4_reads.data.toList.drop 0 = dktX4_reads_0 := by decide +kernel
theorem dksX4_reads_1 : cX4_reads.data.toList.drop 24 = dktX4_reads_1 := dk_seg dksX4_reads_0 24 rfl rfl
theorem dksX4_reads_2 : cX4_reads.data.toList.drop 48 = dktX4_reads_2 := dk_seg dksX4_reads_1 24 rfl rfl
theorem dksX4_reads_3 : cX4_reads.data.toList.drop 72 = dktX4_reads_3 := dk_seg dksX4_reads_2 24 rfl rfl
theorem dksX4_reads_4 : cX4_reads.data.toList.drop 94 = dktX4_reads_4 := dk_seg dksX4_reads_3 22 rfl rfl
theorem dksX4_reads_5 : cX4_reads.data.toList.drop 118 = dktX4_reads_5 := dk_seg dksX4_reads_4 24 rfl rfl
theorem dksX4_reads_6 : cX4_reads.data.toList.drop 140 = dktX4_reads_6 := dk_seg dksX4_reads_5 22 rfl rfl
theorem dksX4_reads_7 : cX4_reads.data.toList.drop 164 = dktX4_reads_7 := dk_seg dksX4_reads_6 24 rfl rfl
theorem dksX4_reads_8 : cX4_reads.data.toList.drop 186 = dktX4_reads_8 := dk_seg dksX4_reads_7 22 rfl rfl
theorem dksX4_reads_9 : cX4_reads.data.toList.drop 210 = dktX4_reads_9 := dk_seg dksX4_reads_8 24 rfl rfl
theorem dX4_reads_0 : decode cX4_reads 0 = .ok (.aload_n 0, 1) := dk_42 (dk_at dksX4_reads_0 0 rfl rfl)
theorem dX4_reads_1 : decode cX4_reads 1 = .ok (.aload_n 1, 1) := dk_43 (dk_at dksX4_reads_0 1 rfl rfl)
theorem dX4_reads_2 : decode cX4_reads 2 = .ok (.getfield 214, 3) := dk_180 0 214 (dk_at dksX4_reads_0 2 rfl rfl)
theorem dX4_reads_5 : decode cX4_reads 5 = .ok (.invokevirtual 139, 3) := dk_182 0 139 (dk_at dksX4_reads_0 5 rfl rfl)
theorem dX4_reads_8 : decode cX4_reads 8 = .ok (.ifCond .eq 14, 3) := dk_153 0 14 (dk_at dksX4_reads_0 8 rfl rfl)
theorem dX4_reads_11 : decode cX4_reads 11 = .ok (.aload_n 1, 1) := dk_43 (dk_at dksX4_reads_0 11 rfl rfl)
theorem dX4_reads_12 : decode cX4_reads 12 = .ok (.aload_n 1, 1) := dk_43 (dk_at dksX4_reads_0 12 rfl rfl)
theorem dX4_reads_13 : decode cX4_reads 13 = .ok (.getfield 214, 3) := dk_180 0 214 (dk_at dksX4_reads_0 13 rfl rfl)
theorem dX4_reads_16 : decode cX4_reads 16 = .ok (.putfield 221, 3) := dk_181 0 221 (dk_at dksX4_reads_0 16 rfl rfl)
theorem dX4_reads_19 : decode cX4_reads 19 = .ok (.bipush 10, 2) := dk_16 10 (dk_at dksX4_reads_0 19 rfl rfl)
theorem dX4_reads_21 : decode cX4_reads 21 = .ok (.ireturn, 1) := dk_172 (dk_at dksX4_reads_0 21 rfl rfl)
theorem dX4_reads_22 : decode cX4_reads 22 = .ok (.aload_n 0, 1) := dk_42 (dk_at dksX4_reads_0 22 rfl rfl)
theorem dX4_reads_23 : decode cX4_reads 23 = .ok (.aload_n 1, 1) := dk_43 (dk_at dksX4_reads_0 23 rfl rfl)
theorem dX4_reads_24 : decode cX4_reads 24 = .ok (.getfield 214, 3) := dk_180 0 214 (dk_at dksX4_reads_1 0 rfl rfl)
theorem dX4_reads_27 : decode cX4_reads 27 = .ok (.aload_n 0, 1) := dk_42 (dk_at dksX4_reads_1 3 rfl rfl)
theorem dX4_reads_28 : decode cX4_reads 28 = .ok (.getfield 28, 3) := dk_180 0 28 (dk_at dksX4_reads_1 4 rfl rfl)
theorem dX4_reads_31 : decode cX4_reads 31 = .ok (.invokevirtual 113, 3) := dk_182 0 113 (dk_at dksX4_reads_1 7 rfl rfl)
theorem dX4_reads_34 : decode cX4_reads 34 = .ok (.aload_n 1, 1) := dk_43 (dk_at dksX4_reads_1 10 rfl rfl)
theorem dX4_reads_35 : decode cX4_reads 35 = .ok (.getfield 153, 3) := dk_180 0 153 (dk_at dksX4_reads_1 11 rfl rfl)
theorem dX4_reads_38 : decode cX4_reads 38 = .ok (.aload_n 0, 1) := dk_42 (dk_at dksX4_reads_1 14 rfl rfl)
theorem dX4_reads_39 : decode cX4_reads 39 = .ok (.getfield 28, 3) := dk_180 0 28 (dk_at dksX4_reads_1 15 rfl rfl)
theorem dX4_reads_42 : decode cX4_reads 42 = .ok (.getfield 74, 3) := dk_180 0 74 (dk_at dksX4_reads_1 18 rfl rfl)
theorem dX4_reads_45 : decode cX4_reads 45 = .ok (.if_icmp .lt 57, 3) := dk_161 0 57 (dk_at dksX4_reads_1 21 rfl rfl)
theorem dX4_reads_48 : decode cX4_reads 48 = .ok (.aload_n 0, 1) := dk_42 (dk_at dksX4_reads_2 0 rfl rfl)
theorem dX4_reads_49 : decode cX4_reads 49 = .ok (.aload_n 0, 1) := dk_42 (dk_at dksX4_reads_2 1 rfl rfl)
theorem dX4_reads_50 : decode cX4_reads 50 = .ok (.getfield 28, 3) := dk_180 0 28 (dk_at dksX4_reads_2 2 rfl rfl)
theorem dX4_reads_53 : decode cX4_reads 53 = .ok (.getfield 74, 3) := dk_180 0 74 (dk_at dksX4_reads_2 5 rfl rfl)
theorem dX4_reads_56 : decode cX4_reads 56 = .ok (.aload_n 0, 1) := dk_42 (dk_at dksX4_reads_2 8 rfl rfl)
theorem dX4_reads_57 : decode cX4_reads 57 = .ok (.getfield 28, 3) := dk_180 0 28 (dk_at dksX4_reads_2 9 rfl rfl)
theorem dX4_reads_60 : decode cX4_reads 60 = .ok (.getfield 133, 3) := dk_180 0 133 (dk_at dksX4_reads_2 12 rfl rfl)
theorem dX4_reads_63 : decode cX4_reads 63 = .ok (.invokevirtual 143, 3) := dk_182 0 143 (dk_at dksX4_reads_2 15 rfl rfl)
theorem dX4_reads_66 : decode cX4_reads 66 = .ok (.ifCond .ne 23, 3) := dk_154 0 23 (dk_at dksX4_reads_2 18 rfl rfl)
theorem dX4_reads_69 : decode cX4_reads 69 = .ok (.aload_n 0, 1) := dk_42 (dk_at dksX4_reads_2 21 rfl rfl)
theorem dX4_reads_70 : decode cX4_reads 70 = .ok (.aload_n 1, 1) := dk_43 (dk_at dksX4_reads_2 22 rfl rfl)
theorem dX4_reads_71 : decode cX4_reads 71 = .ok (.aload_n 0, 1) := dk_42 (dk_at dksX4_reads_2 23 rfl rfl)
theorem dX4_reads_72 : decode cX4_reads 72 = .ok (.getfield 28, 3) := dk_180 0 28 (dk_at dksX4_reads_3 0 rfl rfl)
theorem dX4_reads_75 : decode cX4_reads 75 = .ok (.getfield 74, 3) := dk_180 0 74 (dk_at dksX4_reads_3 3 rfl rfl)
theorem dX4_reads_78 : decode cX4_reads 78 = .ok (.aload_n 0, 1) := dk_42 (dk_at dksX4_reads_3 6 rfl rfl)
theorem dX4_reads_79 : decode cX4_reads 79 = .ok (.getfield 28, 3) := dk_180 0 28 (dk_at dksX4_reads_3 7 rfl rfl)
theorem dX4_reads_82 : decode cX4_reads 82 = .ok (.getfield 133, 3) := dk_180 0 133 (dk_at dksX4_reads_3 10 rfl rfl)
theorem dX4_reads_85 : decode cX4_reads 85 = .ok (.invokevirtual 224, 3) := dk_182 0 224 (dk_at dksX4_reads_3 13 rfl rfl)
theorem dX4_reads_88 : decode cX4_reads 88 = .ok (.ireturn, 1) := dk_172 (dk_at dksX4_reads_3 16 rfl rfl)
theorem dX4_reads_89 : decode cX4_reads 89 = .ok (.aload_n 1, 1) := dk_43 (dk_at dksX4_reads_3 17 rfl rfl)
theorem dX4_reads_90 : decode cX4_reads 90 = .ok (.aload_n 0, 1) := dk_42 (dk_at dksX4_reads_3 18 rfl rfl)
theorem dX4_reads_91 : decode cX4_reads 91 = .ok (.getfield 28, 3) := dk_180 0 28 (dk_at dksX4_reads_3 19 rfl rfl)
theorem dX4_reads_94 : decode cX4_reads 94 = .ok (.getfield 133, 3) := dk_180 0 133 (dk_at dksX4_reads_4 0 rfl rfl)
theorem dX4_reads_97 : decode cX4_reads 97 = .ok (.putfield 214, 3) := dk_181 0 214 (dk_at dksX4_reads_4 3 rfl rfl)
theorem dX4_reads_100 : decode cX4_reads 100 = .ok (.iconst 2, 1) := dk_5 (dk_at dksX4_reads_4 6 rfl rfl)
theorem dX4_reads_101 : decode cX4_reads 101 = .ok (.ireturn, 1) := dk_172 (dk_at dksX4_reads_4 7 rfl rfl)
theorem dX4_reads_102 : decode cX4_reads 102 = .ok (.aload_n 0, 1) := dk_42 (dk_at dksX4_reads_4 8 rfl rfl)
theorem dX4_reads_103 : decode cX4_reads 103 = .ok (.getfield 28, 3) := dk_180 0 28 (dk_at dksX4_reads_4 9 rfl rfl)
theorem dX4_reads_106 : decode cX4_reads 106 = .ok (.aload_n 1, 1) := dk_43 (dk_at dksX4_reads_4 12 rfl rfl)
theorem dX4_reads_107 : decode cX4_reads 107 = .ok (.getfield 153, 3) := dk_180 0 153 (dk_at dksX4_reads_4 13 rfl rfl)
theorem dX4_reads_110 : decode cX4_reads 110 = .ok (.invokevirtual 129, 3) := dk_182 0 129 (dk_at dksX4_reads_4 16 rfl rfl)
theorem dX4_reads_113 : decode cX4_reads 113 = .ok (.istore_n 2, 1) := dk_61 (dk_at dksX4_reads_4 19 rfl rfl)
theorem dX4_reads_114 : decode cX4_reads 114 = .ok (.aload_n 1, 1) := dk_43 (dk_at dksX4_reads_4 20 rfl rfl)
theorem dX4_reads_115 : decode cX4_reads 115 = .ok (.getfield 150, 3) := dk_180 0 150 (dk_at dksX4_reads_4 21 rfl rfl)
theorem dX4_reads_118 : decode cX4_reads 118 = .ok (.iconst 3, 1) := dk_6 (dk_at dksX4_reads_5 0 rfl rfl)
theorem dX4_reads_119 : decode cX4_reads 119 = .ok (.if_icmp .ne 25, 3) := dk_160 0 25 (dk_at dksX4_reads_5 1 rfl rfl)
theorem dX4_reads_122 : decode cX4_reads 122 = .ok (.aload_n 1, 1) := dk_43 (dk_at dksX4_reads_5 4 rfl rfl)
theorem dX4_reads_123 : decode cX4_reads 123 = .ok (.iload_n 2, 1) := dk_28 (dk_at dksX4_reads_5 5 rfl rfl)
theorem dX4_reads_124 : decode cX4_reads 124 = .ok (.ifCond .ge 7, 3) := dk_156 0 7 (dk_at dksX4_reads_5 6 rfl rfl)
theorem dX4_reads_127 : decode cX4_reads 127 = .ok (.iconst 0, 1) := dk_3 (dk_at dksX4_reads_5 9 rfl rfl)
theorem dX4_reads_128 : decode cX4_reads 128 = .ok (.goto 12, 3) := dk_167 0 12 (dk_at dksX4_reads_5 10 rfl rfl)
theorem dX4_reads_131 : decode cX4_reads 131 = .ok (.aload_n 0, 1) := dk_42 (dk_at dksX4_reads_5 13 rfl rfl)
theorem dX4_reads_132 : decode cX4_reads 132 = .ok (.getfield 28, 3) := dk_180 0 28 (dk_at dksX4_reads_5 14 rfl rfl)
theorem dX4_reads_135 : decode cX4_reads 135 = .ok (.getfield 123, 3) := dk_180 0 123 (dk_at dksX4_reads_5 17 rfl rfl)
theorem dX4_reads_138 : decode cX4_reads 138 = .ok (.iload_n 2, 1) := dk_28 (dk_at dksX4_reads_5 20 rfl rfl)
theorem dX4_reads_139 : decode cX4_reads 139 = .ok (.iaload, 1) := dk_46 (dk_at dksX4_reads_5 21 rfl rfl)
theorem dX4_reads_140 : decode cX4_reads 140 = .ok (.invokevirtual 228, 3) := dk_182 0 228 (dk_at dksX4_reads_6 0 rfl rfl)
theorem dX4_reads_143 : decode cX4_reads 143 = .ok (.ireturn, 1) := dk_172 (dk_at dksX4_reads_6 3 rfl rfl)
theorem dX4_reads_144 : decode cX4_reads 144 = .ok (.aload_n 1, 1) := dk_43 (dk_at dksX4_reads_6 4 rfl rfl)
theorem dX4_reads_145 : decode cX4_reads 145 = .ok (.getfield 150, 3) := dk_180 0 150 (dk_at dksX4_reads_6 5 rfl rfl)
theorem dX4_reads_148 : decode cX4_reads 148 = .ok (.iconst 2, 1) := dk_5 (dk_at dksX4_reads_6 8 rfl rfl)
theorem dX4_reads_149 : decode cX4_reads 149 = .ok (.if_icmp .ne 13, 3) := dk_160 0 13 (dk_at dksX4_reads_6 9 rfl rfl)
theorem dX4_reads_152 : decode cX4_reads 152 = .ok (.iload_n 2, 1) := dk_28 (dk_at dksX4_reads_6 12 rfl rfl)
theorem dX4_reads_153 : decode cX4_reads 153 = .ok (.ifCond .ge 9, 3) := dk_156 0 9 (dk_at dksX4_reads_6 13 rfl rfl)
theorem dX4_reads_156 : decode cX4_reads 156 = .ok (.aload_n 1, 1) := dk_43 (dk_at dksX4_reads_6 16 rfl rfl)
theorem dX4_reads_157 : decode cX4_reads 157 = .ok (.iconst 0, 1) := dk_3 (dk_at dksX4_reads_6 17 rfl rfl)
theorem dX4_reads_158 : decode cX4_reads 158 = .ok (.invokevirtual 228, 3) := dk_182 0 228 (dk_at dksX4_reads_6 18 rfl rfl)
theorem dX4_reads_161 : decode cX4_reads 161 = .ok (.ireturn, 1) := dk_172 (dk_at dksX4_reads_6 21 rfl rfl)
theorem dX4_reads_162 : decode cX4_reads 162 = .ok (.aload_n 0, 1) := dk_42 (dk_at dksX4_reads_6 22 rfl rfl)
theorem dX4_reads_163 : decode cX4_reads 163 = .ok (.aload_n 1, 1) := dk_43 (dk_at dksX4_reads_6 23 rfl rfl)
theorem dX4_reads_164 : decode cX4_reads 164 = .ok (.getfield 214, 3) := dk_180 0 214 (dk_at dksX4_reads_7 0 rfl rfl)
theorem dX4_reads_167 : decode cX4_reads 167 = .ok (.invokevirtual 231, 3) := dk_182 0 231 (dk_at dksX4_reads_7 3 rfl rfl)
theorem dX4_reads_170 : decode cX4_reads 170 = .ok (.bipush 24, 2) := dk_16 24 (dk_at dksX4_reads_7 6 rfl rfl)
theorem dX4_reads_172 : decode cX4_reads 172 = .ok (.if_icmp .lt 5, 3) := dk_161 0 5 (dk_at dksX4_reads_7 8 rfl rfl)
theorem dX4_reads_175 : decode cX4_reads 175 = .ok (.iconst 4, 1) := dk_7 (dk_at dksX4_reads_7 11 rfl rfl)
theorem dX4_reads_176 : decode cX4_reads 176 = .ok (.ireturn, 1) := dk_172 (dk_at dksX4_reads_7 12 rfl rfl)
theorem dX4_reads_177 : decode cX4_reads 177 = .ok (.aload_n 1, 1) := dk_43 (dk_at dksX4_reads_7 13 rfl rfl)
theorem dX4_reads_178 : decode cX4_reads 178 = .ok (.getfield 150, 3) := dk_180 0 150 (dk_at dksX4_reads_7 14 rfl rfl)
theorem dX4_reads_181 : decode cX4_reads 181 = .ok (.iconst 1, 1) := dk_4 (dk_at dksX4_reads_7 17 rfl rfl)
theorem dX4_reads_182 : decode cX4_reads 182 = .ok (.if_icmp .ne 23, 3) := dk_160 0 23 (dk_at dksX4_reads_7 18 rfl rfl)
theorem dX4_reads_185 : decode cX4_reads 185 = .ok (.iload_n 2, 1) := dk_28 (dk_at dksX4_reads_7 21 rfl rfl)
theorem dX4_reads_186 : decode cX4_reads 186 = .ok (.ifCond .ge 19, 3) := dk_156 0 19 (dk_at dksX4_reads_8 0 rfl rfl)
theorem dX4_reads_189 : decode cX4_reads 189 = .ok (.aload_n 0, 1) := dk_42 (dk_at dksX4_reads_8 3 rfl rfl)
theorem dX4_reads_190 : decode cX4_reads 190 = .ok (.invokevirtual 234, 3) := dk_182 0 234 (dk_at dksX4_reads_8 4 rfl rfl)
theorem dX4_reads_193 : decode cX4_reads 193 = .ok (.bipush 40, 2) := dk_16 40 (dk_at dksX4_reads_8 7 rfl rfl)
theorem dX4_reads_195 : decode cX4_reads 195 = .ok (.if_icmp .lt 10, 3) := dk_161 0 10 (dk_at dksX4_reads_8 9 rfl rfl)
theorem dX4_reads_198 : decode cX4_reads 198 = .ok (.aload_n 1, 1) := dk_43 (dk_at dksX4_reads_8 12 rfl rfl)
theorem dX4_reads_199 : decode cX4_reads 199 = .ok (.bipush (-3), 2) := dk_16 253 (dk_at dksX4_reads_8 13 rfl rfl)
theorem dX4_reads_201 : decode cX4_reads 201 = .ok (.invokevirtual 228, 3) := dk_182 0 228 (dk_at dksX4_reads_8 15 rfl rfl)
theorem dX4_reads_204 : decode cX4_reads 204 = .ok (.ireturn, 1) := dk_172 (dk_at dksX4_reads_8 18 rfl rfl)
theorem dX4_reads_205 : decode cX4_reads 205 = .ok (.aload_n 1, 1) := dk_43 (dk_at dksX4_reads_8 19 rfl rfl)
theorem dX4_reads_206 : decode cX4_reads 206 = .ok (.aload_n 0, 1) := dk_42 (dk_at dksX4_reads_8 20 rfl rfl)
theorem dX4_reads_207 : decode cX4_reads 207 = .ok (.getfield 17, 3) := dk_180 0 17 (dk_at dksX4_reads_8 21 rfl rfl)
theorem dX4_reads_210 : decode cX4_reads 210 = .ok (.aload_n 1, 1) := dk_43 (dk_at dksX4_reads_9 0 rfl rfl)
theorem dX4_reads_211 : decode cX4_reads 211 = .ok (.getfield 214, 3) := dk_180 0 214 (dk_at dksX4_reads_9 1 rfl rfl)
theorem dX4_reads_214 : decode cX4_reads 214 = .ok (.iaload, 1) := dk_46 (dk_at dksX4_reads_9 4 rfl rfl)
theorem dX4_reads_215 : decode cX4_reads 215 = .ok (.putfield 238, 3) := dk_181 0 238 (dk_at dksX4_reads_9 5 rfl rfl)
theorem dX4_reads_218 : decode cX4_reads 218 = .ok (.iconst 3, 1) := dk_6 (dk_at dksX4_reads_9 8 rfl rfl)
theorem dX4_reads_219 : decode cX4_reads 219 = .ok (.ireturn, 1) := dk_172 (dk_at dksX4_reads_9 9 rfl rfl)
abbrev cX4_isGone : ByteArray := prog_12_method_8_code
def yX4_isGone : MethodName := ⟨RX4, "isGone", "(I)Z"⟩
def dkwX4_isGone_0 : List UInt8 := [42, 180, 0, 11, 42, 180, 0, 17, 27, 46, 50, 180, 0, 96, 7, 160, 0, 7, 4, 167, 0, 4, 3, 172]
abbrev dktX4_isGone_0 : List UInt8 := dkwX4_isGone_0 ++ []
theorem dksX4_isGone_0 : cX4_isGone.data.toList.drop 0 = dktX4_isGone_0 := by decide +kernel
theorem dX4_isGone_0 : decode cX4_isGone 0 = .ok (.aload_n 0, 1) := dk_42 (dk_at dksX4_isGone_0 0 rfl rfl)
theorem dX4_isGone_1 : decode cX4_isGone 1 = .ok (.getfield 11, 3) := dk_180 0 11 (dk_at dksX4_isGone_0 1 rfl rfl)
theorem dX4_isGone_4 : decode cX4_isGone 4 = .ok (.aload_n 0, 1) := dk_42 (dk_at dksX4_isGone_0 4 rfl rfl)
theorem dX4_isGone_5 : decode cX4_isGone 5 = .ok (.getfield 17, 3) := dk_180 0 17 (dk_at dksX4_isGone_0 5 rfl rfl)
theorem dX4_isGone_8 : decode cX4_isGone 8 = .ok (.iload_n 1, 1) := dk_27 (dk_at dksX4_isGone_0 8 rfl rfl)
theorem dX4_isGone_9 : decode cX4_isGone 9 = .ok (.iaload, 1) := dk_46 (dk_at dksX4_isGone_0 9 rfl rfl)
theorem dX4_isGone_10 : decode cX4_isGone 10 = .ok (.aaload, 1) := dk_50 (dk_at dksX4_isGone_0 10 rfl rfl)
theorem dX4_isGone_11 : decode cX4_isGone 11 = .ok (.getfield 96, 3) := dk_180 0 96 (dk_at dksX4_isGone_0 11 rfl rfl)
theorem dX4_isGone_14 : decode cX4_isGone 14 = .ok (.iconst 4, 1) := dk_7 (dk_at dksX4_isGone_0 14 rfl rfl)
theorem dX4_isGone_15 : decode cX4_isGone 15 = .ok (.if_icmp .ne 7, 3) := dk_160 0 7 (dk_at dksX4_isGone_0 15 rfl rfl)
theorem dX4_isGone_18 : decode cX4_isGone 18 = .ok (.iconst 1, 1) := dk_4 (dk_at dksX4_isGone_0 18 rfl rfl)
theorem dX4_isGone_19 : decode cX4_isGone 19 = .ok (.goto 4, 3) := dk_167 0 4 (dk_at dksX4_isGone_0 19 rfl rfl)
theorem dX4_isGone_22 : decode cX4_isGone 22 = .ok (.iconst 0, 1) := dk_3 (dk_at dksX4_isGone_0 22 rfl rfl)
theorem dX4_isGone_23 : decode cX4_isGone 23 = .ok (.ireturn, 1) := dk_172 (dk_at dksX4_isGone_0 23 rfl rfl)
abbrev cX4_isNoted : ByteArray := prog_12_method_11_code
def yX4_isNoted : MethodName := ⟨RX4, "isNoted", "(II)Z"⟩
def dkwX4_isNoted_1 : List UInt8 := [160, 0, 7, 4, 167, 0, 4, 3, 172]
abbrev dktX4_isNoted_1 : List UInt8 := dkwX4_isNoted_1 ++ []
def dkwX4_isNoted_0 : List UInt8 := [42, 182, 0, 117, 27, 182, 0, 129, 62, 29, 155, 0, 20, 42, 180, 0, 32, 180, 0, 123, 29, 46, 28]
abbrev dktX4_isNoted_0 : List UInt8 := dkwX4_isNoted_0 ++ dktX4_isNoted_1
theorem dksX4_isNoted_0 : cX4_isNoted.data.toList.drop 0 = dktX4_isNoted_0 := by decide +kernel
theorem dksX4_isNoted_1 : cX4_isNoted.data.toList.drop 23 = dktX4_isNoted_1 := dk_seg dksX4_isNoted_0 23 rfl rfl
theorem dX4_isNoted_0 : decode cX4_isNoted 0 = .ok (.aload_n 0, 1) := dk_42 (dk_at dksX4_isNoted_0 0 rfl rfl)
theorem dX4_isNoted_1 : decode cX4_isNoted 1 = .ok (.invokevirtual 117, 3) := dk_182 0 117 (dk_at dksX4_isNoted_0 1 rfl rfl)
theorem dX4_isNoted_4 : decode cX4_isNoted 4 = .ok (.iload_n 1, 1) := dk_27 (dk_at dksX4_isNoted_0 4 rfl rfl)
theorem dX4_isNoted_5 : decode cX4_isNoted 5 = .ok (.invokevirtual 129, 3) := dk_182 0 129 (dk_at dksX4_isNoted_0 5 rfl rfl)
theorem dX4_isNoted_8 : decode cX4_isNoted 8 = .ok (.istore_n 3, 1) := dk_62 (dk_at dksX4_isNoted_0 8 rfl rfl)
theorem dX4_isNoted_9 : decode cX4_isNoted 9 = .ok (.iload_n 3, 1) := dk_29 (dk_at dksX4_isNoted_0 9 rfl rfl)
theorem dX4_isNoted_10 : decode cX4_isNoted 10 = .ok (.ifCond .lt 20, 3) := dk_155 0 20 (dk_at dksX4_isNoted_0 10 rfl rfl)
theorem dX4_isNoted_13 : decode cX4_isNoted 13 = .ok (.aload_n 0, 1) := dk_42 (dk_at dksX4_isNoted_0 13 rfl rfl)
theorem dX4_isNoted_14 : decode cX4_isNoted 14 = .ok (.getfield 32, 3) := dk_180 0 32 (dk_at dksX4_isNoted_0 14 rfl rfl)
theorem dX4_isNoted_17 : decode cX4_isNoted 17 = .ok (.getfield 123, 3) := dk_180 0 123 (dk_at dksX4_isNoted_0 17 rfl rfl)
theorem dX4_isNoted_20 : decode cX4_isNoted 20 = .ok (.iload_n 3, 1) := dk_29 (dk_at dksX4_isNoted_0 20 rfl rfl)
theorem dX4_isNoted_21 : decode cX4_isNoted 21 = .ok (.iaload, 1) := dk_46 (dk_at dksX4_isNoted_0 21 rfl rfl)
theorem dX4_isNoted_22 : decode cX4_isNoted 22 = .ok (.iload_n 2, 1) := dk_28 (dk_at dksX4_isNoted_0 22 rfl rfl)
theorem dX4_isNoted_23 : decode cX4_isNoted 23 = .ok (.if_icmp .ne 7, 3) := dk_160 0 7 (dk_at dksX4_isNoted_1 0 rfl rfl)
theorem dX4_isNoted_26 : decode cX4_isNoted 26 = .ok (.iconst 1, 1) := dk_4 (dk_at dksX4_isNoted_1 3 rfl rfl)
theorem dX4_isNoted_27 : decode cX4_isNoted 27 = .ok (.goto 4, 3) := dk_167 0 4 (dk_at dksX4_isNoted_1 4 rfl rfl)
theorem dX4_isNoted_30 : decode cX4_isNoted 30 = .ok (.iconst 0, 1) := dk_3 (dk_at dksX4_isNoted_1 7 rfl rfl)
theorem dX4_isNoted_31 : decode cX4_isNoted 31 = .ok (.ireturn, 1) := dk_172 (dk_at dksX4_isNoted_1 8 rfl rfl)
abbrev cX4_noting : ByteArray := prog_12_method_21_code
def yX4_noting : MethodName := ⟨RX4, "noting", "(LDeltaIndex$Hand;II)I"⟩
def dkwX4_noting_0 : List UInt8 := [43, 28, 181, 0, 217, 43, 29, 181, 0, 220, 16, 7, 172]
abbrev dktX4_noting_0 : List UInt8 := dkwX4_noting_0 ++ []
theorem dksX4_noting_0 : cX4_noting.data.toList.drop 0 = dktX4_noting_0 := by decide +kernel
theorem dX4_noting_0 : decode cX4_noting 0 = .ok (.aload_n 1, 1) := dk_43 (dk_at dksX4_noting_0 0 rfl rfl)
theorem dX4_noting_1 : decode cX4_noting 1 = .ok (.iload_n 2, 1) := dk_28 (dk_at dksX4_noting_0 1 rfl rfl)
theorem dX4_noting_2 : decode cX4_noting 2 = .ok (.putfield 217, 3) := dk_181 0 217 (dk_at dksX4_noting_0 2 rfl rfl)
theorem dX4_noting_5 : decode cX4_noting 5 = .ok (.aload_n 1, 1) := dk_43 (dk_at dksX4_noting_0 5 rfl rfl)
theorem dX4_noting_6 : decode cX4_noting 6 = .ok (.iload_n 3, 1) := dk_29 (dk_at dksX4_noting_0 6 rfl rfl)
theorem dX4_noting_7 : decode cX4_noting 7 = .ok (.putfield 220, 3) := dk_181 0 220 (dk_at dksX4_noting_0 7 rfl rfl)
theorem dX4_noting_10 : decode cX4_noting 10 = .ok (.bipush 7, 2) := dk_16 7 (dk_at dksX4_noting_0 10 rfl rfl)
theorem dX4_noting_12 : decode cX4_noting 12 = .ok (.ireturn, 1) := dk_172 (dk_at dksX4_noting_0 12 rfl rfl)
abbrev cX4_length : ByteArray := prog_12_method_6_code
def yX4_length : MethodName := ⟨RX4, "length", "(I)I"⟩
def dkwX4_length_1 : List UInt8 := [42, 180, 0, 11, 29, 50, 180, 0, 99, 62, 167, 255, 231, 28, 172]
abbrev dktX4_length_1 : List UInt8 := dkwX4_length_1 ++ []
def dkwX4_length_0 : List UInt8 := [3, 61, 42, 180, 0, 17, 27, 46, 62, 42, 180, 0, 11, 29, 50, 180, 0, 96, 153, 0, 19, 132, 2, 1]
abbrev dktX4_length_0 : List UInt8 := dkwX4_length_0 ++ dktX4_length_1
theorem dksX4_length_0 : cX4_length.data.toList.drop 0 = dktX4_length_0 := by decide +kernel
theorem dksX4_length_1 : cX4_length.data.toList.drop 24 = dktX4_length_1 := dk_seg dksX4_length_0 24 rfl rfl
theorem dX4_length_0 : decode cX4_length 0 = .ok (.iconst 0, 1) := dk_3 (dk_at dksX4_length_0 0 rfl rfl)
theorem dX4_length_1 : decode cX4_length 1 = .ok (.istore_n 2, 1) := dk_61 (dk_at dksX4_length_0 1 rfl rfl)
theorem dX4_length_2 : decode cX4_length 2 = .ok (.aload_n 0, 1) := dk_42 (dk_at dksX4_length_0 2 rfl rfl)
theorem dX4_length_3 : decode cX4_length 3 = .ok (.getfield 17, 3) := dk_180 0 17 (dk_at dksX4_length_0 3 rfl rfl)
theorem dX4_length_6 : decode cX4_length 6 = .ok (.iload_n 1, 1) := dk_27 (dk_at dksX4_length_0 6 rfl rfl)
theorem dX4_length_7 : decode cX4_length 7 = .ok (.iaload, 1) := dk_46 (dk_at dksX4_length_0 7 rfl rfl)
theorem dX4_length_8 : decode cX4_length 8 = .ok (.istore_n 3, 1) := dk_62 (dk_at dksX4_length_0 8 rfl rfl)
theorem dX4_length_9 : decode cX4_length 9 = .ok (.aload_n 0, 1) := dk_42 (dk_at dksX4_length_0 9 rfl rfl)
theorem dX4_length_10 : decode cX4_length 10 = .ok (.getfield 11, 3) := dk_180 0 11 (dk_at dksX4_length_0 10 rfl rfl)
theorem dX4_length_13 : decode cX4_length 13 = .ok (.iload_n 3, 1) := dk_29 (dk_at dksX4_length_0 13 rfl rfl)
theorem dX4_length_14 : decode cX4_length 14 = .ok (.aaload, 1) := dk_50 (dk_at dksX4_length_0 14 rfl rfl)
theorem dX4_length_15 : decode cX4_length 15 = .ok (.getfield 96, 3) := dk_180 0 96 (dk_at dksX4_length_0 15 rfl rfl)
theorem dX4_length_18 : decode cX4_length 18 = .ok (.ifCond .eq 19, 3) := dk_153 0 19 (dk_at dksX4_length_0 18 rfl rfl)
theorem dX4_length_21 : decode cX4_length 21 = .ok (.iinc 2 1, 3) := dk_132 2 1 (dk_at dksX4_length_0 21 rfl rfl)
theorem dX4_length_24 : decode cX4_length 24 = .ok (.aload_n 0, 1) := dk_42 (dk_at dksX4_length_1 0 rfl rfl)
theorem dX4_length_25 : decode cX4_length 25 = .ok (.getfield 11, 3) := dk_180 0 11 (dk_at dksX4_length_1 1 rfl rfl)
theorem dX4_length_28 : decode cX4_length 28 = .ok (.iload_n 3, 1) := dk_29 (dk_at dksX4_length_1 4 rfl rfl)
theorem dX4_length_29 : decode cX4_length 29 = .ok (.aaload, 1) := dk_50 (dk_at dksX4_length_1 5 rfl rfl)
theorem dX4_length_30 : decode cX4_length 30 = .ok (.getfield 99, 3) := dk_180 0 99 (dk_at dksX4_length_1 6 rfl rfl)
theorem dX4_length_33 : decode cX4_length 33 = .ok (.istore_n 3, 1) := dk_62 (dk_at dksX4_length_1 9 rfl rfl)
theorem dX4_length_34 : decode cX4_length 34 = .ok (.goto (-25), 3) := dk_167 255 231 (dk_at dksX4_length_1 10 rfl rfl)
theorem dX4_length_37 : decode cX4_length 37 = .ok (.iload_n 2, 1) := dk_28 (dk_at dksX4_length_1 13 rfl rfl)
theorem dX4_length_38 : decode cX4_length 38 = .ok (.ireturn, 1) := dk_172 (dk_at dksX4_length_1 14 rfl rfl)
abbrev cX4_prepends : ByteArray := prog_12_method_23_code
def yX4_prepends : MethodName := ⟨RX4, "prepends", "(LDeltaIndex$Hand;)I"⟩
def dkwX4_prepends_5 : List UInt8 := [164, 0, 7, 7, 167, 0, 7, 43, 182, 0, 243, 172]
abbrev dktX4_prepends_5 : List UInt8 := dkwX4_prepends_5 ++ []
def dkwX4_prepends_4 : List UInt8 := [16, 254, 43, 180, 0, 238, 182, 0, 66, 79, 42, 43, 180, 0, 214, 182, 0, 231, 42, 180, 0, 48]
abbrev dktX4_prepends_4 : List UInt8 := dkwX4_prepends_4 ++ dktX4_prepends_5
def dkwX4_prepends_3 : List UInt8 := [42, 43, 180, 0, 150, 43, 180, 0, 153, 43, 180, 0, 150, 4, 160, 0, 10, 43, 180, 0, 155, 167, 0, 5]
abbrev dktX4_prepends_3 : List UInt8 := dkwX4_prepends_3 ++ dktX4_prepends_4
def dkwX4_prepends_2 : List UInt8 := [155, 0, 7, 4, 167, 0, 4, 3, 181, 0, 158, 43, 4, 181, 0, 161, 42, 180, 0, 17, 43, 180, 0, 214]
abbrev dktX4_prepends_2 : List UInt8 := dkwX4_prepends_2 ++ dktX4_prepends_3
def dkwX4_prepends_1 : List UInt8 := [180, 0, 214, 42, 180, 0, 28, 182, 0, 113, 43, 42, 180, 0, 28, 43, 180, 0, 153, 182, 0, 129]
abbrev dktX4_prepends_1 : List UInt8 := dkwX4_prepends_1 ++ dktX4_prepends_2
def dkwX4_prepends_0 : List UInt8 := [42, 180, 0, 17, 43, 180, 0, 214, 46, 43, 180, 0, 238, 159, 0, 9, 43, 5, 182, 0, 241, 172, 42, 43]
abbrev dktX4_prepends_0 : List UInt8 := dkwX4_prepends_0 ++ dktX4_prepends_1
theorem dksX4_prepends_0 : cX4_prepends.data.toList.drop 0 = dktX4_prepends_0 := by decide +kernel
theorem dksX4_prepends_1 : cX4_prepends.data.toList.drop 24 = dktX4_prepends_1 := dk_seg dksX4_prepends_0 24 rfl rfl
theorem dksX4_prepends_2 : cX4_prepends.data.toList.drop 46 = dktX4_prepends_2 := dk_seg dksX4_prepends_1 22 rfl rfl
theorem dksX4_prepends_3 : cX4_prepends.data.toList.drop 70 = dktX4_prepends_3 := dk_seg dksX4_prepends_2 24 rfl rfl
theorem dksX4_prepends_4 : cX4_prepends.data.toList.drop 94 = dktX4_prepends_4 := dk_seg dksX4_prepends_3 24 rfl rfl
theorem dksX4_prepends_5 : cX4_prepends.data.toList.drop 116 = dktX4_prepends_5 := dk_seg dksX4_prepends_4 22 rfl rfl
theorem dX4_prepends_0 : decode cX4_prepends 0 = .ok (.aload_n 0, 1) := dk_42 (dk_at dksX4_prepends_0 0 rfl rfl)
theorem dX4_prepends_1 : decode cX4_prepends 1 = .ok (.getfield 17, 3) := dk_180 0 17 (dk_at dksX4_prepends_0 1 rfl rfl)
theorem dX4_prepends_4 : decode cX4_prepends 4 = .ok (.aload_n 1, 1) := dk_43 (dk_at dksX4_prepends_0 4 rfl rfl)
theorem dX4_prepends_5 : decode cX4_prepends 5 = .ok (.getfield 214, 3) := dk_180 0 214 (dk_at dksX4_prepends_0 5 rfl rfl)
theorem dX4_prepends_8 : decode cX4_prepends 8 = .ok (.iaload, 1) := dk_46 (dk_at dksX4_prepends_0 8 rfl rfl)
theorem dX4_prepends_9 : decode cX4_prepends 9 = .ok (.aload_n 1, 1) := dk_43 (dk_at dksX4_prepends_0 9 rfl rfl)
theorem dX4_prepends_10 : decode cX4_prepends 10 = .ok (.getfield 238, 3) := dk_180 0 238 (dk_at dksX4_prepends_0 10 rfl rfl)
theorem dX4_prepends_13 : decode cX4_prepends 13 = .ok (.if_icmp .eq 9, 3) := dk_159 0 9 (dk_at dksX4_prepends_0 13 rfl rfl)
theorem dX4_prepends_16 : decode cX4_prepends 16 = .ok (.aload_n 1, 1) := dk_43 (dk_at dksX4_prepends_0 16 rfl rfl)
theorem dX4_prepends_17 : decode cX4_prepends 17 = .ok (.iconst 2, 1) := dk_5 (dk_at dksX4_prepends_0 17 rfl rfl)
theorem dX4_prepends_18 : decode cX4_prepends 18 = .ok (.invokevirtual 241, 3) := dk_182 0 241 (dk_at dksX4_prepends_0 18 rfl rfl)
theorem dX4_prepends_21 : decode cX4_prepends 21 = .ok (.ireturn, 1) := dk_172 (dk_at dksX4_prepends_0 21 rfl rfl)
theorem dX4_prepends_22 : decode cX4_prepends 22 = .ok (.aload_n 0, 1) := dk_42 (dk_at dksX4_prepends_0 22 rfl rfl)
theorem dX4_prepends_23 : decode cX4_prepends 23 = .ok (.aload_n 1, 1) := dk_43 (dk_at dksX4_prepends_0 23 rfl rfl)
theorem dX4_prepends_24 : decode cX4_prepends 24 = .ok (.getfield 214, 3) := dk_180 0 214 (dk_at dksX4_prepends_1 0 rfl rfl)
theorem dX4_prepends_27 : decode cX4_prepends 27 = .ok (.aload_n 0, 1) := dk_42 (dk_at dksX4_prepends_1 3 rfl rfl)
theorem dX4_prepends_28 : decode cX4_prepends 28 = .ok (.getfield 28, 3) := dk_180 0 28 (dk_at dksX4_prepends_1 4 rfl rfl)
theorem dX4_prepends_31 : decode cX4_prepends 31 = .ok (.invokevirtual 113, 3) := dk_182 0 113 (dk_at dksX4_prepends_1 7 rfl rfl)
theorem dX4_prepends_34 : decode cX4_prepends 34 = .ok (.aload_n 1, 1) := dk_43 (dk_at dksX4_prepends_1 10 rfl rfl)
theorem dX4_prepends_35 : decode cX4_prepends 35 = .ok (.aload_n 0, 1) := dk_42 (dk_at dksX4_prepends_1 11 rfl rfl)
theorem dX4_prepends_36 : decode cX4_prepends 36 = .ok (.getfield 28, 3) := dk_180 0 28 (dk_at dksX4_prepends_1 12 rfl rfl)
theorem dX4_prepends_39 : decode cX4_prepends 39 = .ok (.aload_n 1, 1) := dk_43 (dk_at dksX4_prepends_1 15 rfl rfl)
theorem dX4_prepends_40 : decode cX4_prepends 40 = .ok (.getfield 153, 3) := dk_180 0 153 (dk_at dksX4_prepends_1 16 rfl rfl)
theorem dX4_prepends_43 : decode cX4_prepends 43 = .ok (.invokevirtual 129, 3) := dk_182 0 129 (dk_at dksX4_prepends_1 19 rfl rfl)
theorem dX4_prepends_46 : decode cX4_prepends 46 = .ok (.ifCond .lt 7, 3) := dk_155 0 7 (dk_at dksX4_prepends_2 0 rfl rfl)
theorem dX4_prepends_49 : decode cX4_prepends 49 = .ok (.iconst 1, 1) := dk_4 (dk_at dksX4_prepends_2 3 rfl rfl)
theorem dX4_prepends_50 : decode cX4_prepends 50 = .ok (.goto 4, 3) := dk_167 0 4 (dk_at dksX4_prepends_2 4 rfl rfl)
theorem dX4_prepends_53 : decode cX4_prepends 53 = .ok (.iconst 0, 1) := dk_3 (dk_at dksX4_prepends_2 7 rfl rfl)
theorem dX4_prepends_54 : decode cX4_prepends 54 = .ok (.putfield 158, 3) := dk_181 0 158 (dk_at dksX4_prepends_2 8 rfl rfl)
theorem dX4_prepends_57 : decode cX4_prepends 57 = .ok (.aload_n 1, 1) := dk_43 (dk_at dksX4_prepends_2 11 rfl rfl)
theorem dX4_prepends_58 : decode cX4_prepends 58 = .ok (.iconst 1, 1) := dk_4 (dk_at dksX4_prepends_2 12 rfl rfl)
theorem dX4_prepends_59 : decode cX4_prepends 59 = .ok (.putfield 161, 3) := dk_181 0 161 (dk_at dksX4_prepends_2 13 rfl rfl)
theorem dX4_prepends_62 : decode cX4_prepends 62 = .ok (.aload_n 0, 1) := dk_42 (dk_at dksX4_prepends_2 16 rfl rfl)
theorem dX4_prepends_63 : decode cX4_prepends 63 = .ok (.getfield 17, 3) := dk_180 0 17 (dk_at dksX4_prepends_2 17 rfl rfl)
theorem dX4_prepends_66 : decode cX4_prepends 66 = .ok (.aload_n 1, 1) := dk_43 (dk_at dksX4_prepends_2 20 rfl rfl)
theorem dX4_prepends_67 : decode cX4_prepends 67 = .ok (.getfield 214, 3) := dk_180 0 214 (dk_at dksX4_prepends_2 21 rfl rfl)
theorem dX4_prepends_70 : decode cX4_prepends 70 = .ok (.aload_n 0, 1) := dk_42 (dk_at dksX4_prepends_3 0 rfl rfl)
theorem dX4_prepends_71 : decode cX4_prepends 71 = .ok (.aload_n 1, 1) := dk_43 (dk_at dksX4_prepends_3 1 rfl rfl)
theorem dX4_prepends_72 : decode cX4_prepends 72 = .ok (.getfield 150, 3) := dk_180 0 150 (dk_at dksX4_prepends_3 2 rfl rfl)
theorem dX4_prepends_75 : decode cX4_prepends 75 = .ok (.aload_n 1, 1) := dk_43 (dk_at dksX4_prepends_3 5 rfl rfl)
theorem dX4_prepends_76 : decode cX4_prepends 76 = .ok (.getfield 153, 3) := dk_180 0 153 (dk_at dksX4_prepends_3 6 rfl rfl)
theorem dX4_prepends_79 : decode cX4_prepends 79 = .ok (.aload_n 1, 1) := dk_43 (dk_at dksX4_prepends_3 9 rfl rfl)
theorem dX4_prepends_80 : decode cX4_prepends 80 = .ok (.getfield 150, 3) := dk_180 0 150 (dk_at dksX4_prepends_3 10 rfl rfl)
theorem dX4_prepends_83 : decode cX4_prepends 83 = .ok (.iconst 1, 1) := dk_4 (dk_at dksX4_prepends_3 13 rfl rfl)
theorem dX4_prepends_84 : decode cX4_prepends 84 = .ok (.if_icmp .ne 10, 3) := dk_160 0 10 (dk_at dksX4_prepends_3 14 rfl rfl)
theorem dX4_prepends_87 : decode cX4_prepends 87 = .ok (.aload_n 1, 1) := dk_43 (dk_at dksX4_prepends_3 17 rfl rfl)
theorem dX4_prepends_88 : decode cX4_prepends 88 = .ok (.getfield 155, 3) := dk_180 0 155 (dk_at dksX4_prepends_3 18 rfl rfl)
theorem dX4_prepends_91 : decode cX4_prepends 91 = .ok (.goto 5, 3) := dk_167 0 5 (dk_at dksX4_prepends_3 21 rfl rfl)
theorem dX4_prepends_94 : decode cX4_prepends 94 = .ok (.bipush (-2), 2) := dk_16 254 (dk_at dksX4_prepends_4 0 rfl rfl)
theorem dX4_prepends_96 : decode cX4_prepends 96 = .ok (.aload_n 1, 1) := dk_43 (dk_at dksX4_prepends_4 2 rfl rfl)
theorem dX4_prepends_97 : decode cX4_prepends 97 = .ok (.getfield 238, 3) := dk_180 0 238 (dk_at dksX4_prepends_4 3 rfl rfl)
theorem dX4_prepends_100 : decode cX4_prepends 100 = .ok (.invokevirtual 66, 3) := dk_182 0 66 (dk_at dksX4_prepends_4 6 rfl rfl)
theorem dX4_prepends_103 : decode cX4_prepends 103 = .ok (.iastore, 1) := dk_79 (dk_at dksX4_prepends_4 9 rfl rfl)
theorem dX4_prepends_104 : decode cX4_prepends 104 = .ok (.aload_n 0, 1) := dk_42 (dk_at dksX4_prepends_4 10 rfl rfl)
theorem dX4_prepends_105 : decode cX4_prepends 105 = .ok (.aload_n 1, 1) := dk_43 (dk_at dksX4_prepends_4 11 rfl rfl)
theorem dX4_prepends_106 : decode cX4_prepends 106 = .ok (.getfield 214, 3) := dk_180 0 214 (dk_at dksX4_prepends_4 12 rfl rfl)
theorem dX4_prepends_109 : decode cX4_prepends 109 = .ok (.invokevirtual 231, 3) := dk_182 0 231 (dk_at dksX4_prepends_4 15 rfl rfl)
theorem dX4_prepends_112 : decode cX4_prepends 112 = .ok (.aload_n 0, 1) := dk_42 (dk_at dksX4_prepends_4 18 rfl rfl)
theorem dX4_prepends_113 : decode cX4_prepends 113 = .ok (.getfield 48, 3) := dk_180 0 48 (dk_at dksX4_prepends_4 19 rfl rfl)
theorem dX4_prepends_116 : decode cX4_prepends 116 = .ok (.if_icmp .le 7, 3) := dk_164 0 7 (dk_at dksX4_prepends_5 0 rfl rfl)
theorem dX4_prepends_119 : decode cX4_prepends 119 = .ok (.iconst 4, 1) := dk_7 (dk_at dksX4_prepends_5 3 rfl rfl)
theorem dX4_prepends_120 : decode cX4_prepends 120 = .ok (.goto 7, 3) := dk_167 0 7 (dk_at dksX4_prepends_5 4 rfl rfl)
theorem dX4_prepends_123 : decode cX4_prepends 123 = .ok (.aload_n 1, 1) := dk_43 (dk_at dksX4_prepends_5 7 rfl rfl)
theorem dX4_prepends_124 : decode cX4_prepends 124 = .ok (.invokevirtual 243, 3) := dk_182 0 243 (dk_at dksX4_prepends_5 8 rfl rfl)
theorem dX4_prepends_127 : decode cX4_prepends 127 = .ok (.ireturn, 1) := dk_172 (dk_at dksX4_prepends_5 11 rfl rfl)
abbrev cX4_gathers : ByteArray := prog_12_method_24_code
def yX4_gathers : MethodName := ⟨RX4, "gathers", "(LDeltaIndex$Hand;)I"⟩
def dkwX4_gathers_1 : List UInt8 := [42, 180, 0, 17, 43, 180, 0, 214, 46, 181, 0, 238, 8, 172]
abbrev dktX4_gathers_1 : List UInt8 := dkwX4_gathers_1 ++ []
def dkwX4_gathers_0 : List UInt8 := [43, 180, 0, 214, 158, 0, 19, 42, 43, 180, 0, 214, 182, 0, 139, 153, 0, 8, 43, 182, 0, 246, 172, 43]
abbrev dktX4_gathers_0 : List UInt8 := dkwX4_gathers_0 ++ dktX4_gathers_1
theorem dksX4_gathers_0 : cX4_gathers.data.toList.drop 0 = dktX4_gathers_0 := by decide +kernel
theorem dksX4_gathers_1 : cX4_gathers.data.toList.drop 24 = dktX4_gathers_1 := dk_seg dksX4_gathers_0 24 rfl rfl
theorem dX4_gathers_0 : decode cX4_gathers 0 = .ok (.aload_n 1, 1) := dk_43 (dk_at dksX4_gathers_0 0 rfl rfl)
theorem dX4_gathers_1 : decode cX4_gathers 1 = .ok (.getfield 214, 3) := dk_180 0 214 (dk_at dksX4_gathers_0 1 rfl rfl)
theorem dX4_gathers_4 : decode cX4_gathers 4 = .ok (.ifCond .le 19, 3) := dk_158 0 19 (dk_at dksX4_gathers_0 4 rfl rfl)
theorem dX4_gathers_7 : decode cX4_gathers 7 = .ok (.aload_n 0, 1) := dk_42 (dk_at dksX4_gathers_0 7 rfl rfl)
theorem dX4_gathers_8 : decode cX4_gathers 8 = .ok (.aload_n 1, 1) := dk_43 (dk_at dksX4_gathers_0 8 rfl rfl)
theorem dX4_gathers_9 : decode cX4_gathers 9 = .ok (.getfield 214, 3) := dk_180 0 214 (dk_at dksX4_gathers_0 9 rfl rfl)
theorem dX4_gathers_12 : decode cX4_gathers 12 = .ok (.invokevirtual 139, 3) := dk_182 0 139 (dk_at dksX4_gathers_0 12 rfl rfl)
theorem dX4_gathers_15 : decode cX4_gathers 15 = .ok (.ifCond .eq 8, 3) := dk_153 0 8 (dk_at dksX4_gathers_0 15 rfl rfl)
theorem dX4_gathers_18 : decode cX4_gathers 18 = .ok (.aload_n 1, 1) := dk_43 (dk_at dksX4_gathers_0 18 rfl rfl)
theorem dX4_gathers_19 : decode cX4_gathers 19 = .ok (.invokevirtual 246, 3) := dk_182 0 246 (dk_at dksX4_gathers_0 19 rfl rfl)
theorem dX4_gathers_22 : decode cX4_gathers 22 = .ok (.ireturn, 1) := dk_172 (dk_at dksX4_gathers_0 22 rfl rfl)
theorem dX4_gathers_23 : decode cX4_gathers 23 = .ok (.aload_n 1, 1) := dk_43 (dk_at dksX4_gathers_0 23 rfl rfl)
theorem dX4_gathers_24 : decode cX4_gathers 24 = .ok (.aload_n 0, 1) := dk_42 (dk_at dksX4_gathers_1 0 rfl rfl)
theorem dX4_gathers_25 : decode cX4_gathers 25 = .ok (.getfield 17, 3) := dk_180 0 17 (dk_at dksX4_gathers_1 1 rfl rfl)
theorem dX4_gathers_28 : decode cX4_gathers 28 = .ok (.aload_n 1, 1) := dk_43 (dk_at dksX4_gathers_1 4 rfl rfl)
theorem dX4_gathers_29 : decode cX4_gathers 29 = .ok (.getfield 214, 3) := dk_180 0 214 (dk_at dksX4_gathers_1 5 rfl rfl)
theorem dX4_gathers_32 : decode cX4_gathers 32 = .ok (.iaload, 1) := dk_46 (dk_at dksX4_gathers_1 8 rfl rfl)
theorem dX4_gathers_33 : decode cX4_gathers 33 = .ok (.putfield 238, 3) := dk_181 0 238 (dk_at dksX4_gathers_1 9 rfl rfl)
theorem dX4_gathers_36 : decode cX4_gathers 36 = .ok (.iconst 5, 1) := dk_8 (dk_at dksX4_gathers_1 12 rfl rfl)
theorem dX4_gathers_37 : decode cX4_gathers 37 = .ok (.ireturn, 1) := dk_172 (dk_at dksX4_gathers_1 13 rfl rfl)
abbrev cX4_swaps : ByteArray := prog_12_method_26_code
def yX4_swaps : MethodName := ⟨RX4, "swaps", "(LDeltaIndex$Hand;)I"⟩
def dkwX4_swaps_6 : List UInt8 := [182, 0, 246, 172]
abbrev dktX4_swaps_6 : List UInt8 := dkwX4_swaps_6 ++ []
def dkwX4_swaps_5 : List UInt8 := [167, 0, 26, 42, 180, 0, 28, 180, 0, 120, 42, 180, 0, 56, 162, 0, 8, 16, 9, 167, 0, 7, 43]
abbrev dktX4_swaps_5 : List UInt8 := dkwX4_swaps_5 ++ dktX4_swaps_6
def dkwX4_swaps_4 : List UInt8 := [154, 0, 8, 43, 182, 0, 246, 172, 42, 180, 0, 28, 180, 0, 120, 42, 180, 0, 52, 164, 0, 8, 16, 6]
abbrev dktX4_swaps_4 : List UInt8 := dkwX4_swaps_4 ++ dktX4_swaps_5
def dkwX4_swaps_3 : List UInt8 := [180, 0, 28, 182, 0, 106, 42, 180, 0, 17, 43, 180, 0, 214, 43, 180, 1, 3, 79, 43, 180, 0, 214]
abbrev dktX4_swaps_3 : List UInt8 := dkwX4_swaps_3 ++ dktX4_swaps_4
def dkwX4_swaps_2 : List UInt8 := [16, 254, 16, 254, 16, 254, 182, 0, 66, 181, 1, 3, 42, 180, 0, 11, 43, 180, 1, 3, 50, 42]
abbrev dktX4_swaps_2 : List UInt8 := dkwX4_swaps_2 ++ dktX4_swaps_3
def dkwX4_swaps_1 : List UInt8 := [172, 42, 43, 180, 0, 214, 42, 180, 0, 28, 182, 0, 113, 42, 43, 180, 0, 238, 182, 0, 255, 43, 42, 3]
abbrev dktX4_swaps_1 : List UInt8 := dkwX4_swaps_1 ++ dktX4_swaps_2
def dkwX4_swaps_0 : List UInt8 := [42, 180, 0, 17, 43, 180, 0, 214, 46, 43, 180, 0, 238, 159, 0, 12, 43, 43, 182, 0, 246, 182, 0, 241]
abbrev dktX4_swaps_0 : List UInt8 := dkwX4_swaps_0 ++ dktX4_swaps_1
theorem dksX4_swaps_0 : cX4_swaps.data.toList.drop 0 = dktX4_swaps_0 := by decide +kernel
theorem dksX4_swaps_1 : cX4_swaps.data.toList.drop 24 = dktX4_swaps_1 := dk_seg dksX4_swaps_0 24 rfl rfl
theorem dksX4_swaps_2 : cX4_swaps.data.toList.drop 48 = dktX4_swaps_2 := dk_seg dksX4_swaps_1 24 rfl rfl
theorem dksX4_swaps_3 : cX4_swaps.data.toList.drop 70 = dktX4_swaps_3 := dk_seg dksX4_swaps_2 22 rfl rfl
theorem dksX4_swaps_4 : cX4_swaps.data.toList.drop 93 = dktX4_swaps_4 := dk_seg dksX4_swaps_3 23 rfl rfl
theorem dksX4_swaps_5 : cX4_swaps.data.toList.drop 117 = dktX4_swaps_5 := dk_seg dksX4_swaps_4 24 rfl rfl
theorem dksX4_swaps_6 : cX4_swaps.data.toList.drop 140 = dktX4_swaps_6 := dk_seg dksX4_swaps_5 23 rfl rfl
theorem dX4_swaps_0 : decode cX4_swaps 0 = .ok (.aload_n 0, 1) := dk_42 (dk_at dksX4_swaps_0 0 rfl rfl)
theorem dX4_swaps_1 : decode cX4_swaps 1 = .ok (.getfield 17, 3) := dk_180 0 17 (dk_at dksX4_swaps_0 1 rfl rfl)
theorem dX4_swaps_4 : decode cX4_swaps 4 = .ok (.aload_n 1, 1) := dk_43 (dk_at dksX4_swaps_0 4 rfl rfl)
theorem dX4_swaps_5 : decode cX4_swaps 5 = .ok (.getfield 214, 3) := dk_180 0 214 (dk_at dksX4_swaps_0 5 rfl rfl)
theorem dX4_swaps_8 : decode cX4_swaps 8 = .ok (.iaload, 1) := dk_46 (dk_at dksX4_swaps_0 8 rfl rfl)
theorem dX4_swaps_9 : decode cX4_swaps 9 = .ok (.aload_n 1, 1) := dk_43 (dk_at dksX4_swaps_0 9 rfl rfl)
theorem dX4_swaps_10 : decode cX4_swaps 10 = .ok (.getfield 238, 3) := dk_180 0 238 (dk_at dksX4_swaps_0 10 rfl rfl)
theorem dX4_swaps_13 : decode cX4_swaps 13 = .ok (.if_icmp .eq 12, 3) := dk_159 0 12 (dk_at dksX4_swaps_0 13 rfl rfl)
theorem dX4_swaps_16 : decode cX4_swaps 16 = .ok (.aload_n 1, 1) := dk_43 (dk_at dksX4_swaps_0 16 rfl rfl)
theorem dX4_swaps_17 : decode cX4_swaps 17 = .ok (.aload_n 1, 1) := dk_43 (dk_at dksX4_swaps_0 17 rfl rfl)
theorem dX4_swaps_18 : decode cX4_swaps 18 = .ok (.invokevirtual 246, 3) := dk_182 0 246 (dk_at dksX4_swaps_0 18 rfl rfl)
theorem dX4_swaps_21 : decode cX4_swaps 21 = .ok (.invokevirtual 241, 3) := dk_182 0 241 (dk_at dksX4_swaps_0 21 rfl rfl)
theorem dX4_swaps_24 : decode cX4_swaps 24 = .ok (.ireturn, 1) := dk_172 (dk_at dksX4_swaps_1 0 rfl rfl)
theorem dX4_swaps_25 : decode cX4_swaps 25 = .ok (.aload_n 0, 1) := dk_42 (dk_at dksX4_swaps_1 1 rfl rfl)
theorem dX4_swaps_26 : decode cX4_swaps 26 = .ok (.aload_n 1, 1) := dk_43 (dk_at dksX4_swaps_1 2 rfl rfl)
theorem dX4_swaps_27 : decode cX4_swaps 27 = .ok (.getfield 214, 3) := dk_180 0 214 (dk_at dksX4_swaps_1 3 rfl rfl)
theorem dX4_swaps_30 : decode cX4_swaps 30 = .ok (.aload_n 0, 1) := dk_42 (dk_at dksX4_swaps_1 6 rfl rfl)
theorem dX4_swaps_31 : decode cX4_swaps 31 = .ok (.getfield 28, 3) := dk_180 0 28 (dk_at dksX4_swaps_1 7 rfl rfl)
theorem dX4_swaps_34 : decode cX4_swaps 34 = .ok (.invokevirtual 113, 3) := dk_182 0 113 (dk_at dksX4_swaps_1 10 rfl rfl)
theorem dX4_swaps_37 : decode cX4_swaps 37 = .ok (.aload_n 0, 1) := dk_42 (dk_at dksX4_swaps_1 13 rfl rfl)
theorem dX4_swaps_38 : decode cX4_swaps 38 = .ok (.aload_n 1, 1) := dk_43 (dk_at dksX4_swaps_1 14 rfl rfl)
theorem dX4_swaps_39 : decode cX4_swaps 39 = .ok (.getfield 238, 3) := dk_180 0 238 (dk_at dksX4_swaps_1 15 rfl rfl)
theorem dX4_swaps_42 : decode cX4_swaps 42 = .ok (.invokevirtual 255, 3) := dk_182 0 255 (dk_at dksX4_swaps_1 18 rfl rfl)
theorem dX4_swaps_45 : decode cX4_swaps 45 = .ok (.aload_n 1, 1) := dk_43 (dk_at dksX4_swaps_1 21 rfl rfl)
theorem dX4_swaps_46 : decode cX4_swaps 46 = .ok (.aload_n 0, 1) := dk_42 (dk_at dksX4_swaps_1 22 rfl rfl)
theorem dX4_swaps_47 : decode cX4_swaps 47 = .ok (.iconst 0, 1) := dk_3 (dk_at dksX4_swaps_1 23 rfl rfl)
theorem dX4_swaps_48 : decode cX4_swaps 48 = .ok (.bipush (-2), 2) := dk_16 254 (dk_at dksX4_swaps_2 0 rfl rfl)
theorem dX4_swaps_50 : decode cX4_swaps 50 = .ok (.bipush (-2), 2) := dk_16 254 (dk_at dksX4_swaps_2 2 rfl rfl)
theorem dX4_swaps_52 : decode cX4_swaps 52 = .ok (.bipush (-2), 2) := dk_16 254 (dk_at dksX4_swaps_2 4 rfl rfl)
theorem dX4_swaps_54 : decode cX4_swaps 54 = .ok (.invokevirtual 66, 3) := dk_182 0 66 (dk_at dksX4_swaps_2 6 rfl rfl)
theorem dX4_swaps_57 : decode cX4_swaps 57 = .ok (.putfield 259, 3) := dk_181 1 3 (dk_at dksX4_swaps_2 9 rfl rfl)
theorem dX4_swaps_60 : decode cX4_swaps 60 = .ok (.aload_n 0, 1) := dk_42 (dk_at dksX4_swaps_2 12 rfl rfl)
theorem dX4_swaps_61 : decode cX4_swaps 61 = .ok (.getfield 11, 3) := dk_180 0 11 (dk_at dksX4_swaps_2 13 rfl rfl)
theorem dX4_swaps_64 : decode cX4_swaps 64 = .ok (.aload_n 1, 1) := dk_43 (dk_at dksX4_swaps_2 16 rfl rfl)
theorem dX4_swaps_65 : decode cX4_swaps 65 = .ok (.getfield 259, 3) := dk_180 1 3 (dk_at dksX4_swaps_2 17 rfl rfl)
theorem dX4_swaps_68 : decode cX4_swaps 68 = .ok (.aaload, 1) := dk_50 (dk_at dksX4_swaps_2 20 rfl rfl)
theorem dX4_swaps_69 : decode cX4_swaps 69 = .ok (.aload_n 0, 1) := dk_42 (dk_at dksX4_swaps_2 21 rfl rfl)
theorem dX4_swaps_70 : decode cX4_swaps 70 = .ok (.getfield 28, 3) := dk_180 0 28 (dk_at dksX4_swaps_3 0 rfl rfl)
theorem dX4_swaps_73 : decode cX4_swaps 73 = .ok (.invokevirtual 106, 3) := dk_182 0 106 (dk_at dksX4_swaps_3 3 rfl rfl)
theorem dX4_swaps_76 : decode cX4_swaps 76 = .ok (.aload_n 0, 1) := dk_42 (dk_at dksX4_swaps_3 6 rfl rfl)
theorem dX4_swaps_77 : decode cX4_swaps 77 = .ok (.getfield 17, 3) := dk_180 0 17 (dk_at dksX4_swaps_3 7 rfl rfl)
theorem dX4_swaps_80 : decode cX4_swaps 80 = .ok (.aload_n 1, 1) := dk_43 (dk_at dksX4_swaps_3 10 rfl rfl)
theorem dX4_swaps_81 : decode cX4_swaps 81 = .ok (.getfield 214, 3) := dk_180 0 214 (dk_at dksX4_swaps_3 11 rfl rfl)
theorem dX4_swaps_84 : decode cX4_swaps 84 = .ok (.aload_n 1, 1) := dk_43 (dk_at dksX4_swaps_3 14 rfl rfl)
theorem dX4_swaps_85 : decode cX4_swaps 85 = .ok (.getfield 259, 3) := dk_180 1 3 (dk_at dksX4_swaps_3 15 rfl rfl)
theorem dX4_swaps_88 : decode cX4_swaps 88 = .ok (.iastore, 1) := dk_79 (dk_at dksX4_swaps_3 18 rfl rfl)
theorem dX4_swaps_89 : decode cX4_swaps 89 = .ok (.aload_n 1, 1) := dk_43 (dk_at dksX4_swaps_3 19 rfl rfl)
theorem dX4_swaps_90 : decode cX4_swaps 90 = .ok (.getfield 214, 3) := dk_180 0 214 (dk_at dksX4_swaps_3 20 rfl rfl)
theorem dX4_swaps_93 : decode cX4_swaps 93 = .ok (.ifCond .ne 8, 3) := dk_154 0 8 (dk_at dksX4_swaps_4 0 rfl rfl)
theorem dX4_swaps_96 : decode cX4_swaps 96 = .ok (.aload_n 1, 1) := dk_43 (dk_at dksX4_swaps_4 3 rfl rfl)
theorem dX4_swaps_97 : decode cX4_swaps 97 = .ok (.invokevirtual 246, 3) := dk_182 0 246 (dk_at dksX4_swaps_4 4 rfl rfl)
theorem dX4_swaps_100 : decode cX4_swaps 100 = .ok (.ireturn, 1) := dk_172 (dk_at dksX4_swaps_4 7 rfl rfl)
theorem dX4_swaps_101 : decode cX4_swaps 101 = .ok (.aload_n 0, 1) := dk_42 (dk_at dksX4_swaps_4 8 rfl rfl)
theorem dX4_swaps_102 : decode cX4_swaps 102 = .ok (.getfield 28, 3) := dk_180 0 28 (dk_at dksX4_swaps_4 9 rfl rfl)
theorem dX4_swaps_105 : decode cX4_swaps 105 = .ok (.getfield 120, 3) := dk_180 0 120 (dk_at dksX4_swaps_4 12 rfl rfl)
theorem dX4_swaps_108 : decode cX4_swaps 108 = .ok (.aload_n 0, 1) := dk_42 (dk_at dksX4_swaps_4 15 rfl rfl)
theorem dX4_swaps_109 : decode cX4_swaps 109 = .ok (.getfield 52, 3) := dk_180 0 52 (dk_at dksX4_swaps_4 16 rfl rfl)
theorem dX4_swaps_112 : decode cX4_swaps 112 = .ok (.if_icmp .le 8, 3) := dk_164 0 8 (dk_at dksX4_swaps_4 19 rfl rfl)
theorem dX4_swaps_115 : decode cX4_swaps 115 = .ok (.bipush 6, 2) := dk_16 6 (dk_at dksX4_swaps_4 22 rfl rfl)
theorem dX4_swaps_117 : decode cX4_swaps 117 = .ok (.goto 26, 3) := dk_167 0 26 (dk_at dksX4_swaps_5 0 rfl rfl)
theorem dX4_swaps_120 : decode cX4_swaps 120 = .ok (.aload_n 0, 1) := dk_42 (dk_at dksX4_swaps_5 3 rfl rfl)
theorem dX4_swaps_121 : decode cX4_swaps 121 = .ok (.getfield 28, 3) := dk_180 0 28 (dk_at dksX4_swaps_5 4 rfl rfl)
theorem dX4_swaps_124 : decode cX4_swaps 124 = .ok (.getfield 120, 3) := dk_180 0 120 (dk_at dksX4_swaps_5 7 rfl rfl)
theorem dX4_swaps_127 : decode cX4_swaps 127 = .ok (.aload_n 0, 1) := dk_42 (dk_at dksX4_swaps_5 10 rfl rfl)
theorem dX4_swaps_128 : decode cX4_swaps 128 = .ok (.getfield 56, 3) := dk_180 0 56 (dk_at dksX4_swaps_5 11 rfl rfl)
theorem dX4_swaps_131 : decode cX4_swaps 131 = .ok (.if_icmp .ge 8, 3) := dk_162 0 8 (dk_at dksX4_swaps_5 14 rfl rfl)
theorem dX4_swaps_134 : decode cX4_swaps 134 = .ok (.bipush 9, 2) := dk_16 9 (dk_at dksX4_swaps_5 17 rfl rfl)
theorem dX4_swaps_136 : decode cX4_swaps 136 = .ok (.goto 7, 3) := dk_167 0 7 (dk_at dksX4_swaps_5 19 rfl rfl)
theorem dX4_swaps_139 : decode cX4_swaps 139 = .ok (.aload_n 1, 1) := dk_43 (dk_at dksX4_swaps_5 22 rfl rfl)
theorem dX4_swaps_140 : decode cX4_swaps 140 = .ok (.invokevirtual 246, 3) := dk_182 0 246 (dk_at dksX4_swaps_6 0 rfl rfl)
theorem dX4_swaps_143 : decode cX4_swaps 143 = .ok (.ireturn, 1) := dk_172 (dk_at dksX4_swaps_6 3 rfl rfl)
abbrev cX4_retires : ByteArray := prog_12_method_25_code
def yX4_retires : MethodName := ⟨RX4, "retires", "(I)V"⟩
def dkwX4_retires_2 : List UInt8 := [180, 0, 60, 181, 0, 249, 42, 180, 0, 11, 28, 50, 180, 0, 99, 61, 167, 255, 195, 177]
abbrev dktX4_retires_2 : List UInt8 := dkwX4_retires_2 ++ []
def dkwX4_retires_1 : List UInt8 := [50, 180, 0, 96, 8, 160, 0, 24, 42, 180, 0, 11, 42, 180, 0, 11, 28, 50, 180, 0, 252, 50, 42]
abbrev dktX4_retires_1 : List UInt8 := dkwX4_retires_1 ++ dktX4_retires_2
def dkwX4_retires_0 : List UInt8 := [27, 61, 28, 155, 0, 63, 42, 180, 0, 11, 28, 50, 42, 180, 0, 60, 181, 0, 249, 42, 180, 0, 11, 28]
abbrev dktX4_retires_0 : List UInt8 := dkwX4_retires_0 ++ dktX4_retires_1
theorem dksX4_retires_0 : cX4_retires.data.toList.drop 0 = dktX4_retires_0 := by decide +kernel
theorem dksX4_retires_1 : cX4_retires.data.toList.drop 24 = dktX4_retires_1 := dk_seg dksX4_retires_0 24 rfl rfl
theorem dksX4_retires_2 : cX4_retires.data.toList.drop 47 = dktX4_retires_2 := dk_seg dksX4_retires_1 23 rfl rfl
theorem dX4_retires_0 : decode cX4_retires 0 = .ok (.iload_n 1, 1) := dk_27 (dk_at dksX4_retires_0 0 rfl rfl)
theorem dX4_retires_1 : decode cX4_retires 1 = .ok (.istore_n 2, 1) := dk_61 (dk_at dksX4_retires_0 1 rfl rfl)
theorem dX4_retires_2 : decode cX4_retires 2 = .ok (.iload_n 2, 1) := dk_28 (dk_at dksX4_retires_0 2 rfl rfl)
theorem dX4_retires_3 : decode cX4_retires 3 = .ok (.ifCond .lt 63, 3) := dk_155 0 63 (dk_at dksX4_retires_0 3 rfl rfl)
theorem dX4_retires_6 : decode cX4_retires 6 = .ok (.aload_n 0, 1) := dk_42 (dk_at dksX4_retires_0 6 rfl rfl)
theorem dX4_retires_7 : decode cX4_retires 7 = .ok (.getfield 11, 3) := dk_180 0 11 (dk_at dksX4_retires_0 7 rfl rfl)
theorem dX4_retires_10 : decode cX4_retires 10 = .ok (.iload_n 2, 1) := dk_28 (dk_at dksX4_retires_0 10 rfl rfl)
theorem dX4_retires_11 : decode cX4_retires 11 = .ok (.aaload, 1) := dk_50 (dk_at dksX4_retires_0 11 rfl rfl)
theorem dX4_retires_12 : decode cX4_retires 12 = .ok (.aload_n 0, 1) := dk_42 (dk_at dksX4_retires_0 12 rfl rfl)
theorem dX4_retires_13 : decode cX4_retires 13 = .ok (.getfield 60, 3) := dk_180 0 60 (dk_at dksX4_retires_0 13 rfl rfl)
theorem dX4_retires_16 : decode cX4_retires 16 = .ok (.putfield 249, 3) := dk_181 0 249 (dk_at dksX4_retires_0 16 rfl rfl)
theorem dX4_retires_19 : decode cX4_retires 19 = .ok (.aload_n 0, 1) := dk_42 (dk_at dksX4_retires_0 19 rfl rfl)
theorem dX4_retires_20 : decode cX4_retires 20 = .ok (.getfield 11, 3) := dk_180 0 11 (dk_at dksX4_retires_0 20 rfl rfl)
theorem dX4_retires_23 : decode cX4_retires 23 = .ok (.iload_n 2, 1) := dk_28 (dk_at dksX4_retires_0 23 rfl rfl)
theorem dX4_retires_24 : decode cX4_retires 24 = .ok (.aaload, 1) := dk_50 (dk_at dksX4_retires_1 0 rfl rfl)
theorem dX4_retires_25 : decode cX4_retires 25 = .ok (.getfield 96, 3) := dk_180 0 96 (dk_at dksX4_retires_1 1 rfl rfl)
theorem dX4_retires_28 : decode cX4_retires 28 = .ok (.iconst 5, 1) := dk_8 (dk_at dksX4_retires_1 4 rfl rfl)
theorem dX4_retires_29 : decode cX4_retires 29 = .ok (.if_icmp .ne 24, 3) := dk_160 0 24 (dk_at dksX4_retires_1 5 rfl rfl)
theorem dX4_retires_32 : decode cX4_retires 32 = .ok (.aload_n 0, 1) := dk_42 (dk_at dksX4_retires_1 8 rfl rfl)
theorem dX4_retires_33 : decode cX4_retires 33 = .ok (.getfield 11, 3) := dk_180 0 11 (dk_at dksX4_retires_1 9 rfl rfl)
theorem dX4_retires_36 : decode cX4_retires 36 = .ok (.aload_n 0, 1) := dk_42 (dk_at dksX4_retires_1 12 rfl rfl)
theorem dX4_retires_37 : decode cX4_retires 37 = .ok (.getfield 11, 3) := dk_180 0 11 (dk_at dksX4_retires_1 13 rfl rfl)
theorem dX4_retires_40 : decode cX4_retires 40 = .ok (.iload_n 2, 1) := dk_28 (dk_at dksX4_retires_1 16 rfl rfl)
theorem dX4_retires_41 : decode cX4_retires 41 = .ok (.aaload, 1) := dk_50 (dk_at dksX4_retires_1 17 rfl rfl)
theorem dX4_retires_42 : decode cX4_retires 42 = .ok (.getfield 252, 3) := dk_180 0 252 (dk_at dksX4_retires_1 18 rfl rfl)
theorem dX4_retires_45 : decode cX4_retires 45 = .ok (.aaload, 1) := dk_50 (dk_at dksX4_retires_1 21 rfl rfl)
theorem dX4_retires_46 : decode cX4_retires 46 = .ok (.aload_n 0, 1) := dk_42 (dk_at dksX4_retires_1 22 rfl rfl)
theorem dX4_retires_47 : decode cX4_retires 47 = .ok (.getfield 60, 3) := dk_180 0 60 (dk_at dksX4_retires_2 0 rfl rfl)
theorem dX4_retires_50 : decode cX4_retires 50 = .ok (.putfield 249, 3) := dk_181 0 249 (dk_at dksX4_retires_2 3 rfl rfl)
theorem dX4_retires_53 : decode cX4_retires 53 = .ok (.aload_n 0, 1) := dk_42 (dk_at dksX4_retires_2 6 rfl rfl)
theorem dX4_retires_54 : decode cX4_retires 54 = .ok (.getfield 11, 3) := dk_180 0 11 (dk_at dksX4_retires_2 7 rfl rfl)
theorem dX4_retires_57 : decode cX4_retires 57 = .ok (.iload_n 2, 1) := dk_28 (dk_at dksX4_retires_2 10 rfl rfl)
theorem dX4_retires_58 : decode cX4_retires 58 = .ok (.aaload, 1) := dk_50 (dk_at dksX4_retires_2 11 rfl rfl)
theorem dX4_retires_59 : decode cX4_retires 59 = .ok (.getfield 99, 3) := dk_180 0 99 (dk_at dksX4_retires_2 12 rfl rfl)
theorem dX4_retires_62 : decode cX4_retires 62 = .ok (.istore_n 2, 1) := dk_61 (dk_at dksX4_retires_2 15 rfl rfl)
theorem dX4_retires_63 : decode cX4_retires 63 = .ok (.goto (-61), 3) := dk_167 255 195 (dk_at dksX4_retires_2 16 rfl rfl)
theorem dX4_retires_66 : decode cX4_retires 66 = .ok (.return_, 1) := dk_177 (dk_at dksX4_retires_2 19 rfl rfl)
abbrev cX4_splits : ByteArray := prog_12_method_27_code
def yX4_splits : MethodName := ⟨RX4, "splits", "(LDeltaIndex$Hand;)I"⟩
def dkwX4_splits_8 : List UInt8 := [100, 182, 0, 224, 172]
abbrev dktX4_splits_8 : List UInt8 := dkwX4_splits_8 ++ []
def dkwX4_splits_7 : List UInt8 := [4, 100, 43, 180, 1, 3, 182, 0, 66, 79, 42, 43, 25, 5, 180, 0, 126, 3, 46, 42, 180, 0, 77, 4]
abbrev dktX4_splits_7 : List UInt8 := dkwX4_splits_7 ++ dktX4_splits_8
def dkwX4_splits_6 : List UInt8 := [181, 0, 77, 42, 180, 0, 17, 43, 180, 0, 214, 42, 6, 25, 5, 180, 0, 126, 3, 46, 42, 180, 0, 77]
abbrev dktX4_splits_6 : List UInt8 := dkwX4_splits_6 ++ dktX4_splits_7
def dkwX4_splits_5 : List UInt8 := [180, 0, 133, 181, 0, 133, 42, 180, 0, 17, 42, 180, 0, 77, 21, 4, 79, 42, 89, 180, 0, 77, 4, 96]
abbrev dktX4_splits_5 : List UInt8 := dkwX4_splits_5 ++ dktX4_splits_6
def dkwX4_splits_4 : List UInt8 := [21, 6, 46, 182, 0, 70, 132, 6, 1, 167, 255, 225, 25, 5, 44, 180, 0, 74, 181, 0, 74, 25, 5, 44]
abbrev dktX4_splits_4 : List UInt8 := dkwX4_splits_4 ++ dktX4_splits_5
def dkwX4_splits_3 : List UInt8 := [54, 6, 21, 6, 44, 180, 0, 120, 162, 0, 28, 25, 5, 44, 180, 0, 126, 21, 6, 46, 44, 180, 0, 123]
abbrev dktX4_splits_3 : List UInt8 := dkwX4_splits_3 ++ dktX4_splits_4
def dkwX4_splits_2 : List UInt8 := [62, 42, 3, 16, 254, 16, 254, 16, 254, 182, 0, 66, 54, 4, 42, 180, 0, 11, 21, 4, 50, 58, 5, 29]
abbrev dktX4_splits_2 : List UInt8 := dkwX4_splits_2 ++ dktX4_splits_3
def dkwX4_splits_1 : List UInt8 := [160, 0, 8, 43, 182, 0, 246, 172, 42, 180, 0, 11, 43, 180, 1, 3, 50, 77, 44, 180, 0, 120, 5, 108]
abbrev dktX4_splits_1 : List UInt8 := dkwX4_splits_1 ++ dktX4_splits_2
def dkwX4_splits_0 : List UInt8 := [42, 180, 0, 17, 43, 180, 0, 214, 46, 43, 180, 1, 3, 160, 0, 12, 42, 180, 0, 77, 16, 32]
abbrev dktX4_splits_0 : List UInt8 := dkwX4_splits_0 ++ dktX4_splits_1
theorem dksX4_splits_0 : cX4_splits.data.toList.drop 0 = dktX4_splits_0 := by decide +kernel
theorem dksX4_splits_1 : cX4_splits.data.toList.drop 22 = dktX4_splits_1 := dk_seg dksX4_splits_0 22 rfl rfl
theorem dksX4_splits_2 : cX4_splits.data.toList.drop 46 = dktX4_splits_2 := dk_seg dksX4_splits_1 24 rfl rfl
theorem dksX4_splits_3 : cX4_splits.data.toList.drop 70 = dktX4_splits_3 := dk_seg dksX4_splits_2 24 rfl rfl
theorem dksX4_splits_4 : cX4_splits.data.toList.drop 94 = dktX4_splits_4 := dk_seg dksX4_splits_3 24 rfl rfl
theorem dksX4_splits_5 : cX4_splits.data.toList.drop 118 = dktX4_splits_5 := dk_seg dksX4_splits_4 24 rfl rfl
theorem dksX4_splits_6 : cX4_splits.data.toList.drop 142 = dktX4_splits_6 := dk_seg dksX4_splits_5 24 rfl rfl
theorem dksX4_splits_7 : cX4_splits.data.toList.drop 166 = dktX4_splits_7 := dk_seg dksX4_splits_6 24 rfl rfl
theorem dksX4_splits_8 : cX4_splits.data.toList.drop 190 = dktX4_splits_8 := dk_seg dksX4_splits_7 24 rfl rfl
theorem dX4_splits_0 : decode cX4_splits 0 = .ok (.aload_n 0, 1) := dk_42 (dk_at dksX4_splits_0 0 rfl rfl)
theorem dX4_splits_1 : decode cX4_splits 1 = .ok (.getfield 17, 3) := dk_180 0 17 (dk_at dksX4_splits_0 1 rfl rfl)
theorem dX4_splits_4 : decode cX4_splits 4 = .ok (.aload_n 1, 1) := dk_43 (dk_at dksX4_splits_0 4 rfl rfl)
theorem dX4_splits_5 : decode cX4_splits 5 = .ok (.getfield 214, 3) := dk_180 0 214 (dk_at dksX4_splits_0 5 rfl rfl)
theorem dX4_splits_8 : decode cX4_splits 8 = .ok (.iaload, 1) := dk_46 (dk_at dksX4_splits_0 8 rfl rfl)
theorem dX4_splits_9 : decode cX4_splits 9 = .ok (.aload_n 1, 1) := dk_43 (dk_at dksX4_splits_0 9 rfl rfl)
theorem dX4_splits_10 : decode cX4_splits 10 = .ok (.getfield 259, 3) := dk_180 1 3 (dk_at dksX4_splits_0 10 rfl rfl)
theorem dX4_splits_13 : decode cX4_splits 13 = .ok (.if_icmp .ne 12, 3) := dk_160 0 12 (dk_at dksX4_splits_0 13 rfl rfl)
theorem dX4_splits_16 : decode cX4_splits 16 = .ok (.aload_n 0, 1) := dk_42 (dk_at dksX4_splits_0 16 rfl rfl)
theorem dX4_splits_17 : decode cX4_splits 17 = .ok (.getfield 77, 3) := dk_180 0 77 (dk_at dksX4_splits_0 17 rfl rfl)
theorem dX4_splits_20 : decode cX4_splits 20 = .ok (.bipush 32, 2) := dk_16 32 (dk_at dksX4_splits_0 20 rfl rfl)
theorem dX4_splits_22 : decode cX4_splits 22 = .ok (.if_icmp .ne 8, 3) := dk_160 0 8 (dk_at dksX4_splits_1 0 rfl rfl)
theorem dX4_splits_25 : decode cX4_splits 25 = .ok (.aload_n 1, 1) := dk_43 (dk_at dksX4_splits_1 3 rfl rfl)
theorem dX4_splits_26 : decode cX4_splits 26 = .ok (.invokevirtual 246, 3) := dk_182 0 246 (dk_at dksX4_splits_1 4 rfl rfl)
theorem dX4_splits_29 : decode cX4_splits 29 = .ok (.ireturn, 1) := dk_172 (dk_at dksX4_splits_1 7 rfl rfl)
theorem dX4_splits_30 : decode cX4_splits 30 = .ok (.aload_n 0, 1) := dk_42 (dk_at dksX4_splits_1 8 rfl rfl)
theorem dX4_splits_31 : decode cX4_splits 31 = .ok (.getfield 11, 3) := dk_180 0 11 (dk_at dksX4_splits_1 9 rfl rfl)
theorem dX4_splits_34 : decode cX4_splits 34 = .ok (.aload_n 1, 1) := dk_43 (dk_at dksX4_splits_1 12 rfl rfl)
theorem dX4_splits_35 : decode cX4_splits 35 = .ok (.getfield 259, 3) := dk_180 1 3 (dk_at dksX4_splits_1 13 rfl rfl)
theorem dX4_splits_38 : decode cX4_splits 38 = .ok (.aaload, 1) := dk_50 (dk_at dksX4_splits_1 16 rfl rfl)
theorem dX4_splits_39 : decode cX4_splits 39 = .ok (.astore_n 2, 1) := dk_77 (dk_at dksX4_splits_1 17 rfl rfl)
theorem dX4_splits_40 : decode cX4_splits 40 = .ok (.aload_n 2, 1) := dk_44 (dk_at dksX4_splits_1 18 rfl rfl)
theorem dX4_splits_41 : decode cX4_splits 41 = .ok (.getfield 120, 3) := dk_180 0 120 (dk_at dksX4_splits_1 19 rfl rfl)
theorem dX4_splits_44 : decode cX4_splits 44 = .ok (.iconst 2, 1) := dk_5 (dk_at dksX4_splits_1 22 rfl rfl)
theorem dX4_splits_45 : decode cX4_splits 45 = .ok (.idiv, 1) := dk_108 (dk_at dksX4_splits_1 23 rfl rfl)
theorem dX4_splits_46 : decode cX4_splits 46 = .ok (.istore_n 3, 1) := dk_62 (dk_at dksX4_splits_2 0 rfl rfl)
theorem dX4_splits_47 : decode cX4_splits 47 = .ok (.aload_n 0, 1) := dk_42 (dk_at dksX4_splits_2 1 rfl rfl)
theorem dX4_splits_48 : decode cX4_splits 48 = .ok (.iconst 0, 1) := dk_3 (dk_at dksX4_splits_2 2 rfl rfl)
theorem dX4_splits_49 : decode cX4_splits 49 = .ok (.bipush (-2), 2) := dk_16 254 (dk_at dksX4_splits_2 3 rfl rfl)
theorem dX4_splits_51 : decode cX4_splits 51 = .ok (.bipush (-2), 2) := dk_16 254 (dk_at dksX4_splits_2 5 rfl rfl)
theorem dX4_splits_53 : decode cX4_splits 53 = .ok (.bipush (-2), 2) := dk_16 254 (dk_at dksX4_splits_2 7 rfl rfl)
theorem dX4_splits_55 : decode cX4_splits 55 = .ok (.invokevirtual 66, 3) := dk_182 0 66 (dk_at dksX4_splits_2 9 rfl rfl)
theorem dX4_splits_58 : decode cX4_splits 58 = .ok (.istore 4, 2) := dk_54 4 (dk_at dksX4_splits_2 12 rfl rfl)
theorem dX4_splits_60 : decode cX4_splits 60 = .ok (.aload_n 0, 1) := dk_42 (dk_at dksX4_splits_2 14 rfl rfl)
theorem dX4_splits_61 : decode cX4_splits 61 = .ok (.getfield 11, 3) := dk_180 0 11 (dk_at dksX4_splits_2 15 rfl rfl)
theorem dX4_splits_64 : decode cX4_splits 64 = .ok (.iload 4, 2) := dk_21 4 (dk_at dksX4_splits_2 18 rfl rfl)
theorem dX4_splits_66 : decode cX4_splits 66 = .ok (.aaload, 1) := dk_50 (dk_at dksX4_splits_2 20 rfl rfl)
theorem dX4_splits_67 : decode cX4_splits 67 = .ok (.astore 5, 2) := dk_58 5 (dk_at dksX4_splits_2 21 rfl rfl)
theorem dX4_splits_69 : decode cX4_splits 69 = .ok (.iload_n 3, 1) := dk_29 (dk_at dksX4_splits_2 23 rfl rfl)
theorem dX4_splits_70 : decode cX4_splits 70 = .ok (.istore 6, 2) := dk_54 6 (dk_at dksX4_splits_3 0 rfl rfl)
theorem dX4_splits_72 : decode cX4_splits 72 = .ok (.iload 6, 2) := dk_21 6 (dk_at dksX4_splits_3 2 rfl rfl)
theorem dX4_splits_74 : decode cX4_splits 74 = .ok (.aload_n 2, 1) := dk_44 (dk_at dksX4_splits_3 4 rfl rfl)
theorem dX4_splits_75 : decode cX4_splits 75 = .ok (.getfield 120, 3) := dk_180 0 120 (dk_at dksX4_splits_3 5 rfl rfl)
theorem dX4_splits_78 : decode cX4_splits 78 = .ok (.if_icmp .ge 28, 3) := dk_162 0 28 (dk_at dksX4_splits_3 8 rfl rfl)
theorem dX4_splits_81 : decode cX4_splits 81 = .ok (.aload 5, 2) := dk_25 5 (dk_at dksX4_splits_3 11 rfl rfl)
theorem dX4_splits_83 : decode cX4_splits 83 = .ok (.aload_n 2, 1) := dk_44 (dk_at dksX4_splits_3 13 rfl rfl)
theorem dX4_splits_84 : decode cX4_splits 84 = .ok (.getfield 126, 3) := dk_180 0 126 (dk_at dksX4_splits_3 14 rfl rfl)
theorem dX4_splits_87 : decode cX4_splits 87 = .ok (.iload 6, 2) := dk_21 6 (dk_at dksX4_splits_3 17 rfl rfl)
theorem dX4_splits_89 : decode cX4_splits 89 = .ok (.iaload, 1) := dk_46 (dk_at dksX4_splits_3 19 rfl rfl)
theorem dX4_splits_90 : decode cX4_splits 90 = .ok (.aload_n 2, 1) := dk_44 (dk_at dksX4_splits_3 20 rfl rfl)
theorem dX4_splits_91 : decode cX4_splits 91 = .ok (.getfield 123, 3) := dk_180 0 123 (dk_at dksX4_splits_3 21 rfl rfl)
theorem dX4_splits_94 : decode cX4_splits 94 = .ok (.iload 6, 2) := dk_21 6 (dk_at dksX4_splits_4 0 rfl rfl)
theorem dX4_splits_96 : decode cX4_splits 96 = .ok (.iaload, 1) := dk_46 (dk_at dksX4_splits_4 2 rfl rfl)
theorem dX4_splits_97 : decode cX4_splits 97 = .ok (.invokevirtual 70, 3) := dk_182 0 70 (dk_at dksX4_splits_4 3 rfl rfl)
theorem dX4_splits_100 : decode cX4_splits 100 = .ok (.iinc 6 1, 3) := dk_132 6 1 (dk_at dksX4_splits_4 6 rfl rfl)
theorem dX4_splits_103 : decode cX4_splits 103 = .ok (.goto (-31), 3) := dk_167 255 225 (dk_at dksX4_splits_4 9 rfl rfl)
theorem dX4_splits_106 : decode cX4_splits 106 = .ok (.aload 5, 2) := dk_25 5 (dk_at dksX4_splits_4 12 rfl rfl)
theorem dX4_splits_108 : decode cX4_splits 108 = .ok (.aload_n 2, 1) := dk_44 (dk_at dksX4_splits_4 14 rfl rfl)
theorem dX4_splits_109 : decode cX4_splits 109 = .ok (.getfield 74, 3) := dk_180 0 74 (dk_at dksX4_splits_4 15 rfl rfl)
theorem dX4_splits_112 : decode cX4_splits 112 = .ok (.putfield 74, 3) := dk_181 0 74 (dk_at dksX4_splits_4 18 rfl rfl)
theorem dX4_splits_115 : decode cX4_splits 115 = .ok (.aload 5, 2) := dk_25 5 (dk_at dksX4_splits_4 21 rfl rfl)
theorem dX4_splits_117 : decode cX4_splits 117 = .ok (.aload_n 2, 1) := dk_44 (dk_at dksX4_splits_4 23 rfl rfl)
theorem dX4_splits_118 : decode cX4_splits 118 = .ok (.getfield 133, 3) := dk_180 0 133 (dk_at dksX4_splits_5 0 rfl rfl)
theorem dX4_splits_121 : decode cX4_splits 121 = .ok (.putfield 133, 3) := dk_181 0 133 (dk_at dksX4_splits_5 3 rfl rfl)
theorem dX4_splits_124 : decode cX4_splits 124 = .ok (.aload_n 0, 1) := dk_42 (dk_at dksX4_splits_5 6 rfl rfl)
theorem dX4_splits_125 : decode cX4_splits 125 = .ok (.getfield 17, 3) := dk_180 0 17 (dk_at dksX4_splits_5 7 rfl rfl)
theorem dX4_splits_128 : decode cX4_splits 128 = .ok (.aload_n 0, 1) := dk_42 (dk_at dksX4_splits_5 10 rfl rfl)
theorem dX4_splits_129 : decode cX4_splits 129 = .ok (.getfield 77, 3) := dk_180 0 77 (dk_at dksX4_splits_5 11 rfl rfl)
theorem dX4_splits_132 : decode cX4_splits 132 = .ok (.iload 4, 2) := dk_21 4 (dk_at dksX4_splits_5 14 rfl rfl)
theorem dX4_splits_134 : decode cX4_splits 134 = .ok (.iastore, 1) := dk_79 (dk_at dksX4_splits_5 16 rfl rfl)
theorem dX4_splits_135 : decode cX4_splits 135 = .ok (.aload_n 0, 1) := dk_42 (dk_at dksX4_splits_5 17 rfl rfl)
theorem dX4_splits_136 : decode cX4_splits 136 = .ok (.dup, 1) := dk_89 (dk_at dksX4_splits_5 18 rfl rfl)
theorem dX4_splits_137 : decode cX4_splits 137 = .ok (.getfield 77, 3) := dk_180 0 77 (dk_at dksX4_splits_5 19 rfl rfl)
theorem dX4_splits_140 : decode cX4_splits 140 = .ok (.iconst 1, 1) := dk_4 (dk_at dksX4_splits_5 22 rfl rfl)
theorem dX4_splits_141 : decode cX4_splits 141 = .ok (.iadd, 1) := dk_96 (dk_at dksX4_splits_5 23 rfl rfl)
theorem dX4_splits_142 : decode cX4_splits 142 = .ok (.putfield 77, 3) := dk_181 0 77 (dk_at dksX4_splits_6 0 rfl rfl)
theorem dX4_splits_145 : decode cX4_splits 145 = .ok (.aload_n 0, 1) := dk_42 (dk_at dksX4_splits_6 3 rfl rfl)
theorem dX4_splits_146 : decode cX4_splits 146 = .ok (.getfield 17, 3) := dk_180 0 17 (dk_at dksX4_splits_6 4 rfl rfl)
theorem dX4_splits_149 : decode cX4_splits 149 = .ok (.aload_n 1, 1) := dk_43 (dk_at dksX4_splits_6 7 rfl rfl)
theorem dX4_splits_150 : decode cX4_splits 150 = .ok (.getfield 214, 3) := dk_180 0 214 (dk_at dksX4_splits_6 8 rfl rfl)
theorem dX4_splits_153 : decode cX4_splits 153 = .ok (.aload_n 0, 1) := dk_42 (dk_at dksX4_splits_6 11 rfl rfl)
theorem dX4_splits_154 : decode cX4_splits 154 = .ok (.iconst 3, 1) := dk_6 (dk_at dksX4_splits_6 12 rfl rfl)
theorem dX4_splits_155 : decode cX4_splits 155 = .ok (.aload 5, 2) := dk_25 5 (dk_at dksX4_splits_6 13 rfl rfl)
theorem dX4_splits_157 : decode cX4_splits 157 = .ok (.getfield 126, 3) := dk_180 0 126 (dk_at dksX4_splits_6 15 rfl rfl)
theorem dX4_splits_160 : decode cX4_splits 160 = .ok (.iconst 0, 1) := dk_3 (dk_at dksX4_splits_6 18 rfl rfl)
theorem dX4_splits_161 : decode cX4_splits 161 = .ok (.iaload, 1) := dk_46 (dk_at dksX4_splits_6 19 rfl rfl)
theorem dX4_splits_162 : decode cX4_splits 162 = .ok (.aload_n 0, 1) := dk_42 (dk_at dksX4_splits_6 20 rfl rfl)
theorem dX4_splits_163 : decode cX4_splits 163 = .ok (.getfield 77, 3) := dk_180 0 77 (dk_at dksX4_splits_6 21 rfl rfl)
theorem dX4_splits_166 : decode cX4_splits 166 = .ok (.iconst 1, 1) := dk_4 (dk_at dksX4_splits_7 0 rfl rfl)
theorem dX4_splits_167 : decode cX4_splits 167 = .ok (.isub, 1) := dk_100 (dk_at dksX4_splits_7 1 rfl rfl)
theorem dX4_splits_168 : decode cX4_splits 168 = .ok (.aload_n 1, 1) := dk_43 (dk_at dksX4_splits_7 2 rfl rfl)
theorem dX4_splits_169 : decode cX4_splits 169 = .ok (.getfield 259, 3) := dk_180 1 3 (dk_at dksX4_splits_7 3 rfl rfl)
theorem dX4_splits_172 : decode cX4_splits 172 = .ok (.invokevirtual 66, 3) := dk_182 0 66 (dk_at dksX4_splits_7 6 rfl rfl)
theorem dX4_splits_175 : decode cX4_splits 175 = .ok (.iastore, 1) := dk_79 (dk_at dksX4_splits_7 9 rfl rfl)
theorem dX4_splits_176 : decode cX4_splits 176 = .ok (.aload_n 0, 1) := dk_42 (dk_at dksX4_splits_7 10 rfl rfl)
theorem dX4_splits_177 : decode cX4_splits 177 = .ok (.aload_n 1, 1) := dk_43 (dk_at dksX4_splits_7 11 rfl rfl)
theorem dX4_splits_178 : decode cX4_splits 178 = .ok (.aload 5, 2) := dk_25 5 (dk_at dksX4_splits_7 12 rfl rfl)
theorem dX4_splits_180 : decode cX4_splits 180 = .ok (.getfield 126, 3) := dk_180 0 126 (dk_at dksX4_splits_7 14 rfl rfl)
theorem dX4_splits_183 : decode cX4_splits 183 = .ok (.iconst 0, 1) := dk_3 (dk_at dksX4_splits_7 17 rfl rfl)
theorem dX4_splits_184 : decode cX4_splits 184 = .ok (.iaload, 1) := dk_46 (dk_at dksX4_splits_7 18 rfl rfl)
theorem dX4_splits_185 : decode cX4_splits 185 = .ok (.aload_n 0, 1) := dk_42 (dk_at dksX4_splits_7 19 rfl rfl)
theorem dX4_splits_186 : decode cX4_splits 186 = .ok (.getfield 77, 3) := dk_180 0 77 (dk_at dksX4_splits_7 20 rfl rfl)
theorem dX4_splits_189 : decode cX4_splits 189 = .ok (.iconst 1, 1) := dk_4 (dk_at dksX4_splits_7 23 rfl rfl)
theorem dX4_splits_190 : decode cX4_splits 190 = .ok (.isub, 1) := dk_100 (dk_at dksX4_splits_8 0 rfl rfl)
theorem dX4_splits_191 : decode cX4_splits 191 = .ok (.invokevirtual 224, 3) := dk_182 0 224 (dk_at dksX4_splits_8 1 rfl rfl)
theorem dX4_splits_194 : decode cX4_splits 194 = .ok (.ireturn, 1) := dk_172 (dk_at dksX4_splits_8 4 rfl rfl)
abbrev cX4_notes : ByteArray := prog_12_method_28_code
def yX4_notes : MethodName := ⟨RX4, "notes", "(LDeltaIndex$Hand;)I"⟩
def dkwX4_notes_2 : List UInt8 := [180, 0, 123, 28, 46, 181, 0, 221, 16, 12, 172, 43, 42, 180, 0, 17, 3, 46, 181, 0, 238, 16, 8, 172]
abbrev dktX4_notes_2 : List UInt8 := dkwX4_notes_2 ++ []
def dkwX4_notes_1 : List UInt8 := [46, 43, 180, 0, 220, 160, 0, 8, 43, 182, 0, 246, 172, 28, 155, 0, 19, 43, 42, 180, 0, 32]
abbrev dktX4_notes_1 : List UInt8 := dkwX4_notes_1 ++ dktX4_notes_2
def dkwX4_notes_0 : List UInt8 := [42, 182, 0, 117, 43, 180, 0, 217, 182, 0, 129, 61, 28, 155, 0, 24, 42, 180, 0, 32, 180, 0, 123, 28]
abbrev dktX4_notes_0 : List UInt8 := dkwX4_notes_0 ++ dktX4_notes_1
theorem dksX4_notes_0 : cX4_notes.data.toList.drop 0 = dktX4_notes_0 := by decide +kernel
theorem dksX4_notes_1 : cX4_notes.data.toList.drop 24 = dktX4_notes_1 := dk_seg dksX4_notes_0 24 rfl rfl
theorem dksX4_notes_2 : cX4_notes.data.toList.drop 46 = dktX4_notes_2 := dk_seg dksX4_notes_1 22 rfl rfl
theorem dX4_notes_0 : decode cX4_notes 0 = .ok (.aload_n 0, 1) := dk_42 (dk_at dksX4_notes_0 0 rfl rfl)
theorem dX4_notes_1 : decode cX4_notes 1 = .ok (.invokevirtual 117, 3) := dk_182 0 117 (dk_at dksX4_notes_0 1 rfl rfl)
theorem dX4_notes_4 : decode cX4_notes 4 = .ok (.aload_n 1, 1) := dk_43 (dk_at dksX4_notes_0 4 rfl rfl)
theorem dX4_notes_5 : decode cX4_notes 5 = .ok (.getfield 217, 3) := dk_180 0 217 (dk_at dksX4_notes_0 5 rfl rfl)
theorem dX4_notes_8 : decode cX4_notes 8 = .ok (.invokevirtual 129, 3) := dk_182 0 129 (dk_at dksX4_notes_0 8 rfl rfl)
theorem dX4_notes_11 : decode cX4_notes 11 = .ok (.istore_n 2, 1) := dk_61 (dk_at dksX4_notes_0 11 rfl rfl)
theorem dX4_notes_12 : decode cX4_notes 12 = .ok (.iload_n 2, 1) := dk_28 (dk_at dksX4_notes_0 12 rfl rfl)
theorem dX4_notes_13 : decode cX4_notes 13 = .ok (.ifCond .lt 24, 3) := dk_155 0 24 (dk_at dksX4_notes_0 13 rfl rfl)
theorem dX4_notes_16 : decode cX4_notes 16 = .ok (.aload_n 0, 1) := dk_42 (dk_at dksX4_notes_0 16 rfl rfl)
theorem dX4_notes_17 : decode cX4_notes 17 = .ok (.getfield 32, 3) := dk_180 0 32 (dk_at dksX4_notes_0 17 rfl rfl)
theorem dX4_notes_20 : decode cX4_notes 20 = .ok (.getfield 123, 3) := dk_180 0 123 (dk_at dksX4_notes_0 20 rfl rfl)
theorem dX4_notes_23 : decode cX4_notes 23 = .ok (.iload_n 2, 1) := dk_28 (dk_at dksX4_notes_0 23 rfl rfl)
theorem dX4_notes_24 : decode cX4_notes 24 = .ok (.iaload, 1) := dk_46 (dk_at dksX4_notes_1 0 rfl rfl)
theorem dX4_notes_25 : decode cX4_notes 25 = .ok (.aload_n 1, 1) := dk_43 (dk_at dksX4_notes_1 1 rfl rfl)
theorem dX4_notes_26 : decode cX4_notes 26 = .ok (.getfield 220, 3) := dk_180 0 220 (dk_at dksX4_notes_1 2 rfl rfl)
theorem dX4_notes_29 : decode cX4_notes 29 = .ok (.if_icmp .ne 8, 3) := dk_160 0 8 (dk_at dksX4_notes_1 5 rfl rfl)
theorem dX4_notes_32 : decode cX4_notes 32 = .ok (.aload_n 1, 1) := dk_43 (dk_at dksX4_notes_1 8 rfl rfl)
theorem dX4_notes_33 : decode cX4_notes 33 = .ok (.invokevirtual 246, 3) := dk_182 0 246 (dk_at dksX4_notes_1 9 rfl rfl)
theorem dX4_notes_36 : decode cX4_notes 36 = .ok (.ireturn, 1) := dk_172 (dk_at dksX4_notes_1 12 rfl rfl)
theorem dX4_notes_37 : decode cX4_notes 37 = .ok (.iload_n 2, 1) := dk_28 (dk_at dksX4_notes_1 13 rfl rfl)
theorem dX4_notes_38 : decode cX4_notes 38 = .ok (.ifCond .lt 19, 3) := dk_155 0 19 (dk_at dksX4_notes_1 14 rfl rfl)
theorem dX4_notes_41 : decode cX4_notes 41 = .ok (.aload_n 1, 1) := dk_43 (dk_at dksX4_notes_1 17 rfl rfl)
theorem dX4_notes_42 : decode cX4_notes 42 = .ok (.aload_n 0, 1) := dk_42 (dk_at dksX4_notes_1 18 rfl rfl)
theorem dX4_notes_43 : decode cX4_notes 43 = .ok (.getfield 32, 3) := dk_180 0 32 (dk_at dksX4_notes_1 19 rfl rfl)
theorem dX4_notes_46 : decode cX4_notes 46 = .ok (.getfield 123, 3) := dk_180 0 123 (dk_at dksX4_notes_2 0 rfl rfl)
theorem dX4_notes_49 : decode cX4_notes 49 = .ok (.iload_n 2, 1) := dk_28 (dk_at dksX4_notes_2 3 rfl rfl)
theorem dX4_notes_50 : decode cX4_notes 50 = .ok (.iaload, 1) := dk_46 (dk_at dksX4_notes_2 4 rfl rfl)
theorem dX4_notes_51 : decode cX4_notes 51 = .ok (.putfield 221, 3) := dk_181 0 221 (dk_at dksX4_notes_2 5 rfl rfl)
theorem dX4_notes_54 : decode cX4_notes 54 = .ok (.bipush 12, 2) := dk_16 12 (dk_at dksX4_notes_2 8 rfl rfl)
theorem dX4_notes_56 : decode cX4_notes 56 = .ok (.ireturn, 1) := dk_172 (dk_at dksX4_notes_2 10 rfl rfl)
theorem dX4_notes_57 : decode cX4_notes 57 = .ok (.aload_n 1, 1) := dk_43 (dk_at dksX4_notes_2 11 rfl rfl)
theorem dX4_notes_58 : decode cX4_notes 58 = .ok (.aload_n 0, 1) := dk_42 (dk_at dksX4_notes_2 12 rfl rfl)
theorem dX4_notes_59 : decode cX4_notes 59 = .ok (.getfield 17, 3) := dk_180 0 17 (dk_at dksX4_notes_2 13 rfl rfl)
theorem dX4_notes_62 : decode cX4_notes 62 = .ok (.iconst 0, 1) := dk_3 (dk_at dksX4_notes_2 16 rfl rfl)
theorem dX4_notes_63 : decode cX4_notes 63 = .ok (.iaload, 1) := dk_46 (dk_at dksX4_notes_2 17 rfl rfl)
theorem dX4_notes_64 : decode cX4_notes 64 = .ok (.putfield 238, 3) := dk_181 0 238 (dk_at dksX4_notes_2 18 rfl rfl)
theorem dX4_notes_67 : decode cX4_notes 67 = .ok (.bipush 8, 2) := dk_16 8 (dk_at dksX4_notes_2 21 rfl rfl)
theorem dX4_notes_69 : decode cX4_notes 69 = .ok (.ireturn, 1) := dk_172 (dk_at dksX4_notes_2 23 rfl rfl)
abbrev cX4_enters : ByteArray := prog_12_method_30_code
def yX4_enters : MethodName := ⟨RX4, "enters", "(LDeltaIndex$Hand;)I"⟩
def dkwX4_enters_2 : List UInt8 := [182, 1, 4, 172]
abbrev dktX4_enters_2 : List UInt8 := dkwX4_enters_2 ++ []
def dkwX4_enters_1 : List UInt8 := [3, 42, 16, 6, 43, 180, 0, 217, 43, 180, 0, 220, 43, 180, 0, 238, 182, 0, 66, 79, 42, 43]
abbrev dktX4_enters_1 : List UInt8 := dkwX4_enters_1 ++ dktX4_enters_2
def dkwX4_enters_0 : List UInt8 := [42, 180, 0, 17, 3, 46, 43, 180, 0, 238, 159, 0, 10, 43, 16, 7, 182, 0, 241, 172, 42, 180, 0, 17]
abbrev dktX4_enters_0 : List UInt8 := dkwX4_enters_0 ++ dktX4_enters_1
theorem dksX4_enters_0 : cX4_enters.data.toList.drop 0 = dktX4_enters_0 := by decide +kernel
theorem dksX4_enters_1 : cX4_enters.data.toList.drop 24 = dktX4_enters_1 := dk_seg dksX4_enters_0 24 rfl rfl
theorem dksX4_enters_2 : cX4_enters.data.toList.drop 46 = dktX4_enters_2 := dk_seg dksX4_enters_1 22 rfl rfl
theorem dX4_enters_0 : decode cX4_enters 0 = .ok (.aload_n 0, 1) := dk_42 (dk_at dksX4_enters_0 0 rfl rfl)
theorem dX4_enters_1 : decode cX4_enters 1 = .ok (.getfield 17, 3) := dk_180 0 17 (dk_at dksX4_enters_0 1 rfl rfl)
theorem dX4_enters_4 : decode cX4_enters 4 = .ok (.iconst 0, 1) := dk_3 (dk_at dksX4_enters_0 4 rfl rfl)
theorem dX4_enters_5 : decode cX4_enters 5 = .ok (.iaload, 1) := dk_46 (dk_at dksX4_enters_0 5 rfl rfl)
theorem dX4_enters_6 : decode cX4_enters 6 = .ok (.aload_n 1, 1) := dk_43 (dk_at dksX4_enters_0 6 rfl rfl)
theorem dX4_enters_7 : decode cX4_enters 7 = .ok (.getfield 238, 3) := dk_180 0 238 (dk_at dksX4_enters_0 7 rfl rfl)
theorem dX4_enters_10 : decode cX4_enters 10 = .ok (.if_icmp .eq 10, 3) := dk_159 0 10 (dk_at dksX4_enters_0 10 rfl rfl)
theorem dX4_enters_13 : decode cX4_enters 13 = .ok (.aload_n 1, 1) := dk_43 (dk_at dksX4_enters_0 13 rfl rfl)
theorem dX4_enters_14 : decode cX4_enters 14 = .ok (.bipush 7, 2) := dk_16 7 (dk_at dksX4_enters_0 14 rfl rfl)
theorem dX4_enters_16 : decode cX4_enters 16 = .ok (.invokevirtual 241, 3) := dk_182 0 241 (dk_at dksX4_enters_0 16 rfl rfl)
theorem dX4_enters_19 : decode cX4_enters 19 = .ok (.ireturn, 1) := dk_172 (dk_at dksX4_enters_0 19 rfl rfl)
theorem dX4_enters_20 : decode cX4_enters 20 = .ok (.aload_n 0, 1) := dk_42 (dk_at dksX4_enters_0 20 rfl rfl)
theorem dX4_enters_21 : decode cX4_enters 21 = .ok (.getfield 17, 3) := dk_180 0 17 (dk_at dksX4_enters_0 21 rfl rfl)
theorem dX4_enters_24 : decode cX4_enters 24 = .ok (.iconst 0, 1) := dk_3 (dk_at dksX4_enters_1 0 rfl rfl)
theorem dX4_enters_25 : decode cX4_enters 25 = .ok (.aload_n 0, 1) := dk_42 (dk_at dksX4_enters_1 1 rfl rfl)
theorem dX4_enters_26 : decode cX4_enters 26 = .ok (.bipush 6, 2) := dk_16 6 (dk_at dksX4_enters_1 2 rfl rfl)
theorem dX4_enters_28 : decode cX4_enters 28 = .ok (.aload_n 1, 1) := dk_43 (dk_at dksX4_enters_1 4 rfl rfl)
theorem dX4_enters_29 : decode cX4_enters 29 = .ok (.getfield 217, 3) := dk_180 0 217 (dk_at dksX4_enters_1 5 rfl rfl)
theorem dX4_enters_32 : decode cX4_enters 32 = .ok (.aload_n 1, 1) := dk_43 (dk_at dksX4_enters_1 8 rfl rfl)
theorem dX4_enters_33 : decode cX4_enters 33 = .ok (.getfield 220, 3) := dk_180 0 220 (dk_at dksX4_enters_1 9 rfl rfl)
theorem dX4_enters_36 : decode cX4_enters 36 = .ok (.aload_n 1, 1) := dk_43 (dk_at dksX4_enters_1 12 rfl rfl)
theorem dX4_enters_37 : decode cX4_enters 37 = .ok (.getfield 238, 3) := dk_180 0 238 (dk_at dksX4_enters_1 13 rfl rfl)
theorem dX4_enters_40 : decode cX4_enters 40 = .ok (.invokevirtual 66, 3) := dk_182 0 66 (dk_at dksX4_enters_1 16 rfl rfl)
theorem dX4_enters_43 : decode cX4_enters 43 = .ok (.iastore, 1) := dk_79 (dk_at dksX4_enters_1 19 rfl rfl)
theorem dX4_enters_44 : decode cX4_enters 44 = .ok (.aload_n 0, 1) := dk_42 (dk_at dksX4_enters_1 20 rfl rfl)
theorem dX4_enters_45 : decode cX4_enters 45 = .ok (.aload_n 1, 1) := dk_43 (dk_at dksX4_enters_1 21 rfl rfl)
theorem dX4_enters_46 : decode cX4_enters 46 = .ok (.invokevirtual 260, 3) := dk_182 1 4 (dk_at dksX4_enters_2 0 rfl rfl)
theorem dX4_enters_49 : decode cX4_enters 49 = .ok (.ireturn, 1) := dk_172 (dk_at dksX4_enters_2 3 rfl rfl)
abbrev cX4_noted : ByteArray := prog_12_method_29_code
def yX4_noted : MethodName := ⟨RX4, "noted", "(LDeltaIndex$Hand;)I"⟩
def dkwX4_noted_0 : List UInt8 := [42, 3, 182, 0, 231, 42, 180, 0, 48, 163, 0, 8, 43, 182, 0, 246, 172, 43, 3, 181, 0, 214, 7, 172]
abbrev dktX4_noted_0 : List UInt8 := dkwX4_noted_0 ++ []
theorem dksX4_noted_0 : cX4_noted.data.toList.drop 0 = dktX4_noted_0 := by decide +kernel
theorem dX4_noted_0 : decode cX4_noted 0 = .ok (.aload_n 0, 1) := dk_42 (dk_at dksX4_noted_0 0 rfl rfl)
theorem dX4_noted_1 : decode cX4_noted 1 = .ok (.iconst 0, 1) := dk_3 (dk_at dksX4_noted_0 1 rfl rfl)
theorem dX4_noted_2 : decode cX4_noted 2 = .ok (.invokevirtual 231, 3) := dk_182 0 231 (dk_at dksX4_noted_0 2 rfl rfl)
theorem dX4_noted_5 : decode cX4_noted 5 = .ok (.aload_n 0, 1) := dk_42 (dk_at dksX4_noted_0 5 rfl rfl)
theorem dX4_noted_6 : decode cX4_noted 6 = .ok (.getfield 48, 3) := dk_180 0 48 (dk_at dksX4_noted_0 6 rfl rfl)
theorem dX4_noted_9 : decode cX4_noted 9 = .ok (.if_icmp .gt 8, 3) := dk_163 0 8 (dk_at dksX4_noted_0 9 rfl rfl)
theorem dX4_noted_12 : decode cX4_noted 12 = .ok (.aload_n 1, 1) := dk_43 (dk_at dksX4_noted_0 12 rfl rfl)
theorem dX4_noted_13 : decode cX4_noted 13 = .ok (.invokevirtual 246, 3) := dk_182 0 246 (dk_at dksX4_noted_0 13 rfl rfl)
theorem dX4_noted_16 : decode cX4_noted 16 = .ok (.ireturn, 1) := dk_172 (dk_at dksX4_noted_0 16 rfl rfl)
theorem dX4_noted_17 : decode cX4_noted 17 = .ok (.aload_n 1, 1) := dk_43 (dk_at dksX4_noted_0 17 rfl rfl)
theorem dX4_noted_18 : decode cX4_noted 18 = .ok (.iconst 0, 1) := dk_3 (dk_at dksX4_noted_0 18 rfl rfl)
theorem dX4_noted_19 : decode cX4_noted 19 = .ok (.putfield 214, 3) := dk_181 0 214 (dk_at dksX4_noted_0 19 rfl rfl)
theorem dX4_noted_22 : decode cX4_noted 22 = .ok (.iconst 4, 1) := dk_7 (dk_at dksX4_noted_0 22 rfl rfl)
theorem dX4_noted_23 : decode cX4_noted 23 = .ok (.ireturn, 1) := dk_172 (dk_at dksX4_noted_0 23 rfl rfl)
abbrev cX4_removes : ByteArray := prog_12_method_31_code
def yX4_removes : MethodName := ⟨RX4, "removes", "(LDeltaIndex$Hand;)I"⟩
def dkwX4_removes_2 : List UInt8 := [180, 1, 3, 182, 0, 66, 79, 43, 43, 180, 0, 214, 181, 0, 221, 16, 10, 172]
abbrev dktX4_removes_2 : List UInt8 := dkwX4_removes_2 ++ []
def dkwX4_removes_1 : List UInt8 := [157, 0, 8, 43, 182, 0, 246, 172, 42, 180, 0, 17, 43, 180, 0, 214, 42, 7, 16, 254, 16, 254, 43]
abbrev dktX4_removes_1 : List UInt8 := dkwX4_removes_1 ++ dktX4_removes_2
def dkwX4_removes_0 : List UInt8 := [42, 180, 0, 17, 43, 180, 0, 214, 46, 43, 180, 1, 3, 160, 0, 14, 42, 43, 180, 0, 214, 182, 1, 7]
abbrev dktX4_removes_0 : List UInt8 := dkwX4_removes_0 ++ dktX4_removes_1
theorem dksX4_removes_0 : cX4_removes.data.toList.drop 0 = dktX4_removes_0 := by decide +kernel
theorem dksX4_removes_1 : cX4_removes.data.toList.drop 24 = dktX4_removes_1 := dk_seg dksX4_removes_0 24 rfl rfl
theorem dksX4_removes_2 : cX4_removes.data.toList.drop 47 = dktX4_removes_2 := dk_seg dksX4_removes_1 23 rfl rfl
theorem dX4_removes_0 : decode cX4_removes 0 = .ok (.aload_n 0, 1) := dk_42 (dk_at dksX4_removes_0 0 rfl rfl)
theorem dX4_removes_1 : decode cX4_removes 1 = .ok (.getfield 17, 3) := dk_180 0 17 (dk_at dksX4_removes_0 1 rfl rfl)
theorem dX4_removes_4 : decode cX4_removes 4 = .ok (.aload_n 1, 1) := dk_43 (dk_at dksX4_removes_0 4 rfl rfl)
theorem dX4_removes_5 : decode cX4_removes 5 = .ok (.getfield 214, 3) := dk_180 0 214 (dk_at dksX4_removes_0 5 rfl rfl)
theorem dX4_removes_8 : decode cX4_removes 8 = .ok (.iaload, 1) := dk_46 (dk_at dksX4_removes_0 8 rfl rfl)
theorem dX4_removes_9 : decode cX4_removes 9 = .ok (.aload_n 1, 1) := dk_43 (dk_at dksX4_removes_0 9 rfl rfl)
theorem dX4_removes_10 : decode cX4_removes 10 = .ok (.getfield 259, 3) := dk_180 1 3 (dk_at dksX4_removes_0 10 rfl rfl)
theorem dX4_removes_13 : decode cX4_removes 13 = .ok (.if_icmp .ne 14, 3) := dk_160 0 14 (dk_at dksX4_removes_0 13 rfl rfl)
theorem dX4_removes_16 : decode cX4_removes 16 = .ok (.aload_n 0, 1) := dk_42 (dk_at dksX4_removes_0 16 rfl rfl)
theorem dX4_removes_17 : decode cX4_removes 17 = .ok (.aload_n 1, 1) := dk_43 (dk_at dksX4_removes_0 17 rfl rfl)
theorem dX4_removes_18 : decode cX4_removes 18 = .ok (.getfield 214, 3) := dk_180 0 214 (dk_at dksX4_removes_0 18 rfl rfl)
theorem dX4_removes_21 : decode cX4_removes 21 = .ok (.invokevirtual 263, 3) := dk_182 1 7 (dk_at dksX4_removes_0 21 rfl rfl)
theorem dX4_removes_24 : decode cX4_removes 24 = .ok (.ifCond .gt 8, 3) := dk_157 0 8 (dk_at dksX4_removes_1 0 rfl rfl)
theorem dX4_removes_27 : decode cX4_removes 27 = .ok (.aload_n 1, 1) := dk_43 (dk_at dksX4_removes_1 3 rfl rfl)
theorem dX4_removes_28 : decode cX4_removes 28 = .ok (.invokevirtual 246, 3) := dk_182 0 246 (dk_at dksX4_removes_1 4 rfl rfl)
theorem dX4_removes_31 : decode cX4_removes 31 = .ok (.ireturn, 1) := dk_172 (dk_at dksX4_removes_1 7 rfl rfl)
theorem dX4_removes_32 : decode cX4_removes 32 = .ok (.aload_n 0, 1) := dk_42 (dk_at dksX4_removes_1 8 rfl rfl)
theorem dX4_removes_33 : decode cX4_removes 33 = .ok (.getfield 17, 3) := dk_180 0 17 (dk_at dksX4_removes_1 9 rfl rfl)
theorem dX4_removes_36 : decode cX4_removes 36 = .ok (.aload_n 1, 1) := dk_43 (dk_at dksX4_removes_1 12 rfl rfl)
theorem dX4_removes_37 : decode cX4_removes 37 = .ok (.getfield 214, 3) := dk_180 0 214 (dk_at dksX4_removes_1 13 rfl rfl)
theorem dX4_removes_40 : decode cX4_removes 40 = .ok (.aload_n 0, 1) := dk_42 (dk_at dksX4_removes_1 16 rfl rfl)
theorem dX4_removes_41 : decode cX4_removes 41 = .ok (.iconst 4, 1) := dk_7 (dk_at dksX4_removes_1 17 rfl rfl)
theorem dX4_removes_42 : decode cX4_removes 42 = .ok (.bipush (-2), 2) := dk_16 254 (dk_at dksX4_removes_1 18 rfl rfl)
theorem dX4_removes_44 : decode cX4_removes 44 = .ok (.bipush (-2), 2) := dk_16 254 (dk_at dksX4_removes_1 20 rfl rfl)
theorem dX4_removes_46 : decode cX4_removes 46 = .ok (.aload_n 1, 1) := dk_43 (dk_at dksX4_removes_1 22 rfl rfl)
theorem dX4_removes_47 : decode cX4_removes 47 = .ok (.getfield 259, 3) := dk_180 1 3 (dk_at dksX4_removes_2 0 rfl rfl)
theorem dX4_removes_50 : decode cX4_removes 50 = .ok (.invokevirtual 66, 3) := dk_182 0 66 (dk_at dksX4_removes_2 3 rfl rfl)
theorem dX4_removes_53 : decode cX4_removes 53 = .ok (.iastore, 1) := dk_79 (dk_at dksX4_removes_2 6 rfl rfl)
theorem dX4_removes_54 : decode cX4_removes 54 = .ok (.aload_n 1, 1) := dk_43 (dk_at dksX4_removes_2 7 rfl rfl)
theorem dX4_removes_55 : decode cX4_removes 55 = .ok (.aload_n 1, 1) := dk_43 (dk_at dksX4_removes_2 8 rfl rfl)
theorem dX4_removes_56 : decode cX4_removes 56 = .ok (.getfield 214, 3) := dk_180 0 214 (dk_at dksX4_removes_2 9 rfl rfl)
theorem dX4_removes_59 : decode cX4_removes 59 = .ok (.putfield 221, 3) := dk_181 0 221 (dk_at dksX4_removes_2 12 rfl rfl)
theorem dX4_removes_62 : decode cX4_removes 62 = .ok (.bipush 10, 2) := dk_16 10 (dk_at dksX4_removes_2 15 rfl rfl)
theorem dX4_removes_64 : decode cX4_removes 64 = .ok (.ireturn, 1) := dk_172 (dk_at dksX4_removes_2 17 rfl rfl)
abbrev cX4_boundOf : ByteArray := prog_12_method_10_code
def yX4_boundOf : MethodName := ⟨RX4, "boundOf", "(I)I"⟩
def dkwX4_boundOf_1 : List UInt8 := [160, 0, 10, 44, 180, 0, 126, 29, 46, 172, 132, 3, 1, 167, 255, 228, 2, 172]
abbrev dktX4_boundOf_1 : List UInt8 := dkwX4_boundOf_1 ++ []
def dkwX4_boundOf_0 : List UInt8 := [42, 182, 0, 117, 77, 3, 62, 29, 44, 180, 0, 120, 162, 0, 26, 44, 180, 0, 123, 29, 46, 27]
abbrev dktX4_boundOf_0 : List UInt8 := dkwX4_boundOf_0 ++ dktX4_boundOf_1
theorem dksX4_boundOf_0 : cX4_boundOf.data.toList.drop 0 = dktX4_boundOf_0 := by decide +kernel
theorem dksX4_boundOf_1 : cX4_boundOf.data.toList.drop 22 = dktX4_boundOf_1 := dk_seg dksX4_boundOf_0 22 rfl rfl
theorem dX4_boundOf_0 : decode cX4_boundOf 0 = .ok (.aload_n 0, 1) := dk_42 (dk_at dksX4_boundOf_0 0 rfl rfl)
theorem dX4_boundOf_1 : decode cX4_boundOf 1 = .ok (.invokevirtual 117, 3) := dk_182 0 117 (dk_at dksX4_boundOf_0 1 rfl rfl)
theorem dX4_boundOf_4 : decode cX4_boundOf 4 = .ok (.astore_n 2, 1) := dk_77 (dk_at dksX4_boundOf_0 4 rfl rfl)
theorem dX4_boundOf_5 : decode cX4_boundOf 5 = .ok (.iconst 0, 1) := dk_3 (dk_at dksX4_boundOf_0 5 rfl rfl)
theorem dX4_boundOf_6 : decode cX4_boundOf 6 = .ok (.istore_n 3, 1) := dk_62 (dk_at dksX4_boundOf_0 6 rfl rfl)
theorem dX4_boundOf_7 : decode cX4_boundOf 7 = .ok (.iload_n 3, 1) := dk_29 (dk_at dksX4_boundOf_0 7 rfl rfl)
theorem dX4_boundOf_8 : decode cX4_boundOf 8 = .ok (.aload_n 2, 1) := dk_44 (dk_at dksX4_boundOf_0 8 rfl rfl)
theorem dX4_boundOf_9 : decode cX4_boundOf 9 = .ok (.getfield 120, 3) := dk_180 0 120 (dk_at dksX4_boundOf_0 9 rfl rfl)
theorem dX4_boundOf_12 : decode cX4_boundOf 12 = .ok (.if_icmp .ge 26, 3) := dk_162 0 26 (dk_at dksX4_boundOf_0 12 rfl rfl)
theorem dX4_boundOf_15 : decode cX4_boundOf 15 = .ok (.aload_n 2, 1) := dk_44 (dk_at dksX4_boundOf_0 15 rfl rfl)
theorem dX4_boundOf_16 : decode cX4_boundOf 16 = .ok (.getfield 123, 3) := dk_180 0 123 (dk_at dksX4_boundOf_0 16 rfl rfl)
theorem dX4_boundOf_19 : decode cX4_boundOf 19 = .ok (.iload_n 3, 1) := dk_29 (dk_at dksX4_boundOf_0 19 rfl rfl)
theorem dX4_boundOf_20 : decode cX4_boundOf 20 = .ok (.iaload, 1) := dk_46 (dk_at dksX4_boundOf_0 20 rfl rfl)
theorem dX4_boundOf_21 : decode cX4_boundOf 21 = .ok (.iload_n 1, 1) := dk_27 (dk_at dksX4_boundOf_0 21 rfl rfl)
theorem dX4_boundOf_22 : decode cX4_boundOf 22 = .ok (.if_icmp .ne 10, 3) := dk_160 0 10 (dk_at dksX4_boundOf_1 0 rfl rfl)
theorem dX4_boundOf_25 : decode cX4_boundOf 25 = .ok (.aload_n 2, 1) := dk_44 (dk_at dksX4_boundOf_1 3 rfl rfl)
theorem dX4_boundOf_26 : decode cX4_boundOf 26 = .ok (.getfield 126, 3) := dk_180 0 126 (dk_at dksX4_boundOf_1 4 rfl rfl)
theorem dX4_boundOf_29 : decode cX4_boundOf 29 = .ok (.iload_n 3, 1) := dk_29 (dk_at dksX4_boundOf_1 7 rfl rfl)
theorem dX4_boundOf_30 : decode cX4_boundOf 30 = .ok (.iaload, 1) := dk_46 (dk_at dksX4_boundOf_1 8 rfl rfl)
theorem dX4_boundOf_31 : decode cX4_boundOf 31 = .ok (.ireturn, 1) := dk_172 (dk_at dksX4_boundOf_1 9 rfl rfl)
theorem dX4_boundOf_32 : decode cX4_boundOf 32 = .ok (.iinc 3 1, 3) := dk_132 3 1 (dk_at dksX4_boundOf_1 10 rfl rfl)
theorem dX4_boundOf_35 : decode cX4_boundOf 35 = .ok (.goto (-28), 3) := dk_167 255 228 (dk_at dksX4_boundOf_1 13 rfl rfl)
theorem dX4_boundOf_38 : decode cX4_boundOf 38 = .ok (.iconst (-1), 1) := dk_2 (dk_at dksX4_boundOf_1 16 rfl rfl)
theorem dX4_boundOf_39 : decode cX4_boundOf 39 = .ok (.ireturn, 1) := dk_172 (dk_at dksX4_boundOf_1 17 rfl rfl)
abbrev cX4_looksLeft : ByteArray := prog_12_method_32_code
def yX4_looksLeft : MethodName := ⟨RX4, "looksLeft", "(LDeltaIndex$Hand;)I"⟩
def dkwX4_looksLeft_6 : List UInt8 := [181, 0, 217, 43, 42, 180, 0, 17, 43, 180, 1, 10, 46, 181, 0, 238, 16, 11, 172]
abbrev dktX4_looksLeft_6 : List UInt8 := dkwX4_looksLeft_6 ++ []
def dkwX4_looksLeft_5 : List UInt8 := [163, 0, 17, 42, 180, 0, 28, 180, 0, 133, 43, 180, 0, 221, 159, 0, 6, 16, 12, 172, 43, 28]
abbrev dktX4_looksLeft_5 : List UInt8 := dkwX4_looksLeft_5 ++ dktX4_looksLeft_6
def dkwX4_looksLeft_4 : List UInt8 := [180, 0, 74, 42, 180, 0, 28, 180, 0, 133, 182, 0, 224, 172, 42, 180, 0, 28, 180, 0, 74, 28]
abbrev dktX4_looksLeft_4 : List UInt8 := dkwX4_looksLeft_4 ++ dktX4_looksLeft_5
def dkwX4_looksLeft_3 : List UInt8 := [180, 0, 28, 182, 0, 113, 42, 180, 0, 28, 180, 0, 74, 28, 162, 0, 23, 42, 43, 42, 180, 0, 28]
abbrev dktX4_looksLeft_3 : List UInt8 := dkwX4_looksLeft_3 ++ dktX4_looksLeft_4
def dkwX4_looksLeft_2 : List UInt8 := [182, 0, 139, 153, 0, 14, 43, 43, 180, 1, 10, 181, 0, 221, 16, 10, 172, 42, 43, 180, 1, 10, 42]
abbrev dktX4_looksLeft_2 : List UInt8 := dkwX4_looksLeft_2 ++ dktX4_looksLeft_3
def dkwX4_looksLeft_1 : List UInt8 := [180, 0, 123, 42, 180, 0, 32, 28, 182, 0, 129, 4, 100, 46, 181, 1, 10, 42, 43, 180, 1, 10]
abbrev dktX4_looksLeft_1 : List UInt8 := dkwX4_looksLeft_1 ++ dktX4_looksLeft_2
def dkwX4_looksLeft_0 : List UInt8 := [42, 43, 180, 0, 221, 182, 1, 7, 61, 28, 156, 0, 8, 43, 182, 0, 246, 172, 43, 42, 180, 0, 32]
abbrev dktX4_looksLeft_0 : List UInt8 := dkwX4_looksLeft_0 ++ dktX4_looksLeft_1
theorem dksX4_looksLeft_0 : cX4_looksLeft.data.toList.drop 0 = dktX4_looksLeft_0 := by decide +kernel
theorem dksX4_looksLeft_1 : cX4_looksLeft.data.toList.drop 23 = dktX4_looksLeft_1 := dk_seg dksX4_looksLeft_0 23 rfl rfl
theorem dksX4_looksLeft_2 : cX4_looksLeft.data.toList.drop 45 = dktX4_looksLeft_2 := dk_seg dksX4_looksLeft_1 22 rfl rfl
theorem dksX4_looksLeft_3 : cX4_looksLeft.data.toList.drop 68 = dktX4_looksLeft_3 := dk_seg dksX4_looksLeft_2 23 rfl rfl
theorem dksX4_looksLeft_4 : cX4_looksLeft.data.toList.drop 91 = dktX4_looksLeft_4 := dk_seg dksX4_looksLeft_3 23 rfl rfl
theorem dksX4_looksLeft_5 : cX4_looksLeft.data.toList.drop 113 = dktX4_looksLeft_5 := dk_seg dksX4_looksLeft_4 22 rfl rfl
theorem dksX4_looksLeft_6 : cX4_looksLeft.data.toList.drop 135 = dktX4_looksLeft_6 := dk_seg dksX4_looksLeft_5 22 rfl rfl
theorem dX4_looksLeft_0 : decode cX4_looksLeft 0 = .ok (.aload_n 0, 1) := dk_42 (dk_at dksX4_looksLeft_0 0 rfl rfl)
theorem dX4_looksLeft_1 : decode cX4_looksLeft 1 = .ok (.aload_n 1, 1) := dk_43 (dk_at dksX4_looksLeft_0 1 rfl rfl)
theorem dX4_looksLeft_2 : decode cX4_looksLeft 2 = .ok (.getfield 221, 3) := dk_180 0 221 (dk_at dksX4_looksLeft_0 2 rfl rfl)
theorem dX4_looksLeft_5 : decode cX4_looksLeft 5 = .ok (.invokevirtual 263, 3) := dk_182 1 7 (dk_at dksX4_looksLeft_0 5 rfl rfl)
theorem dX4_looksLeft_8 : decode cX4_looksLeft 8 = .ok (.istore_n 2, 1) := dk_61 (dk_at dksX4_looksLeft_0 8 rfl rfl)
theorem dX4_looksLeft_9 : decode cX4_looksLeft 9 = .ok (.iload_n 2, 1) := dk_28 (dk_at dksX4_looksLeft_0 9 rfl rfl)
theorem dX4_looksLeft_10 : decode cX4_looksLeft 10 = .ok (.ifCond .ge 8, 3) := dk_156 0 8 (dk_at dksX4_looksLeft_0 10 rfl rfl)
theorem dX4_looksLeft_13 : decode cX4_looksLeft 13 = .ok (.aload_n 1, 1) := dk_43 (dk_at dksX4_looksLeft_0 13 rfl rfl)
theorem dX4_looksLeft_14 : decode cX4_looksLeft 14 = .ok (.invokevirtual 246, 3) := dk_182 0 246 (dk_at dksX4_looksLeft_0 14 rfl rfl)
theorem dX4_looksLeft_17 : decode cX4_looksLeft 17 = .ok (.ireturn, 1) := dk_172 (dk_at dksX4_looksLeft_0 17 rfl rfl)
theorem dX4_looksLeft_18 : decode cX4_looksLeft 18 = .ok (.aload_n 1, 1) := dk_43 (dk_at dksX4_looksLeft_0 18 rfl rfl)
theorem dX4_looksLeft_19 : decode cX4_looksLeft 19 = .ok (.aload_n 0, 1) := dk_42 (dk_at dksX4_looksLeft_0 19 rfl rfl)
theorem dX4_looksLeft_20 : decode cX4_looksLeft 20 = .ok (.getfield 32, 3) := dk_180 0 32 (dk_at dksX4_looksLeft_0 20 rfl rfl)
theorem dX4_looksLeft_23 : decode cX4_looksLeft 23 = .ok (.getfield 123, 3) := dk_180 0 123 (dk_at dksX4_looksLeft_1 0 rfl rfl)
theorem dX4_looksLeft_26 : decode cX4_looksLeft 26 = .ok (.aload_n 0, 1) := dk_42 (dk_at dksX4_looksLeft_1 3 rfl rfl)
theorem dX4_looksLeft_27 : decode cX4_looksLeft 27 = .ok (.getfield 32, 3) := dk_180 0 32 (dk_at dksX4_looksLeft_1 4 rfl rfl)
theorem dX4_looksLeft_30 : decode cX4_looksLeft 30 = .ok (.iload_n 2, 1) := dk_28 (dk_at dksX4_looksLeft_1 7 rfl rfl)
theorem dX4_looksLeft_31 : decode cX4_looksLeft 31 = .ok (.invokevirtual 129, 3) := dk_182 0 129 (dk_at dksX4_looksLeft_1 8 rfl rfl)
theorem dX4_looksLeft_34 : decode cX4_looksLeft 34 = .ok (.iconst 1, 1) := dk_4 (dk_at dksX4_looksLeft_1 11 rfl rfl)
theorem dX4_looksLeft_35 : decode cX4_looksLeft 35 = .ok (.isub, 1) := dk_100 (dk_at dksX4_looksLeft_1 12 rfl rfl)
theorem dX4_looksLeft_36 : decode cX4_looksLeft 36 = .ok (.iaload, 1) := dk_46 (dk_at dksX4_looksLeft_1 13 rfl rfl)
theorem dX4_looksLeft_37 : decode cX4_looksLeft 37 = .ok (.putfield 266, 3) := dk_181 1 10 (dk_at dksX4_looksLeft_1 14 rfl rfl)
theorem dX4_looksLeft_40 : decode cX4_looksLeft 40 = .ok (.aload_n 0, 1) := dk_42 (dk_at dksX4_looksLeft_1 17 rfl rfl)
theorem dX4_looksLeft_41 : decode cX4_looksLeft 41 = .ok (.aload_n 1, 1) := dk_43 (dk_at dksX4_looksLeft_1 18 rfl rfl)
theorem dX4_looksLeft_42 : decode cX4_looksLeft 42 = .ok (.getfield 266, 3) := dk_180 1 10 (dk_at dksX4_looksLeft_1 19 rfl rfl)
theorem dX4_looksLeft_45 : decode cX4_looksLeft 45 = .ok (.invokevirtual 139, 3) := dk_182 0 139 (dk_at dksX4_looksLeft_2 0 rfl rfl)
theorem dX4_looksLeft_48 : decode cX4_looksLeft 48 = .ok (.ifCond .eq 14, 3) := dk_153 0 14 (dk_at dksX4_looksLeft_2 3 rfl rfl)
theorem dX4_looksLeft_51 : decode cX4_looksLeft 51 = .ok (.aload_n 1, 1) := dk_43 (dk_at dksX4_looksLeft_2 6 rfl rfl)
theorem dX4_looksLeft_52 : decode cX4_looksLeft 52 = .ok (.aload_n 1, 1) := dk_43 (dk_at dksX4_looksLeft_2 7 rfl rfl)
theorem dX4_looksLeft_53 : decode cX4_looksLeft 53 = .ok (.getfield 266, 3) := dk_180 1 10 (dk_at dksX4_looksLeft_2 8 rfl rfl)
theorem dX4_looksLeft_56 : decode cX4_looksLeft 56 = .ok (.putfield 221, 3) := dk_181 0 221 (dk_at dksX4_looksLeft_2 11 rfl rfl)
theorem dX4_looksLeft_59 : decode cX4_looksLeft 59 = .ok (.bipush 10, 2) := dk_16 10 (dk_at dksX4_looksLeft_2 14 rfl rfl)
theorem dX4_looksLeft_61 : decode cX4_looksLeft 61 = .ok (.ireturn, 1) := dk_172 (dk_at dksX4_looksLeft_2 16 rfl rfl)
theorem dX4_looksLeft_62 : decode cX4_looksLeft 62 = .ok (.aload_n 0, 1) := dk_42 (dk_at dksX4_looksLeft_2 17 rfl rfl)
theorem dX4_looksLeft_63 : decode cX4_looksLeft 63 = .ok (.aload_n 1, 1) := dk_43 (dk_at dksX4_looksLeft_2 18 rfl rfl)
theorem dX4_looksLeft_64 : decode cX4_looksLeft 64 = .ok (.getfield 266, 3) := dk_180 1 10 (dk_at dksX4_looksLeft_2 19 rfl rfl)
theorem dX4_looksLeft_67 : decode cX4_looksLeft 67 = .ok (.aload_n 0, 1) := dk_42 (dk_at dksX4_looksLeft_2 22 rfl rfl)
theorem dX4_looksLeft_68 : decode cX4_looksLeft 68 = .ok (.getfield 28, 3) := dk_180 0 28 (dk_at dksX4_looksLeft_3 0 rfl rfl)
theorem dX4_looksLeft_71 : decode cX4_looksLeft 71 = .ok (.invokevirtual 113, 3) := dk_182 0 113 (dk_at dksX4_looksLeft_3 3 rfl rfl)
theorem dX4_looksLeft_74 : decode cX4_looksLeft 74 = .ok (.aload_n 0, 1) := dk_42 (dk_at dksX4_looksLeft_3 6 rfl rfl)
theorem dX4_looksLeft_75 : decode cX4_looksLeft 75 = .ok (.getfield 28, 3) := dk_180 0 28 (dk_at dksX4_looksLeft_3 7 rfl rfl)
theorem dX4_looksLeft_78 : decode cX4_looksLeft 78 = .ok (.getfield 74, 3) := dk_180 0 74 (dk_at dksX4_looksLeft_3 10 rfl rfl)
theorem dX4_looksLeft_81 : decode cX4_looksLeft 81 = .ok (.iload_n 2, 1) := dk_28 (dk_at dksX4_looksLeft_3 13 rfl rfl)
theorem dX4_looksLeft_82 : decode cX4_looksLeft 82 = .ok (.if_icmp .ge 23, 3) := dk_162 0 23 (dk_at dksX4_looksLeft_3 14 rfl rfl)
theorem dX4_looksLeft_85 : decode cX4_looksLeft 85 = .ok (.aload_n 0, 1) := dk_42 (dk_at dksX4_looksLeft_3 17 rfl rfl)
theorem dX4_looksLeft_86 : decode cX4_looksLeft 86 = .ok (.aload_n 1, 1) := dk_43 (dk_at dksX4_looksLeft_3 18 rfl rfl)
theorem dX4_looksLeft_87 : decode cX4_looksLeft 87 = .ok (.aload_n 0, 1) := dk_42 (dk_at dksX4_looksLeft_3 19 rfl rfl)
theorem dX4_looksLeft_88 : decode cX4_looksLeft 88 = .ok (.getfield 28, 3) := dk_180 0 28 (dk_at dksX4_looksLeft_3 20 rfl rfl)
theorem dX4_looksLeft_91 : decode cX4_looksLeft 91 = .ok (.getfield 74, 3) := dk_180 0 74 (dk_at dksX4_looksLeft_4 0 rfl rfl)
theorem dX4_looksLeft_94 : decode cX4_looksLeft 94 = .ok (.aload_n 0, 1) := dk_42 (dk_at dksX4_looksLeft_4 3 rfl rfl)
theorem dX4_looksLeft_95 : decode cX4_looksLeft 95 = .ok (.getfield 28, 3) := dk_180 0 28 (dk_at dksX4_looksLeft_4 4 rfl rfl)
theorem dX4_looksLeft_98 : decode cX4_looksLeft 98 = .ok (.getfield 133, 3) := dk_180 0 133 (dk_at dksX4_looksLeft_4 7 rfl rfl)
theorem dX4_looksLeft_101 : decode cX4_looksLeft 101 = .ok (.invokevirtual 224, 3) := dk_182 0 224 (dk_at dksX4_looksLeft_4 10 rfl rfl)
theorem dX4_looksLeft_104 : decode cX4_looksLeft 104 = .ok (.ireturn, 1) := dk_172 (dk_at dksX4_looksLeft_4 13 rfl rfl)
theorem dX4_looksLeft_105 : decode cX4_looksLeft 105 = .ok (.aload_n 0, 1) := dk_42 (dk_at dksX4_looksLeft_4 14 rfl rfl)
theorem dX4_looksLeft_106 : decode cX4_looksLeft 106 = .ok (.getfield 28, 3) := dk_180 0 28 (dk_at dksX4_looksLeft_4 15 rfl rfl)
theorem dX4_looksLeft_109 : decode cX4_looksLeft 109 = .ok (.getfield 74, 3) := dk_180 0 74 (dk_at dksX4_looksLeft_4 18 rfl rfl)
theorem dX4_looksLeft_112 : decode cX4_looksLeft 112 = .ok (.iload_n 2, 1) := dk_28 (dk_at dksX4_looksLeft_4 21 rfl rfl)
theorem dX4_looksLeft_113 : decode cX4_looksLeft 113 = .ok (.if_icmp .gt 17, 3) := dk_163 0 17 (dk_at dksX4_looksLeft_5 0 rfl rfl)
theorem dX4_looksLeft_116 : decode cX4_looksLeft 116 = .ok (.aload_n 0, 1) := dk_42 (dk_at dksX4_looksLeft_5 3 rfl rfl)
theorem dX4_looksLeft_117 : decode cX4_looksLeft 117 = .ok (.getfield 28, 3) := dk_180 0 28 (dk_at dksX4_looksLeft_5 4 rfl rfl)
theorem dX4_looksLeft_120 : decode cX4_looksLeft 120 = .ok (.getfield 133, 3) := dk_180 0 133 (dk_at dksX4_looksLeft_5 7 rfl rfl)
theorem dX4_looksLeft_123 : decode cX4_looksLeft 123 = .ok (.aload_n 1, 1) := dk_43 (dk_at dksX4_looksLeft_5 10 rfl rfl)
theorem dX4_looksLeft_124 : decode cX4_looksLeft 124 = .ok (.getfield 221, 3) := dk_180 0 221 (dk_at dksX4_looksLeft_5 11 rfl rfl)
theorem dX4_looksLeft_127 : decode cX4_looksLeft 127 = .ok (.if_icmp .eq 6, 3) := dk_159 0 6 (dk_at dksX4_looksLeft_5 14 rfl rfl)
theorem dX4_looksLeft_130 : decode cX4_looksLeft 130 = .ok (.bipush 12, 2) := dk_16 12 (dk_at dksX4_looksLeft_5 17 rfl rfl)
theorem dX4_looksLeft_132 : decode cX4_looksLeft 132 = .ok (.ireturn, 1) := dk_172 (dk_at dksX4_looksLeft_5 19 rfl rfl)
theorem dX4_looksLeft_133 : decode cX4_looksLeft 133 = .ok (.aload_n 1, 1) := dk_43 (dk_at dksX4_looksLeft_5 20 rfl rfl)
theorem dX4_looksLeft_134 : decode cX4_looksLeft 134 = .ok (.iload_n 2, 1) := dk_28 (dk_at dksX4_looksLeft_5 21 rfl rfl)
theorem dX4_looksLeft_135 : decode cX4_looksLeft 135 = .ok (.putfield 217, 3) := dk_181 0 217 (dk_at dksX4_looksLeft_6 0 rfl rfl)
theorem dX4_looksLeft_138 : decode cX4_looksLeft 138 = .ok (.aload_n 1, 1) := dk_43 (dk_at dksX4_looksLeft_6 3 rfl rfl)
theorem dX4_looksLeft_139 : decode cX4_looksLeft 139 = .ok (.aload_n 0, 1) := dk_42 (dk_at dksX4_looksLeft_6 4 rfl rfl)
theorem dX4_looksLeft_140 : decode cX4_looksLeft 140 = .ok (.getfield 17, 3) := dk_180 0 17 (dk_at dksX4_looksLeft_6 5 rfl rfl)
theorem dX4_looksLeft_143 : decode cX4_looksLeft 143 = .ok (.aload_n 1, 1) := dk_43 (dk_at dksX4_looksLeft_6 8 rfl rfl)
theorem dX4_looksLeft_144 : decode cX4_looksLeft 144 = .ok (.getfield 266, 3) := dk_180 1 10 (dk_at dksX4_looksLeft_6 9 rfl rfl)
theorem dX4_looksLeft_147 : decode cX4_looksLeft 147 = .ok (.iaload, 1) := dk_46 (dk_at dksX4_looksLeft_6 12 rfl rfl)
theorem dX4_looksLeft_148 : decode cX4_looksLeft 148 = .ok (.putfield 238, 3) := dk_181 0 238 (dk_at dksX4_looksLeft_6 13 rfl rfl)
theorem dX4_looksLeft_151 : decode cX4_looksLeft 151 = .ok (.bipush 11, 2) := dk_16 11 (dk_at dksX4_looksLeft_6 16 rfl rfl)
theorem dX4_looksLeft_153 : decode cX4_looksLeft 153 = .ok (.ireturn, 1) := dk_172 (dk_at dksX4_looksLeft_6 18 rfl rfl)
abbrev cX4_joins : ByteArray := prog_12_method_33_code
def yX4_joins : MethodName := ⟨RX4, "joins", "(LDeltaIndex$Hand;)I"⟩
def dkwX4_joins_3 : List UInt8 := [180, 1, 10, 28, 79, 16, 12, 172]
abbrev dktX4_joins_3 : List UInt8 := dkwX4_joins_3 ++ []
def dkwX4_joins_2 : List UInt8 := [180, 0, 11, 42, 180, 0, 17, 43, 180, 0, 221, 46, 50, 180, 0, 99, 181, 0, 252, 42, 180, 0, 17, 43]
abbrev dktX4_joins_2 : List UInt8 := dkwX4_joins_2 ++ dktX4_joins_3
def dkwX4_joins_1 : List UInt8 := [8, 43, 180, 0, 217, 43, 180, 0, 221, 43, 180, 0, 238, 182, 0, 66, 61, 42, 180, 0, 11, 28, 50, 42]
abbrev dktX4_joins_1 : List UInt8 := dkwX4_joins_1 ++ dktX4_joins_2
def dkwX4_joins_0 : List UInt8 := [42, 180, 0, 17, 43, 180, 1, 10, 46, 43, 180, 0, 238, 159, 0, 10, 43, 16, 10, 182, 0, 241, 172, 42]
abbrev dktX4_joins_0 : List UInt8 := dkwX4_joins_0 ++ dktX4_joins_1
theorem dksX4_joins_0 : cX4_joins.data.toList.drop 0 = dktX4_joins_0 := by decide +kernel
theorem dksX4_joins_1 : cX4_joins.data.toList.drop 24 = dktX4_joins_1 := dk_seg dksX4_joins_0 24 rfl rfl
theorem dksX4_joins_2 : cX4_joins.data.toList.drop 48 = dktX4_joins_2 := dk_seg dksX4_joins_1 24 rfl rfl
theorem dksX4_joins_3 : cX4_joins.data.toList.drop 72 = dktX4_joins_3 := dk_seg dksX4_joins_2 24 rfl rfl
theorem dX4_joins_0 : decode cX4_joins 0 = .ok (.aload_n 0, 1) := dk_42 (dk_at dksX4_joins_0 0 rfl rfl)
theorem dX4_joins_1 : decode cX4_joins 1 = .ok (.getfield 17, 3) := dk_180 0 17 (dk_at dksX4_joins_0 1 rfl rfl)
theorem dX4_joins_4 : decode cX4_joins 4 = .ok (.aload_n 1, 1) := dk_43 (dk_at dksX4_joins_0 4 rfl rfl)
theorem dX4_joins_5 : decode cX4_joins 5 = .ok (.getfield 266, 3) := dk_180 1 10 (dk_at dksX4_joins_0 5 rfl rfl)
theorem dX4_joins_8 : decode cX4_joins 8 = .ok (.iaload, 1) := dk_46 (dk_at dksX4_joins_0 8 rfl rfl)
theorem dX4_joins_9 : decode cX4_joins 9 = .ok (.aload_n 1, 1) := dk_43 (dk_at dksX4_joins_0 9 rfl rfl)
theorem dX4_joins_10 : decode cX4_joins 10 = .ok (.getfield 238, 3) := dk_180 0 238 (dk_at dksX4_joins_0 10 rfl rfl)
theorem dX4_joins_13 : decode cX4_joins 13 = .ok (.if_icmp .eq 10, 3) := dk_159 0 10 (dk_at dksX4_joins_0 13 rfl rfl)
theorem dX4_joins_16 : decode cX4_joins 16 = .ok (.aload_n 1, 1) := dk_43 (dk_at dksX4_joins_0 16 rfl rfl)
theorem dX4_joins_17 : decode cX4_joins 17 = .ok (.bipush 10, 2) := dk_16 10 (dk_at dksX4_joins_0 17 rfl rfl)
theorem dX4_joins_19 : decode cX4_joins 19 = .ok (.invokevirtual 241, 3) := dk_182 0 241 (dk_at dksX4_joins_0 19 rfl rfl)
theorem dX4_joins_22 : decode cX4_joins 22 = .ok (.ireturn, 1) := dk_172 (dk_at dksX4_joins_0 22 rfl rfl)
theorem dX4_joins_23 : decode cX4_joins 23 = .ok (.aload_n 0, 1) := dk_42 (dk_at dksX4_joins_0 23 rfl rfl)
theorem dX4_joins_24 : decode cX4_joins 24 = .ok (.iconst 5, 1) := dk_8 (dk_at dksX4_joins_1 0 rfl rfl)
theorem dX4_joins_25 : decode cX4_joins 25 = .ok (.aload_n 1, 1) := dk_43 (dk_at dksX4_joins_1 1 rfl rfl)
theorem dX4_joins_26 : decode cX4_joins 26 = .ok (.getfield 217, 3) := dk_180 0 217 (dk_at dksX4_joins_1 2 rfl rfl)
theorem dX4_joins_29 : decode cX4_joins 29 = .ok (.aload_n 1, 1) := dk_43 (dk_at dksX4_joins_1 5 rfl rfl)
theorem dX4_joins_30 : decode cX4_joins 30 = .ok (.getfield 221, 3) := dk_180 0 221 (dk_at dksX4_joins_1 6 rfl rfl)
theorem dX4_joins_33 : decode cX4_joins 33 = .ok (.aload_n 1, 1) := dk_43 (dk_at dksX4_joins_1 9 rfl rfl)
theorem dX4_joins_34 : decode cX4_joins 34 = .ok (.getfield 238, 3) := dk_180 0 238 (dk_at dksX4_joins_1 10 rfl rfl)
theorem dX4_joins_37 : decode cX4_joins 37 = .ok (.invokevirtual 66, 3) := dk_182 0 66 (dk_at dksX4_joins_1 13 rfl rfl)
theorem dX4_joins_40 : decode cX4_joins 40 = .ok (.istore_n 2, 1) := dk_61 (dk_at dksX4_joins_1 16 rfl rfl)
theorem dX4_joins_41 : decode cX4_joins 41 = .ok (.aload_n 0, 1) := dk_42 (dk_at dksX4_joins_1 17 rfl rfl)
theorem dX4_joins_42 : decode cX4_joins 42 = .ok (.getfield 11, 3) := dk_180 0 11 (dk_at dksX4_joins_1 18 rfl rfl)
theorem dX4_joins_45 : decode cX4_joins 45 = .ok (.iload_n 2, 1) := dk_28 (dk_at dksX4_joins_1 21 rfl rfl)
theorem dX4_joins_46 : decode cX4_joins 46 = .ok (.aaload, 1) := dk_50 (dk_at dksX4_joins_1 22 rfl rfl)
theorem dX4_joins_47 : decode cX4_joins 47 = .ok (.aload_n 0, 1) := dk_42 (dk_at dksX4_joins_1 23 rfl rfl)
theorem dX4_joins_48 : decode cX4_joins 48 = .ok (.getfield 11, 3) := dk_180 0 11 (dk_at dksX4_joins_2 0 rfl rfl)
theorem dX4_joins_51 : decode cX4_joins 51 = .ok (.aload_n 0, 1) := dk_42 (dk_at dksX4_joins_2 3 rfl rfl)
theorem dX4_joins_52 : decode cX4_joins 52 = .ok (.getfield 17, 3) := dk_180 0 17 (dk_at dksX4_joins_2 4 rfl rfl)
theorem dX4_joins_55 : decode cX4_joins 55 = .ok (.aload_n 1, 1) := dk_43 (dk_at dksX4_joins_2 7 rfl rfl)
theorem dX4_joins_56 : decode cX4_joins 56 = .ok (.getfield 221, 3) := dk_180 0 221 (dk_at dksX4_joins_2 8 rfl rfl)
theorem dX4_joins_59 : decode cX4_joins 59 = .ok (.iaload, 1) := dk_46 (dk_at dksX4_joins_2 11 rfl rfl)
theorem dX4_joins_60 : decode cX4_joins 60 = .ok (.aaload, 1) := dk_50 (dk_at dksX4_joins_2 12 rfl rfl)
theorem dX4_joins_61 : decode cX4_joins 61 = .ok (.getfield 99, 3) := dk_180 0 99 (dk_at dksX4_joins_2 13 rfl rfl)
theorem dX4_joins_64 : decode cX4_joins 64 = .ok (.putfield 252, 3) := dk_181 0 252 (dk_at dksX4_joins_2 16 rfl rfl)
theorem dX4_joins_67 : decode cX4_joins 67 = .ok (.aload_n 0, 1) := dk_42 (dk_at dksX4_joins_2 19 rfl rfl)
theorem dX4_joins_68 : decode cX4_joins 68 = .ok (.getfield 17, 3) := dk_180 0 17 (dk_at dksX4_joins_2 20 rfl rfl)
theorem dX4_joins_71 : decode cX4_joins 71 = .ok (.aload_n 1, 1) := dk_43 (dk_at dksX4_joins_2 23 rfl rfl)
theorem dX4_joins_72 : decode cX4_joins 72 = .ok (.getfield 266, 3) := dk_180 1 10 (dk_at dksX4_joins_3 0 rfl rfl)
theorem dX4_joins_75 : decode cX4_joins 75 = .ok (.iload_n 2, 1) := dk_28 (dk_at dksX4_joins_3 3 rfl rfl)
theorem dX4_joins_76 : decode cX4_joins 76 = .ok (.iastore, 1) := dk_79 (dk_at dksX4_joins_3 4 rfl rfl)
theorem dX4_joins_77 : decode cX4_joins 77 = .ok (.bipush 12, 2) := dk_16 12 (dk_at dksX4_joins_3 5 rfl rfl)
theorem dX4_joins_79 : decode cX4_joins 79 = .ok (.ireturn, 1) := dk_172 (dk_at dksX4_joins_3 7 rfl rfl)
abbrev cX4_looks : ByteArray := prog_12_method_34_code
def yX4_looks : MethodName := ⟨RX4, "looks", "(LDeltaIndex$Hand;)I"⟩
def dkwX4_looks_1 : List UInt8 := [181, 0, 238, 16, 13, 172]
abbrev dktX4_looks_1 : List UInt8 := dkwX4_looks_1 ++ []
def dkwX4_looks_0 : List UInt8 := [42, 43, 180, 0, 221, 182, 1, 7, 156, 0, 8, 43, 182, 0, 246, 172, 43, 42, 180, 0, 17, 3, 46]
abbrev dktX4_looks_0 : List UInt8 := dkwX4_looks_0 ++ dktX4_looks_1
theorem dksX4_looks_0 : cX4_looks.data.toList.drop 0 = dktX4_looks_0 := by decide +kernel
theorem dksX4_looks_1 : cX4_looks.data.toList.drop 23 = dktX4_looks_1 := dk_seg dksX4_looks_0 23 rfl rfl
theorem dX4_looks_0 : decode cX4_looks 0 = .ok (.aload_n 0, 1) := dk_42 (dk_at dksX4_looks_0 0 rfl rfl)
theorem dX4_looks_1 : decode cX4_looks 1 = .ok (.aload_n 1, 1) := dk_43 (dk_at dksX4_looks_0 1 rfl rfl)
theorem dX4_looks_2 : decode cX4_looks 2 = .ok (.getfield 221, 3) := dk_180 0 221 (dk_at dksX4_looks_0 2 rfl rfl)
theorem dX4_looks_5 : decode cX4_looks 5 = .ok (.invokevirtual 263, 3) := dk_182 1 7 (dk_at dksX4_looks_0 5 rfl rfl)
theorem dX4_looks_8 : decode cX4_looks 8 = .ok (.ifCond .ge 8, 3) := dk_156 0 8 (dk_at dksX4_looks_0 8 rfl rfl)
theorem dX4_looks_11 : decode cX4_looks 11 = .ok (.aload_n 1, 1) := dk_43 (dk_at dksX4_looks_0 11 rfl rfl)
theorem dX4_looks_12 : decode cX4_looks 12 = .ok (.invokevirtual 246, 3) := dk_182 0 246 (dk_at dksX4_looks_0 12 rfl rfl)
theorem dX4_looks_15 : decode cX4_looks 15 = .ok (.ireturn, 1) := dk_172 (dk_at dksX4_looks_0 15 rfl rfl)
theorem dX4_looks_16 : decode cX4_looks 16 = .ok (.aload_n 1, 1) := dk_43 (dk_at dksX4_looks_0 16 rfl rfl)
theorem dX4_looks_17 : decode cX4_looks 17 = .ok (.aload_n 0, 1) := dk_42 (dk_at dksX4_looks_0 17 rfl rfl)
theorem dX4_looks_18 : decode cX4_looks 18 = .ok (.getfield 17, 3) := dk_180 0 17 (dk_at dksX4_looks_0 18 rfl rfl)
theorem dX4_looks_21 : decode cX4_looks 21 = .ok (.iconst 0, 1) := dk_3 (dk_at dksX4_looks_0 21 rfl rfl)
theorem dX4_looks_22 : decode cX4_looks 22 = .ok (.iaload, 1) := dk_46 (dk_at dksX4_looks_0 22 rfl rfl)
theorem dX4_looks_23 : decode cX4_looks 23 = .ok (.putfield 238, 3) := dk_181 0 238 (dk_at dksX4_looks_1 0 rfl rfl)
theorem dX4_looks_26 : decode cX4_looks 26 = .ok (.bipush 13, 2) := dk_16 13 (dk_at dksX4_looks_1 3 rfl rfl)
theorem dX4_looks_28 : decode cX4_looks 28 = .ok (.ireturn, 1) := dk_172 (dk_at dksX4_looks_1 5 rfl rfl)
abbrev cX4_strikes : ByteArray := prog_12_method_35_code
def yX4_strikes : MethodName := ⟨RX4, "strikes", "(LDeltaIndex$Hand;)I"⟩
def dkwX4_strikes_3 : List UInt8 := [180, 0, 60, 181, 0, 249, 42, 43, 182, 1, 4, 172]
abbrev dktX4_strikes_3 : List UInt8 := dkwX4_strikes_3 ++ []
def dkwX4_strikes_2 : List UInt8 := [180, 0, 221, 182, 0, 139, 153, 0, 24, 42, 180, 0, 11, 42, 180, 0, 17, 43, 180, 0, 221, 46, 50, 42]
abbrev dktX4_strikes_2 : List UInt8 := dkwX4_strikes_2 ++ dktX4_strikes_3
def dkwX4_strikes_1 : List UInt8 := [3, 42, 16, 7, 42, 43, 180, 0, 221, 182, 1, 7, 16, 254, 43, 180, 0, 238, 182, 0, 66, 79, 42, 43]
abbrev dktX4_strikes_1 : List UInt8 := dkwX4_strikes_1 ++ dktX4_strikes_2
def dkwX4_strikes_0 : List UInt8 := [42, 180, 0, 17, 3, 46, 43, 180, 0, 238, 159, 0, 10, 43, 16, 12, 182, 0, 241, 172, 42, 180, 0, 17]
abbrev dktX4_strikes_0 : List UInt8 := dkwX4_strikes_0 ++ dktX4_strikes_1
theorem dksX4_strikes_0 : cX4_strikes.data.toList.drop 0 = dktX4_strikes_0 := by decide +kernel
theorem dksX4_strikes_1 : cX4_strikes.data.toList.drop 24 = dktX4_strikes_1 := dk_seg dksX4_strikes_0 24 rfl rfl
theorem dksX4_strikes_2 : cX4_strikes.data.toList.drop 48 = dktX4_strikes_2 := dk_seg dksX4_strikes_1 24 rfl rfl
theorem dksX4_strikes_3 : cX4_strikes.data.toList.drop 72 = dktX4_strikes_3 := dk_seg dksX4_strikes_2 24 rfl rfl
theorem dX4_strikes_0 : decode cX4_strikes 0 = .ok (.aload_n 0, 1) := dk_42 (dk_at dksX4_strikes_0 0 rfl rfl)
theorem dX4_strikes_1 : decode cX4_strikes 1 = .ok (.getfield 17, 3) := dk_180 0 17 (dk_at dksX4_strikes_0 1 rfl rfl)
theorem dX4_strikes_4 : decode cX4_strikes 4 = .ok (.iconst 0, 1) := dk_3 (dk_at dksX4_strikes_0 4 rfl rfl)
theorem dX4_strikes_5 : decode cX4_strikes 5 = .ok (.iaload, 1) := dk_46 (dk_at dksX4_strikes_0 5 rfl rfl)
theorem dX4_strikes_6 : decode cX4_strikes 6 = .ok (.aload_n 1, 1) := dk_43 (dk_at dksX4_strikes_0 6 rfl rfl)
theorem dX4_strikes_7 : decode cX4_strikes 7 = .ok (.getfield 238, 3) := dk_180 0 238 (dk_at dksX4_strikes_0 7 rfl rfl)
theorem dX4_strikes_10 : decode cX4_strikes 10 = .ok (.if_icmp .eq 10, 3) := dk_159 0 10 (dk_at dksX4_strikes_0 10 rfl rfl)
theorem dX4_strikes_13 : decode cX4_strikes 13 = .ok (.aload_n 1, 1) := dk_43 (dk_at dksX4_strikes_0 13 rfl rfl)
theorem dX4_strikes_14 : decode cX4_strikes 14 = .ok (.bipush 12, 2) := dk_16 12 (dk_at dksX4_strikes_0 14 rfl rfl)
theorem dX4_strikes_16 : decode cX4_strikes 16 = .ok (.invokevirtual 241, 3) := dk_182 0 241 (dk_at dksX4_strikes_0 16 rfl rfl)
theorem dX4_strikes_19 : decode cX4_strikes 19 = .ok (.ireturn, 1) := dk_172 (dk_at dksX4_strikes_0 19 rfl rfl)
theorem dX4_strikes_20 : decode cX4_strikes 20 = .ok (.aload_n 0, 1) := dk_42 (dk_at dksX4_strikes_0 20 rfl rfl)
theorem dX4_strikes_21 : decode cX4_strikes 21 = .ok (.getfield 17, 3) := dk_180 0 17 (dk_at dksX4_strikes_0 21 rfl rfl)
theorem dX4_strikes_24 : decode cX4_strikes 24 = .ok (.iconst 0, 1) := dk_3 (dk_at dksX4_strikes_1 0 rfl rfl)
theorem dX4_strikes_25 : decode cX4_strikes 25 = .ok (.aload_n 0, 1) := dk_42 (dk_at dksX4_strikes_1 1 rfl rfl)
theorem dX4_strikes_26 : decode cX4_strikes 26 = .ok (.bipush 7, 2) := dk_16 7 (dk_at dksX4_strikes_1 2 rfl rfl)
theorem dX4_strikes_28 : decode cX4_strikes 28 = .ok (.aload_n 0, 1) := dk_42 (dk_at dksX4_strikes_1 4 rfl rfl)
theorem dX4_strikes_29 : decode cX4_strikes 29 = .ok (.aload_n 1, 1) := dk_43 (dk_at dksX4_strikes_1 5 rfl rfl)
theorem dX4_strikes_30 : decode cX4_strikes 30 = .ok (.getfield 221, 3) := dk_180 0 221 (dk_at dksX4_strikes_1 6 rfl rfl)
theorem dX4_strikes_33 : decode cX4_strikes 33 = .ok (.invokevirtual 263, 3) := dk_182 1 7 (dk_at dksX4_strikes_1 9 rfl rfl)
theorem dX4_strikes_36 : decode cX4_strikes 36 = .ok (.bipush (-2), 2) := dk_16 254 (dk_at dksX4_strikes_1 12 rfl rfl)
theorem dX4_strikes_38 : decode cX4_strikes 38 = .ok (.aload_n 1, 1) := dk_43 (dk_at dksX4_strikes_1 14 rfl rfl)
theorem dX4_strikes_39 : decode cX4_strikes 39 = .ok (.getfield 238, 3) := dk_180 0 238 (dk_at dksX4_strikes_1 15 rfl rfl)
theorem dX4_strikes_42 : decode cX4_strikes 42 = .ok (.invokevirtual 66, 3) := dk_182 0 66 (dk_at dksX4_strikes_1 18 rfl rfl)
theorem dX4_strikes_45 : decode cX4_strikes 45 = .ok (.iastore, 1) := dk_79 (dk_at dksX4_strikes_1 21 rfl rfl)
theorem dX4_strikes_46 : decode cX4_strikes 46 = .ok (.aload_n 0, 1) := dk_42 (dk_at dksX4_strikes_1 22 rfl rfl)
theorem dX4_strikes_47 : decode cX4_strikes 47 = .ok (.aload_n 1, 1) := dk_43 (dk_at dksX4_strikes_1 23 rfl rfl)
theorem dX4_strikes_48 : decode cX4_strikes 48 = .ok (.getfield 221, 3) := dk_180 0 221 (dk_at dksX4_strikes_2 0 rfl rfl)
theorem dX4_strikes_51 : decode cX4_strikes 51 = .ok (.invokevirtual 139, 3) := dk_182 0 139 (dk_at dksX4_strikes_2 3 rfl rfl)
theorem dX4_strikes_54 : decode cX4_strikes 54 = .ok (.ifCond .eq 24, 3) := dk_153 0 24 (dk_at dksX4_strikes_2 6 rfl rfl)
theorem dX4_strikes_57 : decode cX4_strikes 57 = .ok (.aload_n 0, 1) := dk_42 (dk_at dksX4_strikes_2 9 rfl rfl)
theorem dX4_strikes_58 : decode cX4_strikes 58 = .ok (.getfield 11, 3) := dk_180 0 11 (dk_at dksX4_strikes_2 10 rfl rfl)
theorem dX4_strikes_61 : decode cX4_strikes 61 = .ok (.aload_n 0, 1) := dk_42 (dk_at dksX4_strikes_2 13 rfl rfl)
theorem dX4_strikes_62 : decode cX4_strikes 62 = .ok (.getfield 17, 3) := dk_180 0 17 (dk_at dksX4_strikes_2 14 rfl rfl)
theorem dX4_strikes_65 : decode cX4_strikes 65 = .ok (.aload_n 1, 1) := dk_43 (dk_at dksX4_strikes_2 17 rfl rfl)
theorem dX4_strikes_66 : decode cX4_strikes 66 = .ok (.getfield 221, 3) := dk_180 0 221 (dk_at dksX4_strikes_2 18 rfl rfl)
theorem dX4_strikes_69 : decode cX4_strikes 69 = .ok (.iaload, 1) := dk_46 (dk_at dksX4_strikes_2 21 rfl rfl)
theorem dX4_strikes_70 : decode cX4_strikes 70 = .ok (.aaload, 1) := dk_50 (dk_at dksX4_strikes_2 22 rfl rfl)
theorem dX4_strikes_71 : decode cX4_strikes 71 = .ok (.aload_n 0, 1) := dk_42 (dk_at dksX4_strikes_2 23 rfl rfl)
theorem dX4_strikes_72 : decode cX4_strikes 72 = .ok (.getfield 60, 3) := dk_180 0 60 (dk_at dksX4_strikes_3 0 rfl rfl)
theorem dX4_strikes_75 : decode cX4_strikes 75 = .ok (.putfield 249, 3) := dk_181 0 249 (dk_at dksX4_strikes_3 3 rfl rfl)
theorem dX4_strikes_78 : decode cX4_strikes 78 = .ok (.aload_n 0, 1) := dk_42 (dk_at dksX4_strikes_3 6 rfl rfl)
theorem dX4_strikes_79 : decode cX4_strikes 79 = .ok (.aload_n 1, 1) := dk_43 (dk_at dksX4_strikes_3 7 rfl rfl)
theorem dX4_strikes_80 : decode cX4_strikes 80 = .ok (.invokevirtual 260, 3) := dk_182 1 4 (dk_at dksX4_strikes_3 8 rfl rfl)
theorem dX4_strikes_83 : decode cX4_strikes 83 = .ok (.ireturn, 1) := dk_172 (dk_at dksX4_strikes_3 11 rfl rfl)
abbrev cX4_sweeps : ByteArray := prog_12_method_36_code
def yX4_sweeps : MethodName := ⟨RX4, "sweeps", "()I"⟩
def dkwX4_sweeps_5 : List UInt8 := [167, 255, 200, 27, 172]
abbrev dktX4_sweeps_5 : List UInt8 := dkwX4_sweeps_5 ++ []
def dkwX4_sweeps_4 : List UInt8 := [25, 4, 180, 0, 249, 28, 161, 0, 6, 167, 0, 12, 25, 4, 4, 181, 1, 19, 132, 1, 1, 132, 3, 1]
abbrev dktX4_sweeps_4 : List UInt8 := dkwX4_sweeps_4 ++ dktX4_sweeps_5
def dkwX4_sweeps_3 : List UInt8 := [180, 0, 11, 29, 50, 58, 4, 25, 4, 180, 1, 19, 154, 0, 32, 25, 4, 180, 0, 249, 155, 0, 24]
abbrev dktX4_sweeps_3 : List UInt8 := dkwX4_sweeps_3 ++ dktX4_sweeps_4
def dkwX4_sweeps_2 : List UInt8 := [180, 0, 165, 184, 1, 13, 61, 132, 3, 1, 167, 255, 222, 3, 62, 29, 42, 180, 0, 57, 162, 0, 54, 42]
abbrev dktX4_sweeps_2 : List UInt8 := dkwX4_sweeps_2 ++ dktX4_sweeps_3
def dkwX4_sweeps_1 : List UInt8 := [162, 0, 35, 42, 180, 0, 23, 29, 50, 180, 0, 147, 153, 0, 17, 28, 42, 180, 0, 23, 29, 50]
abbrev dktX4_sweeps_1 : List UInt8 := dkwX4_sweeps_1 ++ dktX4_sweeps_2
def dkwX4_sweeps_0 : List UInt8 := [3, 60, 42, 180, 0, 60, 4, 96, 61, 42, 89, 180, 0, 60, 4, 96, 181, 0, 60, 3, 62, 29, 7]
abbrev dktX4_sweeps_0 : List UInt8 := dkwX4_sweeps_0 ++ dktX4_sweeps_1
theorem dksX4_sweeps_0 : cX4_sweeps.data.toList.drop 0 = dktX4_sweeps_0 := by decide +kernel
theorem dksX4_sweeps_1 : cX4_sweeps.data.toList.drop 23 = dktX4_sweeps_1 := dk_seg dksX4_sweeps_0 23 rfl rfl
theorem dksX4_sweeps_2 : cX4_sweeps.data.toList.drop 45 = dktX4_sweeps_2 := dk_seg dksX4_sweeps_1 22 rfl rfl
theorem dksX4_sweeps_3 : cX4_sweeps.data.toList.drop 69 = dktX4_sweeps_3 := dk_seg dksX4_sweeps_2 24 rfl rfl
theorem dksX4_sweeps_4 : cX4_sweeps.data.toList.drop 92 = dktX4_sweeps_4 := dk_seg dksX4_sweeps_3 23 rfl rfl
theorem dksX4_sweeps_5 : cX4_sweeps.data.toList.drop 116 = dktX4_sweeps_5 := dk_seg dksX4_sweeps_4 24 rfl rfl
theorem dX4_sweeps_0 : decode cX4_sweeps 0 = .ok (.iconst 0, 1) := dk_3 (dk_at dksX4_sweeps_0 0 rfl rfl)
theorem dX4_sweeps_1 : decode cX4_sweeps 1 = .ok (.istore_n 1, 1) := dk_60 (dk_at dksX4_sweeps_0 1 rfl rfl)
theorem dX4_sweeps_2 : decode cX4_sweeps 2 = .ok (.aload_n 0, 1) := dk_42 (dk_at dksX4_sweeps_0 2 rfl rfl)
theorem dX4_sweeps_3 : decode cX4_sweeps 3 = .ok (.getfield 60, 3) := dk_180 0 60 (dk_at dksX4_sweeps_0 3 rfl rfl)
theorem dX4_sweeps_6 : decode cX4_sweeps 6 = .ok (.iconst 1, 1) := dk_4 (dk_at dksX4_sweeps_0 6 rfl rfl)
theorem dX4_sweeps_7 : decode cX4_sweeps 7 = .ok (.iadd, 1) := dk_96 (dk_at dksX4_sweeps_0 7 rfl rfl)
theorem dX4_sweeps_8 : decode cX4_sweeps 8 = .ok (.istore_n 2, 1) := dk_61 (dk_at dksX4_sweeps_0 8 rfl rfl)
theorem dX4_sweeps_9 : decode cX4_sweeps 9 = .ok (.aload_n 0, 1) := dk_42 (dk_at dksX4_sweeps_0 9 rfl rfl)
theorem dX4_sweeps_10 : decode cX4_sweeps 10 = .ok (.dup, 1) := dk_89 (dk_at dksX4_sweeps_0 10 rfl rfl)
theorem dX4_sweeps_11 : decode cX4_sweeps 11 = .ok (.getfield 60, 3) := dk_180 0 60 (dk_at dksX4_sweeps_0 11 rfl rfl)
theorem dX4_sweeps_14 : decode cX4_sweeps 14 = .ok (.iconst 1, 1) := dk_4 (dk_at dksX4_sweeps_0 14 rfl rfl)
theorem dX4_sweeps_15 : decode cX4_sweeps 15 = .ok (.iadd, 1) := dk_96 (dk_at dksX4_sweeps_0 15 rfl rfl)
theorem dX4_sweeps_16 : decode cX4_sweeps 16 = .ok (.putfield 60, 3) := dk_181 0 60 (dk_at dksX4_sweeps_0 16 rfl rfl)
theorem dX4_sweeps_19 : decode cX4_sweeps 19 = .ok (.iconst 0, 1) := dk_3 (dk_at dksX4_sweeps_0 19 rfl rfl)
theorem dX4_sweeps_20 : decode cX4_sweeps 20 = .ok (.istore_n 3, 1) := dk_62 (dk_at dksX4_sweeps_0 20 rfl rfl)
theorem dX4_sweeps_21 : decode cX4_sweeps 21 = .ok (.iload_n 3, 1) := dk_29 (dk_at dksX4_sweeps_0 21 rfl rfl)
theorem dX4_sweeps_22 : decode cX4_sweeps 22 = .ok (.iconst 4, 1) := dk_7 (dk_at dksX4_sweeps_0 22 rfl rfl)
theorem dX4_sweeps_23 : decode cX4_sweeps 23 = .ok (.if_icmp .ge 35, 3) := dk_162 0 35 (dk_at dksX4_sweeps_1 0 rfl rfl)
theorem dX4_sweeps_26 : decode cX4_sweeps 26 = .ok (.aload_n 0, 1) := dk_42 (dk_at dksX4_sweeps_1 3 rfl rfl)
theorem dX4_sweeps_27 : decode cX4_sweeps 27 = .ok (.getfield 23, 3) := dk_180 0 23 (dk_at dksX4_sweeps_1 4 rfl rfl)
theorem dX4_sweeps_30 : decode cX4_sweeps 30 = .ok (.iload_n 3, 1) := dk_29 (dk_at dksX4_sweeps_1 7 rfl rfl)
theorem dX4_sweeps_31 : decode cX4_sweeps 31 = .ok (.aaload, 1) := dk_50 (dk_at dksX4_sweeps_1 8 rfl rfl)
theorem dX4_sweeps_32 : decode cX4_sweeps 32 = .ok (.getfield 147, 3) := dk_180 0 147 (dk_at dksX4_sweeps_1 9 rfl rfl)
theorem dX4_sweeps_35 : decode cX4_sweeps 35 = .ok (.ifCond .eq 17, 3) := dk_153 0 17 (dk_at dksX4_sweeps_1 12 rfl rfl)
theorem dX4_sweeps_38 : decode cX4_sweeps 38 = .ok (.iload_n 2, 1) := dk_28 (dk_at dksX4_sweeps_1 15 rfl rfl)
theorem dX4_sweeps_39 : decode cX4_sweeps 39 = .ok (.aload_n 0, 1) := dk_42 (dk_at dksX4_sweeps_1 16 rfl rfl)
theorem dX4_sweeps_40 : decode cX4_sweeps 40 = .ok (.getfield 23, 3) := dk_180 0 23 (dk_at dksX4_sweeps_1 17 rfl rfl)
theorem dX4_sweeps_43 : decode cX4_sweeps 43 = .ok (.iload_n 3, 1) := dk_29 (dk_at dksX4_sweeps_1 20 rfl rfl)
theorem dX4_sweeps_44 : decode cX4_sweeps 44 = .ok (.aaload, 1) := dk_50 (dk_at dksX4_sweeps_1 21 rfl rfl)
theorem dX4_sweeps_45 : decode cX4_sweeps 45 = .ok (.getfield 165, 3) := dk_180 0 165 (dk_at dksX4_sweeps_2 0 rfl rfl)
theorem dX4_sweeps_48 : decode cX4_sweeps 48 = .ok (.invokestatic 269, 3) := dk_184 1 13 (dk_at dksX4_sweeps_2 3 rfl rfl)
theorem dX4_sweeps_51 : decode cX4_sweeps 51 = .ok (.istore_n 2, 1) := dk_61 (dk_at dksX4_sweeps_2 6 rfl rfl)
theorem dX4_sweeps_52 : decode cX4_sweeps 52 = .ok (.iinc 3 1, 3) := dk_132 3 1 (dk_at dksX4_sweeps_2 7 rfl rfl)
theorem dX4_sweeps_55 : decode cX4_sweeps 55 = .ok (.goto (-34), 3) := dk_167 255 222 (dk_at dksX4_sweeps_2 10 rfl rfl)
theorem dX4_sweeps_58 : decode cX4_sweeps 58 = .ok (.iconst 0, 1) := dk_3 (dk_at dksX4_sweeps_2 13 rfl rfl)
theorem dX4_sweeps_59 : decode cX4_sweeps 59 = .ok (.istore_n 3, 1) := dk_62 (dk_at dksX4_sweeps_2 14 rfl rfl)
theorem dX4_sweeps_60 : decode cX4_sweeps 60 = .ok (.iload_n 3, 1) := dk_29 (dk_at dksX4_sweeps_2 15 rfl rfl)
theorem dX4_sweeps_61 : decode cX4_sweeps 61 = .ok (.aload_n 0, 1) := dk_42 (dk_at dksX4_sweeps_2 16 rfl rfl)
theorem dX4_sweeps_62 : decode cX4_sweeps 62 = .ok (.getfield 57, 3) := dk_180 0 57 (dk_at dksX4_sweeps_2 17 rfl rfl)
theorem dX4_sweeps_65 : decode cX4_sweeps 65 = .ok (.if_icmp .ge 54, 3) := dk_162 0 54 (dk_at dksX4_sweeps_2 20 rfl rfl)
theorem dX4_sweeps_68 : decode cX4_sweeps 68 = .ok (.aload_n 0, 1) := dk_42 (dk_at dksX4_sweeps_2 23 rfl rfl)
theorem dX4_sweeps_69 : decode cX4_sweeps 69 = .ok (.getfield 11, 3) := dk_180 0 11 (dk_at dksX4_sweeps_3 0 rfl rfl)
theorem dX4_sweeps_72 : decode cX4_sweeps 72 = .ok (.iload_n 3, 1) := dk_29 (dk_at dksX4_sweeps_3 3 rfl rfl)
theorem dX4_sweeps_73 : decode cX4_sweeps 73 = .ok (.aaload, 1) := dk_50 (dk_at dksX4_sweeps_3 4 rfl rfl)
theorem dX4_sweeps_74 : decode cX4_sweeps 74 = .ok (.astore 4, 2) := dk_58 4 (dk_at dksX4_sweeps_3 5 rfl rfl)
theorem dX4_sweeps_76 : decode cX4_sweeps 76 = .ok (.aload 4, 2) := dk_25 4 (dk_at dksX4_sweeps_3 7 rfl rfl)
theorem dX4_sweeps_78 : decode cX4_sweeps 78 = .ok (.getfield 275, 3) := dk_180 1 19 (dk_at dksX4_sweeps_3 9 rfl rfl)
theorem dX4_sweeps_81 : decode cX4_sweeps 81 = .ok (.ifCond .ne 32, 3) := dk_154 0 32 (dk_at dksX4_sweeps_3 12 rfl rfl)
theorem dX4_sweeps_84 : decode cX4_sweeps 84 = .ok (.aload 4, 2) := dk_25 4 (dk_at dksX4_sweeps_3 15 rfl rfl)
theorem dX4_sweeps_86 : decode cX4_sweeps 86 = .ok (.getfield 249, 3) := dk_180 0 249 (dk_at dksX4_sweeps_3 17 rfl rfl)
theorem dX4_sweeps_89 : decode cX4_sweeps 89 = .ok (.ifCond .lt 24, 3) := dk_155 0 24 (dk_at dksX4_sweeps_3 20 rfl rfl)
theorem dX4_sweeps_92 : decode cX4_sweeps 92 = .ok (.aload 4, 2) := dk_25 4 (dk_at dksX4_sweeps_4 0 rfl rfl)
theorem dX4_sweeps_94 : decode cX4_sweeps 94 = .ok (.getfield 249, 3) := dk_180 0 249 (dk_at dksX4_sweeps_4 2 rfl rfl)
theorem dX4_sweeps_97 : decode cX4_sweeps 97 = .ok (.iload_n 2, 1) := dk_28 (dk_at dksX4_sweeps_4 5 rfl rfl)
theorem dX4_sweeps_98 : decode cX4_sweeps 98 = .ok (.if_icmp .lt 6, 3) := dk_161 0 6 (dk_at dksX4_sweeps_4 6 rfl rfl)
theorem dX4_sweeps_101 : decode cX4_sweeps 101 = .ok (.goto 12, 3) := dk_167 0 12 (dk_at dksX4_sweeps_4 9 rfl rfl)
theorem dX4_sweeps_104 : decode cX4_sweeps 104 = .ok (.aload 4, 2) := dk_25 4 (dk_at dksX4_sweeps_4 12 rfl rfl)
theorem dX4_sweeps_106 : decode cX4_sweeps 106 = .ok (.iconst 1, 1) := dk_4 (dk_at dksX4_sweeps_4 14 rfl rfl)
theorem dX4_sweeps_107 : decode cX4_sweeps 107 = .ok (.putfield 275, 3) := dk_181 1 19 (dk_at dksX4_sweeps_4 15 rfl rfl)
theorem dX4_sweeps_110 : decode cX4_sweeps 110 = .ok (.iinc 1 1, 3) := dk_132 1 1 (dk_at dksX4_sweeps_4 18 rfl rfl)
theorem dX4_sweeps_113 : decode cX4_sweeps 113 = .ok (.iinc 3 1, 3) := dk_132 3 1 (dk_at dksX4_sweeps_4 21 rfl rfl)
theorem dX4_sweeps_116 : decode cX4_sweeps 116 = .ok (.goto (-56), 3) := dk_167 255 200 (dk_at dksX4_sweeps_5 0 rfl rfl)
theorem dX4_sweeps_119 : decode cX4_sweeps 119 = .ok (.iload_n 1, 1) := dk_27 (dk_at dksX4_sweeps_5 3 rfl rfl)
theorem dX4_sweeps_120 : decode cX4_sweeps 120 = .ok (.ireturn, 1) := dk_172 (dk_at dksX4_sweeps_5 4 rfl rfl)
abbrev cX4_all : ByteArray := prog_12_method_12_code
def yX4_all : MethodName := ⟨RX4, "all", "([I[I)I"⟩
def dkwX4_all_3 : List UInt8 := [180, 0, 35, 180, 0, 133, 54, 4, 167, 255, 182, 29, 172]
abbrev dktX4_all_3 : List UInt8 := dkwX4_all_3 ++ []
def dkwX4_all_2 : List UInt8 := [79, 44, 29, 42, 180, 0, 35, 180, 0, 123, 21, 5, 46, 79, 132, 3, 1, 132, 5, 1, 167, 255, 212, 42]
abbrev dktX4_all_2 : List UInt8 := dkwX4_all_2 ++ dktX4_all_3
def dkwX4_all_1 : List UInt8 := [21, 5, 42, 180, 0, 35, 180, 0, 120, 162, 0, 38, 43, 29, 42, 180, 0, 35, 180, 0, 126, 21, 5, 46]
abbrev dktX4_all_1 : List UInt8 := dkwX4_all_1 ++ dktX4_all_2
def dkwX4_all_0 : List UInt8 := [3, 62, 4, 54, 4, 21, 4, 155, 0, 75, 42, 21, 4, 42, 180, 0, 35, 182, 0, 113, 3, 54, 5]
abbrev dktX4_all_0 : List UInt8 := dkwX4_all_0 ++ dktX4_all_1
theorem dksX4_all_0 : cX4_all.data.toList.drop 0 = dktX4_all_0 := by decide +kernel
theorem dksX4_all_1 : cX4_all.data.toList.drop 23 = dktX4_all_1 := dk_seg dksX4_all_0 23 rfl rfl
theorem dksX4_all_2 : cX4_all.data.toList.drop 47 = dktX4_all_2 := dk_seg dksX4_all_1 24 rfl rfl
theorem dksX4_all_3 : cX4_all.data.toList.drop 71 = dktX4_all_3 := dk_seg dksX4_all_2 24 rfl rfl
theorem dX4_all_0 : decode cX4_all 0 = .ok (.iconst 0, 1) := dk_3 (dk_at dksX4_all_0 0 rfl rfl)
theorem dX4_all_1 : decode cX4_all 1 = .ok (.istore_n 3, 1) := dk_62 (dk_at dksX4_all_0 1 rfl rfl)
theorem dX4_all_2 : decode cX4_all 2 = .ok (.iconst 1, 1) := dk_4 (dk_at dksX4_all_0 2 rfl rfl)
theorem dX4_all_3 : decode cX4_all 3 = .ok (.istore 4, 2) := dk_54 4 (dk_at dksX4_all_0 3 rfl rfl)
theorem dX4_all_5 : decode cX4_all 5 = .ok (.iload 4, 2) := dk_21 4 (dk_at dksX4_all_0 5 rfl rfl)
theorem dX4_all_7 : decode cX4_all 7 = .ok (.ifCond .lt 75, 3) := dk_155 0 75 (dk_at dksX4_all_0 7 rfl rfl)
theorem dX4_all_10 : decode cX4_all 10 = .ok (.aload_n 0, 1) := dk_42 (dk_at dksX4_all_0 10 rfl rfl)
theorem dX4_all_11 : decode cX4_all 11 = .ok (.iload 4, 2) := dk_21 4 (dk_at dksX4_all_0 11 rfl rfl)
theorem dX4_all_13 : decode cX4_all 13 = .ok (.aload_n 0, 1) := dk_42 (dk_at dksX4_all_0 13 rfl rfl)
theorem dX4_all_14 : decode cX4_all 14 = .ok (.getfield 35, 3) := dk_180 0 35 (dk_at dksX4_all_0 14 rfl rfl)
theorem dX4_all_17 : decode cX4_all 17 = .ok (.invokevirtual 113, 3) := dk_182 0 113 (dk_at dksX4_all_0 17 rfl rfl)
theorem dX4_all_20 : decode cX4_all 20 = .ok (.iconst 0, 1) := dk_3 (dk_at dksX4_all_0 20 rfl rfl)
theorem dX4_all_21 : decode cX4_all 21 = .ok (.istore 5, 2) := dk_54 5 (dk_at dksX4_all_0 21 rfl rfl)
theorem dX4_all_23 : decode cX4_all 23 = .ok (.iload 5, 2) := dk_21 5 (dk_at dksX4_all_1 0 rfl rfl)
theorem dX4_all_25 : decode cX4_all 25 = .ok (.aload_n 0, 1) := dk_42 (dk_at dksX4_all_1 2 rfl rfl)
theorem dX4_all_26 : decode cX4_all 26 = .ok (.getfield 35, 3) := dk_180 0 35 (dk_at dksX4_all_1 3 rfl rfl)
theorem dX4_all_29 : decode cX4_all 29 = .ok (.getfield 120, 3) := dk_180 0 120 (dk_at dksX4_all_1 6 rfl rfl)
theorem dX4_all_32 : decode cX4_all 32 = .ok (.if_icmp .ge 38, 3) := dk_162 0 38 (dk_at dksX4_all_1 9 rfl rfl)
theorem dX4_all_35 : decode cX4_all 35 = .ok (.aload_n 1, 1) := dk_43 (dk_at dksX4_all_1 12 rfl rfl)
theorem dX4_all_36 : decode cX4_all 36 = .ok (.iload_n 3, 1) := dk_29 (dk_at dksX4_all_1 13 rfl rfl)
theorem dX4_all_37 : decode cX4_all 37 = .ok (.aload_n 0, 1) := dk_42 (dk_at dksX4_all_1 14 rfl rfl)
theorem dX4_all_38 : decode cX4_all 38 = .ok (.getfield 35, 3) := dk_180 0 35 (dk_at dksX4_all_1 15 rfl rfl)
theorem dX4_all_41 : decode cX4_all 41 = .ok (.getfield 126, 3) := dk_180 0 126 (dk_at dksX4_all_1 18 rfl rfl)
theorem dX4_all_44 : decode cX4_all 44 = .ok (.iload 5, 2) := dk_21 5 (dk_at dksX4_all_1 21 rfl rfl)
theorem dX4_all_46 : decode cX4_all 46 = .ok (.iaload, 1) := dk_46 (dk_at dksX4_all_1 23 rfl rfl)
theorem dX4_all_47 : decode cX4_all 47 = .ok (.iastore, 1) := dk_79 (dk_at dksX4_all_2 0 rfl rfl)
theorem dX4_all_48 : decode cX4_all 48 = .ok (.aload_n 2, 1) := dk_44 (dk_at dksX4_all_2 1 rfl rfl)
theorem dX4_all_49 : decode cX4_all 49 = .ok (.iload_n 3, 1) := dk_29 (dk_at dksX4_all_2 2 rfl rfl)
theorem dX4_all_50 : decode cX4_all 50 = .ok (.aload_n 0, 1) := dk_42 (dk_at dksX4_all_2 3 rfl rfl)
theorem dX4_all_51 : decode cX4_all 51 = .ok (.getfield 35, 3) := dk_180 0 35 (dk_at dksX4_all_2 4 rfl rfl)
theorem dX4_all_54 : decode cX4_all 54 = .ok (.getfield 123, 3) := dk_180 0 123 (dk_at dksX4_all_2 7 rfl rfl)
theorem dX4_all_57 : decode cX4_all 57 = .ok (.iload 5, 2) := dk_21 5 (dk_at dksX4_all_2 10 rfl rfl)
theorem dX4_all_59 : decode cX4_all 59 = .ok (.iaload, 1) := dk_46 (dk_at dksX4_all_2 12 rfl rfl)
theorem dX4_all_60 : decode cX4_all 60 = .ok (.iastore, 1) := dk_79 (dk_at dksX4_all_2 13 rfl rfl)
theorem dX4_all_61 : decode cX4_all 61 = .ok (.iinc 3 1, 3) := dk_132 3 1 (dk_at dksX4_all_2 14 rfl rfl)
theorem dX4_all_64 : decode cX4_all 64 = .ok (.iinc 5 1, 3) := dk_132 5 1 (dk_at dksX4_all_2 17 rfl rfl)
theorem dX4_all_67 : decode cX4_all 67 = .ok (.goto (-44), 3) := dk_167 255 212 (dk_at dksX4_all_2 20 rfl rfl)
theorem dX4_all_70 : decode cX4_all 70 = .ok (.aload_n 0, 1) := dk_42 (dk_at dksX4_all_2 23 rfl rfl)
theorem dX4_all_71 : decode cX4_all 71 = .ok (.getfield 35, 3) := dk_180 0 35 (dk_at dksX4_all_3 0 rfl rfl)
theorem dX4_all_74 : decode cX4_all 74 = .ok (.getfield 133, 3) := dk_180 0 133 (dk_at dksX4_all_3 3 rfl rfl)
theorem dX4_all_77 : decode cX4_all 77 = .ok (.istore 4, 2) := dk_54 4 (dk_at dksX4_all_3 6 rfl rfl)
theorem dX4_all_79 : decode cX4_all 79 = .ok (.goto (-74), 3) := dk_167 255 182 (dk_at dksX4_all_3 8 rfl rfl)
theorem dX4_all_82 : decode cX4_all 82 = .ok (.iload_n 3, 1) := dk_29 (dk_at dksX4_all_3 11 rfl rfl)
theorem dX4_all_83 : decode cX4_all 83 = .ok (.ireturn, 1) := dk_172 (dk_at dksX4_all_3 12 rfl rfl)
abbrev cX4_splitsLeft : ByteArray := prog_12_method_15_code
def yX4_splitsLeft : MethodName := ⟨RX4, "splitsLeft", "()I"⟩
def dkwX4_splitsLeft_3 : List UInt8 := [172]
abbrev dktX4_splitsLeft_3 : List UInt8 := dkwX4_splitsLeft_3 ++ []
def dkwX4_splitsLeft_2 : List UInt8 := [180, 0, 133, 182, 0, 143, 154, 0, 6, 132, 1, 1, 42, 180, 0, 35, 180, 0, 133, 61, 167, 255, 193, 27]
abbrev dktX4_splitsLeft_2 : List UInt8 := dkwX4_splitsLeft_2 ++ dktX4_splitsLeft_3
def dkwX4_splitsLeft_1 : List UInt8 := [155, 0, 35, 42, 28, 182, 0, 139, 154, 0, 27, 42, 42, 180, 0, 35, 180, 0, 74, 42, 180, 0, 35]
abbrev dktX4_splitsLeft_1 : List UInt8 := dkwX4_splitsLeft_1 ++ dktX4_splitsLeft_2
def dkwX4_splitsLeft_0 : List UInt8 := [3, 60, 4, 61, 28, 155, 0, 65, 42, 28, 42, 180, 0, 35, 182, 0, 113, 42, 180, 0, 35, 180, 0, 133]
abbrev dktX4_splitsLeft_0 : List UInt8 := dkwX4_splitsLeft_0 ++ dktX4_splitsLeft_1
theorem dksX4_splitsLeft_0 : cX4_splitsLeft.data.toList.drop 0 = dktX4_splitsLeft_0 := by decide +kernel
theorem dksX4_splitsLeft_1 : cX4_splitsLeft.data.toList.drop 24 = dktX4_splitsLeft_1 := dk_seg dksX4_splitsLeft_0 24 rfl rfl
theorem dksX4_splitsLeft_2 : cX4_splitsLeft.data.toList.drop 47 = dktX4_splitsLeft_2 := dk_seg dksX4_splitsLeft_1 23 rfl rfl
theorem dksX4_splitsLeft_3 : cX4_splitsLeft.data.toList.drop 71 = dktX4_splitsLeft_3 := dk_seg dksX4_splitsLeft_2 24 rfl rfl
theorem dX4_splitsLeft_0 : decode cX4_splitsLeft 0 = .ok (.iconst 0, 1) := dk_3 (dk_at dksX4_splitsLeft_0 0 rfl rfl)
theorem dX4_splitsLeft_1 : decode cX4_splitsLeft 1 = .ok (.istore_n 1, 1) := dk_60 (dk_at dksX4_splitsLeft_0 1 rfl rfl)
theorem dX4_splitsLeft_2 : decode cX4_splitsLeft 2 = .ok (.iconst 1, 1) := dk_4 (dk_at dksX4_splitsLeft_0 2 rfl rfl)
theorem dX4_splitsLeft_3 : decode cX4_splitsLeft 3 = .ok (.istore_n 2, 1) := dk_61 (dk_at dksX4_splitsLeft_0 3 rfl rfl)
theorem dX4_splitsLeft_4 : decode cX4_splitsLeft 4 = .ok (.iload_n 2, 1) := dk_28 (dk_at dksX4_splitsLeft_0 4 rfl rfl)
theorem dX4_splitsLeft_5 : decode cX4_splitsLeft 5 = .ok (.ifCond .lt 65, 3) := dk_155 0 65 (dk_at dksX4_splitsLeft_0 5 rfl rfl)
theorem dX4_splitsLeft_8 : decode cX4_splitsLeft 8 = .ok (.aload_n 0, 1) := dk_42 (dk_at dksX4_splitsLeft_0 8 rfl rfl)
theorem dX4_splitsLeft_9 : decode cX4_splitsLeft 9 = .ok (.iload_n 2, 1) := dk_28 (dk_at dksX4_splitsLeft_0 9 rfl rfl)
theorem dX4_splitsLeft_10 : decode cX4_splitsLeft 10 = .ok (.aload_n 0, 1) := dk_42 (dk_at dksX4_splitsLeft_0 10 rfl rfl)
theorem dX4_splitsLeft_11 : decode cX4_splitsLeft 11 = .ok (.getfield 35, 3) := dk_180 0 35 (dk_at dksX4_splitsLeft_0 11 rfl rfl)
theorem dX4_splitsLeft_14 : decode cX4_splitsLeft 14 = .ok (.invokevirtual 113, 3) := dk_182 0 113 (dk_at dksX4_splitsLeft_0 14 rfl rfl)
theorem dX4_splitsLeft_17 : decode cX4_splitsLeft 17 = .ok (.aload_n 0, 1) := dk_42 (dk_at dksX4_splitsLeft_0 17 rfl rfl)
theorem dX4_splitsLeft_18 : decode cX4_splitsLeft 18 = .ok (.getfield 35, 3) := dk_180 0 35 (dk_at dksX4_splitsLeft_0 18 rfl rfl)
theorem dX4_splitsLeft_21 : decode cX4_splitsLeft 21 = .ok (.getfield 133, 3) := dk_180 0 133 (dk_at dksX4_splitsLeft_0 21 rfl rfl)
theorem dX4_splitsLeft_24 : decode cX4_splitsLeft 24 = .ok (.ifCond .lt 35, 3) := dk_155 0 35 (dk_at dksX4_splitsLeft_1 0 rfl rfl)
theorem dX4_splitsLeft_27 : decode cX4_splitsLeft 27 = .ok (.aload_n 0, 1) := dk_42 (dk_at dksX4_splitsLeft_1 3 rfl rfl)
theorem dX4_splitsLeft_28 : decode cX4_splitsLeft 28 = .ok (.iload_n 2, 1) := dk_28 (dk_at dksX4_splitsLeft_1 4 rfl rfl)
theorem dX4_splitsLeft_29 : decode cX4_splitsLeft 29 = .ok (.invokevirtual 139, 3) := dk_182 0 139 (dk_at dksX4_splitsLeft_1 5 rfl rfl)
theorem dX4_splitsLeft_32 : decode cX4_splitsLeft 32 = .ok (.ifCond .ne 27, 3) := dk_154 0 27 (dk_at dksX4_splitsLeft_1 8 rfl rfl)
theorem dX4_splitsLeft_35 : decode cX4_splitsLeft 35 = .ok (.aload_n 0, 1) := dk_42 (dk_at dksX4_splitsLeft_1 11 rfl rfl)
theorem dX4_splitsLeft_36 : decode cX4_splitsLeft 36 = .ok (.aload_n 0, 1) := dk_42 (dk_at dksX4_splitsLeft_1 12 rfl rfl)
theorem dX4_splitsLeft_37 : decode cX4_splitsLeft 37 = .ok (.getfield 35, 3) := dk_180 0 35 (dk_at dksX4_splitsLeft_1 13 rfl rfl)
theorem dX4_splitsLeft_40 : decode cX4_splitsLeft 40 = .ok (.getfield 74, 3) := dk_180 0 74 (dk_at dksX4_splitsLeft_1 16 rfl rfl)
theorem dX4_splitsLeft_43 : decode cX4_splitsLeft 43 = .ok (.aload_n 0, 1) := dk_42 (dk_at dksX4_splitsLeft_1 19 rfl rfl)
theorem dX4_splitsLeft_44 : decode cX4_splitsLeft 44 = .ok (.getfield 35, 3) := dk_180 0 35 (dk_at dksX4_splitsLeft_1 20 rfl rfl)
theorem dX4_splitsLeft_47 : decode cX4_splitsLeft 47 = .ok (.getfield 133, 3) := dk_180 0 133 (dk_at dksX4_splitsLeft_2 0 rfl rfl)
theorem dX4_splitsLeft_50 : decode cX4_splitsLeft 50 = .ok (.invokevirtual 143, 3) := dk_182 0 143 (dk_at dksX4_splitsLeft_2 3 rfl rfl)
theorem dX4_splitsLeft_53 : decode cX4_splitsLeft 53 = .ok (.ifCond .ne 6, 3) := dk_154 0 6 (dk_at dksX4_splitsLeft_2 6 rfl rfl)
theorem dX4_splitsLeft_56 : decode cX4_splitsLeft 56 = .ok (.iinc 1 1, 3) := dk_132 1 1 (dk_at dksX4_splitsLeft_2 9 rfl rfl)
theorem dX4_splitsLeft_59 : decode cX4_splitsLeft 59 = .ok (.aload_n 0, 1) := dk_42 (dk_at dksX4_splitsLeft_2 12 rfl rfl)
theorem dX4_splitsLeft_60 : decode cX4_splitsLeft 60 = .ok (.getfield 35, 3) := dk_180 0 35 (dk_at dksX4_splitsLeft_2 13 rfl rfl)
theorem dX4_splitsLeft_63 : decode cX4_splitsLeft 63 = .ok (.getfield 133, 3) := dk_180 0 133 (dk_at dksX4_splitsLeft_2 16 rfl rfl)
theorem dX4_splitsLeft_66 : decode cX4_splitsLeft 66 = .ok (.istore_n 2, 1) := dk_61 (dk_at dksX4_splitsLeft_2 19 rfl rfl)
theorem dX4_splitsLeft_67 : decode cX4_splitsLeft 67 = .ok (.goto (-63), 3) := dk_167 255 193 (dk_at dksX4_splitsLeft_2 20 rfl rfl)
theorem dX4_splitsLeft_70 : decode cX4_splitsLeft 70 = .ok (.iload_n 1, 1) := dk_27 (dk_at dksX4_splitsLeft_2 23 rfl rfl)
theorem dX4_splitsLeft_71 : decode cX4_splitsLeft 71 = .ok (.ireturn, 1) := dk_172 (dk_at dksX4_splitsLeft_3 0 rfl rfl)
abbrev cX4_goneLeft : ByteArray := prog_12_method_16_code
def yX4_goneLeft : MethodName := ⟨RX4, "goneLeft", "()I"⟩
def dkwX4_goneLeft_1 : List UInt8 := [46, 182, 0, 139, 153, 0, 7, 4, 167, 0, 4, 3, 96, 60, 132, 3, 1, 167, 255, 224, 27, 172]
abbrev dktX4_goneLeft_1 : List UInt8 := dkwX4_goneLeft_1 ++ []
def dkwX4_goneLeft_0 : List UInt8 := [3, 60, 42, 182, 0, 117, 77, 3, 62, 29, 44, 180, 0, 120, 162, 0, 30, 27, 42, 44, 180, 0, 123, 29]
abbrev dktX4_goneLeft_0 : List UInt8 := dkwX4_goneLeft_0 ++ dktX4_goneLeft_1
theorem dksX4_goneLeft_0 : cX4_goneLeft.data.toList.drop 0 = dktX4_goneLeft_0 := by decide +kernel
theorem dksX4_goneLeft_1 : cX4_goneLeft.data.toList.drop 24 = dktX4_goneLeft_1 := dk_seg dksX4_goneLeft_0 24 rfl rfl
theorem dX4_goneLeft_0 : decode cX4_goneLeft 0 = .ok (.iconst 0, 1) := dk_3 (dk_at dksX4_goneLeft_0 0 rfl rfl)
theorem dX4_goneLeft_1 : decode cX4_goneLeft 1 = .ok (.istore_n 1, 1) := dk_60 (dk_at dksX4_goneLeft_0 1 rfl rfl)
theorem dX4_goneLeft_2 : decode cX4_goneLeft 2 = .ok (.aload_n 0, 1) := dk_42 (dk_at dksX4_goneLeft_0 2 rfl rfl)
theorem dX4_goneLeft_3 : decode cX4_goneLeft 3 = .ok (.invokevirtual 117, 3) := dk_182 0 117 (dk_at dksX4_goneLeft_0 3 rfl rfl)
theorem dX4_goneLeft_6 : decode cX4_goneLeft 6 = .ok (.astore_n 2, 1) := dk_77 (dk_at dksX4_goneLeft_0 6 rfl rfl)
theorem dX4_goneLeft_7 : decode cX4_goneLeft 7 = .ok (.iconst 0, 1) := dk_3 (dk_at dksX4_goneLeft_0 7 rfl rfl)
theorem dX4_goneLeft_8 : decode cX4_goneLeft 8 = .ok (.istore_n 3, 1) := dk_62 (dk_at dksX4_goneLeft_0 8 rfl rfl)
theorem dX4_goneLeft_9 : decode cX4_goneLeft 9 = .ok (.iload_n 3, 1) := dk_29 (dk_at dksX4_goneLeft_0 9 rfl rfl)
theorem dX4_goneLeft_10 : decode cX4_goneLeft 10 = .ok (.aload_n 2, 1) := dk_44 (dk_at dksX4_goneLeft_0 10 rfl rfl)
theorem dX4_goneLeft_11 : decode cX4_goneLeft 11 = .ok (.getfield 120, 3) := dk_180 0 120 (dk_at dksX4_goneLeft_0 11 rfl rfl)
theorem dX4_goneLeft_14 : decode cX4_goneLeft 14 = .ok (.if_icmp .ge 30, 3) := dk_162 0 30 (dk_at dksX4_goneLeft_0 14 rfl rfl)
theorem dX4_goneLeft_17 : decode cX4_goneLeft 17 = .ok (.iload_n 1, 1) := dk_27 (dk_at dksX4_goneLeft_0 17 rfl rfl)
theorem dX4_goneLeft_18 : decode cX4_goneLeft 18 = .ok (.aload_n 0, 1) := dk_42 (dk_at dksX4_goneLeft_0 18 rfl rfl)
theorem dX4_goneLeft_19 : decode cX4_goneLeft 19 = .ok (.aload_n 2, 1) := dk_44 (dk_at dksX4_goneLeft_0 19 rfl rfl)
theorem dX4_goneLeft_20 : decode cX4_goneLeft 20 = .ok (.getfield 123, 3) := dk_180 0 123 (dk_at dksX4_goneLeft_0 20 rfl rfl)
theorem dX4_goneLeft_23 : decode cX4_goneLeft 23 = .ok (.iload_n 3, 1) := dk_29 (dk_at dksX4_goneLeft_0 23 rfl rfl)
theorem dX4_goneLeft_24 : decode cX4_goneLeft 24 = .ok (.iaload, 1) := dk_46 (dk_at dksX4_goneLeft_1 0 rfl rfl)
theorem dX4_goneLeft_25 : decode cX4_goneLeft 25 = .ok (.invokevirtual 139, 3) := dk_182 0 139 (dk_at dksX4_goneLeft_1 1 rfl rfl)
theorem dX4_goneLeft_28 : decode cX4_goneLeft 28 = .ok (.ifCond .eq 7, 3) := dk_153 0 7 (dk_at dksX4_goneLeft_1 4 rfl rfl)
theorem dX4_goneLeft_31 : decode cX4_goneLeft 31 = .ok (.iconst 1, 1) := dk_4 (dk_at dksX4_goneLeft_1 7 rfl rfl)
theorem dX4_goneLeft_32 : decode cX4_goneLeft 32 = .ok (.goto 4, 3) := dk_167 0 4 (dk_at dksX4_goneLeft_1 8 rfl rfl)
theorem dX4_goneLeft_35 : decode cX4_goneLeft 35 = .ok (.iconst 0, 1) := dk_3 (dk_at dksX4_goneLeft_1 11 rfl rfl)
theorem dX4_goneLeft_36 : decode cX4_goneLeft 36 = .ok (.iadd, 1) := dk_96 (dk_at dksX4_goneLeft_1 12 rfl rfl)
theorem dX4_goneLeft_37 : decode cX4_goneLeft 37 = .ok (.istore_n 1, 1) := dk_60 (dk_at dksX4_goneLeft_1 13 rfl rfl)
theorem dX4_goneLeft_38 : decode cX4_goneLeft 38 = .ok (.iinc 3 1, 3) := dk_132 3 1 (dk_at dksX4_goneLeft_1 14 rfl rfl)
theorem dX4_goneLeft_41 : decode cX4_goneLeft 41 = .ok (.goto (-32), 3) := dk_167 255 224 (dk_at dksX4_goneLeft_1 17 rfl rfl)
theorem dX4_goneLeft_44 : decode cX4_goneLeft 44 = .ok (.iload_n 1, 1) := dk_27 (dk_at dksX4_goneLeft_1 20 rfl rfl)
theorem dX4_goneLeft_45 : decode cX4_goneLeft 45 = .ok (.ireturn, 1) := dk_172 (dk_at dksX4_goneLeft_1 21 rfl rfl)
abbrev cX4_becomes : ByteArray := prog_12_method_3_code
def yX4_becomes : MethodName := ⟨RX4, "becomes", "(LDeltaIndex$Store;)V"⟩
def dkwX4_becomes_6 : List UInt8 := [167, 255, 233, 177]
abbrev dktX4_becomes_6 : List UInt8 := dkwX4_becomes_6 ++ []
def dkwX4_becomes_5 : List UInt8 := [61, 28, 7, 162, 0, 24, 42, 180, 0, 23, 28, 50, 43, 180, 0, 23, 28, 50, 182, 0, 90, 132, 2, 1]
abbrev dktX4_becomes_5 : List UInt8 := dkwX4_becomes_5 ++ dktX4_becomes_6
def dkwX4_becomes_4 : List UInt8 := [132, 2, 1, 167, 255, 208, 43, 180, 0, 17, 3, 42, 180, 0, 17, 3, 42, 180, 0, 77, 184, 0, 84, 3]
abbrev dktX4_becomes_4 : List UInt8 := dkwX4_becomes_4 ++ dktX4_becomes_5
def dkwX4_becomes_3 : List UInt8 := [187, 0, 9, 89, 183, 0, 27, 83, 42, 180, 0, 11, 28, 50, 43, 180, 0, 11, 28, 50, 182, 0, 80]
abbrev dktX4_becomes_3 : List UInt8 := dkwX4_becomes_3 ++ dktX4_becomes_4
def dkwX4_becomes_2 : List UInt8 := [3, 61, 28, 42, 180, 0, 57, 162, 0, 46, 42, 180, 0, 11, 28, 50, 199, 0, 16, 42, 180, 0, 11, 28]
abbrev dktX4_becomes_2 : List UInt8 := dkwX4_becomes_2 ++ dktX4_becomes_3
def dkwX4_becomes_1 : List UInt8 := [42, 43, 180, 0, 57, 181, 0, 57, 42, 43, 180, 0, 77, 181, 0, 77, 42, 43, 180, 0, 60, 181, 0, 60]
abbrev dktX4_becomes_1 : List UInt8 := dkwX4_becomes_1 ++ dktX4_becomes_2
def dkwX4_becomes_0 : List UInt8 := [42, 43, 180, 0, 48, 181, 0, 48, 42, 43, 180, 0, 52, 181, 0, 52, 42, 43, 180, 0, 56, 181, 0, 56]
abbrev dktX4_becomes_0 : List UInt8 := dkwX4_becomes_0 ++ dktX4_becomes_1
theorem dksX4_becomes_0 : cX4_becomes.data.toList.drop 0 = dktX4_becomes_0 := by decide +kernel
theorem dksX4_becomes_1 : cX4_becomes.data.toList.drop 24 = dktX4_becomes_1 := dk_seg dksX4_becomes_0 24 rfl rfl
theorem dksX4_becomes_2 : cX4_becomes.data.toList.drop 48 = dktX4_becomes_2 := dk_seg dksX4_becomes_1 24 rfl rfl
theorem dksX4_becomes_3 : cX4_becomes.data.toList.drop 72 = dktX4_becomes_3 := dk_seg dksX4_becomes_2 24 rfl rfl
theorem dksX4_becomes_4 : cX4_becomes.data.toList.drop 95 = dktX4_becomes_4 := dk_seg dksX4_becomes_3 23 rfl rfl
theorem dksX4_becomes_5 : cX4_becomes.data.toList.drop 119 = dktX4_becomes_5 := dk_seg dksX4_becomes_4 24 rfl rfl
theorem dksX4_becomes_6 : cX4_becomes.data.toList.drop 143 = dktX4_becomes_6 := dk_seg dksX4_becomes_5 24 rfl rfl
theorem dX4_becomes_0 : decode cX4_becomes 0 = .ok (.aload_n 0, 1) := dk_42 (dk_at dksX4_becomes_0 0 rfl rfl)
theorem dX4_becomes_1 : decode cX4_becomes 1 = .ok (.aload_n 1, 1) := dk_43 (dk_at dksX4_becomes_0 1 rfl rfl)
theorem dX4_becomes_2 : decode cX4_becomes 2 = .ok (.getfield 48, 3) := dk_180 0 48 (dk_at dksX4_becomes_0 2 rfl rfl)
theorem dX4_becomes_5 : decode cX4_becomes 5 = .ok (.putfield 48, 3) := dk_181 0 48 (dk_at dksX4_becomes_0 5 rfl rfl)
theorem dX4_becomes_8 : decode cX4_becomes 8 = .ok (.aload_n 0, 1) := dk_42 (dk_at dksX4_becomes_0 8 rfl rfl)
theorem dX4_becomes_9 : decode cX4_becomes 9 = .ok (.aload_n 1, 1) := dk_43 (dk_at dksX4_becomes_0 9 rfl rfl)
theorem dX4_becomes_10 : decode cX4_becomes 10 = .ok (.getfield 52, 3) := dk_180 0 52 (dk_at dksX4_becomes_0 10 rfl rfl)
theorem dX4_becomes_13 : decode cX4_becomes 13 = .ok (.putfield 52, 3) := dk_181 0 52 (dk_at dksX4_becomes_0 13 rfl rfl)
theorem dX4_becomes_16 : decode cX4_becomes 16 = .ok (.aload_n 0, 1) := dk_42 (dk_at dksX4_becomes_0 16 rfl rfl)
theorem dX4_becomes_17 : decode cX4_becomes 17 = .ok (.aload_n 1, 1) := dk_43 (dk_at dksX4_becomes_0 17 rfl rfl)
theorem dX4_becomes_18 : decode cX4_becomes 18 = .ok (.getfield 56, 3) := dk_180 0 56 (dk_at dksX4_becomes_0 18 rfl rfl)
theorem dX4_becomes_21 : decode cX4_becomes 21 = .ok (.putfield 56, 3) := dk_181 0 56 (dk_at dksX4_becomes_0 21 rfl rfl)
theorem dX4_becomes_24 : decode cX4_becomes 24 = .ok (.aload_n 0, 1) := dk_42 (dk_at dksX4_becomes_1 0 rfl rfl)
theorem dX4_becomes_25 : decode cX4_becomes 25 = .ok (.aload_n 1, 1) := dk_43 (dk_at dksX4_becomes_1 1 rfl rfl)
theorem dX4_becomes_26 : decode cX4_becomes 26 = .ok (.getfield 57, 3) := dk_180 0 57 (dk_at dksX4_becomes_1 2 rfl rfl)
theorem dX4_becomes_29 : decode cX4_becomes 29 = .ok (.putfield 57, 3) := dk_181 0 57 (dk_at dksX4_becomes_1 5 rfl rfl)
theorem dX4_becomes_32 : decode cX4_becomes 32 = .ok (.aload_n 0, 1) := dk_42 (dk_at dksX4_becomes_1 8 rfl rfl)
theorem dX4_becomes_33 : decode cX4_becomes 33 = .ok (.aload_n 1, 1) := dk_43 (dk_at dksX4_becomes_1 9 rfl rfl)
theorem dX4_becomes_34 : decode cX4_becomes 34 = .ok (.getfield 77, 3) := dk_180 0 77 (dk_at dksX4_becomes_1 10 rfl rfl)
theorem dX4_becomes_37 : decode cX4_becomes 37 = .ok (.putfield 77, 3) := dk_181 0 77 (dk_at dksX4_becomes_1 13 rfl rfl)
theorem dX4_becomes_40 : decode cX4_becomes 40 = .ok (.aload_n 0, 1) := dk_42 (dk_at dksX4_becomes_1 16 rfl rfl)
theorem dX4_becomes_41 : decode cX4_becomes 41 = .ok (.aload_n 1, 1) := dk_43 (dk_at dksX4_becomes_1 17 rfl rfl)
theorem dX4_becomes_42 : decode cX4_becomes 42 = .ok (.getfield 60, 3) := dk_180 0 60 (dk_at dksX4_becomes_1 18 rfl rfl)
theorem dX4_becomes_45 : decode cX4_becomes 45 = .ok (.putfield 60, 3) := dk_181 0 60 (dk_at dksX4_becomes_1 21 rfl rfl)
theorem dX4_becomes_48 : decode cX4_becomes 48 = .ok (.iconst 0, 1) := dk_3 (dk_at dksX4_becomes_2 0 rfl rfl)
theorem dX4_becomes_49 : decode cX4_becomes 49 = .ok (.istore_n 2, 1) := dk_61 (dk_at dksX4_becomes_2 1 rfl rfl)
theorem dX4_becomes_50 : decode cX4_becomes 50 = .ok (.iload_n 2, 1) := dk_28 (dk_at dksX4_becomes_2 2 rfl rfl)
theorem dX4_becomes_51 : decode cX4_becomes 51 = .ok (.aload_n 0, 1) := dk_42 (dk_at dksX4_becomes_2 3 rfl rfl)
theorem dX4_becomes_52 : decode cX4_becomes 52 = .ok (.getfield 57, 3) := dk_180 0 57 (dk_at dksX4_becomes_2 4 rfl rfl)
theorem dX4_becomes_55 : decode cX4_becomes 55 = .ok (.if_icmp .ge 46, 3) := dk_162 0 46 (dk_at dksX4_becomes_2 7 rfl rfl)
theorem dX4_becomes_58 : decode cX4_becomes 58 = .ok (.aload_n 0, 1) := dk_42 (dk_at dksX4_becomes_2 10 rfl rfl)
theorem dX4_becomes_59 : decode cX4_becomes 59 = .ok (.getfield 11, 3) := dk_180 0 11 (dk_at dksX4_becomes_2 11 rfl rfl)
theorem dX4_becomes_62 : decode cX4_becomes 62 = .ok (.iload_n 2, 1) := dk_28 (dk_at dksX4_becomes_2 14 rfl rfl)
theorem dX4_becomes_63 : decode cX4_becomes 63 = .ok (.aaload, 1) := dk_50 (dk_at dksX4_becomes_2 15 rfl rfl)
theorem dX4_becomes_64 : decode cX4_becomes 64 = .ok (.ifnonnull 16, 3) := dk_199 0 16 (dk_at dksX4_becomes_2 16 rfl rfl)
theorem dX4_becomes_67 : decode cX4_becomes 67 = .ok (.aload_n 0, 1) := dk_42 (dk_at dksX4_becomes_2 19 rfl rfl)
theorem dX4_becomes_68 : decode cX4_becomes 68 = .ok (.getfield 11, 3) := dk_180 0 11 (dk_at dksX4_becomes_2 20 rfl rfl)
theorem dX4_becomes_71 : decode cX4_becomes 71 = .ok (.iload_n 2, 1) := dk_28 (dk_at dksX4_becomes_2 23 rfl rfl)
theorem dX4_becomes_72 : decode cX4_becomes 72 = .ok (.new 9, 3) := dk_187 0 9 (dk_at dksX4_becomes_3 0 rfl rfl)
theorem dX4_becomes_75 : decode cX4_becomes 75 = .ok (.dup, 1) := dk_89 (dk_at dksX4_becomes_3 3 rfl rfl)
theorem dX4_becomes_76 : decode cX4_becomes 76 = .ok (.invokespecial 27, 3) := dk_183 0 27 (dk_at dksX4_becomes_3 4 rfl rfl)
theorem dX4_becomes_79 : decode cX4_becomes 79 = .ok (.aastore, 1) := dk_83 (dk_at dksX4_becomes_3 7 rfl rfl)
theorem dX4_becomes_80 : decode cX4_becomes 80 = .ok (.aload_n 0, 1) := dk_42 (dk_at dksX4_becomes_3 8 rfl rfl)
theorem dX4_becomes_81 : decode cX4_becomes 81 = .ok (.getfield 11, 3) := dk_180 0 11 (dk_at dksX4_becomes_3 9 rfl rfl)
theorem dX4_becomes_84 : decode cX4_becomes 84 = .ok (.iload_n 2, 1) := dk_28 (dk_at dksX4_becomes_3 12 rfl rfl)
theorem dX4_becomes_85 : decode cX4_becomes 85 = .ok (.aaload, 1) := dk_50 (dk_at dksX4_becomes_3 13 rfl rfl)
theorem dX4_becomes_86 : decode cX4_becomes 86 = .ok (.aload_n 1, 1) := dk_43 (dk_at dksX4_becomes_3 14 rfl rfl)
theorem dX4_becomes_87 : decode cX4_becomes 87 = .ok (.getfield 11, 3) := dk_180 0 11 (dk_at dksX4_becomes_3 15 rfl rfl)
theorem dX4_becomes_90 : decode cX4_becomes 90 = .ok (.iload_n 2, 1) := dk_28 (dk_at dksX4_becomes_3 18 rfl rfl)
theorem dX4_becomes_91 : decode cX4_becomes 91 = .ok (.aaload, 1) := dk_50 (dk_at dksX4_becomes_3 19 rfl rfl)
theorem dX4_becomes_92 : decode cX4_becomes 92 = .ok (.invokevirtual 80, 3) := dk_182 0 80 (dk_at dksX4_becomes_3 20 rfl rfl)
theorem dX4_becomes_95 : decode cX4_becomes 95 = .ok (.iinc 2 1, 3) := dk_132 2 1 (dk_at dksX4_becomes_4 0 rfl rfl)
theorem dX4_becomes_98 : decode cX4_becomes 98 = .ok (.goto (-48), 3) := dk_167 255 208 (dk_at dksX4_becomes_4 3 rfl rfl)
theorem dX4_becomes_101 : decode cX4_becomes 101 = .ok (.aload_n 1, 1) := dk_43 (dk_at dksX4_becomes_4 6 rfl rfl)
theorem dX4_becomes_102 : decode cX4_becomes 102 = .ok (.getfield 17, 3) := dk_180 0 17 (dk_at dksX4_becomes_4 7 rfl rfl)
theorem dX4_becomes_105 : decode cX4_becomes 105 = .ok (.iconst 0, 1) := dk_3 (dk_at dksX4_becomes_4 10 rfl rfl)
theorem dX4_becomes_106 : decode cX4_becomes 106 = .ok (.aload_n 0, 1) := dk_42 (dk_at dksX4_becomes_4 11 rfl rfl)
theorem dX4_becomes_107 : decode cX4_becomes 107 = .ok (.getfield 17, 3) := dk_180 0 17 (dk_at dksX4_becomes_4 12 rfl rfl)
theorem dX4_becomes_110 : decode cX4_becomes 110 = .ok (.iconst 0, 1) := dk_3 (dk_at dksX4_becomes_4 15 rfl rfl)
theorem dX4_becomes_111 : decode cX4_becomes 111 = .ok (.aload_n 0, 1) := dk_42 (dk_at dksX4_becomes_4 16 rfl rfl)
theorem dX4_becomes_112 : decode cX4_becomes 112 = .ok (.getfield 77, 3) := dk_180 0 77 (dk_at dksX4_becomes_4 17 rfl rfl)
theorem dX4_becomes_115 : decode cX4_becomes 115 = .ok (.invokestatic 84, 3) := dk_184 0 84 (dk_at dksX4_becomes_4 20 rfl rfl)
theorem dX4_becomes_118 : decode cX4_becomes 118 = .ok (.iconst 0, 1) := dk_3 (dk_at dksX4_becomes_4 23 rfl rfl)
theorem dX4_becomes_119 : decode cX4_becomes 119 = .ok (.istore_n 2, 1) := dk_61 (dk_at dksX4_becomes_5 0 rfl rfl)
theorem dX4_becomes_120 : decode cX4_becomes 120 = .ok (.iload_n 2, 1) := dk_28 (dk_at dksX4_becomes_5 1 rfl rfl)
theorem dX4_becomes_121 : decode cX4_becomes 121 = .ok (.iconst 4, 1) := dk_7 (dk_at dksX4_becomes_5 2 rfl rfl)
theorem dX4_becomes_122 : decode cX4_becomes 122 = .ok (.if_icmp .ge 24, 3) := dk_162 0 24 (dk_at dksX4_becomes_5 3 rfl rfl)
theorem dX4_becomes_125 : decode cX4_becomes 125 = .ok (.aload_n 0, 1) := dk_42 (dk_at dksX4_becomes_5 6 rfl rfl)
theorem dX4_becomes_126 : decode cX4_becomes 126 = .ok (.getfield 23, 3) := dk_180 0 23 (dk_at dksX4_becomes_5 7 rfl rfl)
theorem dX4_becomes_129 : decode cX4_becomes 129 = .ok (.iload_n 2, 1) := dk_28 (dk_at dksX4_becomes_5 10 rfl rfl)
theorem dX4_becomes_130 : decode cX4_becomes 130 = .ok (.aaload, 1) := dk_50 (dk_at dksX4_becomes_5 11 rfl rfl)
theorem dX4_becomes_131 : decode cX4_becomes 131 = .ok (.aload_n 1, 1) := dk_43 (dk_at dksX4_becomes_5 12 rfl rfl)
theorem dX4_becomes_132 : decode cX4_becomes 132 = .ok (.getfield 23, 3) := dk_180 0 23 (dk_at dksX4_becomes_5 13 rfl rfl)
theorem dX4_becomes_135 : decode cX4_becomes 135 = .ok (.iload_n 2, 1) := dk_28 (dk_at dksX4_becomes_5 16 rfl rfl)
theorem dX4_becomes_136 : decode cX4_becomes 136 = .ok (.aaload, 1) := dk_50 (dk_at dksX4_becomes_5 17 rfl rfl)
theorem dX4_becomes_137 : decode cX4_becomes 137 = .ok (.invokevirtual 90, 3) := dk_182 0 90 (dk_at dksX4_becomes_5 18 rfl rfl)
theorem dX4_becomes_140 : decode cX4_becomes 140 = .ok (.iinc 2 1, 3) := dk_132 2 1 (dk_at dksX4_becomes_5 21 rfl rfl)
theorem dX4_becomes_143 : decode cX4_becomes 143 = .ok (.goto (-23), 3) := dk_167 255 233 (dk_at dksX4_becomes_6 0 rfl rfl)
theorem dX4_becomes_146 : decode cX4_becomes 146 = .ok (.return_, 1) := dk_177 (dk_at dksX4_becomes_6 3 rfl rfl)
theorem q150 : (Jvm.Cond.initialized "DeltaIndex$Store") ∈ lw_all := lw_g (lw_at lw_m1 8 rfl) rfl
theorem q350 : (Jvm.Cond.instantiable "DeltaIndex$Store" (13 : Nat)) ∈ lw_all := lw_g (lw_at lw_m1 208 rfl) rfl
theorem q352 : (Jvm.Cond.instanceMethod ({ cls := "DeltaIndex$Store", name := "<init>", desc := "()V" } : Jvm.MethodName)) ∈ lw_all := lw_g (lw_at lw_m1 210 rfl) rfl
theorem q353 : (Jvm.Cond.code ({ cls := "DeltaIndex$Store", name := "<init>", desc := "()V" } : Jvm.MethodName) prog_12_method_1_code (2 : Nat) (Option.none : Option Jvm.ClassFile.FieldType)) ∈ lw_all := lw_g (lw_at lw_m1 211 rfl) rfl
theorem q354 : (Jvm.Cond.methodLink "DeltaIndex$Store" (3 : Nat) ({ cls := "java/lang/Object", name := "<init>", desc := "()V" } : Jvm.MethodName)) ∈ lw_all := lw_g (lw_at lw_m1 212 rfl) rfl
theorem q355 : (Jvm.Cond.classLink "DeltaIndex$Store" (9 : Nat) "DeltaIndex$Record") ∈ lw_all := lw_g (lw_at lw_m1 213 rfl) rfl
theorem q357 : (Jvm.Cond.classLink "DeltaIndex$Store" (21 : Nat) "DeltaIndex$Hand") ∈ lw_all := lw_g (lw_at lw_m1 215 rfl) rfl
theorem q360 : (Jvm.Cond.methodLinkNest "DeltaIndex$Store" (27 : Nat) ({ cls := "DeltaIndex$Record", name := "<init>", desc := "()V" } : Jvm.MethodName) "DeltaIndex") ∈ lw_tbl := lw_at lw_m1 218 rfl
theorem q365 : (Jvm.Cond.fieldLink "DeltaIndex$Store" (126 : Nat) "DeltaIndex$Record" "key" "[I") ∈ lw_all := lw_g (lw_at lw_m1 223 rfl) rfl
theorem q368 : (Jvm.Cond.fieldLink "DeltaIndex$Store" (123 : Nat) "DeltaIndex$Record" "val" "[I") ∈ lw_all := lw_g (lw_at lw_m1 226 rfl) rfl
theorem q371 : (Jvm.Cond.fieldLink "DeltaIndex$Store" (96 : Nat) "DeltaIndex$Record" "sort" "I") ∈ lw_all := lw_g (lw_at lw_m1 229 rfl) rfl
theorem q374 : (Jvm.Cond.fieldLink "DeltaIndex$Store" (120 : Nat) "DeltaIndex$Record" "many" "I") ∈ lw_all := lw_g (lw_at lw_m1 232 rfl) rfl
theorem q377 : (Jvm.Cond.fieldLink "DeltaIndex$Store" (74 : Nat) "DeltaIndex$Record" "high" "I") ∈ lw_all := lw_g (lw_at lw_m1 235 rfl) rfl
theorem q380 : (Jvm.Cond.fieldLink "DeltaIndex$Store" (133 : Nat) "DeltaIndex$Record" "right" "I") ∈ lw_all := lw_g (lw_at lw_m1 238 rfl) rfl
theorem q387 : (Jvm.Cond.fieldLink "DeltaIndex$Store" (99 : Nat) "DeltaIndex$Record" "next" "I") ∈ lw_all := lw_g (lw_at lw_m2 5 rfl) rfl
theorem q390 : (Jvm.Cond.fieldLink "DeltaIndex$Store" (252 : Nat) "DeltaIndex$Record" "base" "I") ∈ lw_all := lw_g (lw_at lw_m2 8 rfl) rfl
theorem q392 : (Jvm.Cond.fieldLink "DeltaIndex$Store" (249 : Nat) "DeltaIndex$Record" "retired" "I") ∈ lw_all := lw_g (lw_at lw_m2 10 rfl) rfl
theorem q396 : (Jvm.Cond.fieldLink "DeltaIndex$Store" (275 : Nat) "DeltaIndex$Record" "free" "Z") ∈ lw_all := lw_g (lw_at lw_m2 14 rfl) rfl
theorem q424 : (Jvm.Cond.methodLinkNest "DeltaIndex$Store" (41 : Nat) ({ cls := "DeltaIndex$Hand", name := "<init>", desc := "()V" } : Jvm.MethodName) "DeltaIndex") ∈ lw_tbl := lw_at lw_m2 42 rfl
theorem q429 : (Jvm.Cond.fieldLink "DeltaIndex$Store" (150 : Nat) "DeltaIndex$Hand" "act" "I") ∈ lw_all := lw_g (lw_at lw_m2 47 rfl) rfl
theorem q432 : (Jvm.Cond.fieldLink "DeltaIndex$Store" (153 : Nat) "DeltaIndex$Hand" "key" "I") ∈ lw_all := lw_g (lw_at lw_m2 50 rfl) rfl
theorem q435 : (Jvm.Cond.fieldLink "DeltaIndex$Store" (155 : Nat) "DeltaIndex$Hand" "value" "I") ∈ lw_all := lw_g (lw_at lw_m2 53 rfl) rfl
theorem q437 : (Jvm.Cond.fieldLink "DeltaIndex$Store" (147 : Nat) "DeltaIndex$Hand" "stage" "I") ∈ lw_all := lw_g (lw_at lw_m2 55 rfl) rfl
theorem q440 : (Jvm.Cond.fieldLink "DeltaIndex$Store" (214 : Nat) "DeltaIndex$Hand" "page" "I") ∈ lw_all := lw_g (lw_at lw_m2 58 rfl) rfl
theorem q443 : (Jvm.Cond.fieldLink "DeltaIndex$Store" (238 : Nat) "DeltaIndex$Hand" "saw" "I") ∈ lw_all := lw_g (lw_at lw_m2 61 rfl) rfl
theorem q445 : (Jvm.Cond.fieldLink "DeltaIndex$Store" (259 : Nat) "DeltaIndex$Hand" "base" "I") ∈ lw_all := lw_g (lw_at lw_m2 63 rfl) rfl
theorem q447 : (Jvm.Cond.fieldLink "DeltaIndex$Store" (217 : Nat) "DeltaIndex$Hand" "bound" "I") ∈ lw_all := lw_g (lw_at lw_m2 65 rfl) rfl
theorem q449 : (Jvm.Cond.fieldLink "DeltaIndex$Store" (220 : Nat) "DeltaIndex$Hand" "right" "I") ∈ lw_all := lw_g (lw_at lw_m2 67 rfl) rfl
theorem q451 : (Jvm.Cond.fieldLink "DeltaIndex$Store" (221 : Nat) "DeltaIndex$Hand" "victim" "I") ∈ lw_all := lw_g (lw_at lw_m2 69 rfl) rfl
theorem q453 : (Jvm.Cond.fieldLink "DeltaIndex$Store" (266 : Nat) "DeltaIndex$Hand" "beside" "I") ∈ lw_all := lw_g (lw_at lw_m2 71 rfl) rfl
theorem q455 : (Jvm.Cond.fieldLink "DeltaIndex$Store" (136 : Nat) "DeltaIndex$Hand" "lost" "I") ∈ lw_all := lw_g (lw_at lw_m2 73 rfl) rfl
theorem q458 : (Jvm.Cond.fieldLink "DeltaIndex$Store" (166 : Nat) "DeltaIndex$Hand" "steps" "I") ∈ lw_all := lw_g (lw_at lw_m2 76 rfl) rfl
theorem q461 : (Jvm.Cond.fieldLink "DeltaIndex$Store" (165 : Nat) "DeltaIndex$Hand" "epoch" "I") ∈ lw_all := lw_g (lw_at lw_m2 79 rfl) rfl
theorem q464 : (Jvm.Cond.fieldLink "DeltaIndex$Store" (158 : Nat) "DeltaIndex$Hand" "result" "I") ∈ lw_all := lw_g (lw_at lw_m2 82 rfl) rfl
theorem q467 : (Jvm.Cond.fieldLink "DeltaIndex$Store" (161 : Nat) "DeltaIndex$Hand" "told" "Z") ∈ lw_all := lw_g (lw_at lw_m2 85 rfl) rfl
theorem q501 : (Jvm.Cond.fieldLink "DeltaIndex$Store" (11 : Nat) "DeltaIndex$Store" "record" "[LDeltaIndex$Record;") ∈ lw_all := lw_g (lw_at lw_m2 119 rfl) rfl
theorem q503 : (Jvm.Cond.fieldLink "DeltaIndex$Store" (17 : Nat) "DeltaIndex$Store" "top" "[I") ∈ lw_all := lw_g (lw_at lw_m2 121 rfl) rfl
theorem q505 : (Jvm.Cond.fieldLink "DeltaIndex$Store" (23 : Nat) "DeltaIndex$Store" "hand" "[LDeltaIndex$Hand;") ∈ lw_all := lw_g (lw_at lw_m2 123 rfl) rfl
theorem q507 : (Jvm.Cond.fieldLink "DeltaIndex$Store" (57 : Nat) "DeltaIndex$Store" "records" "I") ∈ lw_all := lw_g (lw_at lw_m2 125 rfl) rfl
theorem q510 : (Jvm.Cond.fieldLink "DeltaIndex$Store" (77 : Nat) "DeltaIndex$Store" "pages" "I") ∈ lw_all := lw_g (lw_at lw_m2 128 rfl) rfl
theorem q512 : (Jvm.Cond.fieldLink "DeltaIndex$Store" (60 : Nat) "DeltaIndex$Store" "epoch" "I") ∈ lw_all := lw_g (lw_at lw_m2 130 rfl) rfl
theorem q514 : (Jvm.Cond.fieldLink "DeltaIndex$Store" (48 : Nat) "DeltaIndex$Store" "chain" "I") ∈ lw_all := lw_g (lw_at lw_m2 132 rfl) rfl
theorem q516 : (Jvm.Cond.fieldLink "DeltaIndex$Store" (52 : Nat) "DeltaIndex$Store" "most" "I") ∈ lw_all := lw_g (lw_at lw_m2 134 rfl) rfl
theorem q518 : (Jvm.Cond.fieldLink "DeltaIndex$Store" (56 : Nat) "DeltaIndex$Store" "least" "I") ∈ lw_all := lw_g (lw_at lw_m2 136 rfl) rfl
theorem q520 : (Jvm.Cond.fieldLink "DeltaIndex$Store" (28 : Nat) "DeltaIndex$Store" "here" "LDeltaIndex$Record;") ∈ lw_all := lw_g (lw_at lw_m2 138 rfl) rfl
theorem q521 : (Jvm.Cond.fieldLink "DeltaIndex$Store" (32 : Nat) "DeltaIndex$Store" "bounds" "LDeltaIndex$Record;") ∈ lw_all := lw_g (lw_at lw_m2 139 rfl) rfl
theorem q522 : (Jvm.Cond.fieldLink "DeltaIndex$Store" (35 : Nat) "DeltaIndex$Store" "near" "LDeltaIndex$Record;") ∈ lw_all := lw_g (lw_at lw_m2 140 rfl) rfl
theorem q523 : (Jvm.Cond.fieldLink "DeltaIndex$Store" (38 : Nat) "DeltaIndex$Store" "above" "[I") ∈ lw_all := lw_g (lw_at lw_m2 141 rfl) rfl
theorem q524 : (Jvm.Cond.laysFinal "DeltaIndex$Store" "DeltaIndex$Store" "record" "[LDeltaIndex$Record;") ∈ lw_all := lw_g (lw_at lw_m2 142 rfl) rfl
theorem q525 : (Jvm.Cond.soleField "DeltaIndex$Store" "record") ∈ lw_all := lw_g (lw_at lw_m2 143 rfl) rfl
theorem q526 : (Jvm.Cond.laysFinal "DeltaIndex$Store" "DeltaIndex$Store" "top" "[I") ∈ lw_all := lw_g (lw_at lw_m2 144 rfl) rfl
theorem q527 : (Jvm.Cond.soleField "DeltaIndex$Store" "top") ∈ lw_all := lw_g (lw_at lw_m2 145 rfl) rfl
theorem q528 : (Jvm.Cond.laysFinal "DeltaIndex$Store" "DeltaIndex$Store" "hand" "[LDeltaIndex$Hand;") ∈ lw_all := lw_g (lw_at lw_m2 146 rfl) rfl
theorem q529 : (Jvm.Cond.soleField "DeltaIndex$Store" "hand") ∈ lw_all := lw_g (lw_at lw_m2 147 rfl) rfl
theorem q530 : (Jvm.Cond.lays "DeltaIndex$Store" "DeltaIndex$Store" "records" "I") ∈ lw_all := lw_g (lw_at lw_m2 148 rfl) rfl
theorem q531 : (Jvm.Cond.soleField "DeltaIndex$Store" "records") ∈ lw_all := lw_g (lw_at lw_m2 149 rfl) rfl
theorem q532 : (Jvm.Cond.lays "DeltaIndex$Store" "DeltaIndex$Store" "pages" "I") ∈ lw_all := lw_g (lw_at lw_m2 150 rfl) rfl
theorem q533 : (Jvm.Cond.soleField "DeltaIndex$Store" "pages") ∈ lw_all := lw_g (lw_at lw_m2 151 rfl) rfl
theorem q534 : (Jvm.Cond.lays "DeltaIndex$Store" "DeltaIndex$Store" "epoch" "I") ∈ lw_all := lw_g (lw_at lw_m2 152 rfl) rfl
theorem q535 : (Jvm.Cond.soleField "DeltaIndex$Store" "epoch") ∈ lw_all := lw_g (lw_at lw_m2 153 rfl) rfl
theorem q536 : (Jvm.Cond.lays "DeltaIndex$Store" "DeltaIndex$Store" "chain" "I") ∈ lw_all := lw_g (lw_at lw_m2 154 rfl) rfl
theorem q537 : (Jvm.Cond.soleField "DeltaIndex$Store" "chain") ∈ lw_all := lw_g (lw_at lw_m2 155 rfl) rfl
theorem q538 : (Jvm.Cond.lays "DeltaIndex$Store" "DeltaIndex$Store" "most" "I") ∈ lw_all := lw_g (lw_at lw_m2 156 rfl) rfl
theorem q539 : (Jvm.Cond.soleField "DeltaIndex$Store" "most") ∈ lw_all := lw_g (lw_at lw_m2 157 rfl) rfl
theorem q540 : (Jvm.Cond.lays "DeltaIndex$Store" "DeltaIndex$Store" "least" "I") ∈ lw_all := lw_g (lw_at lw_m2 158 rfl) rfl
theorem q541 : (Jvm.Cond.soleField "DeltaIndex$Store" "least") ∈ lw_all := lw_g (lw_at lw_m2 159 rfl) rfl
theorem q542 : (Jvm.Cond.laysFinal "DeltaIndex$Store" "DeltaIndex$Store" "here" "LDeltaIndex$Record;") ∈ lw_all := lw_g (lw_at lw_m2 160 rfl) rfl
theorem q543 : (Jvm.Cond.soleField "DeltaIndex$Store" "here") ∈ lw_all := lw_g (lw_at lw_m2 161 rfl) rfl
theorem q544 : (Jvm.Cond.laysFinal "DeltaIndex$Store" "DeltaIndex$Store" "bounds" "LDeltaIndex$Record;") ∈ lw_all := lw_g (lw_at lw_m2 162 rfl) rfl
theorem q545 : (Jvm.Cond.soleField "DeltaIndex$Store" "bounds") ∈ lw_all := lw_g (lw_at lw_m2 163 rfl) rfl
theorem q546 : (Jvm.Cond.laysFinal "DeltaIndex$Store" "DeltaIndex$Store" "near" "LDeltaIndex$Record;") ∈ lw_all := lw_g (lw_at lw_m2 164 rfl) rfl
theorem q547 : (Jvm.Cond.soleField "DeltaIndex$Store" "near") ∈ lw_all := lw_g (lw_at lw_m2 165 rfl) rfl
theorem q548 : (Jvm.Cond.laysFinal "DeltaIndex$Store" "DeltaIndex$Store" "above" "[I") ∈ lw_all := lw_g (lw_at lw_m2 166 rfl) rfl
theorem q549 : (Jvm.Cond.soleField "DeltaIndex$Store" "above") ∈ lw_all := lw_g (lw_at lw_m2 167 rfl) rfl
theorem q550 : (Jvm.Cond.superclass "DeltaIndex$Store" "java/lang/Object") ∈ lw_all := lw_g (lw_at lw_m2 168 rfl) rfl
theorem q605 : (Jvm.Cond.fieldLink "DeltaIndex$Store" (42 : Nat) "DeltaIndex$Text" "chain" "I") ∈ lw_all := lw_g (lw_at lw_m2 223 rfl) rfl
theorem q608 : (Jvm.Cond.fieldLink "DeltaIndex$Store" (49 : Nat) "DeltaIndex$Text" "most" "I") ∈ lw_all := lw_g (lw_at lw_m2 226 rfl) rfl
theorem q611 : (Jvm.Cond.fieldLink "DeltaIndex$Store" (53 : Nat) "DeltaIndex$Text" "least" "I") ∈ lw_all := lw_g (lw_at lw_m2 229 rfl) rfl
theorem q623 : (Jvm.Cond.instanceMethod ({ cls := "DeltaIndex$Store", name := "begins", desc := "(LDeltaIndex$Text;)V" } : Jvm.MethodName)) ∈ lw_all := lw_g (lw_at lw_m3 1 rfl) rfl
theorem q624 : (Jvm.Cond.selects "DeltaIndex$Store" ({ cls := "DeltaIndex$Store", name := "begins", desc := "(LDeltaIndex$Text;)V" } : Jvm.MethodName) ({ cls := "DeltaIndex$Store", name := "begins", desc := "(LDeltaIndex$Text;)V" } : Jvm.MethodName)) ∈ lw_all := lw_g (lw_at lw_m3 2 rfl) rfl
theorem q625 : (Jvm.Cond.code ({ cls := "DeltaIndex$Store", name := "begins", desc := "(LDeltaIndex$Text;)V" } : Jvm.MethodName) prog_12_method_2_code (3 : Nat) (Option.none : Option Jvm.ClassFile.FieldType)) ∈ lw_all := lw_g (lw_at lw_m3 3 rfl) rfl
theorem q626 : (Jvm.Cond.methodLink "DeltaIndex$Store" (63 : Nat) ({ cls := "DeltaIndex$Hand", name := "begins", desc := "()V" } : Jvm.MethodName)) ∈ lw_all := lw_g (lw_at lw_m3 4 rfl) rfl
theorem q630 : (Jvm.Cond.methodLink "DeltaIndex$Store" (66 : Nat) ({ cls := "DeltaIndex$Store", name := "makes", desc := "(IIII)I" } : Jvm.MethodName)) ∈ lw_all := lw_g (lw_at lw_m3 8 rfl) rfl
theorem q631 : (Jvm.Cond.privateMethod ({ cls := "DeltaIndex$Store", name := "makes", desc := "(IIII)I" } : Jvm.MethodName)) ∈ lw_tbl := lw_at lw_m3 9 rfl
theorem q632 : (Jvm.Cond.instanceMethod ({ cls := "DeltaIndex$Store", name := "makes", desc := "(IIII)I" } : Jvm.MethodName)) ∈ lw_all := lw_g (lw_at lw_m3 10 rfl) rfl
theorem q633 : (Jvm.Cond.code ({ cls := "DeltaIndex$Store", name := "makes", desc := "(IIII)I" } : Jvm.MethodName) prog_12_method_4_code (5 : Nat) (Option.some Jvm.ClassFile.FieldType.int)) ∈ lw_all := lw_g (lw_at lw_m3 11 rfl) rfl
theorem q634 : (Jvm.Cond.methodLink "DeltaIndex$Store" (93 : Nat) ({ cls := "DeltaIndex$Record", name := "begins", desc := "(IIII)V" } : Jvm.MethodName)) ∈ lw_all := lw_g (lw_at lw_m3 12 rfl) rfl
theorem q638 : (Jvm.Cond.methodLink "DeltaIndex$Store" (70 : Nat) ({ cls := "DeltaIndex$Record", name := "sets", desc := "(II)V" } : Jvm.MethodName)) ∈ lw_all := lw_g (lw_at lw_m3 16 rfl) rfl
theorem q1241 : (Jvm.Cond.selects "DeltaIndex$Store" ({ cls := "java/lang/Object", name := "getClass", desc := "()Ljava/lang/Class;" } : Jvm.MethodName) ({ cls := "java/lang/Object", name := "getClass", desc := "()Ljava/lang/Class;" } : Jvm.MethodName)) ∈ lw_all := lw_g (lw_at lw_m5 139 rfl) rfl
theorem q1368 : (Jvm.Cond.instanceMethod ({ cls := "DeltaIndex$Store", name := "keys", desc := "()I" } : Jvm.MethodName)) ∈ lw_all := lw_g (lw_at lw_m6 26 rfl) rfl
theorem q1369 : (Jvm.Cond.selects "DeltaIndex$Store" ({ cls := "DeltaIndex$Store", name := "keys", desc := "()I" } : Jvm.MethodName) ({ cls := "DeltaIndex$Store", name := "keys", desc := "()I" } : Jvm.MethodName)) ∈ lw_all := lw_g (lw_at lw_m6 27 rfl) rfl
theorem q1370 : (Jvm.Cond.code ({ cls := "DeltaIndex$Store", name := "keys", desc := "()I" } : Jvm.MethodName) prog_12_method_13_code (3 : Nat) (Option.some Jvm.ClassFile.FieldType.int)) ∈ lw_all := lw_g (lw_at lw_m6 28 rfl) rfl
theorem q1371 : (Jvm.Cond.methodLink "DeltaIndex$Store" (113 : Nat) ({ cls := "DeltaIndex$Store", name := "lays", desc := "(ILDeltaIndex$Record;)V" } : Jvm.MethodName)) ∈ lw_all := lw_g (lw_at lw_m6 29 rfl) rfl
theorem q1372 : (Jvm.Cond.instanceMethod ({ cls := "DeltaIndex$Store", name := "lays", desc := "(ILDeltaIndex$Record;)V" } : Jvm.MethodName)) ∈ lw_all := lw_g (lw_at lw_m6 30 rfl) rfl
theorem q1373 : (Jvm.Cond.selects "DeltaIndex$Store" ({ cls := "DeltaIndex$Store", name := "lays", desc := "(ILDeltaIndex$Record;)V" } : Jvm.MethodName) ({ cls := "DeltaIndex$Store", name := "lays", desc := "(ILDeltaIndex$Record;)V" } : Jvm.MethodName)) ∈ lw_all := lw_g (lw_at lw_m6 31 rfl) rfl
theorem q1374 : (Jvm.Cond.code ({ cls := "DeltaIndex$Store", name := "lays", desc := "(ILDeltaIndex$Record;)V" } : Jvm.MethodName) prog_12_method_7_code (5 : Nat) (Option.none : Option Jvm.ClassFile.FieldType)) ∈ lw_all := lw_g (lw_at lw_m6 32 rfl) rfl
theorem q1375 : (Jvm.Cond.methodLink "DeltaIndex$Store" (102 : Nat) ({ cls := "DeltaIndex$Store", name := "baseOf", desc := "(I)LDeltaIndex$Record;" } : Jvm.MethodName)) ∈ lw_all := lw_g (lw_at lw_m6 33 rfl) rfl
theorem q1376 : (Jvm.Cond.instanceMethod ({ cls := "DeltaIndex$Store", name := "baseOf", desc := "(I)LDeltaIndex$Record;" } : Jvm.MethodName)) ∈ lw_all := lw_g (lw_at lw_m6 34 rfl) rfl
theorem q1377 : (Jvm.Cond.selects "DeltaIndex$Store" ({ cls := "DeltaIndex$Store", name := "baseOf", desc := "(I)LDeltaIndex$Record;" } : Jvm.MethodName) ({ cls := "DeltaIndex$Store", name := "baseOf", desc := "(I)LDeltaIndex$Record;" } : Jvm.MethodName)) ∈ lw_all := lw_g (lw_at lw_m6 35 rfl) rfl
theorem q1378 : (Jvm.Cond.code ({ cls := "DeltaIndex$Store", name := "baseOf", desc := "(I)LDeltaIndex$Record;" } : Jvm.MethodName) prog_12_method_5_code (3 : Nat) (Option.some (Jvm.ClassFile.FieldType.object "DeltaIndex$Record"))) ∈ lw_all := lw_g (lw_at lw_m6 36 rfl) rfl
theorem q1379 : (Jvm.Cond.methodLink "DeltaIndex$Store" (106 : Nat) ({ cls := "DeltaIndex$Record", name := "takes", desc := "(LDeltaIndex$Record;)V" } : Jvm.MethodName)) ∈ lw_all := lw_g (lw_at lw_m6 37 rfl) rfl
theorem q1383 : (Jvm.Cond.methodLink "DeltaIndex$Store" (109 : Nat) ({ cls := "DeltaIndex$Record", name := "changes", desc := "(LDeltaIndex$Record;[LDeltaIndex$Record;)V" } : Jvm.MethodName)) ∈ lw_all := lw_g (lw_at lw_m6 41 rfl) rfl
theorem q1401 : (Jvm.Cond.instanceMethod ({ cls := "DeltaIndex$Store", name := "lostOfAll", desc := "()I" } : Jvm.MethodName)) ∈ lw_all := lw_g (lw_at lw_m6 59 rfl) rfl
theorem q1402 : (Jvm.Cond.selects "DeltaIndex$Store" ({ cls := "DeltaIndex$Store", name := "lostOfAll", desc := "()I" } : Jvm.MethodName) ({ cls := "DeltaIndex$Store", name := "lostOfAll", desc := "()I" } : Jvm.MethodName)) ∈ lw_all := lw_g (lw_at lw_m6 60 rfl) rfl
theorem q1403 : (Jvm.Cond.code ({ cls := "DeltaIndex$Store", name := "lostOfAll", desc := "()I" } : Jvm.MethodName) prog_12_method_14_code (3 : Nat) (Option.some Jvm.ClassFile.FieldType.int)) ∈ lw_all := lw_g (lw_at lw_m6 61 rfl) rfl
theorem q1410 : (Jvm.Cond.instanceMethod ({ cls := "DeltaIndex$Store", name := "takesUp", desc := "(IIII)Z" } : Jvm.MethodName)) ∈ lw_all := lw_g (lw_at lw_m6 68 rfl) rfl
theorem q1411 : (Jvm.Cond.selects "DeltaIndex$Store" ({ cls := "DeltaIndex$Store", name := "takesUp", desc := "(IIII)Z" } : Jvm.MethodName) ({ cls := "DeltaIndex$Store", name := "takesUp", desc := "(IIII)Z" } : Jvm.MethodName)) ∈ lw_all := lw_g (lw_at lw_m6 69 rfl) rfl
theorem q1412 : (Jvm.Cond.code ({ cls := "DeltaIndex$Store", name := "takesUp", desc := "(IIII)Z" } : Jvm.MethodName) prog_12_method_17_code (6 : Nat) (Option.some Jvm.ClassFile.FieldType.boolean)) ∈ lw_all := lw_g (lw_at lw_m6 70 rfl) rfl
theorem q1414 : (Jvm.Cond.instanceMethod ({ cls := "DeltaIndex$Store", name := "closes", desc := "(I)I" } : Jvm.MethodName)) ∈ lw_all := lw_g (lw_at lw_m6 72 rfl) rfl
theorem q1415 : (Jvm.Cond.selects "DeltaIndex$Store" ({ cls := "DeltaIndex$Store", name := "closes", desc := "(I)I" } : Jvm.MethodName) ({ cls := "DeltaIndex$Store", name := "closes", desc := "(I)I" } : Jvm.MethodName)) ∈ lw_all := lw_g (lw_at lw_m6 73 rfl) rfl
theorem q1416 : (Jvm.Cond.code ({ cls := "DeltaIndex$Store", name := "closes", desc := "(I)I" } : Jvm.MethodName) prog_12_method_19_code (3 : Nat) (Option.some Jvm.ClassFile.FieldType.int)) ∈ lw_all := lw_g (lw_at lw_m6 74 rfl) rfl
theorem q1417 : (Jvm.Cond.methodLink "DeltaIndex$Store" (209 : Nat) ({ cls := "DeltaIndex$Store", name := "steps", desc := "(I)I" } : Jvm.MethodName)) ∈ lw_all := lw_g (lw_at lw_m6 75 rfl) rfl
theorem q1418 : (Jvm.Cond.instanceMethod ({ cls := "DeltaIndex$Store", name := "steps", desc := "(I)I" } : Jvm.MethodName)) ∈ lw_all := lw_g (lw_at lw_m6 76 rfl) rfl
theorem q1419 : (Jvm.Cond.selects "DeltaIndex$Store" ({ cls := "DeltaIndex$Store", name := "steps", desc := "(I)I" } : Jvm.MethodName) ({ cls := "DeltaIndex$Store", name := "steps", desc := "(I)I" } : Jvm.MethodName)) ∈ lw_all := lw_g (lw_at lw_m6 77 rfl) rfl
theorem q1420 : (Jvm.Cond.code ({ cls := "DeltaIndex$Store", name := "steps", desc := "(I)I" } : Jvm.MethodName) prog_12_method_18_code (3 : Nat) (Option.some Jvm.ClassFile.FieldType.int)) ∈ lw_all := lw_g (lw_at lw_m6 78 rfl) rfl
theorem q1421 : (Jvm.Cond.methodLink "DeltaIndex$Store" (169 : Nat) ({ cls := "DeltaIndex$Store", name := "finds", desc := "(LDeltaIndex$Hand;)I" } : Jvm.MethodName)) ∈ lw_all := lw_g (lw_at lw_m6 79 rfl) rfl
theorem q1422 : (Jvm.Cond.privateMethod ({ cls := "DeltaIndex$Store", name := "finds", desc := "(LDeltaIndex$Hand;)I" } : Jvm.MethodName)) ∈ lw_tbl := lw_at lw_m6 80 rfl
theorem q1423 : (Jvm.Cond.instanceMethod ({ cls := "DeltaIndex$Store", name := "finds", desc := "(LDeltaIndex$Hand;)I" } : Jvm.MethodName)) ∈ lw_all := lw_g (lw_at lw_m6 81 rfl) rfl
theorem q1424 : (Jvm.Cond.code ({ cls := "DeltaIndex$Store", name := "finds", desc := "(LDeltaIndex$Hand;)I" } : Jvm.MethodName) prog_12_method_20_code (3 : Nat) (Option.some Jvm.ClassFile.FieldType.int)) ∈ lw_all := lw_g (lw_at lw_m6 82 rfl) rfl
theorem q1425 : (Jvm.Cond.methodLink "DeltaIndex$Store" (117 : Nat) ({ cls := "DeltaIndex$Store", name := "bounds", desc := "()LDeltaIndex$Record;" } : Jvm.MethodName)) ∈ lw_all := lw_g (lw_at lw_m6 83 rfl) rfl
theorem q1426 : (Jvm.Cond.instanceMethod ({ cls := "DeltaIndex$Store", name := "bounds", desc := "()LDeltaIndex$Record;" } : Jvm.MethodName)) ∈ lw_all := lw_g (lw_at lw_m6 84 rfl) rfl
theorem q1427 : (Jvm.Cond.selects "DeltaIndex$Store" ({ cls := "DeltaIndex$Store", name := "bounds", desc := "()LDeltaIndex$Record;" } : Jvm.MethodName) ({ cls := "DeltaIndex$Store", name := "bounds", desc := "()LDeltaIndex$Record;" } : Jvm.MethodName)) ∈ lw_all := lw_g (lw_at lw_m6 85 rfl) rfl
theorem q1428 : (Jvm.Cond.code ({ cls := "DeltaIndex$Store", name := "bounds", desc := "()LDeltaIndex$Record;" } : Jvm.MethodName) prog_12_method_9_code (1 : Nat) (Option.some (Jvm.ClassFile.FieldType.object "DeltaIndex$Record"))) ∈ lw_all := lw_g (lw_at lw_m6 86 rfl) rfl
theorem q1429 : (Jvm.Cond.methodLink "DeltaIndex$Store" (211 : Nat) ({ cls := "DeltaIndex$Record", name := "upTo", desc := "(I)I" } : Jvm.MethodName)) ∈ lw_all := lw_g (lw_at lw_m6 87 rfl) rfl
theorem q1433 : (Jvm.Cond.methodLink "DeltaIndex$Store" (173 : Nat) ({ cls := "DeltaIndex$Store", name := "reads", desc := "(LDeltaIndex$Hand;)I" } : Jvm.MethodName)) ∈ lw_all := lw_g (lw_at lw_m6 91 rfl) rfl
theorem q1434 : (Jvm.Cond.privateMethod ({ cls := "DeltaIndex$Store", name := "reads", desc := "(LDeltaIndex$Hand;)I" } : Jvm.MethodName)) ∈ lw_tbl := lw_at lw_m6 92 rfl
theorem q1435 : (Jvm.Cond.instanceMethod ({ cls := "DeltaIndex$Store", name := "reads", desc := "(LDeltaIndex$Hand;)I" } : Jvm.MethodName)) ∈ lw_all := lw_g (lw_at lw_m6 93 rfl) rfl
theorem q1436 : (Jvm.Cond.code ({ cls := "DeltaIndex$Store", name := "reads", desc := "(LDeltaIndex$Hand;)I" } : Jvm.MethodName) prog_12_method_22_code (3 : Nat) (Option.some Jvm.ClassFile.FieldType.int)) ∈ lw_all := lw_g (lw_at lw_m6 94 rfl) rfl
theorem q1437 : (Jvm.Cond.methodLink "DeltaIndex$Store" (139 : Nat) ({ cls := "DeltaIndex$Store", name := "isGone", desc := "(I)Z" } : Jvm.MethodName)) ∈ lw_all := lw_g (lw_at lw_m6 95 rfl) rfl
theorem q1438 : (Jvm.Cond.instanceMethod ({ cls := "DeltaIndex$Store", name := "isGone", desc := "(I)Z" } : Jvm.MethodName)) ∈ lw_all := lw_g (lw_at lw_m6 96 rfl) rfl
theorem q1439 : (Jvm.Cond.selects "DeltaIndex$Store" ({ cls := "DeltaIndex$Store", name := "isGone", desc := "(I)Z" } : Jvm.MethodName) ({ cls := "DeltaIndex$Store", name := "isGone", desc := "(I)Z" } : Jvm.MethodName)) ∈ lw_all := lw_g (lw_at lw_m6 97 rfl) rfl
theorem q1440 : (Jvm.Cond.code ({ cls := "DeltaIndex$Store", name := "isGone", desc := "(I)Z" } : Jvm.MethodName) prog_12_method_8_code (2 : Nat) (Option.some Jvm.ClassFile.FieldType.boolean)) ∈ lw_all := lw_g (lw_at lw_m6 98 rfl) rfl
theorem q1441 : (Jvm.Cond.methodLink "DeltaIndex$Store" (143 : Nat) ({ cls := "DeltaIndex$Store", name := "isNoted", desc := "(II)Z" } : Jvm.MethodName)) ∈ lw_all := lw_g (lw_at lw_m6 99 rfl) rfl
theorem q1442 : (Jvm.Cond.privateMethod ({ cls := "DeltaIndex$Store", name := "isNoted", desc := "(II)Z" } : Jvm.MethodName)) ∈ lw_tbl := lw_at lw_m6 100 rfl
theorem q1443 : (Jvm.Cond.instanceMethod ({ cls := "DeltaIndex$Store", name := "isNoted", desc := "(II)Z" } : Jvm.MethodName)) ∈ lw_all := lw_g (lw_at lw_m6 101 rfl) rfl
theorem q1444 : (Jvm.Cond.code ({ cls := "DeltaIndex$Store", name := "isNoted", desc := "(II)Z" } : Jvm.MethodName) prog_12_method_11_code (4 : Nat) (Option.some Jvm.ClassFile.FieldType.boolean)) ∈ lw_all := lw_g (lw_at lw_m6 102 rfl) rfl
theorem q1445 : (Jvm.Cond.methodLink "DeltaIndex$Store" (129 : Nat) ({ cls := "DeltaIndex$Record", name := "at", desc := "(I)I" } : Jvm.MethodName)) ∈ lw_all := lw_g (lw_at lw_m6 103 rfl) rfl
theorem q1446 : (Jvm.Cond.methodLink "DeltaIndex$Store" (224 : Nat) ({ cls := "DeltaIndex$Store", name := "noting", desc := "(LDeltaIndex$Hand;II)I" } : Jvm.MethodName)) ∈ lw_all := lw_g (lw_at lw_m6 104 rfl) rfl
theorem q1447 : (Jvm.Cond.privateMethod ({ cls := "DeltaIndex$Store", name := "noting", desc := "(LDeltaIndex$Hand;II)I" } : Jvm.MethodName)) ∈ lw_tbl := lw_at lw_m6 105 rfl
theorem q1448 : (Jvm.Cond.instanceMethod ({ cls := "DeltaIndex$Store", name := "noting", desc := "(LDeltaIndex$Hand;II)I" } : Jvm.MethodName)) ∈ lw_all := lw_g (lw_at lw_m6 106 rfl) rfl
theorem q1449 : (Jvm.Cond.code ({ cls := "DeltaIndex$Store", name := "noting", desc := "(LDeltaIndex$Hand;II)I" } : Jvm.MethodName) prog_12_method_21_code (4 : Nat) (Option.some Jvm.ClassFile.FieldType.int)) ∈ lw_all := lw_g (lw_at lw_m6 107 rfl) rfl
theorem q1450 : (Jvm.Cond.methodLink "DeltaIndex$Store" (228 : Nat) ({ cls := "DeltaIndex$Hand", name := "tells", desc := "(I)I" } : Jvm.MethodName)) ∈ lw_all := lw_g (lw_at lw_m6 108 rfl) rfl
theorem q1458 : (Jvm.Cond.methodLink "DeltaIndex$Store" (231 : Nat) ({ cls := "DeltaIndex$Store", name := "length", desc := "(I)I" } : Jvm.MethodName)) ∈ lw_all := lw_g (lw_at lw_m6 116 rfl) rfl
theorem q1459 : (Jvm.Cond.instanceMethod ({ cls := "DeltaIndex$Store", name := "length", desc := "(I)I" } : Jvm.MethodName)) ∈ lw_all := lw_g (lw_at lw_m6 117 rfl) rfl
theorem q1460 : (Jvm.Cond.selects "DeltaIndex$Store" ({ cls := "DeltaIndex$Store", name := "length", desc := "(I)I" } : Jvm.MethodName) ({ cls := "DeltaIndex$Store", name := "length", desc := "(I)I" } : Jvm.MethodName)) ∈ lw_all := lw_g (lw_at lw_m6 118 rfl) rfl
theorem q1461 : (Jvm.Cond.code ({ cls := "DeltaIndex$Store", name := "length", desc := "(I)I" } : Jvm.MethodName) prog_12_method_6_code (4 : Nat) (Option.some Jvm.ClassFile.FieldType.int)) ∈ lw_all := lw_g (lw_at lw_m6 119 rfl) rfl
theorem q1462 : (Jvm.Cond.methodLink "DeltaIndex$Store" (234 : Nat) ({ cls := "DeltaIndex$Store", name := "keys", desc := "()I" } : Jvm.MethodName)) ∈ lw_all := lw_g (lw_at lw_m6 120 rfl) rfl
theorem q1463 : (Jvm.Cond.methodLink "DeltaIndex$Store" (176 : Nat) ({ cls := "DeltaIndex$Store", name := "prepends", desc := "(LDeltaIndex$Hand;)I" } : Jvm.MethodName)) ∈ lw_all := lw_g (lw_at lw_m6 121 rfl) rfl
theorem q1464 : (Jvm.Cond.privateMethod ({ cls := "DeltaIndex$Store", name := "prepends", desc := "(LDeltaIndex$Hand;)I" } : Jvm.MethodName)) ∈ lw_tbl := lw_at lw_m6 122 rfl
theorem q1465 : (Jvm.Cond.instanceMethod ({ cls := "DeltaIndex$Store", name := "prepends", desc := "(LDeltaIndex$Hand;)I" } : Jvm.MethodName)) ∈ lw_all := lw_g (lw_at lw_m6 123 rfl) rfl
theorem q1466 : (Jvm.Cond.code ({ cls := "DeltaIndex$Store", name := "prepends", desc := "(LDeltaIndex$Hand;)I" } : Jvm.MethodName) prog_12_method_23_code (2 : Nat) (Option.some Jvm.ClassFile.FieldType.int)) ∈ lw_all := lw_g (lw_at lw_m6 124 rfl) rfl
theorem q1467 : (Jvm.Cond.methodLink "DeltaIndex$Store" (241 : Nat) ({ cls := "DeltaIndex$Hand", name := "lost", desc := "(I)I" } : Jvm.MethodName)) ∈ lw_all := lw_g (lw_at lw_m6 125 rfl) rfl
theorem q1471 : (Jvm.Cond.methodLink "DeltaIndex$Store" (243 : Nat) ({ cls := "DeltaIndex$Hand", name := "rests", desc := "()I" } : Jvm.MethodName)) ∈ lw_all := lw_g (lw_at lw_m6 129 rfl) rfl
theorem q1472 : (Jvm.Cond.methodLink "DeltaIndex$Store" (179 : Nat) ({ cls := "DeltaIndex$Store", name := "gathers", desc := "(LDeltaIndex$Hand;)I" } : Jvm.MethodName)) ∈ lw_all := lw_g (lw_at lw_m6 130 rfl) rfl
theorem q1473 : (Jvm.Cond.privateMethod ({ cls := "DeltaIndex$Store", name := "gathers", desc := "(LDeltaIndex$Hand;)I" } : Jvm.MethodName)) ∈ lw_tbl := lw_at lw_m6 131 rfl
theorem q1474 : (Jvm.Cond.instanceMethod ({ cls := "DeltaIndex$Store", name := "gathers", desc := "(LDeltaIndex$Hand;)I" } : Jvm.MethodName)) ∈ lw_all := lw_g (lw_at lw_m6 132 rfl) rfl
theorem q1475 : (Jvm.Cond.code ({ cls := "DeltaIndex$Store", name := "gathers", desc := "(LDeltaIndex$Hand;)I" } : Jvm.MethodName) prog_12_method_24_code (2 : Nat) (Option.some Jvm.ClassFile.FieldType.int)) ∈ lw_all := lw_g (lw_at lw_m6 133 rfl) rfl
theorem q1476 : (Jvm.Cond.methodLink "DeltaIndex$Store" (246 : Nat) ({ cls := "DeltaIndex$Hand", name := "goesOn", desc := "()I" } : Jvm.MethodName)) ∈ lw_all := lw_g (lw_at lw_m6 134 rfl) rfl
theorem q1480 : (Jvm.Cond.methodLink "DeltaIndex$Store" (182 : Nat) ({ cls := "DeltaIndex$Store", name := "swaps", desc := "(LDeltaIndex$Hand;)I" } : Jvm.MethodName)) ∈ lw_all := lw_g (lw_at lw_m6 138 rfl) rfl
theorem q1481 : (Jvm.Cond.privateMethod ({ cls := "DeltaIndex$Store", name := "swaps", desc := "(LDeltaIndex$Hand;)I" } : Jvm.MethodName)) ∈ lw_tbl := lw_at lw_m6 139 rfl
theorem q1482 : (Jvm.Cond.instanceMethod ({ cls := "DeltaIndex$Store", name := "swaps", desc := "(LDeltaIndex$Hand;)I" } : Jvm.MethodName)) ∈ lw_all := lw_g (lw_at lw_m6 140 rfl) rfl
theorem q1483 : (Jvm.Cond.code ({ cls := "DeltaIndex$Store", name := "swaps", desc := "(LDeltaIndex$Hand;)I" } : Jvm.MethodName) prog_12_method_26_code (2 : Nat) (Option.some Jvm.ClassFile.FieldType.int)) ∈ lw_all := lw_g (lw_at lw_m6 141 rfl) rfl
theorem q1484 : (Jvm.Cond.methodLink "DeltaIndex$Store" (255 : Nat) ({ cls := "DeltaIndex$Store", name := "retires", desc := "(I)V" } : Jvm.MethodName)) ∈ lw_all := lw_g (lw_at lw_m6 142 rfl) rfl
theorem q1485 : (Jvm.Cond.privateMethod ({ cls := "DeltaIndex$Store", name := "retires", desc := "(I)V" } : Jvm.MethodName)) ∈ lw_tbl := lw_at lw_m6 143 rfl
theorem q1486 : (Jvm.Cond.instanceMethod ({ cls := "DeltaIndex$Store", name := "retires", desc := "(I)V" } : Jvm.MethodName)) ∈ lw_all := lw_g (lw_at lw_m6 144 rfl) rfl
theorem q1487 : (Jvm.Cond.code ({ cls := "DeltaIndex$Store", name := "retires", desc := "(I)V" } : Jvm.MethodName) prog_12_method_25_code (3 : Nat) (Option.none : Option Jvm.ClassFile.FieldType)) ∈ lw_all := lw_g (lw_at lw_m6 145 rfl) rfl
theorem q1488 : (Jvm.Cond.methodLink "DeltaIndex$Store" (185 : Nat) ({ cls := "DeltaIndex$Store", name := "splits", desc := "(LDeltaIndex$Hand;)I" } : Jvm.MethodName)) ∈ lw_all := lw_g (lw_at lw_m6 146 rfl) rfl
theorem q1489 : (Jvm.Cond.privateMethod ({ cls := "DeltaIndex$Store", name := "splits", desc := "(LDeltaIndex$Hand;)I" } : Jvm.MethodName)) ∈ lw_tbl := lw_at lw_m6 147 rfl
theorem q1490 : (Jvm.Cond.instanceMethod ({ cls := "DeltaIndex$Store", name := "splits", desc := "(LDeltaIndex$Hand;)I" } : Jvm.MethodName)) ∈ lw_all := lw_g (lw_at lw_m6 148 rfl) rfl
theorem q1491 : (Jvm.Cond.code ({ cls := "DeltaIndex$Store", name := "splits", desc := "(LDeltaIndex$Hand;)I" } : Jvm.MethodName) prog_12_method_27_code (7 : Nat) (Option.some Jvm.ClassFile.FieldType.int)) ∈ lw_all := lw_g (lw_at lw_m6 149 rfl) rfl
theorem q1492 : (Jvm.Cond.methodLink "DeltaIndex$Store" (188 : Nat) ({ cls := "DeltaIndex$Store", name := "notes", desc := "(LDeltaIndex$Hand;)I" } : Jvm.MethodName)) ∈ lw_all := lw_g (lw_at lw_m6 150 rfl) rfl
theorem q1493 : (Jvm.Cond.privateMethod ({ cls := "DeltaIndex$Store", name := "notes", desc := "(LDeltaIndex$Hand;)I" } : Jvm.MethodName)) ∈ lw_tbl := lw_at lw_m6 151 rfl
theorem q1494 : (Jvm.Cond.instanceMethod ({ cls := "DeltaIndex$Store", name := "notes", desc := "(LDeltaIndex$Hand;)I" } : Jvm.MethodName)) ∈ lw_all := lw_g (lw_at lw_m6 152 rfl) rfl
theorem q1495 : (Jvm.Cond.code ({ cls := "DeltaIndex$Store", name := "notes", desc := "(LDeltaIndex$Hand;)I" } : Jvm.MethodName) prog_12_method_28_code (3 : Nat) (Option.some Jvm.ClassFile.FieldType.int)) ∈ lw_all := lw_g (lw_at lw_m6 153 rfl) rfl
theorem q1496 : (Jvm.Cond.methodLink "DeltaIndex$Store" (191 : Nat) ({ cls := "DeltaIndex$Store", name := "enters", desc := "(LDeltaIndex$Hand;)I" } : Jvm.MethodName)) ∈ lw_all := lw_g (lw_at lw_m6 154 rfl) rfl
theorem q1497 : (Jvm.Cond.privateMethod ({ cls := "DeltaIndex$Store", name := "enters", desc := "(LDeltaIndex$Hand;)I" } : Jvm.MethodName)) ∈ lw_tbl := lw_at lw_m6 155 rfl
theorem q1498 : (Jvm.Cond.instanceMethod ({ cls := "DeltaIndex$Store", name := "enters", desc := "(LDeltaIndex$Hand;)I" } : Jvm.MethodName)) ∈ lw_all := lw_g (lw_at lw_m6 156 rfl) rfl
theorem q1499 : (Jvm.Cond.code ({ cls := "DeltaIndex$Store", name := "enters", desc := "(LDeltaIndex$Hand;)I" } : Jvm.MethodName) prog_12_method_30_code (2 : Nat) (Option.some Jvm.ClassFile.FieldType.int)) ∈ lw_all := lw_g (lw_at lw_m6 157 rfl) rfl
theorem q1500 : (Jvm.Cond.methodLink "DeltaIndex$Store" (260 : Nat) ({ cls := "DeltaIndex$Store", name := "noted", desc := "(LDeltaIndex$Hand;)I" } : Jvm.MethodName)) ∈ lw_all := lw_g (lw_at lw_m6 158 rfl) rfl
theorem q1501 : (Jvm.Cond.privateMethod ({ cls := "DeltaIndex$Store", name := "noted", desc := "(LDeltaIndex$Hand;)I" } : Jvm.MethodName)) ∈ lw_tbl := lw_at lw_m6 159 rfl
theorem q1502 : (Jvm.Cond.instanceMethod ({ cls := "DeltaIndex$Store", name := "noted", desc := "(LDeltaIndex$Hand;)I" } : Jvm.MethodName)) ∈ lw_all := lw_g (lw_at lw_m6 160 rfl) rfl
theorem q1503 : (Jvm.Cond.code ({ cls := "DeltaIndex$Store", name := "noted", desc := "(LDeltaIndex$Hand;)I" } : Jvm.MethodName) prog_12_method_29_code (2 : Nat) (Option.some Jvm.ClassFile.FieldType.int)) ∈ lw_all := lw_g (lw_at lw_m6 161 rfl) rfl
theorem q1504 : (Jvm.Cond.methodLink "DeltaIndex$Store" (194 : Nat) ({ cls := "DeltaIndex$Store", name := "removes", desc := "(LDeltaIndex$Hand;)I" } : Jvm.MethodName)) ∈ lw_all := lw_g (lw_at lw_m6 162 rfl) rfl
theorem q1505 : (Jvm.Cond.privateMethod ({ cls := "DeltaIndex$Store", name := "removes", desc := "(LDeltaIndex$Hand;)I" } : Jvm.MethodName)) ∈ lw_tbl := lw_at lw_m6 163 rfl
theorem q1506 : (Jvm.Cond.instanceMethod ({ cls := "DeltaIndex$Store", name := "removes", desc := "(LDeltaIndex$Hand;)I" } : Jvm.MethodName)) ∈ lw_all := lw_g (lw_at lw_m6 164 rfl) rfl
theorem q1507 : (Jvm.Cond.code ({ cls := "DeltaIndex$Store", name := "removes", desc := "(LDeltaIndex$Hand;)I" } : Jvm.MethodName) prog_12_method_31_code (2 : Nat) (Option.some Jvm.ClassFile.FieldType.int)) ∈ lw_all := lw_g (lw_at lw_m6 165 rfl) rfl
theorem q1508 : (Jvm.Cond.methodLink "DeltaIndex$Store" (263 : Nat) ({ cls := "DeltaIndex$Store", name := "boundOf", desc := "(I)I" } : Jvm.MethodName)) ∈ lw_all := lw_g (lw_at lw_m6 166 rfl) rfl
theorem q1509 : (Jvm.Cond.instanceMethod ({ cls := "DeltaIndex$Store", name := "boundOf", desc := "(I)I" } : Jvm.MethodName)) ∈ lw_all := lw_g (lw_at lw_m6 167 rfl) rfl
theorem q1510 : (Jvm.Cond.selects "DeltaIndex$Store" ({ cls := "DeltaIndex$Store", name := "boundOf", desc := "(I)I" } : Jvm.MethodName) ({ cls := "DeltaIndex$Store", name := "boundOf", desc := "(I)I" } : Jvm.MethodName)) ∈ lw_all := lw_g (lw_at lw_m6 168 rfl) rfl
theorem q1511 : (Jvm.Cond.code ({ cls := "DeltaIndex$Store", name := "boundOf", desc := "(I)I" } : Jvm.MethodName) prog_12_method_10_code (4 : Nat) (Option.some Jvm.ClassFile.FieldType.int)) ∈ lw_all := lw_g (lw_at lw_m6 169 rfl) rfl
theorem q1512 : (Jvm.Cond.methodLink "DeltaIndex$Store" (197 : Nat) ({ cls := "DeltaIndex$Store", name := "looksLeft", desc := "(LDeltaIndex$Hand;)I" } : Jvm.MethodName)) ∈ lw_all := lw_g (lw_at lw_m6 170 rfl) rfl
theorem q1513 : (Jvm.Cond.privateMethod ({ cls := "DeltaIndex$Store", name := "looksLeft", desc := "(LDeltaIndex$Hand;)I" } : Jvm.MethodName)) ∈ lw_tbl := lw_at lw_m6 171 rfl
theorem q1514 : (Jvm.Cond.instanceMethod ({ cls := "DeltaIndex$Store", name := "looksLeft", desc := "(LDeltaIndex$Hand;)I" } : Jvm.MethodName)) ∈ lw_all := lw_g (lw_at lw_m6 172 rfl) rfl
theorem q1515 : (Jvm.Cond.code ({ cls := "DeltaIndex$Store", name := "looksLeft", desc := "(LDeltaIndex$Hand;)I" } : Jvm.MethodName) prog_12_method_32_code (3 : Nat) (Option.some Jvm.ClassFile.FieldType.int)) ∈ lw_all := lw_g (lw_at lw_m6 173 rfl) rfl
theorem q1516 : (Jvm.Cond.methodLink "DeltaIndex$Store" (200 : Nat) ({ cls := "DeltaIndex$Store", name := "joins", desc := "(LDeltaIndex$Hand;)I" } : Jvm.MethodName)) ∈ lw_all := lw_g (lw_at lw_m6 174 rfl) rfl
theorem q1517 : (Jvm.Cond.privateMethod ({ cls := "DeltaIndex$Store", name := "joins", desc := "(LDeltaIndex$Hand;)I" } : Jvm.MethodName)) ∈ lw_tbl := lw_at lw_m6 175 rfl
theorem q1518 : (Jvm.Cond.instanceMethod ({ cls := "DeltaIndex$Store", name := "joins", desc := "(LDeltaIndex$Hand;)I" } : Jvm.MethodName)) ∈ lw_all := lw_g (lw_at lw_m6 176 rfl) rfl
theorem q1519 : (Jvm.Cond.code ({ cls := "DeltaIndex$Store", name := "joins", desc := "(LDeltaIndex$Hand;)I" } : Jvm.MethodName) prog_12_method_33_code (3 : Nat) (Option.some Jvm.ClassFile.FieldType.int)) ∈ lw_all := lw_g (lw_at lw_m6 177 rfl) rfl
theorem q1520 : (Jvm.Cond.methodLink "DeltaIndex$Store" (203 : Nat) ({ cls := "DeltaIndex$Store", name := "looks", desc := "(LDeltaIndex$Hand;)I" } : Jvm.MethodName)) ∈ lw_all := lw_g (lw_at lw_m6 178 rfl) rfl
theorem q1521 : (Jvm.Cond.privateMethod ({ cls := "DeltaIndex$Store", name := "looks", desc := "(LDeltaIndex$Hand;)I" } : Jvm.MethodName)) ∈ lw_tbl := lw_at lw_m6 179 rfl
theorem q1522 : (Jvm.Cond.instanceMethod ({ cls := "DeltaIndex$Store", name := "looks", desc := "(LDeltaIndex$Hand;)I" } : Jvm.MethodName)) ∈ lw_all := lw_g (lw_at lw_m6 180 rfl) rfl
theorem q1523 : (Jvm.Cond.code ({ cls := "DeltaIndex$Store", name := "looks", desc := "(LDeltaIndex$Hand;)I" } : Jvm.MethodName) prog_12_method_34_code (2 : Nat) (Option.some Jvm.ClassFile.FieldType.int)) ∈ lw_all := lw_g (lw_at lw_m6 181 rfl) rfl
theorem q1524 : (Jvm.Cond.methodLink "DeltaIndex$Store" (206 : Nat) ({ cls := "DeltaIndex$Store", name := "strikes", desc := "(LDeltaIndex$Hand;)I" } : Jvm.MethodName)) ∈ lw_all := lw_g (lw_at lw_m6 182 rfl) rfl
theorem q1525 : (Jvm.Cond.privateMethod ({ cls := "DeltaIndex$Store", name := "strikes", desc := "(LDeltaIndex$Hand;)I" } : Jvm.MethodName)) ∈ lw_tbl := lw_at lw_m6 183 rfl
theorem q1526 : (Jvm.Cond.instanceMethod ({ cls := "DeltaIndex$Store", name := "strikes", desc := "(LDeltaIndex$Hand;)I" } : Jvm.MethodName)) ∈ lw_all := lw_g (lw_at lw_m6 184 rfl) rfl
theorem q1527 : (Jvm.Cond.code ({ cls := "DeltaIndex$Store", name := "strikes", desc := "(LDeltaIndex$Hand;)I" } : Jvm.MethodName) prog_12_method_35_code (2 : Nat) (Option.some Jvm.ClassFile.FieldType.int)) ∈ lw_all := lw_g (lw_at lw_m6 185 rfl) rfl
theorem q1547 : (Jvm.Cond.instanceMethod ({ cls := "DeltaIndex$Store", name := "sweeps", desc := "()I" } : Jvm.MethodName)) ∈ lw_all := lw_g (lw_at lw_m6 205 rfl) rfl
theorem q1548 : (Jvm.Cond.selects "DeltaIndex$Store" ({ cls := "DeltaIndex$Store", name := "sweeps", desc := "()I" } : Jvm.MethodName) ({ cls := "DeltaIndex$Store", name := "sweeps", desc := "()I" } : Jvm.MethodName)) ∈ lw_all := lw_g (lw_at lw_m6 206 rfl) rfl
theorem q1549 : (Jvm.Cond.code ({ cls := "DeltaIndex$Store", name := "sweeps", desc := "()I" } : Jvm.MethodName) prog_12_method_36_code (5 : Nat) (Option.some Jvm.ClassFile.FieldType.int)) ∈ lw_all := lw_g (lw_at lw_m6 207 rfl) rfl
theorem q1550 : (Jvm.Cond.methodLink "DeltaIndex$Store" (269 : Nat) ({ cls := "java/lang/Math", name := "min", desc := "(II)I" } : Jvm.MethodName)) ∈ lw_all := lw_g (lw_at lw_m6 208 rfl) rfl
theorem q1593 : (Jvm.Cond.instanceMethod ({ cls := "DeltaIndex$Store", name := "all", desc := "([I[I)I" } : Jvm.MethodName)) ∈ lw_all := lw_g (lw_at lw_m7 11 rfl) rfl
theorem q1594 : (Jvm.Cond.selects "DeltaIndex$Store" ({ cls := "DeltaIndex$Store", name := "all", desc := "([I[I)I" } : Jvm.MethodName) ({ cls := "DeltaIndex$Store", name := "all", desc := "([I[I)I" } : Jvm.MethodName)) ∈ lw_all := lw_g (lw_at lw_m7 12 rfl) rfl
theorem q1595 : (Jvm.Cond.code ({ cls := "DeltaIndex$Store", name := "all", desc := "([I[I)I" } : Jvm.MethodName) prog_12_method_12_code (6 : Nat) (Option.some Jvm.ClassFile.FieldType.int)) ∈ lw_all := lw_g (lw_at lw_m7 13 rfl) rfl
theorem q1653 : (Jvm.Cond.instanceMethod ({ cls := "DeltaIndex$Store", name := "splitsLeft", desc := "()I" } : Jvm.MethodName)) ∈ lw_all := lw_g (lw_at lw_m7 71 rfl) rfl
theorem q1654 : (Jvm.Cond.selects "DeltaIndex$Store" ({ cls := "DeltaIndex$Store", name := "splitsLeft", desc := "()I" } : Jvm.MethodName) ({ cls := "DeltaIndex$Store", name := "splitsLeft", desc := "()I" } : Jvm.MethodName)) ∈ lw_all := lw_g (lw_at lw_m7 72 rfl) rfl
theorem q1655 : (Jvm.Cond.code ({ cls := "DeltaIndex$Store", name := "splitsLeft", desc := "()I" } : Jvm.MethodName) prog_12_method_15_code (3 : Nat) (Option.some Jvm.ClassFile.FieldType.int)) ∈ lw_all := lw_g (lw_at lw_m7 73 rfl) rfl
theorem q1657 : (Jvm.Cond.instanceMethod ({ cls := "DeltaIndex$Store", name := "goneLeft", desc := "()I" } : Jvm.MethodName)) ∈ lw_all := lw_g (lw_at lw_m7 75 rfl) rfl
theorem q1658 : (Jvm.Cond.selects "DeltaIndex$Store" ({ cls := "DeltaIndex$Store", name := "goneLeft", desc := "()I" } : Jvm.MethodName) ({ cls := "DeltaIndex$Store", name := "goneLeft", desc := "()I" } : Jvm.MethodName)) ∈ lw_all := lw_g (lw_at lw_m7 76 rfl) rfl
theorem q1659 : (Jvm.Cond.code ({ cls := "DeltaIndex$Store", name := "goneLeft", desc := "()I" } : Jvm.MethodName) prog_12_method_16_code (4 : Nat) (Option.some Jvm.ClassFile.FieldType.int)) ∈ lw_all := lw_g (lw_at lw_m7 77 rfl) rfl
theorem q1669 : (Jvm.Cond.instanceMethod ({ cls := "DeltaIndex$Store", name := "becomes", desc := "(LDeltaIndex$Store;)V" } : Jvm.MethodName)) ∈ lw_all := lw_g (lw_at lw_m7 87 rfl) rfl
theorem q1670 : (Jvm.Cond.selects "DeltaIndex$Store" ({ cls := "DeltaIndex$Store", name := "becomes", desc := "(LDeltaIndex$Store;)V" } : Jvm.MethodName) ({ cls := "DeltaIndex$Store", name := "becomes", desc := "(LDeltaIndex$Store;)V" } : Jvm.MethodName)) ∈ lw_all := lw_g (lw_at lw_m7 88 rfl) rfl
theorem q1671 : (Jvm.Cond.code ({ cls := "DeltaIndex$Store", name := "becomes", desc := "(LDeltaIndex$Store;)V" } : Jvm.MethodName) prog_12_method_3_code (3 : Nat) (Option.none : Option Jvm.ClassFile.FieldType)) ∈ lw_all := lw_g (lw_at lw_m7 89 rfl) rfl
theorem q1672 : (Jvm.Cond.methodLink "DeltaIndex$Store" (80 : Nat) ({ cls := "DeltaIndex$Record", name := "becomes", desc := "(LDeltaIndex$Record;)V" } : Jvm.MethodName)) ∈ lw_all := lw_g (lw_at lw_m7 90 rfl) rfl
theorem q1678 : (Jvm.Cond.methodLink "DeltaIndex$Store" (84 : Nat) ({ cls := "java/lang/System", name := "arraycopy", desc := "(Ljava/lang/Object;ILjava/lang/Object;II)V" } : Jvm.MethodName)) ∈ lw_all := lw_g (lw_at lw_m7 96 rfl) rfl
theorem q1679 : (Jvm.Cond.methodLink "DeltaIndex$Store" (90 : Nat) ({ cls := "DeltaIndex$Hand", name := "becomes", desc := "(LDeltaIndex$Hand;)V" } : Jvm.MethodName)) ∈ lw_all := lw_g (lw_at lw_m7 97 rfl) rfl
theorem q2359 : (Jvm.Cond.castable "DeltaIndex$Store" "java/lang/Object") ∈ lw_tbl := lw_at lw_m10 57 rfl
theorem in_X4 : ∀ w ∈ wsX40, w ∈ lw_all := lw_in wsX40 [524, 526, 528, 530, 532, 534, 536, 538, 540, 542, 544, 546, 548] (by decide +kernel) (by decide +kernel)
