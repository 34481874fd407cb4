/-! DeltaIndex$Fault -/
set_option maxRecDepth 100000
def RX1 : String := "DeltaIndex$Fault"
def TX1 : u_T := fun k => match k with
  | 0 => ("java/lang/Throwable", "cause", "Ljava/lang/Throwable;", false)
  | 1 => ("java/lang/Throwable", "stackTrace", "[Ljava/lang/StackTraceElement;", false)
  | 2 => ("java/lang/Throwable", "suppressedExceptions", "Ljava/util/List;", false)
  | 3 => ("java/lang/Throwable", "detailMessage", "Ljava/lang/String;", false)
  | 4 => ("java/lang/Throwable", "backtrace", "Ljava/lang/Object;", false)
  | 5 => ("java/lang/Throwable", "depth", "I", false)
  | 6 => ("DeltaIndex$Fault", "number", "I", false)
  | _ => ("DeltaIndex$Fault", "place", "I", false)
def tyX1 : Nat → FieldType := fun k => match k with
  | 0 => .object "java/lang/Throwable"
  | 1 => .array (.object "java/lang/StackTraceElement")
  | 2 => .object "java/util/List"
  | 3 => .object "java/lang/String"
  | 4 => .object "java/lang/Object"
  | 5 => .int
  | 6 => .int
  | _ => .int
abbrev wsX10 : List Cond := u_ws RX1 TX1 8
theorem nmX1 : ∀ a, a < 8 → ∀ b, b < 8 → a ≠ b → (TX1 a).2.1 ≠ (TX1 b).2.1 := by decide +kernel
theorem tyX1_ok : ∀ k, k < 8 → parseFieldDescriptor (TX1 k).2.2.1 = some (tyX1 k) := by decide +kernel
abbrev cX1_init : ByteArray := prog_3_method_1_code
def yX1_init : MethodName := ⟨RX1, "<init>", "()V"⟩
def dkwX1_init_0 : List UInt8 := [42, 18, 1, 1, 3, 3, 183, 0, 3, 177]
abbrev dktX1_init_0 : List UInt8 := dkwX1_init_0 ++ []
theorem dksX1_init_0 : cX1_init.data.toList.drop 0 = dktX1_init_0 := by decide +kernel
theorem dX1_init_0 : decode cX1_init 0 = .ok (.aload_n 0, 1) := dk_42 (dk_at dksX1_init_0 0 rfl rfl)
theorem dX1_init_1 : decode cX1_init 1 = .ok (.ldc 1, 2) := dk_18 1 (dk_at dksX1_init_0 1 rfl rfl)
theorem dX1_init_3 : decode cX1_init 3 = .ok (.aconst_null, 1) := dk_1 (dk_at dksX1_init_0 3 rfl rfl)
theorem dX1_init_4 : decode cX1_init 4 = .ok (.iconst 0, 1) := dk_3 (dk_at dksX1_init_0 4 rfl rfl)
theorem dX1_init_5 : decode cX1_init 5 = .ok (.iconst 0, 1) := dk_3 (dk_at dksX1_init_0 5 rfl rfl)
theorem dX1_init_6 : decode cX1_init 6 = .ok (.invokespecial 3, 3) := dk_183 0 3 (dk_at dksX1_init_0 6 rfl rfl)
theorem dX1_init_9 : decode cX1_init 9 = .ok (.return_, 1) := dk_177 (dk_at dksX1_init_0 9 rfl rfl)
abbrev cX1_of : ByteArray := prog_3_method_2_code
def yX1_of : MethodName := ⟨RX1, "of", "(II)LDeltaIndex$Fault;"⟩
def dkwX1_of_0 : List UInt8 := [42, 27, 181, 0, 9, 42, 28, 181, 0, 15, 42, 176]
abbrev dktX1_of_0 : List UInt8 := dkwX1_of_0 ++ []
theorem dksX1_of_0 : cX1_of.data.toList.drop 0 = dktX1_of_0 := by decide +kernel
theorem dX1_of_0 : decode cX1_of 0 = .ok (.aload_n 0, 1) := dk_42 (dk_at dksX1_of_0 0 rfl rfl)
theorem dX1_of_1 : decode cX1_of 1 = .ok (.iload_n 1, 1) := dk_27 (dk_at dksX1_of_0 1 rfl rfl)
theorem dX1_of_2 : decode cX1_of 2 = .ok (.putfield 9, 3) := dk_181 0 9 (dk_at dksX1_of_0 2 rfl rfl)
theorem dX1_of_5 : decode cX1_of 5 = .ok (.aload_n 0, 1) := dk_42 (dk_at dksX1_of_0 5 rfl rfl)
theorem dX1_of_6 : decode cX1_of 6 = .ok (.iload_n 2, 1) := dk_28 (dk_at dksX1_of_0 6 rfl rfl)
theorem dX1_of_7 : decode cX1_of 7 = .ok (.putfield 15, 3) := dk_181 0 15 (dk_at dksX1_of_0 7 rfl rfl)
theorem dX1_of_10 : decode cX1_of 10 = .ok (.aload_n 0, 1) := dk_42 (dk_at dksX1_of_0 10 rfl rfl)
theorem dX1_of_11 : decode cX1_of 11 = .ok (.areturn, 1) := dk_176 (dk_at dksX1_of_0 11 rfl rfl)
theorem q147 : (Jvm.Cond.initialized "DeltaIndex$Fault") ∈ lw_all := lw_g (lw_at lw_m1 5 rfl) rfl
theorem q188 : (Jvm.Cond.instantiable "DeltaIndex$Fault" (8 : Nat)) ∈ lw_all := lw_g (lw_at lw_m1 46 rfl) rfl
theorem q189 : (Jvm.Cond.castable "DeltaIndex$Fault" "DeltaIndex$Fault") ∈ lw_tbl := lw_at lw_m1 47 rfl
theorem q196 : (Jvm.Cond.selects "DeltaIndex$Fault" ({ cls := "java/lang/Throwable", name := "fillInStackTrace", desc := "(I)Ljava/lang/Throwable;" } : Jvm.MethodName) ({ cls := "java/lang/Throwable", name := "fillInStackTrace", desc := "(I)Ljava/lang/Throwable;" } : Jvm.MethodName)) ∈ lw_all := lw_g (lw_at lw_m1 54 rfl) rfl
theorem q197 : (Jvm.Cond.selects "DeltaIndex$Fault" ({ cls := "java/lang/Throwable", name := "fillInStackTrace", desc := "()Ljava/lang/Throwable;" } : Jvm.MethodName) ({ cls := "java/lang/Throwable", name := "fillInStackTrace", desc := "()Ljava/lang/Throwable;" } : Jvm.MethodName)) ∈ lw_all := lw_g (lw_at lw_m1 55 rfl) rfl
theorem q198 : (Jvm.Cond.lays "DeltaIndex$Fault" "java/lang/Throwable" "cause" "Ljava/lang/Throwable;") ∈ lw_all := lw_g (lw_at lw_m1 56 rfl) rfl
theorem q200 : (Jvm.Cond.lays "DeltaIndex$Fault" "java/lang/Throwable" "stackTrace" "[Ljava/lang/StackTraceElement;") ∈ lw_all := lw_g (lw_at lw_m1 58 rfl) rfl
theorem q202 : (Jvm.Cond.lays "DeltaIndex$Fault" "java/lang/Throwable" "suppressedExceptions" "Ljava/util/List;") ∈ lw_all := lw_g (lw_at lw_m1 60 rfl) rfl
theorem q204 : (Jvm.Cond.lays "DeltaIndex$Fault" "java/lang/Throwable" "detailMessage" "Ljava/lang/String;") ∈ lw_all := lw_g (lw_at lw_m1 62 rfl) rfl
theorem q206 : (Jvm.Cond.lays "DeltaIndex$Fault" "java/lang/Throwable" "backtrace" "Ljava/lang/Object;") ∈ lw_all := lw_g (lw_at lw_m1 64 rfl) rfl
theorem q227 : (Jvm.Cond.instanceMethod ({ cls := "DeltaIndex$Fault", name := "<init>", desc := "()V" } : Jvm.MethodName)) ∈ lw_all := lw_g (lw_at lw_m1 85 rfl) rfl
theorem q228 : (Jvm.Cond.code ({ cls := "DeltaIndex$Fault", name := "<init>", desc := "()V" } : Jvm.MethodName) prog_3_method_1_code (1 : Nat) (Option.none : Option Jvm.ClassFile.FieldType)) ∈ lw_all := lw_g (lw_at lw_m1 86 rfl) rfl
theorem q229 : (Jvm.Cond.stringRef "DeltaIndex$Fault" (1 : Nat) "") ∈ lw_tbl := lw_at lw_m1 87 rfl
theorem q230 : (Jvm.Cond.methodLink "DeltaIndex$Fault" (3 : Nat) ({ cls := "java/lang/RuntimeException", name := "<init>", desc := "(Ljava/lang/String;Ljava/lang/Throwable;ZZ)V" } : Jvm.MethodName)) ∈ lw_all := lw_g (lw_at lw_m1 88 rfl) rfl
theorem q239 : (Jvm.Cond.fieldLink "DeltaIndex$Fault" (9 : Nat) "DeltaIndex$Fault" "number" "I") ∈ lw_all := lw_g (lw_at lw_m1 97 rfl) rfl
theorem q241 : (Jvm.Cond.fieldLink "DeltaIndex$Fault" (15 : Nat) "DeltaIndex$Fault" "place" "I") ∈ lw_all := lw_g (lw_at lw_m1 99 rfl) rfl
theorem q248 : (Jvm.Cond.lays "DeltaIndex$Fault" "DeltaIndex$Fault" "number" "I") ∈ lw_all := lw_g (lw_at lw_m1 106 rfl) rfl
theorem q249 : (Jvm.Cond.soleField "DeltaIndex$Fault" "number") ∈ lw_all := lw_g (lw_at lw_m1 107 rfl) rfl
theorem q250 : (Jvm.Cond.lays "DeltaIndex$Fault" "DeltaIndex$Fault" "place" "I") ∈ lw_all := lw_g (lw_at lw_m1 108 rfl) rfl
theorem q251 : (Jvm.Cond.soleField "DeltaIndex$Fault" "place") ∈ lw_all := lw_g (lw_at lw_m1 109 rfl) rfl
theorem q256 : (Jvm.Cond.lays "DeltaIndex$Fault" "java/lang/Throwable" "depth" "I") ∈ lw_all := lw_g (lw_at lw_m1 114 rfl) rfl
theorem q259 : (Jvm.Cond.superclass "DeltaIndex$Fault" "java/lang/RuntimeException") ∈ lw_all := lw_g (lw_at lw_m1 117 rfl) rfl
theorem q809 : (Jvm.Cond.instanceMethod ({ cls := "DeltaIndex$Fault", name := "of", desc := "(II)LDeltaIndex$Fault;" } : Jvm.MethodName)) ∈ lw_all := lw_g (lw_at lw_m3 187 rfl) rfl
theorem q810 : (Jvm.Cond.selects "DeltaIndex$Fault" ({ cls := "DeltaIndex$Fault", name := "of", desc := "(II)LDeltaIndex$Fault;" } : Jvm.MethodName) ({ cls := "DeltaIndex$Fault", name := "of", desc := "(II)LDeltaIndex$Fault;" } : Jvm.MethodName)) ∈ lw_all := lw_g (lw_at lw_m3 188 rfl) rfl
theorem q811 : (Jvm.Cond.code ({ cls := "DeltaIndex$Fault", name := "of", desc := "(II)LDeltaIndex$Fault;" } : Jvm.MethodName) prog_3_method_2_code (3 : Nat) (Option.some (Jvm.ClassFile.FieldType.object "DeltaIndex$Fault"))) ∈ lw_all := lw_g (lw_at lw_m3 189 rfl) rfl
theorem q1232 : (Jvm.Cond.selects "DeltaIndex$Fault" ({ cls := "java/lang/Object", name := "getClass", desc := "()Ljava/lang/Class;" } : Jvm.MethodName) ({ cls := "java/lang/Object", name := "getClass", desc := "()Ljava/lang/Class;" } : Jvm.MethodName)) ∈ lw_all := lw_g (lw_at lw_m5 130 rfl) rfl
theorem q2361 : (Jvm.Cond.castable "DeltaIndex$Fault" "java/lang/Object") ∈ lw_tbl := lw_at lw_m10 59 rfl
theorem in_X1 : ∀ w ∈ wsX10, w ∈ lw_all := lw_in wsX10 [198, 200, 202, 204, 206, 256, 248, 250] (by decide +kernel) (by decide +kernel)

/-! DeltaIndex$Record -/
set_option maxRecDepth 100000
def RX5 : String := "DeltaIndex$Record"
def TX5 : u_T := fun k => match k with
  | 0 => ("DeltaIndex$Record", "key", "[I", true)
  | 1 => ("DeltaIndex$Record", "val", "[I", true)
  | 2 => ("DeltaIndex$Record", "sort", "I", false)
  | 3 => ("DeltaIndex$Record", "many", "I", false)
  | 4 => ("DeltaIndex$Record", "high", "I", false)
  | 5 => ("DeltaIndex$Record", "right", "I", false)
  | 6 => ("DeltaIndex$Record", "own", "I", false)
  | 7 => ("DeltaIndex$Record", "page", "I", false)
  | 8 => ("DeltaIndex$Record", "next", "I", false)
  | 9 => ("DeltaIndex$Record", "base", "I", false)
  | 10 => ("DeltaIndex$Record", "retired", "I", false)
  | _ => ("DeltaIndex$Record", "free", "Z", false)
def tyX5 : Nat → FieldType := fun k => match k with
  | 0 => .array .int
  | 1 => .array .int
  | 2 => .int
  | 3 => .int
  | 4 => .int
  | 5 => .int
  | 6 => .int
  | 7 => .int
  | 8 => .int
  | 9 => .int
  | 10 => .int
  | _ => .boolean
abbrev wsX50 : List Cond := u_ws RX5 TX5 12
theorem nmX5 : ∀ a, a < 12 → ∀ b, b < 12 → a ≠ b → (TX5 a).2.1 ≠ (TX5 b).2.1 := by decide +kernel
theorem tyX5_ok : ∀ k, k < 12 → parseFieldDescriptor (TX5 k).2.2.1 = some (tyX5 k) := by decide +kernel
abbrev cX5_init : ByteArray := prog_9_method_1_code
def yX5_init : MethodName := ⟨RX5, "<init>", "()V"⟩
def dkwX5_init_0 : List UInt8 := [42, 183, 0, 3, 42, 16, 44, 188, 10, 181, 0, 9, 42, 16, 44, 188, 10, 181, 0, 15, 177]
abbrev dktX5_init_0 : List UInt8 := dkwX5_init_0 ++ []
theorem dksX5_init_0 : cX5_init.data.toList.drop 0 = dktX5_init_0 := by decide +kernel
theorem dX5_init_0 : decode cX5_init 0 = .ok (.aload_n 0, 1) := dk_42 (dk_at dksX5_init_0 0 rfl rfl)
theorem dX5_init_1 : decode cX5_init 1 = .ok (.invokespecial 3, 3) := dk_183 0 3 (dk_at dksX5_init_0 1 rfl rfl)
theorem dX5_init_4 : decode cX5_init 4 = .ok (.aload_n 0, 1) := dk_42 (dk_at dksX5_init_0 4 rfl rfl)
theorem dX5_init_5 : decode cX5_init 5 = .ok (.bipush 44, 2) := dk_16 44 (dk_at dksX5_init_0 5 rfl rfl)
theorem dX5_init_7 : decode cX5_init 7 = .ok (.newarray .int, 2) := dk_188_10 (dk_at dksX5_init_0 7 rfl rfl)
theorem dX5_init_9 : decode cX5_init 9 = .ok (.putfield 9, 3) := dk_181 0 9 (dk_at dksX5_init_0 9 rfl rfl)
theorem dX5_init_12 : decode cX5_init 12 = .ok (.aload_n 0, 1) := dk_42 (dk_at dksX5_init_0 12 rfl rfl)
theorem dX5_init_13 : decode cX5_init 13 = .ok (.bipush 44, 2) := dk_16 44 (dk_at dksX5_init_0 13 rfl rfl)
theorem dX5_init_15 : decode cX5_init 15 = .ok (.newarray .int, 2) := dk_188_10 (dk_at dksX5_init_0 15 rfl rfl)
theorem dX5_init_17 : decode cX5_init 17 = .ok (.putfield 15, 3) := dk_181 0 15 (dk_at dksX5_init_0 17 rfl rfl)
theorem dX5_init_20 : decode cX5_init 20 = .ok (.return_, 1) := dk_177 (dk_at dksX5_init_0 20 rfl rfl)
abbrev cX5_begins : ByteArray := prog_9_method_2_code
def yX5_begins : MethodName := ⟨RX5, "begins", "(IIII)V"⟩
def dkwX5_begins_2 : List UInt8 := [181, 0, 43, 42, 3, 181, 0, 46, 177]
abbrev dktX5_begins_2 : List UInt8 := dkwX5_begins_2 ++ []
def dkwX5_begins_1 : List UInt8 := [181, 0, 31, 42, 29, 181, 0, 34, 42, 21, 4, 181, 0, 37, 42, 2, 181, 0, 40, 42, 16, 254]
abbrev dktX5_begins_1 : List UInt8 := dkwX5_begins_1 ++ dktX5_begins_2
def dkwX5_begins_0 : List UInt8 := [42, 27, 181, 0, 18, 42, 3, 181, 0, 22, 42, 3, 181, 0, 25, 42, 16, 254, 181, 0, 28, 42, 28]
abbrev dktX5_begins_0 : List UInt8 := dkwX5_begins_0 ++ dktX5_begins_1
theorem dksX5_begins_0 : cX5_begins.data.toList.drop 0 = dktX5_begins_0 := by decide +kernel
theorem dksX5_begins_1 : cX5_begins.data.toList.drop 23 = dktX5_begins_1 := dk_seg dksX5_begins_0 23 rfl rfl
theorem dksX5_begins_2 : cX5_begins.data.toList.drop 45 = dktX5_begins_2 := dk_seg dksX5_begins_1 22 rfl rfl
theorem dX5_begins_0 : decode cX5_begins 0 = .ok (.aload_n 0, 1) := dk_42 (dk_at dksX5_begins_0 0 rfl rfl)
theorem dX5_begins_1 : decode cX5_begins 1 = .ok (.iload_n 1, 1) := dk_27 (dk_at dksX5_begins_0 1 rfl rfl)
theorem dX5_begins_2 : decode cX5_begins 2 = .ok (.putfield 18, 3) := dk_181 0 18 (dk_at dksX5_begins_0 2 rfl rfl)
theorem dX5_begins_5 : decode cX5_begins 5 = .ok (.aload_n 0, 1) := dk_42 (dk_at dksX5_begins_0 5 rfl rfl)
theorem dX5_begins_6 : decode cX5_begins 6 = .ok (.iconst 0, 1) := dk_3 (dk_at dksX5_begins_0 6 rfl rfl)
theorem dX5_begins_7 : decode cX5_begins 7 = .ok (.putfield 22, 3) := dk_181 0 22 (dk_at dksX5_begins_0 7 rfl rfl)
theorem dX5_begins_10 : decode cX5_begins 10 = .ok (.aload_n 0, 1) := dk_42 (dk_at dksX5_begins_0 10 rfl rfl)
theorem dX5_begins_11 : decode cX5_begins 11 = .ok (.iconst 0, 1) := dk_3 (dk_at dksX5_begins_0 11 rfl rfl)
theorem dX5_begins_12 : decode cX5_begins 12 = .ok (.putfield 25, 3) := dk_181 0 25 (dk_at dksX5_begins_0 12 rfl rfl)
theorem dX5_begins_15 : decode cX5_begins 15 = .ok (.aload_n 0, 1) := dk_42 (dk_at dksX5_begins_0 15 rfl rfl)
theorem dX5_begins_16 : decode cX5_begins 16 = .ok (.bipush (-2), 2) := dk_16 254 (dk_at dksX5_begins_0 16 rfl rfl)
theorem dX5_begins_18 : decode cX5_begins 18 = .ok (.putfield 28, 3) := dk_181 0 28 (dk_at dksX5_begins_0 18 rfl rfl)
theorem dX5_begins_21 : decode cX5_begins 21 = .ok (.aload_n 0, 1) := dk_42 (dk_at dksX5_begins_0 21 rfl rfl)
theorem dX5_begins_22 : decode cX5_begins 22 = .ok (.iload_n 2, 1) := dk_28 (dk_at dksX5_begins_0 22 rfl rfl)
theorem dX5_begins_23 : decode cX5_begins 23 = .ok (.putfield 31, 3) := dk_181 0 31 (dk_at dksX5_begins_1 0 rfl rfl)
theorem dX5_begins_26 : decode cX5_begins 26 = .ok (.aload_n 0, 1) := dk_42 (dk_at dksX5_begins_1 3 rfl rfl)
theorem dX5_begins_27 : decode cX5_begins 27 = .ok (.iload_n 3, 1) := dk_29 (dk_at dksX5_begins_1 4 rfl rfl)
theorem dX5_begins_28 : decode cX5_begins 28 = .ok (.putfield 34, 3) := dk_181 0 34 (dk_at dksX5_begins_1 5 rfl rfl)
theorem dX5_begins_31 : decode cX5_begins 31 = .ok (.aload_n 0, 1) := dk_42 (dk_at dksX5_begins_1 8 rfl rfl)
theorem dX5_begins_32 : decode cX5_begins 32 = .ok (.iload 4, 2) := dk_21 4 (dk_at dksX5_begins_1 9 rfl rfl)
theorem dX5_begins_34 : decode cX5_begins 34 = .ok (.putfield 37, 3) := dk_181 0 37 (dk_at dksX5_begins_1 11 rfl rfl)
theorem dX5_begins_37 : decode cX5_begins 37 = .ok (.aload_n 0, 1) := dk_42 (dk_at dksX5_begins_1 14 rfl rfl)
theorem dX5_begins_38 : decode cX5_begins 38 = .ok (.iconst (-1), 1) := dk_2 (dk_at dksX5_begins_1 15 rfl rfl)
theorem dX5_begins_39 : decode cX5_begins 39 = .ok (.putfield 40, 3) := dk_181 0 40 (dk_at dksX5_begins_1 16 rfl rfl)
theorem dX5_begins_42 : decode cX5_begins 42 = .ok (.aload_n 0, 1) := dk_42 (dk_at dksX5_begins_1 19 rfl rfl)
theorem dX5_begins_43 : decode cX5_begins 43 = .ok (.bipush (-2), 2) := dk_16 254 (dk_at dksX5_begins_1 20 rfl rfl)
theorem dX5_begins_45 : decode cX5_begins 45 = .ok (.putfield 43, 3) := dk_181 0 43 (dk_at dksX5_begins_2 0 rfl rfl)
theorem dX5_begins_48 : decode cX5_begins 48 = .ok (.aload_n 0, 1) := dk_42 (dk_at dksX5_begins_2 3 rfl rfl)
theorem dX5_begins_49 : decode cX5_begins 49 = .ok (.iconst 0, 1) := dk_3 (dk_at dksX5_begins_2 4 rfl rfl)
theorem dX5_begins_50 : decode cX5_begins 50 = .ok (.putfield 46, 3) := dk_181 0 46 (dk_at dksX5_begins_2 5 rfl rfl)
theorem dX5_begins_53 : decode cX5_begins 53 = .ok (.return_, 1) := dk_177 (dk_at dksX5_begins_2 8 rfl rfl)
abbrev cX5_sets : ByteArray := prog_9_method_7_code
def yX5_sets : MethodName := ⟨RX5, "sets", "(II)V"⟩
def dkwX5_sets_4 : List UInt8 := [180, 0, 15, 29, 28, 79, 177]
abbrev dktX5_sets_4 : List UInt8 := dkwX5_sets_4 ++ []
def dkwX5_sets_3 : List UInt8 := [180, 0, 15, 29, 4, 100, 46, 79, 132, 3, 255, 167, 255, 209, 42, 180, 0, 9, 29, 27, 79, 42]
abbrev dktX5_sets_3 : List UInt8 := dkwX5_sets_3 ++ dktX5_sets_4
def dkwX5_sets_2 : List UInt8 := [164, 0, 37, 42, 180, 0, 9, 29, 42, 180, 0, 9, 29, 4, 100, 46, 79, 42, 180, 0, 15, 29, 42]
abbrev dktX5_sets_2 : List UInt8 := dkwX5_sets_2 ++ dktX5_sets_3
def dkwX5_sets_1 : List UInt8 := [89, 180, 0, 22, 4, 96, 181, 0, 22, 29, 158, 0, 49, 42, 180, 0, 9, 29, 4, 100, 46, 27]
abbrev dktX5_sets_1 : List UInt8 := dkwX5_sets_1 ++ dktX5_sets_2
def dkwX5_sets_0 : List UInt8 := [42, 27, 182, 0, 58, 62, 29, 155, 0, 11, 42, 180, 0, 15, 29, 28, 79, 177, 42, 180, 0, 22, 62, 42]
abbrev dktX5_sets_0 : List UInt8 := dkwX5_sets_0 ++ dktX5_sets_1
theorem dksX5_sets_0 : cX5_sets.data.toList.drop 0 = dktX5_sets_0 := by decide +kernel
theorem dksX5_sets_1 : cX5_sets.data.toList.drop 24 = dktX5_sets_1 := dk_seg dksX5_sets_0 24 rfl rfl
theorem dksX5_sets_2 : cX5_sets.data.toList.drop 46 = dktX5_sets_2 := dk_seg dksX5_sets_1 22 rfl rfl
theorem dksX5_sets_3 : cX5_sets.data.toList.drop 69 = dktX5_sets_3 := dk_seg dksX5_sets_2 23 rfl rfl
theorem dksX5_sets_4 : cX5_sets.data.toList.drop 91 = dktX5_sets_4 := dk_seg dksX5_sets_3 22 rfl rfl
theorem dX5_sets_0 : decode cX5_sets 0 = .ok (.aload_n 0, 1) := dk_42 (dk_at dksX5_sets_0 0 rfl rfl)
theorem dX5_sets_1 : decode cX5_sets 1 = .ok (.iload_n 1, 1) := dk_27 (dk_at dksX5_sets_0 1 rfl rfl)
theorem dX5_sets_2 : decode cX5_sets 2 = .ok (.invokevirtual 58, 3) := dk_182 0 58 (dk_at dksX5_sets_0 2 rfl rfl)
theorem dX5_sets_5 : decode cX5_sets 5 = .ok (.istore_n 3, 1) := dk_62 (dk_at dksX5_sets_0 5 rfl rfl)
theorem dX5_sets_6 : decode cX5_sets 6 = .ok (.iload_n 3, 1) := dk_29 (dk_at dksX5_sets_0 6 rfl rfl)
theorem dX5_sets_7 : decode cX5_sets 7 = .ok (.ifCond .lt 11, 3) := dk_155 0 11 (dk_at dksX5_sets_0 7 rfl rfl)
theorem dX5_sets_10 : decode cX5_sets 10 = .ok (.aload_n 0, 1) := dk_42 (dk_at dksX5_sets_0 10 rfl rfl)
theorem dX5_sets_11 : decode cX5_sets 11 = .ok (.getfield 15, 3) := dk_180 0 15 (dk_at dksX5_sets_0 11 rfl rfl)
theorem dX5_sets_14 : decode cX5_sets 14 = .ok (.iload_n 3, 1) := dk_29 (dk_at dksX5_sets_0 14 rfl rfl)
theorem dX5_sets_15 : decode cX5_sets 15 = .ok (.iload_n 2, 1) := dk_28 (dk_at dksX5_sets_0 15 rfl rfl)
theorem dX5_sets_16 : decode cX5_sets 16 = .ok (.iastore, 1) := dk_79 (dk_at dksX5_sets_0 16 rfl rfl)
theorem dX5_sets_17 : decode cX5_sets 17 = .ok (.return_, 1) := dk_177 (dk_at dksX5_sets_0 17 rfl rfl)
theorem dX5_sets_18 : decode cX5_sets 18 = .ok (.aload_n 0, 1) := dk_42 (dk_at dksX5_sets_0 18 rfl rfl)
theorem dX5_sets_19 : decode cX5_sets 19 = .ok (.getfield 22, 3) := dk_180 0 22 (dk_at dksX5_sets_0 19 rfl rfl)
theorem dX5_sets_22 : decode cX5_sets 22 = .ok (.istore_n 3, 1) := dk_62 (dk_at dksX5_sets_0 22 rfl rfl)
theorem dX5_sets_23 : decode cX5_sets 23 = .ok (.aload_n 0, 1) := dk_42 (dk_at dksX5_sets_0 23 rfl rfl)
theorem dX5_sets_24 : decode cX5_sets 24 = .ok (.dup, 1) := dk_89 (dk_at dksX5_sets_1 0 rfl rfl)
theorem dX5_sets_25 : decode cX5_sets 25 = .ok (.getfield 22, 3) := dk_180 0 22 (dk_at dksX5_sets_1 1 rfl rfl)
theorem dX5_sets_28 : decode cX5_sets 28 = .ok (.iconst 1, 1) := dk_4 (dk_at dksX5_sets_1 4 rfl rfl)
theorem dX5_sets_29 : decode cX5_sets 29 = .ok (.iadd, 1) := dk_96 (dk_at dksX5_sets_1 5 rfl rfl)
theorem dX5_sets_30 : decode cX5_sets 30 = .ok (.putfield 22, 3) := dk_181 0 22 (dk_at dksX5_sets_1 6 rfl rfl)
theorem dX5_sets_33 : decode cX5_sets 33 = .ok (.iload_n 3, 1) := dk_29 (dk_at dksX5_sets_1 9 rfl rfl)
theorem dX5_sets_34 : decode cX5_sets 34 = .ok (.ifCond .le 49, 3) := dk_158 0 49 (dk_at dksX5_sets_1 10 rfl rfl)
theorem dX5_sets_37 : decode cX5_sets 37 = .ok (.aload_n 0, 1) := dk_42 (dk_at dksX5_sets_1 13 rfl rfl)
theorem dX5_sets_38 : decode cX5_sets 38 = .ok (.getfield 9, 3) := dk_180 0 9 (dk_at dksX5_sets_1 14 rfl rfl)
theorem dX5_sets_41 : decode cX5_sets 41 = .ok (.iload_n 3, 1) := dk_29 (dk_at dksX5_sets_1 17 rfl rfl)
theorem dX5_sets_42 : decode cX5_sets 42 = .ok (.iconst 1, 1) := dk_4 (dk_at dksX5_sets_1 18 rfl rfl)
theorem dX5_sets_43 : decode cX5_sets 43 = .ok (.isub, 1) := dk_100 (dk_at dksX5_sets_1 19 rfl rfl)
theorem dX5_sets_44 : decode cX5_sets 44 = .ok (.iaload, 1) := dk_46 (dk_at dksX5_sets_1 20 rfl rfl)
theorem dX5_sets_45 : decode cX5_sets 45 = .ok (.iload_n 1, 1) := dk_27 (dk_at dksX5_sets_1 21 rfl rfl)
theorem dX5_sets_46 : decode cX5_sets 46 = .ok (.if_icmp .le 37, 3) := dk_164 0 37 (dk_at dksX5_sets_2 0 rfl rfl)
theorem dX5_sets_49 : decode cX5_sets 49 = .ok (.aload_n 0, 1) := dk_42 (dk_at dksX5_sets_2 3 rfl rfl)
theorem dX5_sets_50 : decode cX5_sets 50 = .ok (.getfield 9, 3) := dk_180 0 9 (dk_at dksX5_sets_2 4 rfl rfl)
theorem dX5_sets_53 : decode cX5_sets 53 = .ok (.iload_n 3, 1) := dk_29 (dk_at dksX5_sets_2 7 rfl rfl)
theorem dX5_sets_54 : decode cX5_sets 54 = .ok (.aload_n 0, 1) := dk_42 (dk_at dksX5_sets_2 8 rfl rfl)
theorem dX5_sets_55 : decode cX5_sets 55 = .ok (.getfield 9, 3) := dk_180 0 9 (dk_at dksX5_sets_2 9 rfl rfl)
theorem dX5_sets_58 : decode cX5_sets 58 = .ok (.iload_n 3, 1) := dk_29 (dk_at dksX5_sets_2 12 rfl rfl)
theorem dX5_sets_59 : decode cX5_sets 59 = .ok (.iconst 1, 1) := dk_4 (dk_at dksX5_sets_2 13 rfl rfl)
theorem dX5_sets_60 : decode cX5_sets 60 = .ok (.isub, 1) := dk_100 (dk_at dksX5_sets_2 14 rfl rfl)
theorem dX5_sets_61 : decode cX5_sets 61 = .ok (.iaload, 1) := dk_46 (dk_at dksX5_sets_2 15 rfl rfl)
theorem dX5_sets_62 : decode cX5_sets 62 = .ok (.iastore, 1) := dk_79 (dk_at dksX5_sets_2 16 rfl rfl)
theorem dX5_sets_63 : decode cX5_sets 63 = .ok (.aload_n 0, 1) := dk_42 (dk_at dksX5_sets_2 17 rfl rfl)
theorem dX5_sets_64 : decode cX5_sets 64 = .ok (.getfield 15, 3) := dk_180 0 15 (dk_at dksX5_sets_2 18 rfl rfl)
theorem dX5_sets_67 : decode cX5_sets 67 = .ok (.iload_n 3, 1) := dk_29 (dk_at dksX5_sets_2 21 rfl rfl)
theorem dX5_sets_68 : decode cX5_sets 68 = .ok (.aload_n 0, 1) := dk_42 (dk_at dksX5_sets_2 22 rfl rfl)
theorem dX5_sets_69 : decode cX5_sets 69 = .ok (.getfield 15, 3) := dk_180 0 15 (dk_at dksX5_sets_3 0 rfl rfl)
theorem dX5_sets_72 : decode cX5_sets 72 = .ok (.iload_n 3, 1) := dk_29 (dk_at dksX5_sets_3 3 rfl rfl)
theorem dX5_sets_73 : decode cX5_sets 73 = .ok (.iconst 1, 1) := dk_4 (dk_at dksX5_sets_3 4 rfl rfl)
theorem dX5_sets_74 : decode cX5_sets 74 = .ok (.isub, 1) := dk_100 (dk_at dksX5_sets_3 5 rfl rfl)
theorem dX5_sets_75 : decode cX5_sets 75 = .ok (.iaload, 1) := dk_46 (dk_at dksX5_sets_3 6 rfl rfl)
theorem dX5_sets_76 : decode cX5_sets 76 = .ok (.iastore, 1) := dk_79 (dk_at dksX5_sets_3 7 rfl rfl)
theorem dX5_sets_77 : decode cX5_sets 77 = .ok (.iinc 3 (-1), 3) := dk_132 3 255 (dk_at dksX5_sets_3 8 rfl rfl)
theorem dX5_sets_80 : decode cX5_sets 80 = .ok (.goto (-47), 3) := dk_167 255 209 (dk_at dksX5_sets_3 11 rfl rfl)
theorem dX5_sets_83 : decode cX5_sets 83 = .ok (.aload_n 0, 1) := dk_42 (dk_at dksX5_sets_3 14 rfl rfl)
theorem dX5_sets_84 : decode cX5_sets 84 = .ok (.getfield 9, 3) := dk_180 0 9 (dk_at dksX5_sets_3 15 rfl rfl)
theorem dX5_sets_87 : decode cX5_sets 87 = .ok (.iload_n 3, 1) := dk_29 (dk_at dksX5_sets_3 18 rfl rfl)
theorem dX5_sets_88 : decode cX5_sets 88 = .ok (.iload_n 1, 1) := dk_27 (dk_at dksX5_sets_3 19 rfl rfl)
theorem dX5_sets_89 : decode cX5_sets 89 = .ok (.iastore, 1) := dk_79 (dk_at dksX5_sets_3 20 rfl rfl)
theorem dX5_sets_90 : decode cX5_sets 90 = .ok (.aload_n 0, 1) := dk_42 (dk_at dksX5_sets_3 21 rfl rfl)
theorem dX5_sets_91 : decode cX5_sets 91 = .ok (.getfield 15, 3) := dk_180 0 15 (dk_at dksX5_sets_4 0 rfl rfl)
theorem dX5_sets_94 : decode cX5_sets 94 = .ok (.iload_n 3, 1) := dk_29 (dk_at dksX5_sets_4 3 rfl rfl)
theorem dX5_sets_95 : decode cX5_sets 95 = .ok (.iload_n 2, 1) := dk_28 (dk_at dksX5_sets_4 4 rfl rfl)
theorem dX5_sets_96 : decode cX5_sets 96 = .ok (.iastore, 1) := dk_79 (dk_at dksX5_sets_4 5 rfl rfl)
theorem dX5_sets_97 : decode cX5_sets 97 = .ok (.return_, 1) := dk_177 (dk_at dksX5_sets_4 6 rfl rfl)
abbrev cX5_at : ByteArray := prog_9_method_5_code
def yX5_at : MethodName := ⟨RX5, "at", "(I)I"⟩
def dkwX5_at_1 : List UInt8 := [132, 2, 1, 167, 255, 233, 2, 172]
abbrev dktX5_at_1 : List UInt8 := dkwX5_at_1 ++ []
def dkwX5_at_0 : List UInt8 := [3, 61, 28, 42, 180, 0, 22, 162, 0, 21, 42, 180, 0, 9, 28, 46, 27, 160, 0, 5, 28, 172]
abbrev dktX5_at_0 : List UInt8 := dkwX5_at_0 ++ dktX5_at_1
theorem dksX5_at_0 : cX5_at.data.toList.drop 0 = dktX5_at_0 := by decide +kernel
theorem dksX5_at_1 : cX5_at.data.toList.drop 22 = dktX5_at_1 := dk_seg dksX5_at_0 22 rfl rfl
theorem dX5_at_0 : decode cX5_at 0 = .ok (.iconst 0, 1) := dk_3 (dk_at dksX5_at_0 0 rfl rfl)
theorem dX5_at_1 : decode cX5_at 1 = .ok (.istore_n 2, 1) := dk_61 (dk_at dksX5_at_0 1 rfl rfl)
theorem dX5_at_2 : decode cX5_at 2 = .ok (.iload_n 2, 1) := dk_28 (dk_at dksX5_at_0 2 rfl rfl)
theorem dX5_at_3 : decode cX5_at 3 = .ok (.aload_n 0, 1) := dk_42 (dk_at dksX5_at_0 3 rfl rfl)
theorem dX5_at_4 : decode cX5_at 4 = .ok (.getfield 22, 3) := dk_180 0 22 (dk_at dksX5_at_0 4 rfl rfl)
theorem dX5_at_7 : decode cX5_at 7 = .ok (.if_icmp .ge 21, 3) := dk_162 0 21 (dk_at dksX5_at_0 7 rfl rfl)
theorem dX5_at_10 : decode cX5_at 10 = .ok (.aload_n 0, 1) := dk_42 (dk_at dksX5_at_0 10 rfl rfl)
theorem dX5_at_11 : decode cX5_at 11 = .ok (.getfield 9, 3) := dk_180 0 9 (dk_at dksX5_at_0 11 rfl rfl)
theorem dX5_at_14 : decode cX5_at 14 = .ok (.iload_n 2, 1) := dk_28 (dk_at dksX5_at_0 14 rfl rfl)
theorem dX5_at_15 : decode cX5_at 15 = .ok (.iaload, 1) := dk_46 (dk_at dksX5_at_0 15 rfl rfl)
theorem dX5_at_16 : decode cX5_at 16 = .ok (.iload_n 1, 1) := dk_27 (dk_at dksX5_at_0 16 rfl rfl)
theorem dX5_at_17 : decode cX5_at 17 = .ok (.if_icmp .ne 5, 3) := dk_160 0 5 (dk_at dksX5_at_0 17 rfl rfl)
theorem dX5_at_20 : decode cX5_at 20 = .ok (.iload_n 2, 1) := dk_28 (dk_at dksX5_at_0 20 rfl rfl)
theorem dX5_at_21 : decode cX5_at 21 = .ok (.ireturn, 1) := dk_172 (dk_at dksX5_at_0 21 rfl rfl)
theorem dX5_at_22 : decode cX5_at 22 = .ok (.iinc 2 1, 3) := dk_132 2 1 (dk_at dksX5_at_1 0 rfl rfl)
theorem dX5_at_25 : decode cX5_at 25 = .ok (.goto (-23), 3) := dk_167 255 233 (dk_at dksX5_at_1 3 rfl rfl)
theorem dX5_at_28 : decode cX5_at 28 = .ok (.iconst (-1), 1) := dk_2 (dk_at dksX5_at_1 6 rfl rfl)
theorem dX5_at_29 : decode cX5_at 29 = .ok (.ireturn, 1) := dk_172 (dk_at dksX5_at_1 7 rfl rfl)
abbrev cX5_takes : ByteArray := prog_9_method_4_code
def yX5_takes : MethodName := ⟨RX5, "takes", "(LDeltaIndex$Record;)V"⟩
def dkwX5_takes_2 : List UInt8 := [180, 0, 15, 28, 43, 180, 0, 15, 28, 46, 79, 132, 2, 1, 167, 255, 221, 177]
abbrev dktX5_takes_2 : List UInt8 := dkwX5_takes_2 ++ []
def dkwX5_takes_1 : List UInt8 := [3, 61, 28, 42, 180, 0, 22, 162, 0, 33, 42, 180, 0, 9, 28, 43, 180, 0, 9, 28, 46, 79, 42]
abbrev dktX5_takes_1 : List UInt8 := dkwX5_takes_1 ++ dktX5_takes_2
def dkwX5_takes_0 : List UInt8 := [42, 43, 180, 0, 22, 181, 0, 22, 42, 43, 180, 0, 25, 181, 0, 25, 42, 43, 180, 0, 28, 181, 0, 28]
abbrev dktX5_takes_0 : List UInt8 := dkwX5_takes_0 ++ dktX5_takes_1
theorem dksX5_takes_0 : cX5_takes.data.toList.drop 0 = dktX5_takes_0 := by decide +kernel
theorem dksX5_takes_1 : cX5_takes.data.toList.drop 24 = dktX5_takes_1 := dk_seg dksX5_takes_0 24 rfl rfl
theorem dksX5_takes_2 : cX5_takes.data.toList.drop 47 = dktX5_takes_2 := dk_seg dksX5_takes_1 23 rfl rfl
theorem dX5_takes_0 : decode cX5_takes 0 = .ok (.aload_n 0, 1) := dk_42 (dk_at dksX5_takes_0 0 rfl rfl)
theorem dX5_takes_1 : decode cX5_takes 1 = .ok (.aload_n 1, 1) := dk_43 (dk_at dksX5_takes_0 1 rfl rfl)
theorem dX5_takes_2 : decode cX5_takes 2 = .ok (.getfield 22, 3) := dk_180 0 22 (dk_at dksX5_takes_0 2 rfl rfl)
theorem dX5_takes_5 : decode cX5_takes 5 = .ok (.putfield 22, 3) := dk_181 0 22 (dk_at dksX5_takes_0 5 rfl rfl)
theorem dX5_takes_8 : decode cX5_takes 8 = .ok (.aload_n 0, 1) := dk_42 (dk_at dksX5_takes_0 8 rfl rfl)
theorem dX5_takes_9 : decode cX5_takes 9 = .ok (.aload_n 1, 1) := dk_43 (dk_at dksX5_takes_0 9 rfl rfl)
theorem dX5_takes_10 : decode cX5_takes 10 = .ok (.getfield 25, 3) := dk_180 0 25 (dk_at dksX5_takes_0 10 rfl rfl)
theorem dX5_takes_13 : decode cX5_takes 13 = .ok (.putfield 25, 3) := dk_181 0 25 (dk_at dksX5_takes_0 13 rfl rfl)
theorem dX5_takes_16 : decode cX5_takes 16 = .ok (.aload_n 0, 1) := dk_42 (dk_at dksX5_takes_0 16 rfl rfl)
theorem dX5_takes_17 : decode cX5_takes 17 = .ok (.aload_n 1, 1) := dk_43 (dk_at dksX5_takes_0 17 rfl rfl)
theorem dX5_takes_18 : decode cX5_takes 18 = .ok (.getfield 28, 3) := dk_180 0 28 (dk_at dksX5_takes_0 18 rfl rfl)
theorem dX5_takes_21 : decode cX5_takes 21 = .ok (.putfield 28, 3) := dk_181 0 28 (dk_at dksX5_takes_0 21 rfl rfl)
theorem dX5_takes_24 : decode cX5_takes 24 = .ok (.iconst 0, 1) := dk_3 (dk_at dksX5_takes_1 0 rfl rfl)
theorem dX5_takes_25 : decode cX5_takes 25 = .ok (.istore_n 2, 1) := dk_61 (dk_at dksX5_takes_1 1 rfl rfl)
theorem dX5_takes_26 : decode cX5_takes 26 = .ok (.iload_n 2, 1) := dk_28 (dk_at dksX5_takes_1 2 rfl rfl)
theorem dX5_takes_27 : decode cX5_takes 27 = .ok (.aload_n 0, 1) := dk_42 (dk_at dksX5_takes_1 3 rfl rfl)
theorem dX5_takes_28 : decode cX5_takes 28 = .ok (.getfield 22, 3) := dk_180 0 22 (dk_at dksX5_takes_1 4 rfl rfl)
theorem dX5_takes_31 : decode cX5_takes 31 = .ok (.if_icmp .ge 33, 3) := dk_162 0 33 (dk_at dksX5_takes_1 7 rfl rfl)
theorem dX5_takes_34 : decode cX5_takes 34 = .ok (.aload_n 0, 1) := dk_42 (dk_at dksX5_takes_1 10 rfl rfl)
theorem dX5_takes_35 : decode cX5_takes 35 = .ok (.getfield 9, 3) := dk_180 0 9 (dk_at dksX5_takes_1 11 rfl rfl)
theorem dX5_takes_38 : decode cX5_takes 38 = .ok (.iload_n 2, 1) := dk_28 (dk_at dksX5_takes_1 14 rfl rfl)
theorem dX5_takes_39 : decode cX5_takes 39 = .ok (.aload_n 1, 1) := dk_43 (dk_at dksX5_takes_1 15 rfl rfl)
theorem dX5_takes_40 : decode cX5_takes 40 = .ok (.getfield 9, 3) := dk_180 0 9 (dk_at dksX5_takes_1 16 rfl rfl)
theorem dX5_takes_43 : decode cX5_takes 43 = .ok (.iload_n 2, 1) := dk_28 (dk_at dksX5_takes_1 19 rfl rfl)
theorem dX5_takes_44 : decode cX5_takes 44 = .ok (.iaload, 1) := dk_46 (dk_at dksX5_takes_1 20 rfl rfl)
theorem dX5_takes_45 : decode cX5_takes 45 = .ok (.iastore, 1) := dk_79 (dk_at dksX5_takes_1 21 rfl rfl)
theorem dX5_takes_46 : decode cX5_takes 46 = .ok (.aload_n 0, 1) := dk_42 (dk_at dksX5_takes_1 22 rfl rfl)
theorem dX5_takes_47 : decode cX5_takes 47 = .ok (.getfield 15, 3) := dk_180 0 15 (dk_at dksX5_takes_2 0 rfl rfl)
theorem dX5_takes_50 : decode cX5_takes 50 = .ok (.iload_n 2, 1) := dk_28 (dk_at dksX5_takes_2 3 rfl rfl)
theorem dX5_takes_51 : decode cX5_takes 51 = .ok (.aload_n 1, 1) := dk_43 (dk_at dksX5_takes_2 4 rfl rfl)
theorem dX5_takes_52 : decode cX5_takes 52 = .ok (.getfield 15, 3) := dk_180 0 15 (dk_at dksX5_takes_2 5 rfl rfl)
theorem dX5_takes_55 : decode cX5_takes 55 = .ok (.iload_n 2, 1) := dk_28 (dk_at dksX5_takes_2 8 rfl rfl)
theorem dX5_takes_56 : decode cX5_takes 56 = .ok (.iaload, 1) := dk_46 (dk_at dksX5_takes_2 9 rfl rfl)
theorem dX5_takes_57 : decode cX5_takes 57 = .ok (.iastore, 1) := dk_79 (dk_at dksX5_takes_2 10 rfl rfl)
theorem dX5_takes_58 : decode cX5_takes 58 = .ok (.iinc 2 1, 3) := dk_132 2 1 (dk_at dksX5_takes_2 11 rfl rfl)
theorem dX5_takes_61 : decode cX5_takes 61 = .ok (.goto (-35), 3) := dk_167 255 221 (dk_at dksX5_takes_2 14 rfl rfl)
theorem dX5_takes_64 : decode cX5_takes 64 = .ok (.return_, 1) := dk_177 (dk_at dksX5_takes_2 17 rfl rfl)
abbrev cX5_changes : ByteArray := prog_9_method_11_code
def yX5_changes : MethodName := ⟨RX5, "changes", "(LDeltaIndex$Record;[LDeltaIndex$Record;)V"⟩
def dkwX5_changes_4 : List UInt8 := [50, 182, 0, 73, 167, 0, 3, 177]
abbrev dktX5_changes_4 : List UInt8 := dkwX5_changes_4 ++ []
def dkwX5_changes_3 : List UInt8 := [167, 0, 31, 42, 43, 180, 0, 31, 43, 180, 0, 34, 182, 0, 70, 167, 0, 16, 42, 44, 43, 180, 0, 40]
abbrev dktX5_changes_3 : List UInt8 := dkwX5_changes_3 ++ dktX5_changes_4
def dkwX5_changes_2 : List UInt8 := [42, 43, 180, 0, 31, 43, 180, 0, 34, 182, 0, 62, 167, 0, 42, 42, 43, 180, 0, 31, 182, 0, 66]
abbrev dktX5_changes_2 : List UInt8 := dkwX5_changes_2 ++ dktX5_changes_3
def dkwX5_changes_1 : List UInt8 := [170, 0, 0, 0, 0, 0, 0, 98, 0, 0, 0, 1, 0, 0, 0, 7, 0, 0, 0, 44, 0, 0, 0, 59, 0, 0, 0, 70, 0, 0, 0, 98, 0, 0, 0, 85, 0, 0, 0, 44, 0, 0, 0, 59]
abbrev dktX5_changes_1 : List UInt8 := dkwX5_changes_1 ++ dktX5_changes_2
def dkwX5_changes_0 : List UInt8 := [43, 180, 0, 18]
abbrev dktX5_changes_0 : List UInt8 := dkwX5_changes_0 ++ dktX5_changes_1
theorem dksX5_changes_0 : cX5_changes.data.toList.drop 0 = dktX5_changes_0 := by decide +kernel
theorem dksX5_changes_1 : cX5_changes.data.toList.drop 4 = dktX5_changes_1 := dk_seg dksX5_changes_0 4 rfl rfl
theorem dksX5_changes_2 : cX5_changes.data.toList.drop 48 = dktX5_changes_2 := dk_seg dksX5_changes_1 44 rfl rfl
theorem dksX5_changes_3 : cX5_changes.data.toList.drop 71 = dktX5_changes_3 := dk_seg dksX5_changes_2 23 rfl rfl
theorem dksX5_changes_4 : cX5_changes.data.toList.drop 95 = dktX5_changes_4 := dk_seg dksX5_changes_3 24 rfl rfl
theorem dX5_changes_0 : decode cX5_changes 0 = .ok (.aload_n 1, 1) := dk_43 (dk_at dksX5_changes_0 0 rfl rfl)
theorem dX5_changes_1 : decode cX5_changes 1 = .ok (.getfield 18, 3) := dk_180 0 18 (dk_at dksX5_changes_0 1 rfl rfl)
theorem dX5_changes_4 : decode cX5_changes 4 = .ok (.tableswitch 98 1 7 #[44, 59, 70, 98, 85, 44, 59], 44) := by decide +kernel
theorem dX5_changes_48 : decode cX5_changes 48 = .ok (.aload_n 0, 1) := dk_42 (dk_at dksX5_changes_2 0 rfl rfl)
theorem dX5_changes_49 : decode cX5_changes 49 = .ok (.aload_n 1, 1) := dk_43 (dk_at dksX5_changes_2 1 rfl rfl)
theorem dX5_changes_50 : decode cX5_changes 50 = .ok (.getfield 31, 3) := dk_180 0 31 (dk_at dksX5_changes_2 2 rfl rfl)
theorem dX5_changes_53 : decode cX5_changes 53 = .ok (.aload_n 1, 1) := dk_43 (dk_at dksX5_changes_2 5 rfl rfl)
theorem dX5_changes_54 : decode cX5_changes 54 = .ok (.getfield 34, 3) := dk_180 0 34 (dk_at dksX5_changes_2 6 rfl rfl)
theorem dX5_changes_57 : decode cX5_changes 57 = .ok (.invokevirtual 62, 3) := dk_182 0 62 (dk_at dksX5_changes_2 9 rfl rfl)
theorem dX5_changes_60 : decode cX5_changes 60 = .ok (.goto 42, 3) := dk_167 0 42 (dk_at dksX5_changes_2 12 rfl rfl)
theorem dX5_changes_63 : decode cX5_changes 63 = .ok (.aload_n 0, 1) := dk_42 (dk_at dksX5_changes_2 15 rfl rfl)
theorem dX5_changes_64 : decode cX5_changes 64 = .ok (.aload_n 1, 1) := dk_43 (dk_at dksX5_changes_2 16 rfl rfl)
theorem dX5_changes_65 : decode cX5_changes 65 = .ok (.getfield 31, 3) := dk_180 0 31 (dk_at dksX5_changes_2 17 rfl rfl)
theorem dX5_changes_68 : decode cX5_changes 68 = .ok (.invokevirtual 66, 3) := dk_182 0 66 (dk_at dksX5_changes_2 20 rfl rfl)
theorem dX5_changes_71 : decode cX5_changes 71 = .ok (.goto 31, 3) := dk_167 0 31 (dk_at dksX5_changes_3 0 rfl rfl)
theorem dX5_changes_74 : decode cX5_changes 74 = .ok (.aload_n 0, 1) := dk_42 (dk_at dksX5_changes_3 3 rfl rfl)
theorem dX5_changes_75 : decode cX5_changes 75 = .ok (.aload_n 1, 1) := dk_43 (dk_at dksX5_changes_3 4 rfl rfl)
theorem dX5_changes_76 : decode cX5_changes 76 = .ok (.getfield 31, 3) := dk_180 0 31 (dk_at dksX5_changes_3 5 rfl rfl)
theorem dX5_changes_79 : decode cX5_changes 79 = .ok (.aload_n 1, 1) := dk_43 (dk_at dksX5_changes_3 8 rfl rfl)
theorem dX5_changes_80 : decode cX5_changes 80 = .ok (.getfield 34, 3) := dk_180 0 34 (dk_at dksX5_changes_3 9 rfl rfl)
theorem dX5_changes_83 : decode cX5_changes 83 = .ok (.invokevirtual 70, 3) := dk_182 0 70 (dk_at dksX5_changes_3 12 rfl rfl)
theorem dX5_changes_86 : decode cX5_changes 86 = .ok (.goto 16, 3) := dk_167 0 16 (dk_at dksX5_changes_3 15 rfl rfl)
theorem dX5_changes_89 : decode cX5_changes 89 = .ok (.aload_n 0, 1) := dk_42 (dk_at dksX5_changes_3 18 rfl rfl)
theorem dX5_changes_90 : decode cX5_changes 90 = .ok (.aload_n 2, 1) := dk_44 (dk_at dksX5_changes_3 19 rfl rfl)
theorem dX5_changes_91 : decode cX5_changes 91 = .ok (.aload_n 1, 1) := dk_43 (dk_at dksX5_changes_3 20 rfl rfl)
theorem dX5_changes_92 : decode cX5_changes 92 = .ok (.getfield 40, 3) := dk_180 0 40 (dk_at dksX5_changes_3 21 rfl rfl)
theorem dX5_changes_95 : decode cX5_changes 95 = .ok (.aaload, 1) := dk_50 (dk_at dksX5_changes_4 0 rfl rfl)
theorem dX5_changes_96 : decode cX5_changes 96 = .ok (.invokevirtual 73, 3) := dk_182 0 73 (dk_at dksX5_changes_4 1 rfl rfl)
theorem dX5_changes_99 : decode cX5_changes 99 = .ok (.goto 3, 3) := dk_167 0 3 (dk_at dksX5_changes_4 4 rfl rfl)
theorem dX5_changes_102 : decode cX5_changes 102 = .ok (.return_, 1) := dk_177 (dk_at dksX5_changes_4 7 rfl rfl)
abbrev cX5_drops : ByteArray := prog_9_method_8_code
def yX5_drops : MethodName := ⟨RX5, "drops", "(I)V"⟩
def dkwX5_drops_2 : List UInt8 := [180, 0, 15, 29, 42, 180, 0, 15, 29, 4, 96, 46, 79, 132, 3, 1, 167, 255, 217, 177]
abbrev dktX5_drops_2 : List UInt8 := dkwX5_drops_2 ++ []
def dkwX5_drops_1 : List UInt8 := [42, 180, 0, 22, 162, 0, 37, 42, 180, 0, 9, 29, 42, 180, 0, 9, 29, 4, 96, 46, 79, 42]
abbrev dktX5_drops_1 : List UInt8 := dkwX5_drops_1 ++ dktX5_drops_2
def dkwX5_drops_0 : List UInt8 := [42, 27, 182, 0, 58, 61, 28, 156, 0, 4, 177, 42, 89, 180, 0, 22, 4, 100, 181, 0, 22, 28, 62, 29]
abbrev dktX5_drops_0 : List UInt8 := dkwX5_drops_0 ++ dktX5_drops_1
theorem dksX5_drops_0 : cX5_drops.data.toList.drop 0 = dktX5_drops_0 := by decide +kernel
theorem dksX5_drops_1 : cX5_drops.data.toList.drop 24 = dktX5_drops_1 := dk_seg dksX5_drops_0 24 rfl rfl
theorem dksX5_drops_2 : cX5_drops.data.toList.drop 46 = dktX5_drops_2 := dk_seg dksX5_drops_1 22 rfl rfl
theorem dX5_drops_0 : decode cX5_drops 0 = .ok (.aload_n 0, 1) := dk_42 (dk_at dksX5_drops_0 0 rfl rfl)
theorem dX5_drops_1 : decode cX5_drops 1 = .ok (.iload_n 1, 1) := dk_27 (dk_at dksX5_drops_0 1 rfl rfl)
theorem dX5_drops_2 : decode cX5_drops 2 = .ok (.invokevirtual 58, 3) := dk_182 0 58 (dk_at dksX5_drops_0 2 rfl rfl)
theorem dX5_drops_5 : decode cX5_drops 5 = .ok (.istore_n 2, 1) := dk_61 (dk_at dksX5_drops_0 5 rfl rfl)
theorem dX5_drops_6 : decode cX5_drops 6 = .ok (.iload_n 2, 1) := dk_28 (dk_at dksX5_drops_0 6 rfl rfl)
theorem dX5_drops_7 : decode cX5_drops 7 = .ok (.ifCond .ge 4, 3) := dk_156 0 4 (dk_at dksX5_drops_0 7 rfl rfl)
theorem dX5_drops_10 : decode cX5_drops 10 = .ok (.return_, 1) := dk_177 (dk_at dksX5_drops_0 10 rfl rfl)
theorem dX5_drops_11 : decode cX5_drops 11 = .ok (.aload_n 0, 1) := dk_42 (dk_at dksX5_drops_0 11 rfl rfl)
theorem dX5_drops_12 : decode cX5_drops 12 = .ok (.dup, 1) := dk_89 (dk_at dksX5_drops_0 12 rfl rfl)
theorem dX5_drops_13 : decode cX5_drops 13 = .ok (.getfield 22, 3) := dk_180 0 22 (dk_at dksX5_drops_0 13 rfl rfl)
theorem dX5_drops_16 : decode cX5_drops 16 = .ok (.iconst 1, 1) := dk_4 (dk_at dksX5_drops_0 16 rfl rfl)
theorem dX5_drops_17 : decode cX5_drops 17 = .ok (.isub, 1) := dk_100 (dk_at dksX5_drops_0 17 rfl rfl)
theorem dX5_drops_18 : decode cX5_drops 18 = .ok (.putfield 22, 3) := dk_181 0 22 (dk_at dksX5_drops_0 18 rfl rfl)
theorem dX5_drops_21 : decode cX5_drops 21 = .ok (.iload_n 2, 1) := dk_28 (dk_at dksX5_drops_0 21 rfl rfl)
theorem dX5_drops_22 : decode cX5_drops 22 = .ok (.istore_n 3, 1) := dk_62 (dk_at dksX5_drops_0 22 rfl rfl)
theorem dX5_drops_23 : decode cX5_drops 23 = .ok (.iload_n 3, 1) := dk_29 (dk_at dksX5_drops_0 23 rfl rfl)
theorem dX5_drops_24 : decode cX5_drops 24 = .ok (.aload_n 0, 1) := dk_42 (dk_at dksX5_drops_1 0 rfl rfl)
theorem dX5_drops_25 : decode cX5_drops 25 = .ok (.getfield 22, 3) := dk_180 0 22 (dk_at dksX5_drops_1 1 rfl rfl)
theorem dX5_drops_28 : decode cX5_drops 28 = .ok (.if_icmp .ge 37, 3) := dk_162 0 37 (dk_at dksX5_drops_1 4 rfl rfl)
theorem dX5_drops_31 : decode cX5_drops 31 = .ok (.aload_n 0, 1) := dk_42 (dk_at dksX5_drops_1 7 rfl rfl)
theorem dX5_drops_32 : decode cX5_drops 32 = .ok (.getfield 9, 3) := dk_180 0 9 (dk_at dksX5_drops_1 8 rfl rfl)
theorem dX5_drops_35 : decode cX5_drops 35 = .ok (.iload_n 3, 1) := dk_29 (dk_at dksX5_drops_1 11 rfl rfl)
theorem dX5_drops_36 : decode cX5_drops 36 = .ok (.aload_n 0, 1) := dk_42 (dk_at dksX5_drops_1 12 rfl rfl)
theorem dX5_drops_37 : decode cX5_drops 37 = .ok (.getfield 9, 3) := dk_180 0 9 (dk_at dksX5_drops_1 13 rfl rfl)
theorem dX5_drops_40 : decode cX5_drops 40 = .ok (.iload_n 3, 1) := dk_29 (dk_at dksX5_drops_1 16 rfl rfl)
theorem dX5_drops_41 : decode cX5_drops 41 = .ok (.iconst 1, 1) := dk_4 (dk_at dksX5_drops_1 17 rfl rfl)
theorem dX5_drops_42 : decode cX5_drops 42 = .ok (.iadd, 1) := dk_96 (dk_at dksX5_drops_1 18 rfl rfl)
theorem dX5_drops_43 : decode cX5_drops 43 = .ok (.iaload, 1) := dk_46 (dk_at dksX5_drops_1 19 rfl rfl)
theorem dX5_drops_44 : decode cX5_drops 44 = .ok (.iastore, 1) := dk_79 (dk_at dksX5_drops_1 20 rfl rfl)
theorem dX5_drops_45 : decode cX5_drops 45 = .ok (.aload_n 0, 1) := dk_42 (dk_at dksX5_drops_1 21 rfl rfl)
theorem dX5_drops_46 : decode cX5_drops 46 = .ok (.getfield 15, 3) := dk_180 0 15 (dk_at dksX5_drops_2 0 rfl rfl)
theorem dX5_drops_49 : decode cX5_drops 49 = .ok (.iload_n 3, 1) := dk_29 (dk_at dksX5_drops_2 3 rfl rfl)
theorem dX5_drops_50 : decode cX5_drops 50 = .ok (.aload_n 0, 1) := dk_42 (dk_at dksX5_drops_2 4 rfl rfl)
theorem dX5_drops_51 : decode cX5_drops 51 = .ok (.getfield 15, 3) := dk_180 0 15 (dk_at dksX5_drops_2 5 rfl rfl)
theorem dX5_drops_54 : decode cX5_drops 54 = .ok (.iload_n 3, 1) := dk_29 (dk_at dksX5_drops_2 8 rfl rfl)
theorem dX5_drops_55 : decode cX5_drops 55 = .ok (.iconst 1, 1) := dk_4 (dk_at dksX5_drops_2 9 rfl rfl)
theorem dX5_drops_56 : decode cX5_drops 56 = .ok (.iadd, 1) := dk_96 (dk_at dksX5_drops_2 10 rfl rfl)
theorem dX5_drops_57 : decode cX5_drops 57 = .ok (.iaload, 1) := dk_46 (dk_at dksX5_drops_2 11 rfl rfl)
theorem dX5_drops_58 : decode cX5_drops 58 = .ok (.iastore, 1) := dk_79 (dk_at dksX5_drops_2 12 rfl rfl)
theorem dX5_drops_59 : decode cX5_drops 59 = .ok (.iinc 3 1, 3) := dk_132 3 1 (dk_at dksX5_drops_2 13 rfl rfl)
theorem dX5_drops_62 : decode cX5_drops 62 = .ok (.goto (-39), 3) := dk_167 255 217 (dk_at dksX5_drops_2 16 rfl rfl)
theorem dX5_drops_65 : decode cX5_drops 65 = .ok (.return_, 1) := dk_177 (dk_at dksX5_drops_2 19 rfl rfl)
abbrev cX5_ends : ByteArray := prog_9_method_9_code
def yX5_ends : MethodName := ⟨RX5, "ends", "(II)V"⟩
def dkwX5_ends_1 : List UInt8 := [180, 0, 22, 4, 100, 181, 0, 22, 167, 255, 224, 42, 27, 181, 0, 25, 42, 28, 181, 0, 28, 177]
abbrev dktX5_ends_1 : List UInt8 := dkwX5_ends_1 ++ []
def dkwX5_ends_0 : List UInt8 := [42, 180, 0, 22, 158, 0, 31, 42, 180, 0, 9, 42, 180, 0, 22, 4, 100, 46, 27, 161, 0, 16, 42, 89]
abbrev dktX5_ends_0 : List UInt8 := dkwX5_ends_0 ++ dktX5_ends_1
theorem dksX5_ends_0 : cX5_ends.data.toList.drop 0 = dktX5_ends_0 := by decide +kernel
theorem dksX5_ends_1 : cX5_ends.data.toList.drop 24 = dktX5_ends_1 := dk_seg dksX5_ends_0 24 rfl rfl
theorem dX5_ends_0 : decode cX5_ends 0 = .ok (.aload_n 0, 1) := dk_42 (dk_at dksX5_ends_0 0 rfl rfl)
theorem dX5_ends_1 : decode cX5_ends 1 = .ok (.getfield 22, 3) := dk_180 0 22 (dk_at dksX5_ends_0 1 rfl rfl)
theorem dX5_ends_4 : decode cX5_ends 4 = .ok (.ifCond .le 31, 3) := dk_158 0 31 (dk_at dksX5_ends_0 4 rfl rfl)
theorem dX5_ends_7 : decode cX5_ends 7 = .ok (.aload_n 0, 1) := dk_42 (dk_at dksX5_ends_0 7 rfl rfl)
theorem dX5_ends_8 : decode cX5_ends 8 = .ok (.getfield 9, 3) := dk_180 0 9 (dk_at dksX5_ends_0 8 rfl rfl)
theorem dX5_ends_11 : decode cX5_ends 11 = .ok (.aload_n 0, 1) := dk_42 (dk_at dksX5_ends_0 11 rfl rfl)
theorem dX5_ends_12 : decode cX5_ends 12 = .ok (.getfield 22, 3) := dk_180 0 22 (dk_at dksX5_ends_0 12 rfl rfl)
theorem dX5_ends_15 : decode cX5_ends 15 = .ok (.iconst 1, 1) := dk_4 (dk_at dksX5_ends_0 15 rfl rfl)
theorem dX5_ends_16 : decode cX5_ends 16 = .ok (.isub, 1) := dk_100 (dk_at dksX5_ends_0 16 rfl rfl)
theorem dX5_ends_17 : decode cX5_ends 17 = .ok (.iaload, 1) := dk_46 (dk_at dksX5_ends_0 17 rfl rfl)
theorem dX5_ends_18 : decode cX5_ends 18 = .ok (.iload_n 1, 1) := dk_27 (dk_at dksX5_ends_0 18 rfl rfl)
theorem dX5_ends_19 : decode cX5_ends 19 = .ok (.if_icmp .lt 16, 3) := dk_161 0 16 (dk_at dksX5_ends_0 19 rfl rfl)
theorem dX5_ends_22 : decode cX5_ends 22 = .ok (.aload_n 0, 1) := dk_42 (dk_at dksX5_ends_0 22 rfl rfl)
theorem dX5_ends_23 : decode cX5_ends 23 = .ok (.dup, 1) := dk_89 (dk_at dksX5_ends_0 23 rfl rfl)
theorem dX5_ends_24 : decode cX5_ends 24 = .ok (.getfield 22, 3) := dk_180 0 22 (dk_at dksX5_ends_1 0 rfl rfl)
theorem dX5_ends_27 : decode cX5_ends 27 = .ok (.iconst 1, 1) := dk_4 (dk_at dksX5_ends_1 3 rfl rfl)
theorem dX5_ends_28 : decode cX5_ends 28 = .ok (.isub, 1) := dk_100 (dk_at dksX5_ends_1 4 rfl rfl)
theorem dX5_ends_29 : decode cX5_ends 29 = .ok (.putfield 22, 3) := dk_181 0 22 (dk_at dksX5_ends_1 5 rfl rfl)
theorem dX5_ends_32 : decode cX5_ends 32 = .ok (.goto (-32), 3) := dk_167 255 224 (dk_at dksX5_ends_1 8 rfl rfl)
theorem dX5_ends_35 : decode cX5_ends 35 = .ok (.aload_n 0, 1) := dk_42 (dk_at dksX5_ends_1 11 rfl rfl)
theorem dX5_ends_36 : decode cX5_ends 36 = .ok (.iload_n 1, 1) := dk_27 (dk_at dksX5_ends_1 12 rfl rfl)
theorem dX5_ends_37 : decode cX5_ends 37 = .ok (.putfield 25, 3) := dk_181 0 25 (dk_at dksX5_ends_1 13 rfl rfl)
theorem dX5_ends_40 : decode cX5_ends 40 = .ok (.aload_n 0, 1) := dk_42 (dk_at dksX5_ends_1 16 rfl rfl)
theorem dX5_ends_41 : decode cX5_ends 41 = .ok (.iload_n 2, 1) := dk_28 (dk_at dksX5_ends_1 17 rfl rfl)
theorem dX5_ends_42 : decode cX5_ends 42 = .ok (.putfield 28, 3) := dk_181 0 28 (dk_at dksX5_ends_1 18 rfl rfl)
theorem dX5_ends_45 : decode cX5_ends 45 = .ok (.return_, 1) := dk_177 (dk_at dksX5_ends_1 21 rfl rfl)
abbrev cX5_joins : ByteArray := prog_9_method_10_code
def yX5_joins : MethodName := ⟨RX5, "joins", "(LDeltaIndex$Record;)V"⟩
def dkwX5_joins_2 : List UInt8 := [181, 0, 28, 177]
abbrev dktX5_joins_2 : List UInt8 := dkwX5_joins_2 ++ []
def dkwX5_joins_1 : List UInt8 := [182, 0, 62, 132, 2, 1, 167, 255, 229, 42, 43, 180, 0, 25, 181, 0, 25, 42, 43, 180, 0, 28]
abbrev dktX5_joins_1 : List UInt8 := dkwX5_joins_1 ++ dktX5_joins_2
def dkwX5_joins_0 : List UInt8 := [3, 61, 28, 43, 180, 0, 22, 162, 0, 25, 42, 43, 180, 0, 9, 28, 46, 43, 180, 0, 15, 28, 46]
abbrev dktX5_joins_0 : List UInt8 := dkwX5_joins_0 ++ dktX5_joins_1
theorem dksX5_joins_0 : cX5_joins.data.toList.drop 0 = dktX5_joins_0 := by decide +kernel
theorem dksX5_joins_1 : cX5_joins.data.toList.drop 23 = dktX5_joins_1 := dk_seg dksX5_joins_0 23 rfl rfl
theorem dksX5_joins_2 : cX5_joins.data.toList.drop 45 = dktX5_joins_2 := dk_seg dksX5_joins_1 22 rfl rfl
theorem dX5_joins_0 : decode cX5_joins 0 = .ok (.iconst 0, 1) := dk_3 (dk_at dksX5_joins_0 0 rfl rfl)
theorem dX5_joins_1 : decode cX5_joins 1 = .ok (.istore_n 2, 1) := dk_61 (dk_at dksX5_joins_0 1 rfl rfl)
theorem dX5_joins_2 : decode cX5_joins 2 = .ok (.iload_n 2, 1) := dk_28 (dk_at dksX5_joins_0 2 rfl rfl)
theorem dX5_joins_3 : decode cX5_joins 3 = .ok (.aload_n 1, 1) := dk_43 (dk_at dksX5_joins_0 3 rfl rfl)
theorem dX5_joins_4 : decode cX5_joins 4 = .ok (.getfield 22, 3) := dk_180 0 22 (dk_at dksX5_joins_0 4 rfl rfl)
theorem dX5_joins_7 : decode cX5_joins 7 = .ok (.if_icmp .ge 25, 3) := dk_162 0 25 (dk_at dksX5_joins_0 7 rfl rfl)
theorem dX5_joins_10 : decode cX5_joins 10 = .ok (.aload_n 0, 1) := dk_42 (dk_at dksX5_joins_0 10 rfl rfl)
theorem dX5_joins_11 : decode cX5_joins 11 = .ok (.aload_n 1, 1) := dk_43 (dk_at dksX5_joins_0 11 rfl rfl)
theorem dX5_joins_12 : decode cX5_joins 12 = .ok (.getfield 9, 3) := dk_180 0 9 (dk_at dksX5_joins_0 12 rfl rfl)
theorem dX5_joins_15 : decode cX5_joins 15 = .ok (.iload_n 2, 1) := dk_28 (dk_at dksX5_joins_0 15 rfl rfl)
theorem dX5_joins_16 : decode cX5_joins 16 = .ok (.iaload, 1) := dk_46 (dk_at dksX5_joins_0 16 rfl rfl)
theorem dX5_joins_17 : decode cX5_joins 17 = .ok (.aload_n 1, 1) := dk_43 (dk_at dksX5_joins_0 17 rfl rfl)
theorem dX5_joins_18 : decode cX5_joins 18 = .ok (.getfield 15, 3) := dk_180 0 15 (dk_at dksX5_joins_0 18 rfl rfl)
theorem dX5_joins_21 : decode cX5_joins 21 = .ok (.iload_n 2, 1) := dk_28 (dk_at dksX5_joins_0 21 rfl rfl)
theorem dX5_joins_22 : decode cX5_joins 22 = .ok (.iaload, 1) := dk_46 (dk_at dksX5_joins_0 22 rfl rfl)
theorem dX5_joins_23 : decode cX5_joins 23 = .ok (.invokevirtual 62, 3) := dk_182 0 62 (dk_at dksX5_joins_1 0 rfl rfl)
theorem dX5_joins_26 : decode cX5_joins 26 = .ok (.iinc 2 1, 3) := dk_132 2 1 (dk_at dksX5_joins_1 3 rfl rfl)
theorem dX5_joins_29 : decode cX5_joins 29 = .ok (.goto (-27), 3) := dk_167 255 229 (dk_at dksX5_joins_1 6 rfl rfl)
theorem dX5_joins_32 : decode cX5_joins 32 = .ok (.aload_n 0, 1) := dk_42 (dk_at dksX5_joins_1 9 rfl rfl)
theorem dX5_joins_33 : decode cX5_joins 33 = .ok (.aload_n 1, 1) := dk_43 (dk_at dksX5_joins_1 10 rfl rfl)
theorem dX5_joins_34 : decode cX5_joins 34 = .ok (.getfield 25, 3) := dk_180 0 25 (dk_at dksX5_joins_1 11 rfl rfl)
theorem dX5_joins_37 : decode cX5_joins 37 = .ok (.putfield 25, 3) := dk_181 0 25 (dk_at dksX5_joins_1 14 rfl rfl)
theorem dX5_joins_40 : decode cX5_joins 40 = .ok (.aload_n 0, 1) := dk_42 (dk_at dksX5_joins_1 17 rfl rfl)
theorem dX5_joins_41 : decode cX5_joins 41 = .ok (.aload_n 1, 1) := dk_43 (dk_at dksX5_joins_1 18 rfl rfl)
theorem dX5_joins_42 : decode cX5_joins 42 = .ok (.getfield 28, 3) := dk_180 0 28 (dk_at dksX5_joins_1 19 rfl rfl)
theorem dX5_joins_45 : decode cX5_joins 45 = .ok (.putfield 28, 3) := dk_181 0 28 (dk_at dksX5_joins_2 0 rfl rfl)
theorem dX5_joins_48 : decode cX5_joins 48 = .ok (.return_, 1) := dk_177 (dk_at dksX5_joins_2 3 rfl rfl)
abbrev cX5_upTo : ByteArray := prog_9_method_6_code
def yX5_upTo : MethodName := ⟨RX5, "upTo", "(I)I"⟩
def dkwX5_upTo_1 : List UInt8 := [167, 255, 239, 28, 172]
abbrev dktX5_upTo_1 : List UInt8 := dkwX5_upTo_1 ++ []
def dkwX5_upTo_0 : List UInt8 := [42, 180, 0, 22, 4, 100, 61, 28, 155, 0, 19, 42, 180, 0, 9, 28, 46, 27, 164, 0, 9, 132, 2, 255]
abbrev dktX5_upTo_0 : List UInt8 := dkwX5_upTo_0 ++ dktX5_upTo_1
theorem dksX5_upTo_0 : cX5_upTo.data.toList.drop 0 = dktX5_upTo_0 := by decide +kernel
theorem dksX5_upTo_1 : cX5_upTo.data.toList.drop 24 = dktX5_upTo_1 := dk_seg dksX5_upTo_0 24 rfl rfl
theorem dX5_upTo_0 : decode cX5_upTo 0 = .ok (.aload_n 0, 1) := dk_42 (dk_at dksX5_upTo_0 0 rfl rfl)
theorem dX5_upTo_1 : decode cX5_upTo 1 = .ok (.getfield 22, 3) := dk_180 0 22 (dk_at dksX5_upTo_0 1 rfl rfl)
theorem dX5_upTo_4 : decode cX5_upTo 4 = .ok (.iconst 1, 1) := dk_4 (dk_at dksX5_upTo_0 4 rfl rfl)
theorem dX5_upTo_5 : decode cX5_upTo 5 = .ok (.isub, 1) := dk_100 (dk_at dksX5_upTo_0 5 rfl rfl)
theorem dX5_upTo_6 : decode cX5_upTo 6 = .ok (.istore_n 2, 1) := dk_61 (dk_at dksX5_upTo_0 6 rfl rfl)
theorem dX5_upTo_7 : decode cX5_upTo 7 = .ok (.iload_n 2, 1) := dk_28 (dk_at dksX5_upTo_0 7 rfl rfl)
theorem dX5_upTo_8 : decode cX5_upTo 8 = .ok (.ifCond .lt 19, 3) := dk_155 0 19 (dk_at dksX5_upTo_0 8 rfl rfl)
theorem dX5_upTo_11 : decode cX5_upTo 11 = .ok (.aload_n 0, 1) := dk_42 (dk_at dksX5_upTo_0 11 rfl rfl)
theorem dX5_upTo_12 : decode cX5_upTo 12 = .ok (.getfield 9, 3) := dk_180 0 9 (dk_at dksX5_upTo_0 12 rfl rfl)
theorem dX5_upTo_15 : decode cX5_upTo 15 = .ok (.iload_n 2, 1) := dk_28 (dk_at dksX5_upTo_0 15 rfl rfl)
theorem dX5_upTo_16 : decode cX5_upTo 16 = .ok (.iaload, 1) := dk_46 (dk_at dksX5_upTo_0 16 rfl rfl)
theorem dX5_upTo_17 : decode cX5_upTo 17 = .ok (.iload_n 1, 1) := dk_27 (dk_at dksX5_upTo_0 17 rfl rfl)
theorem dX5_upTo_18 : decode cX5_upTo 18 = .ok (.if_icmp .le 9, 3) := dk_164 0 9 (dk_at dksX5_upTo_0 18 rfl rfl)
theorem dX5_upTo_21 : decode cX5_upTo 21 = .ok (.iinc 2 (-1), 3) := dk_132 2 255 (dk_at dksX5_upTo_0 21 rfl rfl)
theorem dX5_upTo_24 : decode cX5_upTo 24 = .ok (.goto (-17), 3) := dk_167 255 239 (dk_at dksX5_upTo_1 0 rfl rfl)
theorem dX5_upTo_27 : decode cX5_upTo 27 = .ok (.iload_n 2, 1) := dk_28 (dk_at dksX5_upTo_1 3 rfl rfl)
theorem dX5_upTo_28 : decode cX5_upTo 28 = .ok (.ireturn, 1) := dk_172 (dk_at dksX5_upTo_1 4 rfl rfl)
abbrev cX5_becomes : ByteArray := prog_9_method_3_code
def yX5_becomes : MethodName := ⟨RX5, "becomes", "(LDeltaIndex$Record;)V"⟩
def dkwX5_becomes_2 : List UInt8 := [181, 0, 46, 177]
abbrev dktX5_becomes_2 : List UInt8 := dkwX5_becomes_2 ++ []
def dkwX5_becomes_1 : List UInt8 := [182, 0, 54, 42, 43, 180, 0, 40, 181, 0, 40, 42, 43, 180, 0, 43, 181, 0, 43, 42, 43, 180, 0, 46]
abbrev dktX5_becomes_1 : List UInt8 := dkwX5_becomes_1 ++ dktX5_becomes_2
def dkwX5_becomes_0 : List UInt8 := [42, 43, 180, 0, 18, 43, 180, 0, 31, 43, 180, 0, 34, 43, 180, 0, 37, 182, 0, 50, 42, 43]
abbrev dktX5_becomes_0 : List UInt8 := dkwX5_becomes_0 ++ dktX5_becomes_1
theorem dksX5_becomes_0 : cX5_becomes.data.toList.drop 0 = dktX5_becomes_0 := by decide +kernel
theorem dksX5_becomes_1 : cX5_becomes.data.toList.drop 22 = dktX5_becomes_1 := dk_seg dksX5_becomes_0 22 rfl rfl
theorem dksX5_becomes_2 : cX5_becomes.data.toList.drop 46 = dktX5_becomes_2 := dk_seg dksX5_becomes_1 24 rfl rfl
theorem dX5_becomes_0 : decode cX5_becomes 0 = .ok (.aload_n 0, 1) := dk_42 (dk_at dksX5_becomes_0 0 rfl rfl)
theorem dX5_becomes_1 : decode cX5_becomes 1 = .ok (.aload_n 1, 1) := dk_43 (dk_at dksX5_becomes_0 1 rfl rfl)
theorem dX5_becomes_2 : decode cX5_becomes 2 = .ok (.getfield 18, 3) := dk_180 0 18 (dk_at dksX5_becomes_0 2 rfl rfl)
theorem dX5_becomes_5 : decode cX5_becomes 5 = .ok (.aload_n 1, 1) := dk_43 (dk_at dksX5_becomes_0 5 rfl rfl)
theorem dX5_becomes_6 : decode cX5_becomes 6 = .ok (.getfield 31, 3) := dk_180 0 31 (dk_at dksX5_becomes_0 6 rfl rfl)
theorem dX5_becomes_9 : decode cX5_becomes 9 = .ok (.aload_n 1, 1) := dk_43 (dk_at dksX5_becomes_0 9 rfl rfl)
theorem dX5_becomes_10 : decode cX5_becomes 10 = .ok (.getfield 34, 3) := dk_180 0 34 (dk_at dksX5_becomes_0 10 rfl rfl)
theorem dX5_becomes_13 : decode cX5_becomes 13 = .ok (.aload_n 1, 1) := dk_43 (dk_at dksX5_becomes_0 13 rfl rfl)
theorem dX5_becomes_14 : decode cX5_becomes 14 = .ok (.getfield 37, 3) := dk_180 0 37 (dk_at dksX5_becomes_0 14 rfl rfl)
theorem dX5_becomes_17 : decode cX5_becomes 17 = .ok (.invokevirtual 50, 3) := dk_182 0 50 (dk_at dksX5_becomes_0 17 rfl rfl)
theorem dX5_becomes_20 : decode cX5_becomes 20 = .ok (.aload_n 0, 1) := dk_42 (dk_at dksX5_becomes_0 20 rfl rfl)
theorem dX5_becomes_21 : decode cX5_becomes 21 = .ok (.aload_n 1, 1) := dk_43 (dk_at dksX5_becomes_0 21 rfl rfl)
theorem dX5_becomes_22 : decode cX5_becomes 22 = .ok (.invokevirtual 54, 3) := dk_182 0 54 (dk_at dksX5_becomes_1 0 rfl rfl)
theorem dX5_becomes_25 : decode cX5_becomes 25 = .ok (.aload_n 0, 1) := dk_42 (dk_at dksX5_becomes_1 3 rfl rfl)
theorem dX5_becomes_26 : decode cX5_becomes 26 = .ok (.aload_n 1, 1) := dk_43 (dk_at dksX5_becomes_1 4 rfl rfl)
theorem dX5_becomes_27 : decode cX5_becomes 27 = .ok (.getfield 40, 3) := dk_180 0 40 (dk_at dksX5_becomes_1 5 rfl rfl)
theorem dX5_becomes_30 : decode cX5_becomes 30 = .ok (.putfield 40, 3) := dk_181 0 40 (dk_at dksX5_becomes_1 8 rfl rfl)
theorem dX5_becomes_33 : decode cX5_becomes 33 = .ok (.aload_n 0, 1) := dk_42 (dk_at dksX5_becomes_1 11 rfl rfl)
theorem dX5_becomes_34 : decode cX5_becomes 34 = .ok (.aload_n 1, 1) := dk_43 (dk_at dksX5_becomes_1 12 rfl rfl)
theorem dX5_becomes_35 : decode cX5_becomes 35 = .ok (.getfield 43, 3) := dk_180 0 43 (dk_at dksX5_becomes_1 13 rfl rfl)
theorem dX5_becomes_38 : decode cX5_becomes 38 = .ok (.putfield 43, 3) := dk_181 0 43 (dk_at dksX5_becomes_1 16 rfl rfl)
theorem dX5_becomes_41 : decode cX5_becomes 41 = .ok (.aload_n 0, 1) := dk_42 (dk_at dksX5_becomes_1 19 rfl rfl)
theorem dX5_becomes_42 : decode cX5_becomes 42 = .ok (.aload_n 1, 1) := dk_43 (dk_at dksX5_becomes_1 20 rfl rfl)
theorem dX5_becomes_43 : decode cX5_becomes 43 = .ok (.getfield 46, 3) := dk_180 0 46 (dk_at dksX5_becomes_1 21 rfl rfl)
theorem dX5_becomes_46 : decode cX5_becomes 46 = .ok (.putfield 46, 3) := dk_181 0 46 (dk_at dksX5_becomes_2 0 rfl rfl)
theorem dX5_becomes_49 : decode cX5_becomes 49 = .ok (.return_, 1) := dk_177 (dk_at dksX5_becomes_2 3 rfl rfl)
theorem q151 : (Jvm.Cond.initialized "DeltaIndex$Record") ∈ lw_all := lw_g (lw_at lw_m1 9 rfl) rfl
theorem q359 : (Jvm.Cond.instantiable "DeltaIndex$Record" (12 : Nat)) ∈ lw_all := lw_g (lw_at lw_m1 217 rfl) rfl
theorem q361 : (Jvm.Cond.instanceMethod ({ cls := "DeltaIndex$Record", name := "<init>", desc := "()V" } : Jvm.MethodName)) ∈ lw_all := lw_g (lw_at lw_m1 219 rfl) rfl
theorem q362 : (Jvm.Cond.code ({ cls := "DeltaIndex$Record", name := "<init>", desc := "()V" } : Jvm.MethodName) prog_9_method_1_code (1 : Nat) (Option.none : Option Jvm.ClassFile.FieldType)) ∈ lw_all := lw_g (lw_at lw_m1 220 rfl) rfl
theorem q363 : (Jvm.Cond.methodLink "DeltaIndex$Record" (3 : Nat) ({ cls := "java/lang/Object", name := "<init>", desc := "()V" } : Jvm.MethodName)) ∈ lw_all := lw_g (lw_at lw_m1 221 rfl) rfl
theorem q364 : (Jvm.Cond.fieldLink "DeltaIndex$Record" (9 : Nat) "DeltaIndex$Record" "key" "[I") ∈ lw_all := lw_g (lw_at lw_m1 222 rfl) rfl
theorem q367 : (Jvm.Cond.fieldLink "DeltaIndex$Record" (15 : Nat) "DeltaIndex$Record" "val" "[I") ∈ lw_all := lw_g (lw_at lw_m1 225 rfl) rfl
theorem q370 : (Jvm.Cond.fieldLink "DeltaIndex$Record" (18 : Nat) "DeltaIndex$Record" "sort" "I") ∈ lw_all := lw_g (lw_at lw_m1 228 rfl) rfl
theorem q373 : (Jvm.Cond.fieldLink "DeltaIndex$Record" (22 : Nat) "DeltaIndex$Record" "many" "I") ∈ lw_all := lw_g (lw_at lw_m1 231 rfl) rfl
theorem q376 : (Jvm.Cond.fieldLink "DeltaIndex$Record" (25 : Nat) "DeltaIndex$Record" "high" "I") ∈ lw_all := lw_g (lw_at lw_m1 234 rfl) rfl
theorem q379 : (Jvm.Cond.fieldLink "DeltaIndex$Record" (28 : Nat) "DeltaIndex$Record" "right" "I") ∈ lw_all := lw_g (lw_at lw_m1 237 rfl) rfl
theorem q382 : (Jvm.Cond.fieldLink "DeltaIndex$Record" (31 : Nat) "DeltaIndex$Record" "own" "I") ∈ lw_all := lw_g (lw_at lw_m2 0 rfl) rfl
theorem q384 : (Jvm.Cond.fieldLink "DeltaIndex$Record" (34 : Nat) "DeltaIndex$Record" "page" "I") ∈ lw_all := lw_g (lw_at lw_m2 2 rfl) rfl
theorem q386 : (Jvm.Cond.fieldLink "DeltaIndex$Record" (37 : Nat) "DeltaIndex$Record" "next" "I") ∈ lw_all := lw_g (lw_at lw_m2 4 rfl) rfl
theorem q389 : (Jvm.Cond.fieldLink "DeltaIndex$Record" (40 : Nat) "DeltaIndex$Record" "base" "I") ∈ lw_all := lw_g (lw_at lw_m2 7 rfl) rfl
theorem q391 : (Jvm.Cond.fieldLink "DeltaIndex$Record" (43 : Nat) "DeltaIndex$Record" "retired" "I") ∈ lw_all := lw_g (lw_at lw_m2 9 rfl) rfl
theorem q394 : (Jvm.Cond.fieldLink "DeltaIndex$Record" (46 : Nat) "DeltaIndex$Record" "free" "Z") ∈ lw_all := lw_g (lw_at lw_m2 12 rfl) rfl
theorem q397 : (Jvm.Cond.laysFinal "DeltaIndex$Record" "DeltaIndex$Record" "key" "[I") ∈ lw_all := lw_g (lw_at lw_m2 15 rfl) rfl
theorem q398 : (Jvm.Cond.soleField "DeltaIndex$Record" "key") ∈ lw_all := lw_g (lw_at lw_m2 16 rfl) rfl
theorem q399 : (Jvm.Cond.laysFinal "DeltaIndex$Record" "DeltaIndex$Record" "val" "[I") ∈ lw_all := lw_g (lw_at lw_m2 17 rfl) rfl
theorem q400 : (Jvm.Cond.soleField "DeltaIndex$Record" "val") ∈ lw_all := lw_g (lw_at lw_m2 18 rfl) rfl
theorem q401 : (Jvm.Cond.lays "DeltaIndex$Record" "DeltaIndex$Record" "sort" "I") ∈ lw_all := lw_g (lw_at lw_m2 19 rfl) rfl
theorem q402 : (Jvm.Cond.soleField "DeltaIndex$Record" "sort") ∈ lw_all := lw_g (lw_at lw_m2 20 rfl) rfl
theorem q403 : (Jvm.Cond.lays "DeltaIndex$Record" "DeltaIndex$Record" "many" "I") ∈ lw_all := lw_g (lw_at lw_m2 21 rfl) rfl
theorem q404 : (Jvm.Cond.soleField "DeltaIndex$Record" "many") ∈ lw_all := lw_g (lw_at lw_m2 22 rfl) rfl
theorem q405 : (Jvm.Cond.lays "DeltaIndex$Record" "DeltaIndex$Record" "high" "I") ∈ lw_all := lw_g (lw_at lw_m2 23 rfl) rfl
theorem q406 : (Jvm.Cond.soleField "DeltaIndex$Record" "high") ∈ lw_all := lw_g (lw_at lw_m2 24 rfl) rfl
theorem q407 : (Jvm.Cond.lays "DeltaIndex$Record" "DeltaIndex$Record" "right" "I") ∈ lw_all := lw_g (lw_at lw_m2 25 rfl) rfl
theorem q408 : (Jvm.Cond.soleField "DeltaIndex$Record" "right") ∈ lw_all := lw_g (lw_at lw_m2 26 rfl) rfl
theorem q409 : (Jvm.Cond.lays "DeltaIndex$Record" "DeltaIndex$Record" "own" "I") ∈ lw_all := lw_g (lw_at lw_m2 27 rfl) rfl
theorem q410 : (Jvm.Cond.soleField "DeltaIndex$Record" "own") ∈ lw_all := lw_g (lw_at lw_m2 28 rfl) rfl
theorem q411 : (Jvm.Cond.lays "DeltaIndex$Record" "DeltaIndex$Record" "page" "I") ∈ lw_all := lw_g (lw_at lw_m2 29 rfl) rfl
theorem q412 : (Jvm.Cond.soleField "DeltaIndex$Record" "page") ∈ lw_all := lw_g (lw_at lw_m2 30 rfl) rfl
theorem q413 : (Jvm.Cond.lays "DeltaIndex$Record" "DeltaIndex$Record" "next" "I") ∈ lw_all := lw_g (lw_at lw_m2 31 rfl) rfl
theorem q414 : (Jvm.Cond.soleField "DeltaIndex$Record" "next") ∈ lw_all := lw_g (lw_at lw_m2 32 rfl) rfl
theorem q415 : (Jvm.Cond.lays "DeltaIndex$Record" "DeltaIndex$Record" "base" "I") ∈ lw_all := lw_g (lw_at lw_m2 33 rfl) rfl
theorem q416 : (Jvm.Cond.soleField "DeltaIndex$Record" "base") ∈ lw_all := lw_g (lw_at lw_m2 34 rfl) rfl
theorem q417 : (Jvm.Cond.lays "DeltaIndex$Record" "DeltaIndex$Record" "retired" "I") ∈ lw_all := lw_g (lw_at lw_m2 35 rfl) rfl
theorem q418 : (Jvm.Cond.soleField "DeltaIndex$Record" "retired") ∈ lw_all := lw_g (lw_at lw_m2 36 rfl) rfl
theorem q419 : (Jvm.Cond.lays "DeltaIndex$Record" "DeltaIndex$Record" "free" "Z") ∈ lw_all := lw_g (lw_at lw_m2 37 rfl) rfl
theorem q420 : (Jvm.Cond.soleField "DeltaIndex$Record" "free") ∈ lw_all := lw_g (lw_at lw_m2 38 rfl) rfl
theorem q421 : (Jvm.Cond.superclass "DeltaIndex$Record" "java/lang/Object") ∈ lw_all := lw_g (lw_at lw_m2 39 rfl) rfl
theorem q635 : (Jvm.Cond.instanceMethod ({ cls := "DeltaIndex$Record", name := "begins", desc := "(IIII)V" } : Jvm.MethodName)) ∈ lw_all := lw_g (lw_at lw_m3 13 rfl) rfl
theorem q636 : (Jvm.Cond.selects "DeltaIndex$Record" ({ cls := "DeltaIndex$Record", name := "begins", desc := "(IIII)V" } : Jvm.MethodName) ({ cls := "DeltaIndex$Record", name := "begins", desc := "(IIII)V" } : Jvm.MethodName)) ∈ lw_all := lw_g (lw_at lw_m3 14 rfl) rfl
theorem q637 : (Jvm.Cond.code ({ cls := "DeltaIndex$Record", name := "begins", desc := "(IIII)V" } : Jvm.MethodName) prog_9_method_2_code (5 : Nat) (Option.none : Option Jvm.ClassFile.FieldType)) ∈ lw_all := lw_g (lw_at lw_m3 15 rfl) rfl
theorem q639 : (Jvm.Cond.instanceMethod ({ cls := "DeltaIndex$Record", name := "sets", desc := "(II)V" } : Jvm.MethodName)) ∈ lw_all := lw_g (lw_at lw_m3 17 rfl) rfl
theorem q640 : (Jvm.Cond.selects "DeltaIndex$Record" ({ cls := "DeltaIndex$Record", name := "sets", desc := "(II)V" } : Jvm.MethodName) ({ cls := "DeltaIndex$Record", name := "sets", desc := "(II)V" } : Jvm.MethodName)) ∈ lw_all := lw_g (lw_at lw_m3 18 rfl) rfl
theorem q641 : (Jvm.Cond.code ({ cls := "DeltaIndex$Record", name := "sets", desc := "(II)V" } : Jvm.MethodName) prog_9_method_7_code (4 : Nat) (Option.none : Option Jvm.ClassFile.FieldType)) ∈ lw_all := lw_g (lw_at lw_m3 19 rfl) rfl
theorem q642 : (Jvm.Cond.methodLink "DeltaIndex$Record" (58 : Nat) ({ cls := "DeltaIndex$Record", name := "at", desc := "(I)I" } : Jvm.MethodName)) ∈ lw_all := lw_g (lw_at lw_m3 20 rfl) rfl
theorem q643 : (Jvm.Cond.instanceMethod ({ cls := "DeltaIndex$Record", name := "at", desc := "(I)I" } : Jvm.MethodName)) ∈ lw_all := lw_g (lw_at lw_m3 21 rfl) rfl
theorem q644 : (Jvm.Cond.selects "DeltaIndex$Record" ({ cls := "DeltaIndex$Record", name := "at", desc := "(I)I" } : Jvm.MethodName) ({ cls := "DeltaIndex$Record", name := "at", desc := "(I)I" } : Jvm.MethodName)) ∈ lw_all := lw_g (lw_at lw_m3 22 rfl) rfl
theorem q645 : (Jvm.Cond.code ({ cls := "DeltaIndex$Record", name := "at", desc := "(I)I" } : Jvm.MethodName) prog_9_method_5_code (3 : Nat) (Option.some Jvm.ClassFile.FieldType.int)) ∈ lw_all := lw_g (lw_at lw_m3 23 rfl) rfl
theorem q1238 : (Jvm.Cond.selects "DeltaIndex$Record" ({ cls := "java/lang/Object", name := "getClass", desc := "()Ljava/lang/Class;" } : Jvm.MethodName) ({ cls := "java/lang/Object", name := "getClass", desc := "()Ljava/lang/Class;" } : Jvm.MethodName)) ∈ lw_all := lw_g (lw_at lw_m5 136 rfl) rfl
theorem q1380 : (Jvm.Cond.instanceMethod ({ cls := "DeltaIndex$Record", name := "takes", desc := "(LDeltaIndex$Record;)V" } : Jvm.MethodName)) ∈ lw_all := lw_g (lw_at lw_m6 38 rfl) rfl
theorem q1381 : (Jvm.Cond.selects "DeltaIndex$Record" ({ cls := "DeltaIndex$Record", name := "takes", desc := "(LDeltaIndex$Record;)V" } : Jvm.MethodName) ({ cls := "DeltaIndex$Record", name := "takes", desc := "(LDeltaIndex$Record;)V" } : Jvm.MethodName)) ∈ lw_all := lw_g (lw_at lw_m6 39 rfl) rfl
theorem q1382 : (Jvm.Cond.code ({ cls := "DeltaIndex$Record", name := "takes", desc := "(LDeltaIndex$Record;)V" } : Jvm.MethodName) prog_9_method_4_code (3 : Nat) (Option.none : Option Jvm.ClassFile.FieldType)) ∈ lw_all := lw_g (lw_at lw_m6 40 rfl) rfl
theorem q1384 : (Jvm.Cond.instanceMethod ({ cls := "DeltaIndex$Record", name := "changes", desc := "(LDeltaIndex$Record;[LDeltaIndex$Record;)V" } : Jvm.MethodName)) ∈ lw_all := lw_g (lw_at lw_m6 42 rfl) rfl
theorem q1385 : (Jvm.Cond.selects "DeltaIndex$Record" ({ cls := "DeltaIndex$Record", name := "changes", desc := "(LDeltaIndex$Record;[LDeltaIndex$Record;)V" } : Jvm.MethodName) ({ cls := "DeltaIndex$Record", name := "changes", desc := "(LDeltaIndex$Record;[LDeltaIndex$Record;)V" } : Jvm.MethodName)) ∈ lw_all := lw_g (lw_at lw_m6 43 rfl) rfl
theorem q1386 : (Jvm.Cond.code ({ cls := "DeltaIndex$Record", name := "changes", desc := "(LDeltaIndex$Record;[LDeltaIndex$Record;)V" } : Jvm.MethodName) prog_9_method_11_code (3 : Nat) (Option.none : Option Jvm.ClassFile.FieldType)) ∈ lw_all := lw_g (lw_at lw_m6 44 rfl) rfl
theorem q1387 : (Jvm.Cond.methodLink "DeltaIndex$Record" (62 : Nat) ({ cls := "DeltaIndex$Record", name := "sets", desc := "(II)V" } : Jvm.MethodName)) ∈ lw_all := lw_g (lw_at lw_m6 45 rfl) rfl
theorem q1388 : (Jvm.Cond.methodLink "DeltaIndex$Record" (66 : Nat) ({ cls := "DeltaIndex$Record", name := "drops", desc := "(I)V" } : Jvm.MethodName)) ∈ lw_all := lw_g (lw_at lw_m6 46 rfl) rfl
theorem q1389 : (Jvm.Cond.instanceMethod ({ cls := "DeltaIndex$Record", name := "drops", desc := "(I)V" } : Jvm.MethodName)) ∈ lw_all := lw_g (lw_at lw_m6 47 rfl) rfl
theorem q1390 : (Jvm.Cond.selects "DeltaIndex$Record" ({ cls := "DeltaIndex$Record", name := "drops", desc := "(I)V" } : Jvm.MethodName) ({ cls := "DeltaIndex$Record", name := "drops", desc := "(I)V" } : Jvm.MethodName)) ∈ lw_all := lw_g (lw_at lw_m6 48 rfl) rfl
theorem q1391 : (Jvm.Cond.code ({ cls := "DeltaIndex$Record", name := "drops", desc := "(I)V" } : Jvm.MethodName) prog_9_method_8_code (4 : Nat) (Option.none : Option Jvm.ClassFile.FieldType)) ∈ lw_all := lw_g (lw_at lw_m6 49 rfl) rfl
theorem q1392 : (Jvm.Cond.methodLink "DeltaIndex$Record" (70 : Nat) ({ cls := "DeltaIndex$Record", name := "ends", desc := "(II)V" } : Jvm.MethodName)) ∈ lw_all := lw_g (lw_at lw_m6 50 rfl) rfl
theorem q1393 : (Jvm.Cond.instanceMethod ({ cls := "DeltaIndex$Record", name := "ends", desc := "(II)V" } : Jvm.MethodName)) ∈ lw_all := lw_g (lw_at lw_m6 51 rfl) rfl
theorem q1394 : (Jvm.Cond.selects "DeltaIndex$Record" ({ cls := "DeltaIndex$Record", name := "ends", desc := "(II)V" } : Jvm.MethodName) ({ cls := "DeltaIndex$Record", name := "ends", desc := "(II)V" } : Jvm.MethodName)) ∈ lw_all := lw_g (lw_at lw_m6 52 rfl) rfl
theorem q1395 : (Jvm.Cond.code ({ cls := "DeltaIndex$Record", name := "ends", desc := "(II)V" } : Jvm.MethodName) prog_9_method_9_code (3 : Nat) (Option.none : Option Jvm.ClassFile.FieldType)) ∈ lw_all := lw_g (lw_at lw_m6 53 rfl) rfl
theorem q1396 : (Jvm.Cond.methodLink "DeltaIndex$Record" (73 : Nat) ({ cls := "DeltaIndex$Record", name := "joins", desc := "(LDeltaIndex$Record;)V" } : Jvm.MethodName)) ∈ lw_all := lw_g (lw_at lw_m6 54 rfl) rfl
theorem q1397 : (Jvm.Cond.instanceMethod ({ cls := "DeltaIndex$Record", name := "joins", desc := "(LDeltaIndex$Record;)V" } : Jvm.MethodName)) ∈ lw_all := lw_g (lw_at lw_m6 55 rfl) rfl
theorem q1398 : (Jvm.Cond.selects "DeltaIndex$Record" ({ cls := "DeltaIndex$Record", name := "joins", desc := "(LDeltaIndex$Record;)V" } : Jvm.MethodName) ({ cls := "DeltaIndex$Record", name := "joins", desc := "(LDeltaIndex$Record;)V" } : Jvm.MethodName)) ∈ lw_all := lw_g (lw_at lw_m6 56 rfl) rfl
theorem q1399 : (Jvm.Cond.code ({ cls := "DeltaIndex$Record", name := "joins", desc := "(LDeltaIndex$Record;)V" } : Jvm.MethodName) prog_9_method_10_code (3 : Nat) (Option.none : Option Jvm.ClassFile.FieldType)) ∈ lw_all := lw_g (lw_at lw_m6 57 rfl) rfl
theorem q1430 : (Jvm.Cond.instanceMethod ({ cls := "DeltaIndex$Record", name := "upTo", desc := "(I)I" } : Jvm.MethodName)) ∈ lw_all := lw_g (lw_at lw_m6 88 rfl) rfl
theorem q1431 : (Jvm.Cond.selects "DeltaIndex$Record" ({ cls := "DeltaIndex$Record", name := "upTo", desc := "(I)I" } : Jvm.MethodName) ({ cls := "DeltaIndex$Record", name := "upTo", desc := "(I)I" } : Jvm.MethodName)) ∈ lw_all := lw_g (lw_at lw_m6 89 rfl) rfl
theorem q1432 : (Jvm.Cond.code ({ cls := "DeltaIndex$Record", name := "upTo", desc := "(I)I" } : Jvm.MethodName) prog_9_method_6_code (3 : Nat) (Option.some Jvm.ClassFile.FieldType.int)) ∈ lw_all := lw_g (lw_at lw_m6 90 rfl) rfl
theorem q1673 : (Jvm.Cond.instanceMethod ({ cls := "DeltaIndex$Record", name := "becomes", desc := "(LDeltaIndex$Record;)V" } : Jvm.MethodName)) ∈ lw_all := lw_g (lw_at lw_m7 91 rfl) rfl
theorem q1674 : (Jvm.Cond.selects "DeltaIndex$Record" ({ cls := "DeltaIndex$Record", name := "becomes", desc := "(LDeltaIndex$Record;)V" } : Jvm.MethodName) ({ cls := "DeltaIndex$Record", name := "becomes", desc := "(LDeltaIndex$Record;)V" } : Jvm.MethodName)) ∈ lw_all := lw_g (lw_at lw_m7 92 rfl) rfl
theorem q1675 : (Jvm.Cond.code ({ cls := "DeltaIndex$Record", name := "becomes", desc := "(LDeltaIndex$Record;)V" } : Jvm.MethodName) prog_9_method_3_code (2 : Nat) (Option.none : Option Jvm.ClassFile.FieldType)) ∈ lw_all := lw_g (lw_at lw_m7 93 rfl) rfl
theorem q1676 : (Jvm.Cond.methodLink "DeltaIndex$Record" (50 : Nat) ({ cls := "DeltaIndex$Record", name := "begins", desc := "(IIII)V" } : Jvm.MethodName)) ∈ lw_all := lw_g (lw_at lw_m7 94 rfl) rfl
theorem q1677 : (Jvm.Cond.methodLink "DeltaIndex$Record" (54 : Nat) ({ cls := "DeltaIndex$Record", name := "takes", desc := "(LDeltaIndex$Record;)V" } : Jvm.MethodName)) ∈ lw_all := lw_g (lw_at lw_m7 95 rfl) rfl
theorem q2357 : (Jvm.Cond.castable "DeltaIndex$Record" "java/lang/Object") ∈ lw_tbl := lw_at lw_m10 55 rfl
theorem in_X5 : ∀ w ∈ wsX50, w ∈ lw_all := lw_in wsX50 [397, 399, 401, 403, 405, 407, 409, 411, 413, 415, 417, 419] (by decide +kernel) (by decide +kernel)

/-! DeltaIndex$Hand -/
set_option maxRecDepth 100000
def RX6 : String := "DeltaIndex$Hand"
def TX6 : u_T := fun k => match k with
  | 0 => ("DeltaIndex$Hand", "act", "I", false)
  | 1 => ("DeltaIndex$Hand", "key", "I", false)
  | 2 => ("DeltaIndex$Hand", "value", "I", false)
  | 3 => ("DeltaIndex$Hand", "stage", "I", false)
  | 4 => ("DeltaIndex$Hand", "page", "I", false)
  | 5 => ("DeltaIndex$Hand", "saw", "I", false)
  | 6 => ("DeltaIndex$Hand", "base", "I", false)
  | 7 => ("DeltaIndex$Hand", "bound", "I", false)
  | 8 => ("DeltaIndex$Hand", "right", "I", false)
  | 9 => ("DeltaIndex$Hand", "victim", "I", false)
  | 10 => ("DeltaIndex$Hand", "beside", "I", false)
  | 11 => ("DeltaIndex$Hand", "lost", "I", false)
  | 12 => ("DeltaIndex$Hand", "steps", "I", false)
  | 13 => ("DeltaIndex$Hand", "epoch", "I", false)
  | 14 => ("DeltaIndex$Hand", "result", "I", false)
  | _ => ("DeltaIndex$Hand", "told", "Z", false)
def tyX6 : Nat → FieldType := fun k => match k with
  | 0 => .int
  | 1 => .int
  | 2 => .int
  | 3 => .int
  | 4 => .int
  | 5 => .int
  | 6 => .int
  | 7 => .int
  | 8 => .int
  | 9 => .int
  | 10 => .int
  | 11 => .int
  | 12 => .int
  | 13 => .int
  | 14 => .int
  | _ => .boolean
abbrev wsX60 : List Cond := u_ws RX6 TX6 16
set_option maxRecDepth 100000 in
theorem nmX6 : ∀ a, a < 16 → ∀ b, b < 16 → a ≠ b → (TX6 a).2.1 ≠ (TX6 b).2.1 := by decide +kernel
set_option maxRecDepth 100000 in
theorem tyX6_ok : ∀ k, k < 16 → parseFieldDescriptor (TX6 k).2.2.1 = some (tyX6 k) := by decide +kernel
abbrev cX6_init : ByteArray := prog_6_method_1_code
def yX6_init : MethodName := ⟨RX6, "<init>", "()V"⟩
theorem dX6_init_0 : decode cX6_init 0 = .ok (.aload_n 0, 1) := by decide +kernel
theorem dX6_init_1 : decode cX6_init 1 = .ok (.invokespecial 3, 3) := by decide +kernel
theorem dX6_init_4 : decode cX6_init 4 = .ok (.return_, 1) := by decide +kernel
abbrev cX6_begins : ByteArray := prog_6_method_2_code
def yX6_begins : MethodName := ⟨RX6, "begins", "()V"⟩
def dkwX6_begins_2 : List UInt8 := [177]
abbrev dktX6_begins_2 : List UInt8 := dkwX6_begins_2 ++ []
def dkwX6_begins_1 : List UInt8 := [181, 0, 24, 42, 3, 181, 0, 27, 42, 16, 254, 181, 0, 30, 42, 3, 181, 0, 33, 42, 3, 181, 0, 36]
abbrev dktX6_begins_1 : List UInt8 := dkwX6_begins_1 ++ dktX6_begins_2
def dkwX6_begins_0 : List UInt8 := [42, 3, 181, 0, 9, 42, 3, 181, 0, 15, 42, 16, 254, 181, 0, 18, 42, 16, 254, 181, 0, 21, 42, 3]
abbrev dktX6_begins_0 : List UInt8 := dkwX6_begins_0 ++ dktX6_begins_1
theorem dksX6_begins_0 : cX6_begins.data.toList.drop 0 = dktX6_begins_0 := by decide +kernel
theorem dksX6_begins_1 : cX6_begins.data.toList.drop 24 = dktX6_begins_1 := dk_seg dksX6_begins_0 24 rfl rfl
theorem dksX6_begins_2 : cX6_begins.data.toList.drop 48 = dktX6_begins_2 := dk_seg dksX6_begins_1 24 rfl rfl
theorem dX6_begins_0 : decode cX6_begins 0 = .ok (.aload_n 0, 1) := dk_42 (dk_at dksX6_begins_0 0 rfl rfl)
theorem dX6_begins_1 : decode cX6_begins 1 = .ok (.iconst 0, 1) := dk_3 (dk_at dksX6_begins_0 1 rfl rfl)
theorem dX6_begins_2 : decode cX6_begins 2 = .ok (.putfield 9, 3) := dk_181 0 9 (dk_at dksX6_begins_0 2 rfl rfl)
theorem dX6_begins_5 : decode cX6_begins 5 = .ok (.aload_n 0, 1) := dk_42 (dk_at dksX6_begins_0 5 rfl rfl)
theorem dX6_begins_6 : decode cX6_begins 6 = .ok (.iconst 0, 1) := dk_3 (dk_at dksX6_begins_0 6 rfl rfl)
theorem dX6_begins_7 : decode cX6_begins 7 = .ok (.putfield 15, 3) := dk_181 0 15 (dk_at dksX6_begins_0 7 rfl rfl)
theorem dX6_begins_10 : decode cX6_begins 10 = .ok (.aload_n 0, 1) := dk_42 (dk_at dksX6_begins_0 10 rfl rfl)
theorem dX6_begins_11 : decode cX6_begins 11 = .ok (.bipush (-2), 2) := dk_16 254 (dk_at dksX6_begins_0 11 rfl rfl)
theorem dX6_begins_13 : decode cX6_begins 13 = .ok (.putfield 18, 3) := dk_181 0 18 (dk_at dksX6_begins_0 13 rfl rfl)
theorem dX6_begins_16 : decode cX6_begins 16 = .ok (.aload_n 0, 1) := dk_42 (dk_at dksX6_begins_0 16 rfl rfl)
theorem dX6_begins_17 : decode cX6_begins 17 = .ok (.bipush (-2), 2) := dk_16 254 (dk_at dksX6_begins_0 17 rfl rfl)
theorem dX6_begins_19 : decode cX6_begins 19 = .ok (.putfield 21, 3) := dk_181 0 21 (dk_at dksX6_begins_0 19 rfl rfl)
theorem dX6_begins_22 : decode cX6_begins 22 = .ok (.aload_n 0, 1) := dk_42 (dk_at dksX6_begins_0 22 rfl rfl)
theorem dX6_begins_23 : decode cX6_begins 23 = .ok (.iconst 0, 1) := dk_3 (dk_at dksX6_begins_0 23 rfl rfl)
theorem dX6_begins_24 : decode cX6_begins 24 = .ok (.putfield 24, 3) := dk_181 0 24 (dk_at dksX6_begins_1 0 rfl rfl)
theorem dX6_begins_27 : decode cX6_begins 27 = .ok (.aload_n 0, 1) := dk_42 (dk_at dksX6_begins_1 3 rfl rfl)
theorem dX6_begins_28 : decode cX6_begins 28 = .ok (.iconst 0, 1) := dk_3 (dk_at dksX6_begins_1 4 rfl rfl)
theorem dX6_begins_29 : decode cX6_begins 29 = .ok (.putfield 27, 3) := dk_181 0 27 (dk_at dksX6_begins_1 5 rfl rfl)
theorem dX6_begins_32 : decode cX6_begins 32 = .ok (.aload_n 0, 1) := dk_42 (dk_at dksX6_begins_1 8 rfl rfl)
theorem dX6_begins_33 : decode cX6_begins 33 = .ok (.bipush (-2), 2) := dk_16 254 (dk_at dksX6_begins_1 9 rfl rfl)
theorem dX6_begins_35 : decode cX6_begins 35 = .ok (.putfield 30, 3) := dk_181 0 30 (dk_at dksX6_begins_1 11 rfl rfl)
theorem dX6_begins_38 : decode cX6_begins 38 = .ok (.aload_n 0, 1) := dk_42 (dk_at dksX6_begins_1 14 rfl rfl)
theorem dX6_begins_39 : decode cX6_begins 39 = .ok (.iconst 0, 1) := dk_3 (dk_at dksX6_begins_1 15 rfl rfl)
theorem dX6_begins_40 : decode cX6_begins 40 = .ok (.putfield 33, 3) := dk_181 0 33 (dk_at dksX6_begins_1 16 rfl rfl)
theorem dX6_begins_43 : decode cX6_begins 43 = .ok (.aload_n 0, 1) := dk_42 (dk_at dksX6_begins_1 19 rfl rfl)
theorem dX6_begins_44 : decode cX6_begins 44 = .ok (.iconst 0, 1) := dk_3 (dk_at dksX6_begins_1 20 rfl rfl)
theorem dX6_begins_45 : decode cX6_begins 45 = .ok (.putfield 36, 3) := dk_181 0 36 (dk_at dksX6_begins_1 21 rfl rfl)
theorem dX6_begins_48 : decode cX6_begins 48 = .ok (.return_, 1) := dk_177 (dk_at dksX6_begins_2 0 rfl rfl)
abbrev cX6_tells : ByteArray := prog_6_method_4_code
def yX6_tells : MethodName := ⟨RX6, "tells", "(I)I"⟩
def dkwX6_tells_0 : List UInt8 := [42, 27, 181, 0, 33, 42, 4, 181, 0, 36, 42, 182, 0, 61, 172]
abbrev dktX6_tells_0 : List UInt8 := dkwX6_tells_0 ++ []
theorem dksX6_tells_0 : cX6_tells.data.toList.drop 0 = dktX6_tells_0 := by decide +kernel
theorem dX6_tells_0 : decode cX6_tells 0 = .ok (.aload_n 0, 1) := dk_42 (dk_at dksX6_tells_0 0 rfl rfl)
theorem dX6_tells_1 : decode cX6_tells 1 = .ok (.iload_n 1, 1) := dk_27 (dk_at dksX6_tells_0 1 rfl rfl)
theorem dX6_tells_2 : decode cX6_tells 2 = .ok (.putfield 33, 3) := dk_181 0 33 (dk_at dksX6_tells_0 2 rfl rfl)
theorem dX6_tells_5 : decode cX6_tells 5 = .ok (.aload_n 0, 1) := dk_42 (dk_at dksX6_tells_0 5 rfl rfl)
theorem dX6_tells_6 : decode cX6_tells 6 = .ok (.iconst 1, 1) := dk_4 (dk_at dksX6_tells_0 6 rfl rfl)
theorem dX6_tells_7 : decode cX6_tells 7 = .ok (.putfield 36, 3) := dk_181 0 36 (dk_at dksX6_tells_0 7 rfl rfl)
theorem dX6_tells_10 : decode cX6_tells 10 = .ok (.aload_n 0, 1) := dk_42 (dk_at dksX6_tells_0 10 rfl rfl)
theorem dX6_tells_11 : decode cX6_tells 11 = .ok (.invokevirtual 61, 3) := dk_182 0 61 (dk_at dksX6_tells_0 11 rfl rfl)
theorem dX6_tells_14 : decode cX6_tells 14 = .ok (.ireturn, 1) := dk_172 (dk_at dksX6_tells_0 14 rfl rfl)
abbrev cX6_rests : ByteArray := prog_6_method_5_code
def yX6_rests : MethodName := ⟨RX6, "rests", "()I"⟩
def dkwX6_rests_0 : List UInt8 := [42, 16, 254, 181, 0, 30, 3, 172]
abbrev dktX6_rests_0 : List UInt8 := dkwX6_rests_0 ++ []
theorem dksX6_rests_0 : cX6_rests.data.toList.drop 0 = dktX6_rests_0 := by decide +kernel
theorem dX6_rests_0 : decode cX6_rests 0 = .ok (.aload_n 0, 1) := dk_42 (dk_at dksX6_rests_0 0 rfl rfl)
theorem dX6_rests_1 : decode cX6_rests 1 = .ok (.bipush (-2), 2) := dk_16 254 (dk_at dksX6_rests_0 1 rfl rfl)
theorem dX6_rests_3 : decode cX6_rests 3 = .ok (.putfield 30, 3) := dk_181 0 30 (dk_at dksX6_rests_0 3 rfl rfl)
theorem dX6_rests_6 : decode cX6_rests 6 = .ok (.iconst 0, 1) := dk_3 (dk_at dksX6_rests_0 6 rfl rfl)
theorem dX6_rests_7 : decode cX6_rests 7 = .ok (.ireturn, 1) := dk_172 (dk_at dksX6_rests_0 7 rfl rfl)
abbrev cX6_lost : ByteArray := prog_6_method_7_code
def yX6_lost : MethodName := ⟨RX6, "lost", "(I)I"⟩
def dkwX6_lost_0 : List UInt8 := [42, 89, 180, 0, 24, 4, 96, 181, 0, 24, 27, 172]
abbrev dktX6_lost_0 : List UInt8 := dkwX6_lost_0 ++ []
theorem dksX6_lost_0 : cX6_lost.data.toList.drop 0 = dktX6_lost_0 := by decide +kernel
theorem dX6_lost_0 : decode cX6_lost 0 = .ok (.aload_n 0, 1) := dk_42 (dk_at dksX6_lost_0 0 rfl rfl)
theorem dX6_lost_1 : decode cX6_lost 1 = .ok (.dup, 1) := dk_89 (dk_at dksX6_lost_0 1 rfl rfl)
theorem dX6_lost_2 : decode cX6_lost 2 = .ok (.getfield 24, 3) := dk_180 0 24 (dk_at dksX6_lost_0 2 rfl rfl)
theorem dX6_lost_5 : decode cX6_lost 5 = .ok (.iconst 1, 1) := dk_4 (dk_at dksX6_lost_0 5 rfl rfl)
theorem dX6_lost_6 : decode cX6_lost 6 = .ok (.iadd, 1) := dk_96 (dk_at dksX6_lost_0 6 rfl rfl)
theorem dX6_lost_7 : decode cX6_lost 7 = .ok (.putfield 24, 3) := dk_181 0 24 (dk_at dksX6_lost_0 7 rfl rfl)
theorem dX6_lost_10 : decode cX6_lost 10 = .ok (.iload_n 1, 1) := dk_27 (dk_at dksX6_lost_0 10 rfl rfl)
theorem dX6_lost_11 : decode cX6_lost 11 = .ok (.ireturn, 1) := dk_172 (dk_at dksX6_lost_0 11 rfl rfl)
abbrev cX6_goesOn : ByteArray := prog_6_method_6_code
def yX6_goesOn : MethodName := ⟨RX6, "goesOn", "()I"⟩
def dkwX6_goesOn_0 : List UInt8 := [42, 180, 0, 36, 153, 0, 10, 42, 182, 0, 61, 167, 0, 4, 4, 172]
abbrev dktX6_goesOn_0 : List UInt8 := dkwX6_goesOn_0 ++ []
theorem dksX6_goesOn_0 : cX6_goesOn.data.toList.drop 0 = dktX6_goesOn_0 := by decide +kernel
theorem dX6_goesOn_0 : decode cX6_goesOn 0 = .ok (.aload_n 0, 1) := dk_42 (dk_at dksX6_goesOn_0 0 rfl rfl)
theorem dX6_goesOn_1 : decode cX6_goesOn 1 = .ok (.getfield 36, 3) := dk_180 0 36 (dk_at dksX6_goesOn_0 1 rfl rfl)
theorem dX6_goesOn_4 : decode cX6_goesOn 4 = .ok (.ifCond .eq 10, 3) := dk_153 0 10 (dk_at dksX6_goesOn_0 4 rfl rfl)
theorem dX6_goesOn_7 : decode cX6_goesOn 7 = .ok (.aload_n 0, 1) := dk_42 (dk_at dksX6_goesOn_0 7 rfl rfl)
theorem dX6_goesOn_8 : decode cX6_goesOn 8 = .ok (.invokevirtual 61, 3) := dk_182 0 61 (dk_at dksX6_goesOn_0 8 rfl rfl)
theorem dX6_goesOn_11 : decode cX6_goesOn 11 = .ok (.goto 4, 3) := dk_167 0 4 (dk_at dksX6_goesOn_0 11 rfl rfl)
theorem dX6_goesOn_14 : decode cX6_goesOn 14 = .ok (.iconst 1, 1) := dk_4 (dk_at dksX6_goesOn_0 14 rfl rfl)
theorem dX6_goesOn_15 : decode cX6_goesOn 15 = .ok (.ireturn, 1) := dk_172 (dk_at dksX6_goesOn_0 15 rfl rfl)
abbrev cX6_becomes : ByteArray := prog_6_method_3_code
def yX6_becomes : MethodName := ⟨RX6, "becomes", "(LDeltaIndex$Hand;)V"⟩
def dkwX6_becomes_5 : List UInt8 := [42, 43, 180, 0, 36, 181, 0, 36, 177]
abbrev dktX6_becomes_5 : List UInt8 := dkwX6_becomes_5 ++ []
def dkwX6_becomes_4 : List UInt8 := [42, 43, 180, 0, 27, 181, 0, 27, 42, 43, 180, 0, 30, 181, 0, 30, 42, 43, 180, 0, 33, 181, 0, 33]
abbrev dktX6_becomes_4 : List UInt8 := dkwX6_becomes_4 ++ dktX6_becomes_5
def dkwX6_becomes_3 : List UInt8 := [42, 43, 180, 0, 55, 181, 0, 55, 42, 43, 180, 0, 58, 181, 0, 58, 42, 43, 180, 0, 24, 181, 0, 24]
abbrev dktX6_becomes_3 : List UInt8 := dkwX6_becomes_3 ++ dktX6_becomes_4
def dkwX6_becomes_2 : List UInt8 := [42, 43, 180, 0, 46, 181, 0, 46, 42, 43, 180, 0, 49, 181, 0, 49, 42, 43, 180, 0, 52, 181, 0, 52]
abbrev dktX6_becomes_2 : List UInt8 := dkwX6_becomes_2 ++ dktX6_becomes_3
def dkwX6_becomes_1 : List UInt8 := [42, 43, 180, 0, 15, 181, 0, 15, 42, 43, 180, 0, 18, 181, 0, 18, 42, 43, 180, 0, 43, 181, 0, 43]
abbrev dktX6_becomes_1 : List UInt8 := dkwX6_becomes_1 ++ dktX6_becomes_2
def dkwX6_becomes_0 : List UInt8 := [42, 43, 180, 0, 9, 181, 0, 9, 42, 43, 180, 0, 21, 181, 0, 21, 42, 43, 180, 0, 40, 181, 0, 40]
abbrev dktX6_becomes_0 : List UInt8 := dkwX6_becomes_0 ++ dktX6_becomes_1
theorem dksX6_becomes_0 : cX6_becomes.data.toList.drop 0 = dktX6_becomes_0 := by decide +kernel
theorem dksX6_becomes_1 : cX6_becomes.data.toList.drop 24 = dktX6_becomes_1 := dk_seg dksX6_becomes_0 24 rfl rfl
theorem dksX6_becomes_2 : cX6_becomes.data.toList.drop 48 = dktX6_becomes_2 := dk_seg dksX6_becomes_1 24 rfl rfl
theorem dksX6_becomes_3 : cX6_becomes.data.toList.drop 72 = dktX6_becomes_3 := dk_seg dksX6_becomes_2 24 rfl rfl
theorem dksX6_becomes_4 : cX6_becomes.data.toList.drop 96 = dktX6_becomes_4 := dk_seg dksX6_becomes_3 24 rfl rfl
theorem dksX6_becomes_5 : cX6_becomes.data.toList.drop 120 = dktX6_becomes_5 := dk_seg dksX6_becomes_4 24 rfl rfl
theorem dX6_becomes_0 : decode cX6_becomes 0 = .ok (.aload_n 0, 1) := dk_42 (dk_at dksX6_becomes_0 0 rfl rfl)
theorem dX6_becomes_1 : decode cX6_becomes 1 = .ok (.aload_n 1, 1) := dk_43 (dk_at dksX6_becomes_0 1 rfl rfl)
theorem dX6_becomes_2 : decode cX6_becomes 2 = .ok (.getfield 9, 3) := dk_180 0 9 (dk_at dksX6_becomes_0 2 rfl rfl)
theorem dX6_becomes_5 : decode cX6_becomes 5 = .ok (.putfield 9, 3) := dk_181 0 9 (dk_at dksX6_becomes_0 5 rfl rfl)
theorem dX6_becomes_8 : decode cX6_becomes 8 = .ok (.aload_n 0, 1) := dk_42 (dk_at dksX6_becomes_0 8 rfl rfl)
theorem dX6_becomes_9 : decode cX6_becomes 9 = .ok (.aload_n 1, 1) := dk_43 (dk_at dksX6_becomes_0 9 rfl rfl)
theorem dX6_becomes_10 : decode cX6_becomes 10 = .ok (.getfield 21, 3) := dk_180 0 21 (dk_at dksX6_becomes_0 10 rfl rfl)
theorem dX6_becomes_13 : decode cX6_becomes 13 = .ok (.putfield 21, 3) := dk_181 0 21 (dk_at dksX6_becomes_0 13 rfl rfl)
theorem dX6_becomes_16 : decode cX6_becomes 16 = .ok (.aload_n 0, 1) := dk_42 (dk_at dksX6_becomes_0 16 rfl rfl)
theorem dX6_becomes_17 : decode cX6_becomes 17 = .ok (.aload_n 1, 1) := dk_43 (dk_at dksX6_becomes_0 17 rfl rfl)
theorem dX6_becomes_18 : decode cX6_becomes 18 = .ok (.getfield 40, 3) := dk_180 0 40 (dk_at dksX6_becomes_0 18 rfl rfl)
theorem dX6_becomes_21 : decode cX6_becomes 21 = .ok (.putfield 40, 3) := dk_181 0 40 (dk_at dksX6_becomes_0 21 rfl rfl)
theorem dX6_becomes_24 : decode cX6_becomes 24 = .ok (.aload_n 0, 1) := dk_42 (dk_at dksX6_becomes_1 0 rfl rfl)
theorem dX6_becomes_25 : decode cX6_becomes 25 = .ok (.aload_n 1, 1) := dk_43 (dk_at dksX6_becomes_1 1 rfl rfl)
theorem dX6_becomes_26 : decode cX6_becomes 26 = .ok (.getfield 15, 3) := dk_180 0 15 (dk_at dksX6_becomes_1 2 rfl rfl)
theorem dX6_becomes_29 : decode cX6_becomes 29 = .ok (.putfield 15, 3) := dk_181 0 15 (dk_at dksX6_becomes_1 5 rfl rfl)
theorem dX6_becomes_32 : decode cX6_becomes 32 = .ok (.aload_n 0, 1) := dk_42 (dk_at dksX6_becomes_1 8 rfl rfl)
theorem dX6_becomes_33 : decode cX6_becomes 33 = .ok (.aload_n 1, 1) := dk_43 (dk_at dksX6_becomes_1 9 rfl rfl)
theorem dX6_becomes_34 : decode cX6_becomes 34 = .ok (.getfield 18, 3) := dk_180 0 18 (dk_at dksX6_becomes_1 10 rfl rfl)
theorem dX6_becomes_37 : decode cX6_becomes 37 = .ok (.putfield 18, 3) := dk_181 0 18 (dk_at dksX6_becomes_1 13 rfl rfl)
theorem dX6_becomes_40 : decode cX6_becomes 40 = .ok (.aload_n 0, 1) := dk_42 (dk_at dksX6_becomes_1 16 rfl rfl)
theorem dX6_becomes_41 : decode cX6_becomes 41 = .ok (.aload_n 1, 1) := dk_43 (dk_at dksX6_becomes_1 17 rfl rfl)
theorem dX6_becomes_42 : decode cX6_becomes 42 = .ok (.getfield 43, 3) := dk_180 0 43 (dk_at dksX6_becomes_1 18 rfl rfl)
theorem dX6_becomes_45 : decode cX6_becomes 45 = .ok (.putfield 43, 3) := dk_181 0 43 (dk_at dksX6_becomes_1 21 rfl rfl)
theorem dX6_becomes_48 : decode cX6_becomes 48 = .ok (.aload_n 0, 1) := dk_42 (dk_at dksX6_becomes_2 0 rfl rfl)
theorem dX6_becomes_49 : decode cX6_becomes 49 = .ok (.aload_n 1, 1) := dk_43 (dk_at dksX6_becomes_2 1 rfl rfl)
theorem dX6_becomes_50 : decode cX6_becomes 50 = .ok (.getfield 46, 3) := dk_180 0 46 (dk_at dksX6_becomes_2 2 rfl rfl)
theorem dX6_becomes_53 : decode cX6_becomes 53 = .ok (.putfield 46, 3) := dk_181 0 46 (dk_at dksX6_becomes_2 5 rfl rfl)
theorem dX6_becomes_56 : decode cX6_becomes 56 = .ok (.aload_n 0, 1) := dk_42 (dk_at dksX6_becomes_2 8 rfl rfl)
theorem dX6_becomes_57 : decode cX6_becomes 57 = .ok (.aload_n 1, 1) := dk_43 (dk_at dksX6_becomes_2 9 rfl rfl)
theorem dX6_becomes_58 : decode cX6_becomes 58 = .ok (.getfield 49, 3) := dk_180 0 49 (dk_at dksX6_becomes_2 10 rfl rfl)
theorem dX6_becomes_61 : decode cX6_becomes 61 = .ok (.putfield 49, 3) := dk_181 0 49 (dk_at dksX6_becomes_2 13 rfl rfl)
theorem dX6_becomes_64 : decode cX6_becomes 64 = .ok (.aload_n 0, 1) := dk_42 (dk_at dksX6_becomes_2 16 rfl rfl)
theorem dX6_becomes_65 : decode cX6_becomes 65 = .ok (.aload_n 1, 1) := dk_43 (dk_at dksX6_becomes_2 17 rfl rfl)
theorem dX6_becomes_66 : decode cX6_becomes 66 = .ok (.getfield 52, 3) := dk_180 0 52 (dk_at dksX6_becomes_2 18 rfl rfl)
theorem dX6_becomes_69 : decode cX6_becomes 69 = .ok (.putfield 52, 3) := dk_181 0 52 (dk_at dksX6_becomes_2 21 rfl rfl)
theorem dX6_becomes_72 : decode cX6_becomes 72 = .ok (.aload_n 0, 1) := dk_42 (dk_at dksX6_becomes_3 0 rfl rfl)
theorem dX6_becomes_73 : decode cX6_becomes 73 = .ok (.aload_n 1, 1) := dk_43 (dk_at dksX6_becomes_3 1 rfl rfl)
theorem dX6_becomes_74 : decode cX6_becomes 74 = .ok (.getfield 55, 3) := dk_180 0 55 (dk_at dksX6_becomes_3 2 rfl rfl)
theorem dX6_becomes_77 : decode cX6_becomes 77 = .ok (.putfield 55, 3) := dk_181 0 55 (dk_at dksX6_becomes_3 5 rfl rfl)
theorem dX6_becomes_80 : decode cX6_becomes 80 = .ok (.aload_n 0, 1) := dk_42 (dk_at dksX6_becomes_3 8 rfl rfl)
theorem dX6_becomes_81 : decode cX6_becomes 81 = .ok (.aload_n 1, 1) := dk_43 (dk_at dksX6_becomes_3 9 rfl rfl)
theorem dX6_becomes_82 : decode cX6_becomes 82 = .ok (.getfield 58, 3) := dk_180 0 58 (dk_at dksX6_becomes_3 10 rfl rfl)
theorem dX6_becomes_85 : decode cX6_becomes 85 = .ok (.putfield 58, 3) := dk_181 0 58 (dk_at dksX6_becomes_3 13 rfl rfl)
theorem dX6_becomes_88 : decode cX6_becomes 88 = .ok (.aload_n 0, 1) := dk_42 (dk_at dksX6_becomes_3 16 rfl rfl)
theorem dX6_becomes_89 : decode cX6_becomes 89 = .ok (.aload_n 1, 1) := dk_43 (dk_at dksX6_becomes_3 17 rfl rfl)
theorem dX6_becomes_90 : decode cX6_becomes 90 = .ok (.getfield 24, 3) := dk_180 0 24 (dk_at dksX6_becomes_3 18 rfl rfl)
theorem dX6_becomes_93 : decode cX6_becomes 93 = .ok (.putfield 24, 3) := dk_181 0 24 (dk_at dksX6_becomes_3 21 rfl rfl)
theorem dX6_becomes_96 : decode cX6_becomes 96 = .ok (.aload_n 0, 1) := dk_42 (dk_at dksX6_becomes_4 0 rfl rfl)
theorem dX6_becomes_97 : decode cX6_becomes 97 = .ok (.aload_n 1, 1) := dk_43 (dk_at dksX6_becomes_4 1 rfl rfl)
theorem dX6_becomes_98 : decode cX6_becomes 98 = .ok (.getfield 27, 3) := dk_180 0 27 (dk_at dksX6_becomes_4 2 rfl rfl)
theorem dX6_becomes_101 : decode cX6_becomes 101 = .ok (.putfield 27, 3) := dk_181 0 27 (dk_at dksX6_becomes_4 5 rfl rfl)
theorem dX6_becomes_104 : decode cX6_becomes 104 = .ok (.aload_n 0, 1) := dk_42 (dk_at dksX6_becomes_4 8 rfl rfl)
theorem dX6_becomes_105 : decode cX6_becomes 105 = .ok (.aload_n 1, 1) := dk_43 (dk_at dksX6_becomes_4 9 rfl rfl)
theorem dX6_becomes_106 : decode cX6_becomes 106 = .ok (.getfield 30, 3) := dk_180 0 30 (dk_at dksX6_becomes_4 10 rfl rfl)
theorem dX6_becomes_109 : decode cX6_becomes 109 = .ok (.putfield 30, 3) := dk_181 0 30 (dk_at dksX6_becomes_4 13 rfl rfl)
theorem dX6_becomes_112 : decode cX6_becomes 112 = .ok (.aload_n 0, 1) := dk_42 (dk_at dksX6_becomes_4 16 rfl rfl)
theorem dX6_becomes_113 : decode cX6_becomes 113 = .ok (.aload_n 1, 1) := dk_43 (dk_at dksX6_becomes_4 17 rfl rfl)
theorem dX6_becomes_114 : decode cX6_becomes 114 = .ok (.getfield 33, 3) := dk_180 0 33 (dk_at dksX6_becomes_4 18 rfl rfl)
theorem dX6_becomes_117 : decode cX6_becomes 117 = .ok (.putfield 33, 3) := dk_181 0 33 (dk_at dksX6_becomes_4 21 rfl rfl)
theorem dX6_becomes_120 : decode cX6_becomes 120 = .ok (.aload_n 0, 1) := dk_42 (dk_at dksX6_becomes_5 0 rfl rfl)
theorem dX6_becomes_121 : decode cX6_becomes 121 = .ok (.aload_n 1, 1) := dk_43 (dk_at dksX6_becomes_5 1 rfl rfl)
theorem dX6_becomes_122 : decode cX6_becomes 122 = .ok (.getfield 36, 3) := dk_180 0 36 (dk_at dksX6_becomes_5 2 rfl rfl)
theorem dX6_becomes_125 : decode cX6_becomes 125 = .ok (.putfield 36, 3) := dk_181 0 36 (dk_at dksX6_becomes_5 5 rfl rfl)
theorem dX6_becomes_128 : decode cX6_becomes 128 = .ok (.return_, 1) := dk_177 (dk_at dksX6_becomes_5 8 rfl rfl)
theorem q152 : (Jvm.Cond.initialized "DeltaIndex$Hand") ∈ lw_all := lw_g (lw_at lw_m1 10 rfl) rfl
theorem q423 : (Jvm.Cond.instantiable "DeltaIndex$Hand" (16 : Nat)) ∈ lw_all := lw_g (lw_at lw_m2 41 rfl) rfl
theorem q425 : (Jvm.Cond.instanceMethod ({ cls := "DeltaIndex$Hand", name := "<init>", desc := "()V" } : Jvm.MethodName)) ∈ lw_all := lw_g (lw_at lw_m2 43 rfl) rfl
theorem q426 : (Jvm.Cond.code ({ cls := "DeltaIndex$Hand", name := "<init>", desc := "()V" } : Jvm.MethodName) prog_6_method_1_code (1 : Nat) (Option.none : Option Jvm.ClassFile.FieldType)) ∈ lw_all := lw_g (lw_at lw_m2 44 rfl) rfl
theorem q427 : (Jvm.Cond.methodLink "DeltaIndex$Hand" (3 : Nat) ({ cls := "java/lang/Object", name := "<init>", desc := "()V" } : Jvm.MethodName)) ∈ lw_all := lw_g (lw_at lw_m2 45 rfl) rfl
theorem q428 : (Jvm.Cond.fieldLink "DeltaIndex$Hand" (9 : Nat) "DeltaIndex$Hand" "act" "I") ∈ lw_all := lw_g (lw_at lw_m2 46 rfl) rfl
theorem q431 : (Jvm.Cond.fieldLink "DeltaIndex$Hand" (21 : Nat) "DeltaIndex$Hand" "key" "I") ∈ lw_all := lw_g (lw_at lw_m2 49 rfl) rfl
theorem q434 : (Jvm.Cond.fieldLink "DeltaIndex$Hand" (40 : Nat) "DeltaIndex$Hand" "value" "I") ∈ lw_all := lw_g (lw_at lw_m2 52 rfl) rfl
theorem q436 : (Jvm.Cond.fieldLink "DeltaIndex$Hand" (15 : Nat) "DeltaIndex$Hand" "stage" "I") ∈ lw_all := lw_g (lw_at lw_m2 54 rfl) rfl
theorem q439 : (Jvm.Cond.fieldLink "DeltaIndex$Hand" (18 : Nat) "DeltaIndex$Hand" "page" "I") ∈ lw_all := lw_g (lw_at lw_m2 57 rfl) rfl
theorem q442 : (Jvm.Cond.fieldLink "DeltaIndex$Hand" (43 : Nat) "DeltaIndex$Hand" "saw" "I") ∈ lw_all := lw_g (lw_at lw_m2 60 rfl) rfl
theorem q444 : (Jvm.Cond.fieldLink "DeltaIndex$Hand" (46 : Nat) "DeltaIndex$Hand" "base" "I") ∈ lw_all := lw_g (lw_at lw_m2 62 rfl) rfl
theorem q446 : (Jvm.Cond.fieldLink "DeltaIndex$Hand" (49 : Nat) "DeltaIndex$Hand" "bound" "I") ∈ lw_all := lw_g (lw_at lw_m2 64 rfl) rfl
theorem q448 : (Jvm.Cond.fieldLink "DeltaIndex$Hand" (52 : Nat) "DeltaIndex$Hand" "right" "I") ∈ lw_all := lw_g (lw_at lw_m2 66 rfl) rfl
theorem q450 : (Jvm.Cond.fieldLink "DeltaIndex$Hand" (55 : Nat) "DeltaIndex$Hand" "victim" "I") ∈ lw_all := lw_g (lw_at lw_m2 68 rfl) rfl
theorem q452 : (Jvm.Cond.fieldLink "DeltaIndex$Hand" (58 : Nat) "DeltaIndex$Hand" "beside" "I") ∈ lw_all := lw_g (lw_at lw_m2 70 rfl) rfl
theorem q454 : (Jvm.Cond.fieldLink "DeltaIndex$Hand" (24 : Nat) "DeltaIndex$Hand" "lost" "I") ∈ lw_all := lw_g (lw_at lw_m2 72 rfl) rfl
theorem q457 : (Jvm.Cond.fieldLink "DeltaIndex$Hand" (27 : Nat) "DeltaIndex$Hand" "steps" "I") ∈ lw_all := lw_g (lw_at lw_m2 75 rfl) rfl
theorem q460 : (Jvm.Cond.fieldLink "DeltaIndex$Hand" (30 : Nat) "DeltaIndex$Hand" "epoch" "I") ∈ lw_all := lw_g (lw_at lw_m2 78 rfl) rfl
theorem q463 : (Jvm.Cond.fieldLink "DeltaIndex$Hand" (33 : Nat) "DeltaIndex$Hand" "result" "I") ∈ lw_all := lw_g (lw_at lw_m2 81 rfl) rfl
theorem q466 : (Jvm.Cond.fieldLink "DeltaIndex$Hand" (36 : Nat) "DeltaIndex$Hand" "told" "Z") ∈ lw_all := lw_g (lw_at lw_m2 84 rfl) rfl
theorem q468 : (Jvm.Cond.lays "DeltaIndex$Hand" "DeltaIndex$Hand" "act" "I") ∈ lw_all := lw_g (lw_at lw_m2 86 rfl) rfl
theorem q469 : (Jvm.Cond.soleField "DeltaIndex$Hand" "act") ∈ lw_all := lw_g (lw_at lw_m2 87 rfl) rfl
theorem q470 : (Jvm.Cond.lays "DeltaIndex$Hand" "DeltaIndex$Hand" "key" "I") ∈ lw_all := lw_g (lw_at lw_m2 88 rfl) rfl
theorem q471 : (Jvm.Cond.soleField "DeltaIndex$Hand" "key") ∈ lw_all := lw_g (lw_at lw_m2 89 rfl) rfl
theorem q472 : (Jvm.Cond.lays "DeltaIndex$Hand" "DeltaIndex$Hand" "value" "I") ∈ lw_all := lw_g (lw_at lw_m2 90 rfl) rfl
theorem q473 : (Jvm.Cond.soleField "DeltaIndex$Hand" "value") ∈ lw_all := lw_g (lw_at lw_m2 91 rfl) rfl
theorem q474 : (Jvm.Cond.lays "DeltaIndex$Hand" "DeltaIndex$Hand" "stage" "I") ∈ lw_all := lw_g (lw_at lw_m2 92 rfl) rfl
theorem q475 : (Jvm.Cond.soleField "DeltaIndex$Hand" "stage") ∈ lw_all := lw_g (lw_at lw_m2 93 rfl) rfl
theorem q476 : (Jvm.Cond.lays "DeltaIndex$Hand" "DeltaIndex$Hand" "page" "I") ∈ lw_all := lw_g (lw_at lw_m2 94 rfl) rfl
theorem q477 : (Jvm.Cond.soleField "DeltaIndex$Hand" "page") ∈ lw_all := lw_g (lw_at lw_m2 95 rfl) rfl
theorem q478 : (Jvm.Cond.lays "DeltaIndex$Hand" "DeltaIndex$Hand" "saw" "I") ∈ lw_all := lw_g (lw_at lw_m2 96 rfl) rfl
theorem q479 : (Jvm.Cond.soleField "DeltaIndex$Hand" "saw") ∈ lw_all := lw_g (lw_at lw_m2 97 rfl) rfl
theorem q480 : (Jvm.Cond.lays "DeltaIndex$Hand" "DeltaIndex$Hand" "base" "I") ∈ lw_all := lw_g (lw_at lw_m2 98 rfl) rfl
theorem q481 : (Jvm.Cond.soleField "DeltaIndex$Hand" "base") ∈ lw_all := lw_g (lw_at lw_m2 99 rfl) rfl
theorem q482 : (Jvm.Cond.lays "DeltaIndex$Hand" "DeltaIndex$Hand" "bound" "I") ∈ lw_all := lw_g (lw_at lw_m2 100 rfl) rfl
theorem q483 : (Jvm.Cond.soleField "DeltaIndex$Hand" "bound") ∈ lw_all := lw_g (lw_at lw_m2 101 rfl) rfl
theorem q484 : (Jvm.Cond.lays "DeltaIndex$Hand" "DeltaIndex$Hand" "right" "I") ∈ lw_all := lw_g (lw_at lw_m2 102 rfl) rfl
theorem q485 : (Jvm.Cond.soleField "DeltaIndex$Hand" "right") ∈ lw_all := lw_g (lw_at lw_m2 103 rfl) rfl
theorem q486 : (Jvm.Cond.lays "DeltaIndex$Hand" "DeltaIndex$Hand" "victim" "I") ∈ lw_all := lw_g (lw_at lw_m2 104 rfl) rfl
theorem q487 : (Jvm.Cond.soleField "DeltaIndex$Hand" "victim") ∈ lw_all := lw_g (lw_at lw_m2 105 rfl) rfl
theorem q488 : (Jvm.Cond.lays "DeltaIndex$Hand" "DeltaIndex$Hand" "beside" "I") ∈ lw_all := lw_g (lw_at lw_m2 106 rfl) rfl
theorem q489 : (Jvm.Cond.soleField "DeltaIndex$Hand" "beside") ∈ lw_all := lw_g (lw_at lw_m2 107 rfl) rfl
theorem q490 : (Jvm.Cond.lays "DeltaIndex$Hand" "DeltaIndex$Hand" "lost" "I") ∈ lw_all := lw_g (lw_at lw_m2 108 rfl) rfl
theorem q491 : (Jvm.Cond.soleField "DeltaIndex$Hand" "lost") ∈ lw_all := lw_g (lw_at lw_m2 109 rfl) rfl
theorem q492 : (Jvm.Cond.lays "DeltaIndex$Hand" "DeltaIndex$Hand" "steps" "I") ∈ lw_all := lw_g (lw_at lw_m2 110 rfl) rfl
theorem q493 : (Jvm.Cond.soleField "DeltaIndex$Hand" "steps") ∈ lw_all := lw_g (lw_at lw_m2 111 rfl) rfl
theorem q494 : (Jvm.Cond.lays "DeltaIndex$Hand" "DeltaIndex$Hand" "epoch" "I") ∈ lw_all := lw_g (lw_at lw_m2 112 rfl) rfl
theorem q495 : (Jvm.Cond.soleField "DeltaIndex$Hand" "epoch") ∈ lw_all := lw_g (lw_at lw_m2 113 rfl) rfl
theorem q496 : (Jvm.Cond.lays "DeltaIndex$Hand" "DeltaIndex$Hand" "result" "I") ∈ lw_all := lw_g (lw_at lw_m2 114 rfl) rfl
theorem q497 : (Jvm.Cond.soleField "DeltaIndex$Hand" "result") ∈ lw_all := lw_g (lw_at lw_m2 115 rfl) rfl
theorem q498 : (Jvm.Cond.lays "DeltaIndex$Hand" "DeltaIndex$Hand" "told" "Z") ∈ lw_all := lw_g (lw_at lw_m2 116 rfl) rfl
theorem q499 : (Jvm.Cond.soleField "DeltaIndex$Hand" "told") ∈ lw_all := lw_g (lw_at lw_m2 117 rfl) rfl
theorem q500 : (Jvm.Cond.superclass "DeltaIndex$Hand" "java/lang/Object") ∈ lw_all := lw_g (lw_at lw_m2 118 rfl) rfl
theorem q627 : (Jvm.Cond.instanceMethod ({ cls := "DeltaIndex$Hand", name := "begins", desc := "()V" } : Jvm.MethodName)) ∈ lw_all := lw_g (lw_at lw_m3 5 rfl) rfl
theorem q628 : (Jvm.Cond.selects "DeltaIndex$Hand" ({ cls := "DeltaIndex$Hand", name := "begins", desc := "()V" } : Jvm.MethodName) ({ cls := "DeltaIndex$Hand", name := "begins", desc := "()V" } : Jvm.MethodName)) ∈ lw_all := lw_g (lw_at lw_m3 6 rfl) rfl
theorem q629 : (Jvm.Cond.code ({ cls := "DeltaIndex$Hand", name := "begins", desc := "()V" } : Jvm.MethodName) prog_6_method_2_code (1 : Nat) (Option.none : Option Jvm.ClassFile.FieldType)) ∈ lw_all := lw_g (lw_at lw_m3 7 rfl) rfl
theorem q1235 : (Jvm.Cond.selects "DeltaIndex$Hand" ({ cls := "java/lang/Object", name := "getClass", desc := "()Ljava/lang/Class;" } : Jvm.MethodName) ({ cls := "java/lang/Object", name := "getClass", desc := "()Ljava/lang/Class;" } : Jvm.MethodName)) ∈ lw_all := lw_g (lw_at lw_m5 133 rfl) rfl
theorem q1451 : (Jvm.Cond.instanceMethod ({ cls := "DeltaIndex$Hand", name := "tells", desc := "(I)I" } : Jvm.MethodName)) ∈ lw_all := lw_g (lw_at lw_m6 109 rfl) rfl
theorem q1452 : (Jvm.Cond.selects "DeltaIndex$Hand" ({ cls := "DeltaIndex$Hand", name := "tells", desc := "(I)I" } : Jvm.MethodName) ({ cls := "DeltaIndex$Hand", name := "tells", desc := "(I)I" } : Jvm.MethodName)) ∈ lw_all := lw_g (lw_at lw_m6 110 rfl) rfl
theorem q1453 : (Jvm.Cond.code ({ cls := "DeltaIndex$Hand", name := "tells", desc := "(I)I" } : Jvm.MethodName) prog_6_method_4_code (2 : Nat) (Option.some Jvm.ClassFile.FieldType.int)) ∈ lw_all := lw_g (lw_at lw_m6 111 rfl) rfl
theorem q1454 : (Jvm.Cond.methodLink "DeltaIndex$Hand" (61 : Nat) ({ cls := "DeltaIndex$Hand", name := "rests", desc := "()I" } : Jvm.MethodName)) ∈ lw_all := lw_g (lw_at lw_m6 112 rfl) rfl
theorem q1455 : (Jvm.Cond.instanceMethod ({ cls := "DeltaIndex$Hand", name := "rests", desc := "()I" } : Jvm.MethodName)) ∈ lw_all := lw_g (lw_at lw_m6 113 rfl) rfl
theorem q1456 : (Jvm.Cond.selects "DeltaIndex$Hand" ({ cls := "DeltaIndex$Hand", name := "rests", desc := "()I" } : Jvm.MethodName) ({ cls := "DeltaIndex$Hand", name := "rests", desc := "()I" } : Jvm.MethodName)) ∈ lw_all := lw_g (lw_at lw_m6 114 rfl) rfl
theorem q1457 : (Jvm.Cond.code ({ cls := "DeltaIndex$Hand", name := "rests", desc := "()I" } : Jvm.MethodName) prog_6_method_5_code (1 : Nat) (Option.some Jvm.ClassFile.FieldType.int)) ∈ lw_all := lw_g (lw_at lw_m6 115 rfl) rfl
theorem q1468 : (Jvm.Cond.instanceMethod ({ cls := "DeltaIndex$Hand", name := "lost", desc := "(I)I" } : Jvm.MethodName)) ∈ lw_all := lw_g (lw_at lw_m6 126 rfl) rfl
theorem q1469 : (Jvm.Cond.selects "DeltaIndex$Hand" ({ cls := "DeltaIndex$Hand", name := "lost", desc := "(I)I" } : Jvm.MethodName) ({ cls := "DeltaIndex$Hand", name := "lost", desc := "(I)I" } : Jvm.MethodName)) ∈ lw_all := lw_g (lw_at lw_m6 127 rfl) rfl
theorem q1470 : (Jvm.Cond.code ({ cls := "DeltaIndex$Hand", name := "lost", desc := "(I)I" } : Jvm.MethodName) prog_6_method_7_code (2 : Nat) (Option.some Jvm.ClassFile.FieldType.int)) ∈ lw_all := lw_g (lw_at lw_m6 128 rfl) rfl
theorem q1477 : (Jvm.Cond.instanceMethod ({ cls := "DeltaIndex$Hand", name := "goesOn", desc := "()I" } : Jvm.MethodName)) ∈ lw_all := lw_g (lw_at lw_m6 135 rfl) rfl
theorem q1478 : (Jvm.Cond.selects "DeltaIndex$Hand" ({ cls := "DeltaIndex$Hand", name := "goesOn", desc := "()I" } : Jvm.MethodName) ({ cls := "DeltaIndex$Hand", name := "goesOn", desc := "()I" } : Jvm.MethodName)) ∈ lw_all := lw_g (lw_at lw_m6 136 rfl) rfl
theorem q1479 : (Jvm.Cond.code ({ cls := "DeltaIndex$Hand", name := "goesOn", desc := "()I" } : Jvm.MethodName) prog_6_method_6_code (1 : Nat) (Option.some Jvm.ClassFile.FieldType.int)) ∈ lw_all := lw_g (lw_at lw_m6 137 rfl) rfl
theorem q1680 : (Jvm.Cond.instanceMethod ({ cls := "DeltaIndex$Hand", name := "becomes", desc := "(LDeltaIndex$Hand;)V" } : Jvm.MethodName)) ∈ lw_all := lw_g (lw_at lw_m7 98 rfl) rfl
theorem q1681 : (Jvm.Cond.selects "DeltaIndex$Hand" ({ cls := "DeltaIndex$Hand", name := "becomes", desc := "(LDeltaIndex$Hand;)V" } : Jvm.MethodName) ({ cls := "DeltaIndex$Hand", name := "becomes", desc := "(LDeltaIndex$Hand;)V" } : Jvm.MethodName)) ∈ lw_all := lw_g (lw_at lw_m7 99 rfl) rfl
theorem q1682 : (Jvm.Cond.code ({ cls := "DeltaIndex$Hand", name := "becomes", desc := "(LDeltaIndex$Hand;)V" } : Jvm.MethodName) prog_6_method_3_code (2 : Nat) (Option.none : Option Jvm.ClassFile.FieldType)) ∈ lw_all := lw_g (lw_at lw_m7 100 rfl) rfl
theorem q2358 : (Jvm.Cond.castable "DeltaIndex$Hand" "java/lang/Object") ∈ lw_tbl := lw_at lw_m10 56 rfl
theorem in_X6 : ∀ w ∈ wsX60, w ∈ lw_all := lw_in wsX60 [468, 470, 472, 474, 476, 478, 480, 482, 484, 486, 488, 490, 492, 494, 496, 498] (by decide +kernel) (by decide +kernel)

/-! DeltaIndex$Text -/
set_option maxRecDepth 100000
def RX7 : String := "DeltaIndex$Text"
def TX7 : u_T := fun k => match k with
  | 0 => ("DeltaIndex$Text", "all", "LDeltaIndex$Rounds;", true)
  | 1 => ("DeltaIndex$Text", "chain", "I", false)
  | 2 => ("DeltaIndex$Text", "most", "I", false)
  | _ => ("DeltaIndex$Text", "least", "I", false)
def tyX7 : Nat → FieldType := fun k => match k with
  | 0 => .object "DeltaIndex$Rounds"
  | 1 => .int
  | 2 => .int
  | _ => .int
abbrev wsX70 : List Cond := u_ws RX7 TX7 4
theorem nmX7 : ∀ a, a < 4 → ∀ b, b < 4 → a ≠ b → (TX7 a).2.1 ≠ (TX7 b).2.1 := by decide +kernel
theorem tyX7_ok : ∀ k, k < 4 → parseFieldDescriptor (TX7 k).2.2.1 = some (tyX7 k) := by decide +kernel
abbrev cX7_init : ByteArray := prog_16_method_1_code
def yX7_init : MethodName := ⟨RX7, "<init>", "()V"⟩
def dkwX7_init_1 : List UInt8 := [181, 0, 22, 42, 5, 181, 0, 25, 177]
abbrev dktX7_init_1 : List UInt8 := dkwX7_init_1 ++ []
def dkwX7_init_0 : List UInt8 := [42, 183, 0, 1, 42, 187, 0, 7, 89, 4, 183, 0, 9, 181, 0, 12, 42, 6, 181, 0, 18, 42, 16, 6]
abbrev dktX7_init_0 : List UInt8 := dkwX7_init_0 ++ dktX7_init_1
theorem dksX7_init_0 : cX7_init.data.toList.drop 0 = dktX7_init_0 := by decide +kernel
theorem dksX7_init_1 : cX7_init.data.toList.drop 24 = dktX7_init_1 := dk_seg dksX7_init_0 24 rfl rfl
theorem dX7_init_0 : decode cX7_init 0 = .ok (.aload_n 0, 1) := dk_42 (dk_at dksX7_init_0 0 rfl rfl)
theorem dX7_init_1 : decode cX7_init 1 = .ok (.invokespecial 1, 3) := dk_183 0 1 (dk_at dksX7_init_0 1 rfl rfl)
theorem dX7_init_4 : decode cX7_init 4 = .ok (.aload_n 0, 1) := dk_42 (dk_at dksX7_init_0 4 rfl rfl)
theorem dX7_init_5 : decode cX7_init 5 = .ok (.new 7, 3) := dk_187 0 7 (dk_at dksX7_init_0 5 rfl rfl)
theorem dX7_init_8 : decode cX7_init 8 = .ok (.dup, 1) := dk_89 (dk_at dksX7_init_0 8 rfl rfl)
theorem dX7_init_9 : decode cX7_init 9 = .ok (.iconst 1, 1) := dk_4 (dk_at dksX7_init_0 9 rfl rfl)
theorem dX7_init_10 : decode cX7_init 10 = .ok (.invokespecial 9, 3) := dk_183 0 9 (dk_at dksX7_init_0 10 rfl rfl)
theorem dX7_init_13 : decode cX7_init 13 = .ok (.putfield 12, 3) := dk_181 0 12 (dk_at dksX7_init_0 13 rfl rfl)
theorem dX7_init_16 : decode cX7_init 16 = .ok (.aload_n 0, 1) := dk_42 (dk_at dksX7_init_0 16 rfl rfl)
theorem dX7_init_17 : decode cX7_init 17 = .ok (.iconst 3, 1) := dk_6 (dk_at dksX7_init_0 17 rfl rfl)
theorem dX7_init_18 : decode cX7_init 18 = .ok (.putfield 18, 3) := dk_181 0 18 (dk_at dksX7_init_0 18 rfl rfl)
theorem dX7_init_21 : decode cX7_init 21 = .ok (.aload_n 0, 1) := dk_42 (dk_at dksX7_init_0 21 rfl rfl)
theorem dX7_init_22 : decode cX7_init 22 = .ok (.bipush 6, 2) := dk_16 6 (dk_at dksX7_init_0 22 rfl rfl)
theorem dX7_init_24 : decode cX7_init 24 = .ok (.putfield 22, 3) := dk_181 0 22 (dk_at dksX7_init_1 0 rfl rfl)
theorem dX7_init_27 : decode cX7_init 27 = .ok (.aload_n 0, 1) := dk_42 (dk_at dksX7_init_1 3 rfl rfl)
theorem dX7_init_28 : decode cX7_init 28 = .ok (.iconst 2, 1) := dk_5 (dk_at dksX7_init_1 4 rfl rfl)
theorem dX7_init_29 : decode cX7_init 29 = .ok (.putfield 25, 3) := dk_181 0 25 (dk_at dksX7_init_1 5 rfl rfl)
theorem dX7_init_32 : decode cX7_init 32 = .ok (.return_, 1) := dk_177 (dk_at dksX7_init_1 8 rfl rfl)
theorem q153 : (Jvm.Cond.initialized "DeltaIndex$Text") ∈ lw_all := lw_g (lw_at lw_m1 11 rfl) rfl
theorem q555 : (Jvm.Cond.instantiable "DeltaIndex$Text" (4 : Nat)) ∈ lw_all := lw_g (lw_at lw_m2 173 rfl) rfl
theorem q557 : (Jvm.Cond.instanceMethod ({ cls := "DeltaIndex$Text", name := "<init>", desc := "()V" } : Jvm.MethodName)) ∈ lw_all := lw_g (lw_at lw_m2 175 rfl) rfl
theorem q558 : (Jvm.Cond.code ({ cls := "DeltaIndex$Text", name := "<init>", desc := "()V" } : Jvm.MethodName) prog_16_method_1_code (1 : Nat) (Option.none : Option Jvm.ClassFile.FieldType)) ∈ lw_all := lw_g (lw_at lw_m2 176 rfl) rfl
theorem q559 : (Jvm.Cond.methodLink "DeltaIndex$Text" (1 : Nat) ({ cls := "java/lang/Object", name := "<init>", desc := "()V" } : Jvm.MethodName)) ∈ lw_all := lw_g (lw_at lw_m2 177 rfl) rfl
theorem q560 : (Jvm.Cond.classLink "DeltaIndex$Text" (7 : Nat) "DeltaIndex$Rounds") ∈ lw_all := lw_g (lw_at lw_m2 178 rfl) rfl
theorem q562 : (Jvm.Cond.methodLink "DeltaIndex$Text" (9 : Nat) ({ cls := "DeltaIndex$Rounds", name := "<init>", desc := "(I)V" } : Jvm.MethodName)) ∈ lw_all := lw_g (lw_at lw_m2 180 rfl) rfl
theorem q601 : (Jvm.Cond.fieldLink "DeltaIndex$Text" (12 : Nat) "DeltaIndex$Text" "all" "LDeltaIndex$Rounds;") ∈ lw_all := lw_g (lw_at lw_m2 219 rfl) rfl
theorem q604 : (Jvm.Cond.fieldLink "DeltaIndex$Text" (18 : Nat) "DeltaIndex$Text" "chain" "I") ∈ lw_all := lw_g (lw_at lw_m2 222 rfl) rfl
theorem q607 : (Jvm.Cond.fieldLink "DeltaIndex$Text" (22 : Nat) "DeltaIndex$Text" "most" "I") ∈ lw_all := lw_g (lw_at lw_m2 225 rfl) rfl
theorem q610 : (Jvm.Cond.fieldLink "DeltaIndex$Text" (25 : Nat) "DeltaIndex$Text" "least" "I") ∈ lw_all := lw_g (lw_at lw_m2 228 rfl) rfl
theorem q613 : (Jvm.Cond.laysFinal "DeltaIndex$Text" "DeltaIndex$Text" "all" "LDeltaIndex$Rounds;") ∈ lw_all := lw_g (lw_at lw_m2 231 rfl) rfl
theorem q614 : (Jvm.Cond.soleField "DeltaIndex$Text" "all") ∈ lw_all := lw_g (lw_at lw_m2 232 rfl) rfl
theorem q615 : (Jvm.Cond.lays "DeltaIndex$Text" "DeltaIndex$Text" "chain" "I") ∈ lw_all := lw_g (lw_at lw_m2 233 rfl) rfl
theorem q616 : (Jvm.Cond.soleField "DeltaIndex$Text" "chain") ∈ lw_all := lw_g (lw_at lw_m2 234 rfl) rfl
theorem q617 : (Jvm.Cond.lays "DeltaIndex$Text" "DeltaIndex$Text" "most" "I") ∈ lw_all := lw_g (lw_at lw_m2 235 rfl) rfl
theorem q618 : (Jvm.Cond.soleField "DeltaIndex$Text" "most") ∈ lw_all := lw_g (lw_at lw_m2 236 rfl) rfl
theorem q619 : (Jvm.Cond.lays "DeltaIndex$Text" "DeltaIndex$Text" "least" "I") ∈ lw_all := lw_g (lw_at lw_m2 237 rfl) rfl
theorem q620 : (Jvm.Cond.soleField "DeltaIndex$Text" "least") ∈ lw_all := lw_g (lw_at lw_m2 238 rfl) rfl
theorem q621 : (Jvm.Cond.superclass "DeltaIndex$Text" "java/lang/Object") ∈ lw_all := lw_g (lw_at lw_m2 239 rfl) rfl
theorem q1243 : (Jvm.Cond.selects "DeltaIndex$Text" ({ cls := "java/lang/Object", name := "getClass", desc := "()Ljava/lang/Class;" } : Jvm.MethodName) ({ cls := "java/lang/Object", name := "getClass", desc := "()Ljava/lang/Class;" } : Jvm.MethodName)) ∈ lw_all := lw_g (lw_at lw_m5 141 rfl) rfl
theorem q2364 : (Jvm.Cond.castable "DeltaIndex$Text" "java/lang/Object") ∈ lw_tbl := lw_at lw_m10 62 rfl
theorem in_X7 : ∀ w ∈ wsX70, w ∈ lw_all := lw_in wsX70 [613, 615, 617, 619] (by decide +kernel) (by decide +kernel)

/-! DeltaIndex$Rounds -/
set_option maxRecDepth 100000
def RX8 : String := "DeltaIndex$Rounds"
def TX8 : u_T := fun k => match k with
  | 0 => ("DeltaIndex$Rounds", "tells", "Ljava/util/ArrayList;", true)
  | _ => ("DeltaIndex$Rounds", "many", "I", true)
def tyX8 : Nat → FieldType := fun k => match k with
  | 0 => .object "java/util/ArrayList"
  | _ => .int
abbrev wsX80 : List Cond := u_ws RX8 TX8 2
theorem nmX8 : ∀ a, a < 2 → ∀ b, b < 2 → a ≠ b → (TX8 a).2.1 ≠ (TX8 b).2.1 := by decide +kernel
theorem tyX8_ok : ∀ k, k < 2 → parseFieldDescriptor (TX8 k).2.2.1 = some (tyX8 k) := by decide +kernel
abbrev cX8_init : ByteArray := prog_10_method_1_code
def yX8_init : MethodName := ⟨RX8, "<init>", "(I)V"⟩
def dkwX8_init_0 : List UInt8 := [42, 183, 0, 1, 42, 187, 0, 7, 89, 183, 0, 9, 181, 0, 10, 42, 27, 181, 0, 16, 177]
abbrev dktX8_init_0 : List UInt8 := dkwX8_init_0 ++ []
theorem dksX8_init_0 : cX8_init.data.toList.drop 0 = dktX8_init_0 := by decide +kernel
theorem dX8_init_0 : decode cX8_init 0 = .ok (.aload_n 0, 1) := dk_42 (dk_at dksX8_init_0 0 rfl rfl)
theorem dX8_init_1 : decode cX8_init 1 = .ok (.invokespecial 1, 3) := dk_183 0 1 (dk_at dksX8_init_0 1 rfl rfl)
theorem dX8_init_4 : decode cX8_init 4 = .ok (.aload_n 0, 1) := dk_42 (dk_at dksX8_init_0 4 rfl rfl)
theorem dX8_init_5 : decode cX8_init 5 = .ok (.new 7, 3) := dk_187 0 7 (dk_at dksX8_init_0 5 rfl rfl)
theorem dX8_init_8 : decode cX8_init 8 = .ok (.dup, 1) := dk_89 (dk_at dksX8_init_0 8 rfl rfl)
theorem dX8_init_9 : decode cX8_init 9 = .ok (.invokespecial 9, 3) := dk_183 0 9 (dk_at dksX8_init_0 9 rfl rfl)
theorem dX8_init_12 : decode cX8_init 12 = .ok (.putfield 10, 3) := dk_181 0 10 (dk_at dksX8_init_0 12 rfl rfl)
theorem dX8_init_15 : decode cX8_init 15 = .ok (.aload_n 0, 1) := dk_42 (dk_at dksX8_init_0 15 rfl rfl)
theorem dX8_init_16 : decode cX8_init 16 = .ok (.iload_n 1, 1) := dk_27 (dk_at dksX8_init_0 16 rfl rfl)
theorem dX8_init_17 : decode cX8_init 17 = .ok (.putfield 16, 3) := dk_181 0 16 (dk_at dksX8_init_0 17 rfl rfl)
theorem dX8_init_20 : decode cX8_init 20 = .ok (.return_, 1) := dk_177 (dk_at dksX8_init_0 20 rfl rfl)
abbrev cX8_all : ByteArray := prog_10_method_4_code
def yX8_all : MethodName := ⟨RX8, "all", "(LDeltaIndex$Run;)V"⟩
def dkwX8_all_2 : List UInt8 := [43, 185, 0, 53, 2, 0, 132, 2, 1, 167, 255, 201, 177]
abbrev dktX8_all_2 : List UInt8 := dkwX8_all_2 ++ []
def dkwX8_all_1 : List UInt8 := [28, 182, 0, 41, 192, 0, 45, 78, 43, 89, 180, 0, 47, 45, 185, 0, 50, 1, 0, 96, 181, 0, 47, 45]
abbrev dktX8_all_1 : List UInt8 := dkwX8_all_1 ++ dktX8_all_2
def dkwX8_all_0 : List UInt8 := [3, 61, 28, 42, 180, 0, 10, 182, 0, 37, 162, 0, 50, 43, 182, 0, 25, 154, 0, 43, 42, 180, 0, 10]
abbrev dktX8_all_0 : List UInt8 := dkwX8_all_0 ++ dktX8_all_1
theorem dksX8_all_0 : cX8_all.data.toList.drop 0 = dktX8_all_0 := by decide +kernel
theorem dksX8_all_1 : cX8_all.data.toList.drop 24 = dktX8_all_1 := dk_seg dksX8_all_0 24 rfl rfl
theorem dksX8_all_2 : cX8_all.data.toList.drop 48 = dktX8_all_2 := dk_seg dksX8_all_1 24 rfl rfl
theorem dX8_all_0 : decode cX8_all 0 = .ok (.iconst 0, 1) := dk_3 (dk_at dksX8_all_0 0 rfl rfl)
theorem dX8_all_1 : decode cX8_all 1 = .ok (.istore_n 2, 1) := dk_61 (dk_at dksX8_all_0 1 rfl rfl)
theorem dX8_all_2 : decode cX8_all 2 = .ok (.iload_n 2, 1) := dk_28 (dk_at dksX8_all_0 2 rfl rfl)
theorem dX8_all_3 : decode cX8_all 3 = .ok (.aload_n 0, 1) := dk_42 (dk_at dksX8_all_0 3 rfl rfl)
theorem dX8_all_4 : decode cX8_all 4 = .ok (.getfield 10, 3) := dk_180 0 10 (dk_at dksX8_all_0 4 rfl rfl)
theorem dX8_all_7 : decode cX8_all 7 = .ok (.invokevirtual 37, 3) := dk_182 0 37 (dk_at dksX8_all_0 7 rfl rfl)
theorem dX8_all_10 : decode cX8_all 10 = .ok (.if_icmp .ge 50, 3) := dk_162 0 50 (dk_at dksX8_all_0 10 rfl rfl)
theorem dX8_all_13 : decode cX8_all 13 = .ok (.aload_n 1, 1) := dk_43 (dk_at dksX8_all_0 13 rfl rfl)
theorem dX8_all_14 : decode cX8_all 14 = .ok (.invokevirtual 25, 3) := dk_182 0 25 (dk_at dksX8_all_0 14 rfl rfl)
theorem dX8_all_17 : decode cX8_all 17 = .ok (.ifCond .ne 43, 3) := dk_154 0 43 (dk_at dksX8_all_0 17 rfl rfl)
theorem dX8_all_20 : decode cX8_all 20 = .ok (.aload_n 0, 1) := dk_42 (dk_at dksX8_all_0 20 rfl rfl)
theorem dX8_all_21 : decode cX8_all 21 = .ok (.getfield 10, 3) := dk_180 0 10 (dk_at dksX8_all_0 21 rfl rfl)
theorem dX8_all_24 : decode cX8_all 24 = .ok (.iload_n 2, 1) := dk_28 (dk_at dksX8_all_1 0 rfl rfl)
theorem dX8_all_25 : decode cX8_all 25 = .ok (.invokevirtual 41, 3) := dk_182 0 41 (dk_at dksX8_all_1 1 rfl rfl)
theorem dX8_all_28 : decode cX8_all 28 = .ok (.checkcast 45, 3) := dk_192 0 45 (dk_at dksX8_all_1 4 rfl rfl)
theorem dX8_all_31 : decode cX8_all 31 = .ok (.astore_n 3, 1) := dk_78 (dk_at dksX8_all_1 7 rfl rfl)
theorem dX8_all_32 : decode cX8_all 32 = .ok (.aload_n 1, 1) := dk_43 (dk_at dksX8_all_1 8 rfl rfl)
theorem dX8_all_33 : decode cX8_all 33 = .ok (.dup, 1) := dk_89 (dk_at dksX8_all_1 9 rfl rfl)
theorem dX8_all_34 : decode cX8_all 34 = .ok (.getfield 47, 3) := dk_180 0 47 (dk_at dksX8_all_1 10 rfl rfl)
theorem dX8_all_37 : decode cX8_all 37 = .ok (.aload_n 3, 1) := dk_45 (dk_at dksX8_all_1 13 rfl rfl)
theorem dX8_all_38 : decode cX8_all 38 = .ok (.invokeinterface 50 1, 5) := by decide +kernel
theorem dX8_all_43 : decode cX8_all 43 = .ok (.iadd, 1) := dk_96 (dk_at dksX8_all_1 19 rfl rfl)
theorem dX8_all_44 : decode cX8_all 44 = .ok (.putfield 47, 3) := dk_181 0 47 (dk_at dksX8_all_1 20 rfl rfl)
theorem dX8_all_47 : decode cX8_all 47 = .ok (.aload_n 3, 1) := dk_45 (dk_at dksX8_all_1 23 rfl rfl)
theorem dX8_all_48 : decode cX8_all 48 = .ok (.aload_n 1, 1) := dk_43 (dk_at dksX8_all_2 0 rfl rfl)
theorem dX8_all_49 : decode cX8_all 49 = .ok (.invokeinterface 53 2, 5) := by decide +kernel
theorem dX8_all_54 : decode cX8_all 54 = .ok (.iinc 2 1, 3) := dk_132 2 1 (dk_at dksX8_all_2 6 rfl rfl)
theorem dX8_all_57 : decode cX8_all 57 = .ok (.goto (-55), 3) := dk_167 255 201 (dk_at dksX8_all_2 9 rfl rfl)
theorem dX8_all_60 : decode cX8_all 60 = .ok (.return_, 1) := dk_177 (dk_at dksX8_all_2 12 rfl rfl)
abbrev cX8_counts : ByteArray := prog_10_method_2_code
def yX8_counts : MethodName := ⟨RX8, "counts", "()I"⟩
theorem dX8_counts_0 : decode cX8_counts 0 = .ok (.iconst 0, 1) := by decide +kernel
theorem dX8_counts_1 : decode cX8_counts 1 = .ok (.ireturn, 1) := by decide +kernel
abbrev cX8_does : ByteArray := prog_10_method_3_code
def yX8_does : MethodName := ⟨RX8, "does", "(LDeltaIndex$Run;)V"⟩
def dkwX8_does_2 : List UInt8 := [43, 89, 180, 0, 20, 4, 100, 181, 0, 20, 177]
abbrev dktX8_does_2 : List UInt8 := dkwX8_does_2 ++ []
def dkwX8_does_1 : List UInt8 := [154, 0, 24, 43, 180, 0, 29, 43, 180, 0, 20, 28, 79, 42, 43, 182, 0, 33, 132, 2, 1, 167, 255, 223]
abbrev dktX8_does_1 : List UInt8 := dkwX8_does_1 ++ dktX8_does_2
def dkwX8_does_0 : List UInt8 := [43, 89, 180, 0, 20, 4, 96, 181, 0, 20, 3, 61, 28, 42, 180, 0, 16, 162, 0, 31, 43, 182, 0, 25]
abbrev dktX8_does_0 : List UInt8 := dkwX8_does_0 ++ dktX8_does_1
theorem dksX8_does_0 : cX8_does.data.toList.drop 0 = dktX8_does_0 := by decide +kernel
theorem dksX8_does_1 : cX8_does.data.toList.drop 24 = dktX8_does_1 := dk_seg dksX8_does_0 24 rfl rfl
theorem dksX8_does_2 : cX8_does.data.toList.drop 48 = dktX8_does_2 := dk_seg dksX8_does_1 24 rfl rfl
theorem dX8_does_0 : decode cX8_does 0 = .ok (.aload_n 1, 1) := dk_43 (dk_at dksX8_does_0 0 rfl rfl)
theorem dX8_does_1 : decode cX8_does 1 = .ok (.dup, 1) := dk_89 (dk_at dksX8_does_0 1 rfl rfl)
theorem dX8_does_2 : decode cX8_does 2 = .ok (.getfield 20, 3) := dk_180 0 20 (dk_at dksX8_does_0 2 rfl rfl)
theorem dX8_does_5 : decode cX8_does 5 = .ok (.iconst 1, 1) := dk_4 (dk_at dksX8_does_0 5 rfl rfl)
theorem dX8_does_6 : decode cX8_does 6 = .ok (.iadd, 1) := dk_96 (dk_at dksX8_does_0 6 rfl rfl)
theorem dX8_does_7 : decode cX8_does 7 = .ok (.putfield 20, 3) := dk_181 0 20 (dk_at dksX8_does_0 7 rfl rfl)
theorem dX8_does_10 : decode cX8_does 10 = .ok (.iconst 0, 1) := dk_3 (dk_at dksX8_does_0 10 rfl rfl)
theorem dX8_does_11 : decode cX8_does 11 = .ok (.istore_n 2, 1) := dk_61 (dk_at dksX8_does_0 11 rfl rfl)
theorem dX8_does_12 : decode cX8_does 12 = .ok (.iload_n 2, 1) := dk_28 (dk_at dksX8_does_0 12 rfl rfl)
theorem dX8_does_13 : decode cX8_does 13 = .ok (.aload_n 0, 1) := dk_42 (dk_at dksX8_does_0 13 rfl rfl)
theorem dX8_does_14 : decode cX8_does 14 = .ok (.getfield 16, 3) := dk_180 0 16 (dk_at dksX8_does_0 14 rfl rfl)
theorem dX8_does_17 : decode cX8_does 17 = .ok (.if_icmp .ge 31, 3) := dk_162 0 31 (dk_at dksX8_does_0 17 rfl rfl)
theorem dX8_does_20 : decode cX8_does 20 = .ok (.aload_n 1, 1) := dk_43 (dk_at dksX8_does_0 20 rfl rfl)
theorem dX8_does_21 : decode cX8_does 21 = .ok (.invokevirtual 25, 3) := dk_182 0 25 (dk_at dksX8_does_0 21 rfl rfl)
theorem dX8_does_24 : decode cX8_does 24 = .ok (.ifCond .ne 24, 3) := dk_154 0 24 (dk_at dksX8_does_1 0 rfl rfl)
theorem dX8_does_27 : decode cX8_does 27 = .ok (.aload_n 1, 1) := dk_43 (dk_at dksX8_does_1 3 rfl rfl)
theorem dX8_does_28 : decode cX8_does 28 = .ok (.getfield 29, 3) := dk_180 0 29 (dk_at dksX8_does_1 4 rfl rfl)
theorem dX8_does_31 : decode cX8_does 31 = .ok (.aload_n 1, 1) := dk_43 (dk_at dksX8_does_1 7 rfl rfl)
theorem dX8_does_32 : decode cX8_does 32 = .ok (.getfield 20, 3) := dk_180 0 20 (dk_at dksX8_does_1 8 rfl rfl)
theorem dX8_does_35 : decode cX8_does 35 = .ok (.iload_n 2, 1) := dk_28 (dk_at dksX8_does_1 11 rfl rfl)
theorem dX8_does_36 : decode cX8_does 36 = .ok (.iastore, 1) := dk_79 (dk_at dksX8_does_1 12 rfl rfl)
theorem dX8_does_37 : decode cX8_does 37 = .ok (.aload_n 0, 1) := dk_42 (dk_at dksX8_does_1 13 rfl rfl)
theorem dX8_does_38 : decode cX8_does 38 = .ok (.aload_n 1, 1) := dk_43 (dk_at dksX8_does_1 14 rfl rfl)
theorem dX8_does_39 : decode cX8_does 39 = .ok (.invokevirtual 33, 3) := dk_182 0 33 (dk_at dksX8_does_1 15 rfl rfl)
theorem dX8_does_42 : decode cX8_does 42 = .ok (.iinc 2 1, 3) := dk_132 2 1 (dk_at dksX8_does_1 18 rfl rfl)
theorem dX8_does_45 : decode cX8_does 45 = .ok (.goto (-33), 3) := dk_167 255 223 (dk_at dksX8_does_1 21 rfl rfl)
theorem dX8_does_48 : decode cX8_does 48 = .ok (.aload_n 1, 1) := dk_43 (dk_at dksX8_does_2 0 rfl rfl)
theorem dX8_does_49 : decode cX8_does 49 = .ok (.dup, 1) := dk_89 (dk_at dksX8_does_2 1 rfl rfl)
theorem dX8_does_50 : decode cX8_does 50 = .ok (.getfield 20, 3) := dk_180 0 20 (dk_at dksX8_does_2 2 rfl rfl)
theorem dX8_does_53 : decode cX8_does 53 = .ok (.iconst 1, 1) := dk_4 (dk_at dksX8_does_2 5 rfl rfl)
theorem dX8_does_54 : decode cX8_does 54 = .ok (.isub, 1) := dk_100 (dk_at dksX8_does_2 6 rfl rfl)
theorem dX8_does_55 : decode cX8_does 55 = .ok (.putfield 20, 3) := dk_181 0 20 (dk_at dksX8_does_2 7 rfl rfl)
theorem dX8_does_58 : decode cX8_does 58 = .ok (.return_, 1) := dk_177 (dk_at dksX8_does_2 10 rfl rfl)
theorem q154 : (Jvm.Cond.initialized "DeltaIndex$Rounds") ∈ lw_all := lw_g (lw_at lw_m1 12 rfl) rfl
theorem q561 : (Jvm.Cond.instantiable "DeltaIndex$Rounds" (2 : Nat)) ∈ lw_all := lw_g (lw_at lw_m2 179 rfl) rfl
theorem q563 : (Jvm.Cond.instanceMethod ({ cls := "DeltaIndex$Rounds", name := "<init>", desc := "(I)V" } : Jvm.MethodName)) ∈ lw_all := lw_g (lw_at lw_m2 181 rfl) rfl
theorem q564 : (Jvm.Cond.code ({ cls := "DeltaIndex$Rounds", name := "<init>", desc := "(I)V" } : Jvm.MethodName) prog_10_method_1_code (2 : Nat) (Option.none : Option Jvm.ClassFile.FieldType)) ∈ lw_all := lw_g (lw_at lw_m2 182 rfl) rfl
theorem q565 : (Jvm.Cond.methodLink "DeltaIndex$Rounds" (1 : Nat) ({ cls := "java/lang/Object", name := "<init>", desc := "()V" } : Jvm.MethodName)) ∈ lw_all := lw_g (lw_at lw_m2 183 rfl) rfl
theorem q566 : (Jvm.Cond.classLink "DeltaIndex$Rounds" (7 : Nat) "java/util/ArrayList") ∈ lw_all := lw_g (lw_at lw_m2 184 rfl) rfl
theorem q568 : (Jvm.Cond.methodLink "DeltaIndex$Rounds" (9 : Nat) ({ cls := "java/util/ArrayList", name := "<init>", desc := "()V" } : Jvm.MethodName)) ∈ lw_all := lw_g (lw_at lw_m2 186 rfl) rfl
theorem q593 : (Jvm.Cond.fieldLink "DeltaIndex$Rounds" (10 : Nat) "DeltaIndex$Rounds" "tells" "Ljava/util/ArrayList;") ∈ lw_all := lw_g (lw_at lw_m2 211 rfl) rfl
theorem q595 : (Jvm.Cond.fieldLink "DeltaIndex$Rounds" (16 : Nat) "DeltaIndex$Rounds" "many" "I") ∈ lw_all := lw_g (lw_at lw_m2 213 rfl) rfl
theorem q596 : (Jvm.Cond.laysFinal "DeltaIndex$Rounds" "DeltaIndex$Rounds" "tells" "Ljava/util/ArrayList;") ∈ lw_all := lw_g (lw_at lw_m2 214 rfl) rfl
theorem q597 : (Jvm.Cond.soleField "DeltaIndex$Rounds" "tells") ∈ lw_all := lw_g (lw_at lw_m2 215 rfl) rfl
theorem q598 : (Jvm.Cond.laysFinal "DeltaIndex$Rounds" "DeltaIndex$Rounds" "many" "I") ∈ lw_all := lw_g (lw_at lw_m2 216 rfl) rfl
theorem q599 : (Jvm.Cond.soleField "DeltaIndex$Rounds" "many") ∈ lw_all := lw_g (lw_at lw_m2 217 rfl) rfl
theorem q600 : (Jvm.Cond.superclass "DeltaIndex$Rounds" "java/lang/Object") ∈ lw_all := lw_g (lw_at lw_m2 218 rfl) rfl
theorem q1239 : (Jvm.Cond.selects "DeltaIndex$Rounds" ({ cls := "java/lang/Object", name := "getClass", desc := "()Ljava/lang/Class;" } : Jvm.MethodName) ({ cls := "java/lang/Object", name := "getClass", desc := "()Ljava/lang/Class;" } : Jvm.MethodName)) ∈ lw_all := lw_g (lw_at lw_m5 137 rfl) rfl
theorem q1276 : (Jvm.Cond.fieldLink "DeltaIndex$Rounds" (29 : Nat) "DeltaIndex$Run" "round" "[I") ∈ lw_all := lw_g (lw_at lw_m5 174 rfl) rfl
theorem q1278 : (Jvm.Cond.fieldLink "DeltaIndex$Rounds" (20 : Nat) "DeltaIndex$Run" "deep" "I") ∈ lw_all := lw_g (lw_at lw_m5 176 rfl) rfl
theorem q1282 : (Jvm.Cond.fieldLink "DeltaIndex$Rounds" (47 : Nat) "DeltaIndex$Run" "done" "I") ∈ lw_all := lw_g (lw_at lw_m5 180 rfl) rfl
theorem q1296 : (Jvm.Cond.instanceMethod ({ cls := "DeltaIndex$Rounds", name := "all", desc := "(LDeltaIndex$Run;)V" } : Jvm.MethodName)) ∈ lw_all := lw_g (lw_at lw_m5 194 rfl) rfl
theorem q1297 : (Jvm.Cond.selects "DeltaIndex$Rounds" ({ cls := "DeltaIndex$Rounds", name := "all", desc := "(LDeltaIndex$Run;)V" } : Jvm.MethodName) ({ cls := "DeltaIndex$Rounds", name := "all", desc := "(LDeltaIndex$Run;)V" } : Jvm.MethodName)) ∈ lw_all := lw_g (lw_at lw_m5 195 rfl) rfl
theorem q1298 : (Jvm.Cond.code ({ cls := "DeltaIndex$Rounds", name := "all", desc := "(LDeltaIndex$Run;)V" } : Jvm.MethodName) prog_10_method_4_code (4 : Nat) (Option.none : Option Jvm.ClassFile.FieldType)) ∈ lw_all := lw_g (lw_at lw_m5 196 rfl) rfl
theorem q1299 : (Jvm.Cond.methodLink "DeltaIndex$Rounds" (37 : Nat) ({ cls := "java/util/ArrayList", name := "size", desc := "()I" } : Jvm.MethodName)) ∈ lw_all := lw_g (lw_at lw_m5 197 rfl) rfl
theorem q1303 : (Jvm.Cond.methodLink "DeltaIndex$Rounds" (25 : Nat) ({ cls := "DeltaIndex$Run", name := "isOver", desc := "()Z" } : Jvm.MethodName)) ∈ lw_all := lw_g (lw_at lw_m5 201 rfl) rfl
theorem q1307 : (Jvm.Cond.methodLink "DeltaIndex$Rounds" (41 : Nat) ({ cls := "java/util/ArrayList", name := "get", desc := "(I)Ljava/lang/Object;" } : Jvm.MethodName)) ∈ lw_all := lw_g (lw_at lw_m5 205 rfl) rfl
theorem q1319 : (Jvm.Cond.classLink "DeltaIndex$Rounds" (45 : Nat) "DeltaIndex$Tell") ∈ lw_all := lw_g (lw_at lw_m5 217 rfl) rfl
theorem q1320 : (Jvm.Cond.interfaceEntry "DeltaIndex$Rounds" (50 : Nat)) ∈ lw_tbl := lw_at lw_m5 218 rfl
theorem q1321 : (Jvm.Cond.methodLink "DeltaIndex$Rounds" (50 : Nat) ({ cls := "DeltaIndex$Tell", name := "counts", desc := "()I" } : Jvm.MethodName)) ∈ lw_all := lw_g (lw_at lw_m5 219 rfl) rfl
theorem q1331 : (Jvm.Cond.castable "DeltaIndex$Rounds" "DeltaIndex$Tell") ∈ lw_tbl := lw_at lw_m5 229 rfl
theorem q1332 : (Jvm.Cond.selects "DeltaIndex$Rounds" ({ cls := "DeltaIndex$Tell", name := "counts", desc := "()I" } : Jvm.MethodName) ({ cls := "DeltaIndex$Rounds", name := "counts", desc := "()I" } : Jvm.MethodName)) ∈ lw_all := lw_g (lw_at lw_m5 230 rfl) rfl
theorem q1333 : (Jvm.Cond.unhidden "DeltaIndex$Rounds" "counts" "()I") ∈ lw_tbl := lw_at lw_m5 231 rfl
theorem q1334 : (Jvm.Cond.instanceMethod ({ cls := "DeltaIndex$Rounds", name := "counts", desc := "()I" } : Jvm.MethodName)) ∈ lw_all := lw_g (lw_at lw_m5 232 rfl) rfl
theorem q1335 : (Jvm.Cond.publicMethod ({ cls := "DeltaIndex$Rounds", name := "counts", desc := "()I" } : Jvm.MethodName)) ∈ lw_tbl := lw_at lw_m5 233 rfl
theorem q1336 : (Jvm.Cond.code ({ cls := "DeltaIndex$Rounds", name := "counts", desc := "()I" } : Jvm.MethodName) prog_10_method_2_code (1 : Nat) (Option.some Jvm.ClassFile.FieldType.int)) ∈ lw_all := lw_g (lw_at lw_m5 234 rfl) rfl
theorem q1339 : (Jvm.Cond.interfaceEntry "DeltaIndex$Rounds" (53 : Nat)) ∈ lw_tbl := lw_at lw_m5 237 rfl
theorem q1340 : (Jvm.Cond.methodLink "DeltaIndex$Rounds" (53 : Nat) ({ cls := "DeltaIndex$Tell", name := "does", desc := "(LDeltaIndex$Run;)V" } : Jvm.MethodName)) ∈ lw_all := lw_g (lw_at lw_m5 238 rfl) rfl
theorem q1535 : (Jvm.Cond.selects "DeltaIndex$Rounds" ({ cls := "DeltaIndex$Tell", name := "does", desc := "(LDeltaIndex$Run;)V" } : Jvm.MethodName) ({ cls := "DeltaIndex$Rounds", name := "does", desc := "(LDeltaIndex$Run;)V" } : Jvm.MethodName)) ∈ lw_all := lw_g (lw_at lw_m6 193 rfl) rfl
theorem q1536 : (Jvm.Cond.unhidden "DeltaIndex$Rounds" "does" "(LDeltaIndex$Run;)V") ∈ lw_tbl := lw_at lw_m6 194 rfl
theorem q1537 : (Jvm.Cond.instanceMethod ({ cls := "DeltaIndex$Rounds", name := "does", desc := "(LDeltaIndex$Run;)V" } : Jvm.MethodName)) ∈ lw_all := lw_g (lw_at lw_m6 195 rfl) rfl
theorem q1538 : (Jvm.Cond.publicMethod ({ cls := "DeltaIndex$Rounds", name := "does", desc := "(LDeltaIndex$Run;)V" } : Jvm.MethodName)) ∈ lw_tbl := lw_at lw_m6 196 rfl
theorem q1539 : (Jvm.Cond.code ({ cls := "DeltaIndex$Rounds", name := "does", desc := "(LDeltaIndex$Run;)V" } : Jvm.MethodName) prog_10_method_3_code (3 : Nat) (Option.none : Option Jvm.ClassFile.FieldType)) ∈ lw_all := lw_g (lw_at lw_m6 197 rfl) rfl
theorem q1540 : (Jvm.Cond.methodLink "DeltaIndex$Rounds" (33 : Nat) ({ cls := "DeltaIndex$Rounds", name := "all", desc := "(LDeltaIndex$Run;)V" } : Jvm.MethodName)) ∈ lw_all := lw_g (lw_at lw_m6 198 rfl) rfl
theorem q2365 : (Jvm.Cond.castable "DeltaIndex$Rounds" "java/lang/Object") ∈ lw_tbl := lw_at lw_m10 63 rfl
theorem in_X8 : ∀ w ∈ wsX80, w ∈ lw_all := lw_in wsX80 [596, 598] (by decide +kernel) (by decide +kernel)

/-! DeltaIndex$Tell -/
set_option maxRecDepth 100000
def RX10 : String := "DeltaIndex$Tell"
abbrev cX10_act : ByteArray := prog_15_method_3_code
def yX10_act : MethodName := ⟨RX10, "act", "(Ljava/lang/String;)I"⟩
def dkwX10_act_5 : List UInt8 := [4, 167, 0, 12, 5, 167, 0, 8, 6, 167, 0, 4, 3, 172]
abbrev dktX10_act_5 : List UInt8 := dkwX10_act_5 ++ []
def dkwX10_act_4 : List UInt8 := [170, 0, 0, 0, 0, 0, 0, 40, 0, 0, 0, 0, 0, 0, 0, 2, 0, 0, 0, 28, 0, 0, 0, 32, 0, 0, 0, 36]
abbrev dktX10_act_4 : List UInt8 := dkwX10_act_4 ++ dktX10_act_5
def dkwX10_act_3 : List UInt8 := [61, 167, 0, 14, 43, 18, 17, 182, 0, 11, 153, 0, 5, 5, 61, 28]
abbrev dktX10_act_3 : List UInt8 := dkwX10_act_3 ++ dktX10_act_4
def dkwX10_act_2 : List UInt8 := [43, 18, 9, 182, 0, 11, 153, 0, 33, 3, 61, 167, 0, 28, 43, 18, 15, 182, 0, 11, 153, 0, 19, 4]
abbrev dktX10_act_2 : List UInt8 := dkwX10_act_2 ++ dktX10_act_3
def dkwX10_act_1 : List UInt8 := [171, 0, 0, 0, 0, 0, 0, 75, 0, 0, 0, 3, 0, 1, 130, 66, 0, 0, 0, 50, 0, 1, 143, 86, 0, 0, 0, 64, 0, 1, 179, 15, 0, 0, 0, 36]
abbrev dktX10_act_1 : List UInt8 := dkwX10_act_1 ++ dktX10_act_2
def dkwX10_act_0 : List UInt8 := [42, 76, 2, 61, 43, 182, 0, 3]
abbrev dktX10_act_0 : List UInt8 := dkwX10_act_0 ++ dktX10_act_1
theorem dksX10_act_0 : cX10_act.data.toList.drop 0 = dktX10_act_0 := by decide +kernel
theorem dksX10_act_1 : cX10_act.data.toList.drop 8 = dktX10_act_1 := dk_seg dksX10_act_0 8 rfl rfl
theorem dksX10_act_2 : cX10_act.data.toList.drop 44 = dktX10_act_2 := dk_seg dksX10_act_1 36 rfl rfl
theorem dksX10_act_3 : cX10_act.data.toList.drop 68 = dktX10_act_3 := dk_seg dksX10_act_2 24 rfl rfl
theorem dksX10_act_4 : cX10_act.data.toList.drop 84 = dktX10_act_4 := dk_seg dksX10_act_3 16 rfl rfl
theorem dksX10_act_5 : cX10_act.data.toList.drop 112 = dktX10_act_5 := dk_seg dksX10_act_4 28 rfl rfl
theorem dX10_act_0 : decode cX10_act 0 = .ok (.aload_n 0, 1) := dk_42 (dk_at dksX10_act_0 0 rfl rfl)
theorem dX10_act_1 : decode cX10_act 1 = .ok (.astore_n 1, 1) := dk_76 (dk_at dksX10_act_0 1 rfl rfl)
theorem dX10_act_2 : decode cX10_act 2 = .ok (.iconst (-1), 1) := dk_2 (dk_at dksX10_act_0 2 rfl rfl)
theorem dX10_act_3 : decode cX10_act 3 = .ok (.istore_n 2, 1) := dk_61 (dk_at dksX10_act_0 3 rfl rfl)
theorem dX10_act_4 : decode cX10_act 4 = .ok (.aload_n 1, 1) := dk_43 (dk_at dksX10_act_0 4 rfl rfl)
theorem dX10_act_5 : decode cX10_act 5 = .ok (.invokevirtual 3, 3) := dk_182 0 3 (dk_at dksX10_act_0 5 rfl rfl)
theorem dX10_act_8 : decode cX10_act 8 = .ok (.lookupswitch 75 #[(98882, 50), (102230, 64), (111375, 36)], 36) := by decide +kernel
theorem dX10_act_44 : decode cX10_act 44 = .ok (.aload_n 1, 1) := dk_43 (dk_at dksX10_act_2 0 rfl rfl)
theorem dX10_act_45 : decode cX10_act 45 = .ok (.ldc 9, 2) := dk_18 9 (dk_at dksX10_act_2 1 rfl rfl)
theorem dX10_act_47 : decode cX10_act 47 = .ok (.invokevirtual 11, 3) := dk_182 0 11 (dk_at dksX10_act_2 3 rfl rfl)
theorem dX10_act_50 : decode cX10_act 50 = .ok (.ifCond .eq 33, 3) := dk_153 0 33 (dk_at dksX10_act_2 6 rfl rfl)
theorem dX10_act_53 : decode cX10_act 53 = .ok (.iconst 0, 1) := dk_3 (dk_at dksX10_act_2 9 rfl rfl)
theorem dX10_act_54 : decode cX10_act 54 = .ok (.istore_n 2, 1) := dk_61 (dk_at dksX10_act_2 10 rfl rfl)
theorem dX10_act_55 : decode cX10_act 55 = .ok (.goto 28, 3) := dk_167 0 28 (dk_at dksX10_act_2 11 rfl rfl)
theorem dX10_act_58 : decode cX10_act 58 = .ok (.aload_n 1, 1) := dk_43 (dk_at dksX10_act_2 14 rfl rfl)
theorem dX10_act_59 : decode cX10_act 59 = .ok (.ldc 15, 2) := dk_18 15 (dk_at dksX10_act_2 15 rfl rfl)
theorem dX10_act_61 : decode cX10_act 61 = .ok (.invokevirtual 11, 3) := dk_182 0 11 (dk_at dksX10_act_2 17 rfl rfl)
theorem dX10_act_64 : decode cX10_act 64 = .ok (.ifCond .eq 19, 3) := dk_153 0 19 (dk_at dksX10_act_2 20 rfl rfl)
theorem dX10_act_67 : decode cX10_act 67 = .ok (.iconst 1, 1) := dk_4 (dk_at dksX10_act_2 23 rfl rfl)
theorem dX10_act_68 : decode cX10_act 68 = .ok (.istore_n 2, 1) := dk_61 (dk_at dksX10_act_3 0 rfl rfl)
theorem dX10_act_69 : decode cX10_act 69 = .ok (.goto 14, 3) := dk_167 0 14 (dk_at dksX10_act_3 1 rfl rfl)
theorem dX10_act_72 : decode cX10_act 72 = .ok (.aload_n 1, 1) := dk_43 (dk_at dksX10_act_3 4 rfl rfl)
theorem dX10_act_73 : decode cX10_act 73 = .ok (.ldc 17, 2) := dk_18 17 (dk_at dksX10_act_3 5 rfl rfl)
theorem dX10_act_75 : decode cX10_act 75 = .ok (.invokevirtual 11, 3) := dk_182 0 11 (dk_at dksX10_act_3 7 rfl rfl)
theorem dX10_act_78 : decode cX10_act 78 = .ok (.ifCond .eq 5, 3) := dk_153 0 5 (dk_at dksX10_act_3 10 rfl rfl)
theorem dX10_act_81 : decode cX10_act 81 = .ok (.iconst 2, 1) := dk_5 (dk_at dksX10_act_3 13 rfl rfl)
theorem dX10_act_82 : decode cX10_act 82 = .ok (.istore_n 2, 1) := dk_61 (dk_at dksX10_act_3 14 rfl rfl)
theorem dX10_act_83 : decode cX10_act 83 = .ok (.iload_n 2, 1) := dk_28 (dk_at dksX10_act_3 15 rfl rfl)
theorem dX10_act_84 : decode cX10_act 84 = .ok (.tableswitch 40 0 2 #[28, 32, 36], 28) := by decide +kernel
theorem dX10_act_112 : decode cX10_act 112 = .ok (.iconst 1, 1) := dk_4 (dk_at dksX10_act_5 0 rfl rfl)
theorem dX10_act_113 : decode cX10_act 113 = .ok (.goto 12, 3) := dk_167 0 12 (dk_at dksX10_act_5 1 rfl rfl)
theorem dX10_act_116 : decode cX10_act 116 = .ok (.iconst 2, 1) := dk_5 (dk_at dksX10_act_5 4 rfl rfl)
theorem dX10_act_117 : decode cX10_act 117 = .ok (.goto 8, 3) := dk_167 0 8 (dk_at dksX10_act_5 5 rfl rfl)
theorem dX10_act_120 : decode cX10_act 120 = .ok (.iconst 3, 1) := dk_6 (dk_at dksX10_act_5 8 rfl rfl)
theorem dX10_act_121 : decode cX10_act 121 = .ok (.goto 4, 3) := dk_167 0 4 (dk_at dksX10_act_5 9 rfl rfl)
theorem dX10_act_124 : decode cX10_act 124 = .ok (.iconst 0, 1) := dk_3 (dk_at dksX10_act_5 12 rfl rfl)
theorem dX10_act_125 : decode cX10_act 125 = .ok (.ireturn, 1) := dk_172 (dk_at dksX10_act_5 13 rfl rfl)
abbrev cX10_counts : ByteArray := prog_15_method_2_code
def yX10_counts : MethodName := ⟨RX10, "counts", "()I"⟩
theorem dX10_counts_0 : decode cX10_counts 0 = .ok (.iconst 1, 1) := by decide +kernel
theorem dX10_counts_1 : decode cX10_counts 1 = .ok (.ireturn, 1) := by decide +kernel
abbrev cX10_keyOf : ByteArray := prog_15_method_4_code
def yX10_keyOf : MethodName := ⟨RX10, "keyOf", "(LDeltaIndex$Sum;LDeltaIndex$Run;)I"⟩
def dkwX10_keyOf_0 : List UInt8 := [42, 43, 182, 0, 19, 17, 3, 232, 184, 0, 25, 172]
abbrev dktX10_keyOf_0 : List UInt8 := dkwX10_keyOf_0 ++ []
theorem dksX10_keyOf_0 : cX10_keyOf.data.toList.drop 0 = dktX10_keyOf_0 := by decide +kernel
theorem dX10_keyOf_0 : decode cX10_keyOf 0 = .ok (.aload_n 0, 1) := dk_42 (dk_at dksX10_keyOf_0 0 rfl rfl)
theorem dX10_keyOf_1 : decode cX10_keyOf 1 = .ok (.aload_n 1, 1) := dk_43 (dk_at dksX10_keyOf_0 1 rfl rfl)
theorem dX10_keyOf_2 : decode cX10_keyOf 2 = .ok (.invokevirtual 19, 3) := dk_182 0 19 (dk_at dksX10_keyOf_0 2 rfl rfl)
theorem dX10_keyOf_5 : decode cX10_keyOf 5 = .ok (.sipush 1000, 3) := dk_17 3 232 (dk_at dksX10_keyOf_0 5 rfl rfl)
theorem dX10_keyOf_8 : decode cX10_keyOf 8 = .ok (.invokestatic 25, 3) := dk_184 0 25 (dk_at dksX10_keyOf_0 8 rfl rfl)
theorem dX10_keyOf_11 : decode cX10_keyOf 11 = .ok (.ireturn, 1) := dk_172 (dk_at dksX10_keyOf_0 11 rfl rfl)
theorem q169 : (Jvm.Cond.initialized "DeltaIndex$Tell") ∈ lw_all := lw_g (lw_at lw_m1 27 rfl) rfl
theorem q1084 : (Jvm.Cond.static ({ cls := "DeltaIndex$Tell", name := "act", desc := "(Ljava/lang/String;)I" } : Jvm.MethodName)) ∈ lw_all := lw_g (lw_at lw_m4 222 rfl) rfl
theorem q1085 : (Jvm.Cond.code ({ cls := "DeltaIndex$Tell", name := "act", desc := "(Ljava/lang/String;)I" } : Jvm.MethodName) prog_15_method_3_code (3 : Nat) (Option.some Jvm.ClassFile.FieldType.int)) ∈ lw_all := lw_g (lw_at lw_m4 223 rfl) rfl
theorem q1086 : (Jvm.Cond.methodLink "DeltaIndex$Tell" (3 : Nat) ({ cls := "java/lang/String", name := "hashCode", desc := "()I" } : Jvm.MethodName)) ∈ lw_all := lw_g (lw_at lw_m4 224 rfl) rfl
theorem q1087 : (Jvm.Cond.stringRef "DeltaIndex$Tell" (9 : Nat) "put") ∈ lw_tbl := lw_at lw_m4 225 rfl
theorem q1088 : (Jvm.Cond.methodLink "DeltaIndex$Tell" (11 : Nat) ({ cls := "java/lang/String", name := "equals", desc := "(Ljava/lang/Object;)Z" } : Jvm.MethodName)) ∈ lw_all := lw_g (lw_at lw_m4 226 rfl) rfl
theorem q1089 : (Jvm.Cond.stringRef "DeltaIndex$Tell" (15 : Nat) "cut") ∈ lw_tbl := lw_at lw_m4 227 rfl
theorem q1090 : (Jvm.Cond.stringRef "DeltaIndex$Tell" (17 : Nat) "get") ∈ lw_tbl := lw_at lw_m4 228 rfl
theorem q1322 : (Jvm.Cond.interfaceMethod "DeltaIndex$Tell" "DeltaIndex$Tell" "counts" "()I") ∈ lw_tbl := lw_at lw_m5 220 rfl
theorem q1323 : (Jvm.Cond.declares ({ cls := "DeltaIndex$Tell", name := "counts", desc := "()I" } : Jvm.MethodName)) ∈ lw_tbl := lw_at lw_m5 221 rfl
theorem q1326 : (Jvm.Cond.instanceMethod ({ cls := "DeltaIndex$Tell", name := "counts", desc := "()I" } : Jvm.MethodName)) ∈ lw_all := lw_g (lw_at lw_m5 224 rfl) rfl
theorem q1327 : (Jvm.Cond.publicMethod ({ cls := "DeltaIndex$Tell", name := "counts", desc := "()I" } : Jvm.MethodName)) ∈ lw_tbl := lw_at lw_m5 225 rfl
theorem q1328 : (Jvm.Cond.code ({ cls := "DeltaIndex$Tell", name := "counts", desc := "()I" } : Jvm.MethodName) prog_15_method_2_code (1 : Nat) (Option.some Jvm.ClassFile.FieldType.int)) ∈ lw_all := lw_g (lw_at lw_m5 226 rfl) rfl
theorem q1341 : (Jvm.Cond.interfaceMethod "DeltaIndex$Tell" "DeltaIndex$Tell" "does" "(LDeltaIndex$Run;)V") ∈ lw_tbl := lw_at lw_m5 239 rfl
theorem q1342 : (Jvm.Cond.declares ({ cls := "DeltaIndex$Tell", name := "does", desc := "(LDeltaIndex$Run;)V" } : Jvm.MethodName)) ∈ lw_tbl := lw_at lw_m6 0 rfl
theorem q1349 : (Jvm.Cond.static ({ cls := "DeltaIndex$Tell", name := "keyOf", desc := "(LDeltaIndex$Sum;LDeltaIndex$Run;)I" } : Jvm.MethodName)) ∈ lw_all := lw_g (lw_at lw_m6 7 rfl) rfl
theorem q1350 : (Jvm.Cond.code ({ cls := "DeltaIndex$Tell", name := "keyOf", desc := "(LDeltaIndex$Sum;LDeltaIndex$Run;)I" } : Jvm.MethodName) prog_15_method_4_code (2 : Nat) (Option.some Jvm.ClassFile.FieldType.int)) ∈ lw_all := lw_g (lw_at lw_m6 8 rfl) rfl
theorem q1351 : (Jvm.Cond.methodLink "DeltaIndex$Tell" (19 : Nat) ({ cls := "DeltaIndex$Sum", name := "of", desc := "(LDeltaIndex$Run;)I" } : Jvm.MethodName)) ∈ lw_all := lw_g (lw_at lw_m6 9 rfl) rfl
theorem q1405 : (Jvm.Cond.methodLink "DeltaIndex$Tell" (25 : Nat) ({ cls := "java/lang/Math", name := "floorMod", desc := "(II)I" } : Jvm.MethodName)) ∈ lw_all := lw_g (lw_at lw_m6 63 rfl) rfl

/-! DeltaIndex$Sum -/
set_option maxRecDepth 100000
def RX11 : String := "DeltaIndex$Sum"
abbrev cX11_init : ByteArray := prog_13_method_1_code
def yX11_init : MethodName := ⟨RX11, "<init>", "()V"⟩
theorem dX11_init_0 : decode cX11_init 0 = .ok (.aload_n 0, 1) := by decide +kernel
theorem dX11_init_1 : decode cX11_init 1 = .ok (.invokespecial 1, 3) := by decide +kernel
theorem dX11_init_4 : decode cX11_init 4 = .ok (.return_, 1) := by decide +kernel
theorem q170 : (Jvm.Cond.initialized "DeltaIndex$Sum") ∈ lw_all := lw_g (lw_at lw_m1 28 rfl) rfl
theorem q1109 : (Jvm.Cond.instanceMethod ({ cls := "DeltaIndex$Sum", name := "<init>", desc := "()V" } : Jvm.MethodName)) ∈ lw_all := lw_g (lw_at lw_m5 7 rfl) rfl
theorem q1110 : (Jvm.Cond.code ({ cls := "DeltaIndex$Sum", name := "<init>", desc := "()V" } : Jvm.MethodName) prog_13_method_1_code (1 : Nat) (Option.none : Option Jvm.ClassFile.FieldType)) ∈ lw_all := lw_g (lw_at lw_m5 8 rfl) rfl
theorem q1111 : (Jvm.Cond.methodLink "DeltaIndex$Sum" (1 : Nat) ({ cls := "java/lang/Object", name := "<init>", desc := "()V" } : Jvm.MethodName)) ∈ lw_all := lw_g (lw_at lw_m5 9 rfl) rfl
theorem q1352 : (Jvm.Cond.declares ({ cls := "DeltaIndex$Sum", name := "of", desc := "(LDeltaIndex$Run;)I" } : Jvm.MethodName)) ∈ lw_tbl := lw_at lw_m6 10 rfl
theorem q1353 : (Jvm.Cond.sameMethod "DeltaIndex$Sum" "DeltaIndex$Sum" "of" "(LDeltaIndex$Run;)I") ∈ lw_all := lw_g (lw_at lw_m6 11 rfl) rfl

/-! DeltaIndex$Given -/
set_option maxRecDepth 100000
def RX12 : String := "DeltaIndex$Given"
def TX12 : u_T := fun k => match k with
  | _ => ("DeltaIndex$Given", "n", "I", true)
def tyX12 : Nat → FieldType := fun k => match k with
  | _ => .int
abbrev wsX120 : List Cond := u_ws RX12 TX12 1
theorem nmX12 : ∀ a, a < 1 → ∀ b, b < 1 → a ≠ b → (TX12 a).2.1 ≠ (TX12 b).2.1 := by decide +kernel
theorem tyX12_ok : ∀ k, k < 1 → parseFieldDescriptor (TX12 k).2.2.1 = some (tyX12 k) := by decide +kernel
abbrev cX12_init : ByteArray := prog_4_method_1_code
def yX12_init : MethodName := ⟨RX12, "<init>", "(I)V"⟩
def dkwX12_init_0 : List UInt8 := [42, 183, 0, 1, 42, 27, 181, 0, 7, 177]
abbrev dktX12_init_0 : List UInt8 := dkwX12_init_0 ++ []
theorem dksX12_init_0 : cX12_init.data.toList.drop 0 = dktX12_init_0 := by decide +kernel
theorem dX12_init_0 : decode cX12_init 0 = .ok (.aload_n 0, 1) := dk_42 (dk_at dksX12_init_0 0 rfl rfl)
theorem dX12_init_1 : decode cX12_init 1 = .ok (.invokespecial 1, 3) := dk_183 0 1 (dk_at dksX12_init_0 1 rfl rfl)
theorem dX12_init_4 : decode cX12_init 4 = .ok (.aload_n 0, 1) := dk_42 (dk_at dksX12_init_0 4 rfl rfl)
theorem dX12_init_5 : decode cX12_init 5 = .ok (.iload_n 1, 1) := dk_27 (dk_at dksX12_init_0 5 rfl rfl)
theorem dX12_init_6 : decode cX12_init 6 = .ok (.putfield 7, 3) := dk_181 0 7 (dk_at dksX12_init_0 6 rfl rfl)
theorem dX12_init_9 : decode cX12_init 9 = .ok (.return_, 1) := dk_177 (dk_at dksX12_init_0 9 rfl rfl)
abbrev cX12_of : ByteArray := prog_4_method_2_code
def yX12_of : MethodName := ⟨RX12, "of", "(LDeltaIndex$Run;)I"⟩
theorem dX12_of_0 : decode cX12_of 0 = .ok (.aload_n 0, 1) := by decide +kernel
theorem dX12_of_1 : decode cX12_of 1 = .ok (.getfield 7, 3) := by decide +kernel
theorem dX12_of_4 : decode cX12_of 4 = .ok (.ireturn, 1) := by decide +kernel
theorem q171 : (Jvm.Cond.initialized "DeltaIndex$Given") ∈ lw_all := lw_g (lw_at lw_m1 29 rfl) rfl
theorem q1104 : (Jvm.Cond.instantiable "DeltaIndex$Given" (1 : Nat)) ∈ lw_all := lw_g (lw_at lw_m5 2 rfl) rfl
theorem q1106 : (Jvm.Cond.instanceMethod ({ cls := "DeltaIndex$Given", name := "<init>", desc := "(I)V" } : Jvm.MethodName)) ∈ lw_all := lw_g (lw_at lw_m5 4 rfl) rfl
theorem q1107 : (Jvm.Cond.code ({ cls := "DeltaIndex$Given", name := "<init>", desc := "(I)V" } : Jvm.MethodName) prog_4_method_1_code (2 : Nat) (Option.none : Option Jvm.ClassFile.FieldType)) ∈ lw_all := lw_g (lw_at lw_m5 5 rfl) rfl
theorem q1108 : (Jvm.Cond.methodLinkNest "DeltaIndex$Given" (1 : Nat) ({ cls := "DeltaIndex$Sum", name := "<init>", desc := "()V" } : Jvm.MethodName) "DeltaIndex") ∈ lw_tbl := lw_at lw_m5 6 rfl
theorem q1112 : (Jvm.Cond.fieldLink "DeltaIndex$Given" (7 : Nat) "DeltaIndex$Given" "n" "I") ∈ lw_all := lw_g (lw_at lw_m5 10 rfl) rfl
theorem q1113 : (Jvm.Cond.laysFinal "DeltaIndex$Given" "DeltaIndex$Given" "n" "I") ∈ lw_all := lw_g (lw_at lw_m5 11 rfl) rfl
theorem q1114 : (Jvm.Cond.soleField "DeltaIndex$Given" "n") ∈ lw_all := lw_g (lw_at lw_m5 12 rfl) rfl
theorem q1115 : (Jvm.Cond.superclass "DeltaIndex$Given" "DeltaIndex$Sum") ∈ lw_all := lw_g (lw_at lw_m5 13 rfl) rfl
theorem q1233 : (Jvm.Cond.selects "DeltaIndex$Given" ({ cls := "java/lang/Object", name := "getClass", desc := "()Ljava/lang/Class;" } : Jvm.MethodName) ({ cls := "java/lang/Object", name := "getClass", desc := "()Ljava/lang/Class;" } : Jvm.MethodName)) ∈ lw_all := lw_g (lw_at lw_m5 131 rfl) rfl
theorem q1354 : (Jvm.Cond.selects "DeltaIndex$Given" ({ cls := "DeltaIndex$Sum", name := "of", desc := "(LDeltaIndex$Run;)I" } : Jvm.MethodName) ({ cls := "DeltaIndex$Given", name := "of", desc := "(LDeltaIndex$Run;)I" } : Jvm.MethodName)) ∈ lw_all := lw_g (lw_at lw_m6 12 rfl) rfl
theorem q1355 : (Jvm.Cond.instanceMethod ({ cls := "DeltaIndex$Given", name := "of", desc := "(LDeltaIndex$Run;)I" } : Jvm.MethodName)) ∈ lw_all := lw_g (lw_at lw_m6 13 rfl) rfl
theorem q1356 : (Jvm.Cond.code ({ cls := "DeltaIndex$Given", name := "of", desc := "(LDeltaIndex$Run;)I" } : Jvm.MethodName) prog_4_method_2_code (2 : Nat) (Option.some Jvm.ClassFile.FieldType.int)) ∈ lw_all := lw_g (lw_at lw_m6 14 rfl) rfl
theorem q2370 : (Jvm.Cond.castable "DeltaIndex$Given" "java/lang/Object") ∈ lw_tbl := lw_at lw_m10 68 rfl
theorem in_X12 : ∀ w ∈ wsX120, w ∈ lw_all := lw_in wsX120 [1113] (by decide +kernel) (by decide +kernel)

/-! DeltaIndex$Var -/
set_option maxRecDepth 100000
def RX13 : String := "DeltaIndex$Var"
def TX13 : u_T := fun k => match k with
  | _ => ("DeltaIndex$Var", "which", "I", true)
def tyX13 : Nat → FieldType := fun k => match k with
  | _ => .int
abbrev wsX130 : List Cond := u_ws RX13 TX13 1
theorem nmX13 : ∀ a, a < 1 → ∀ b, b < 1 → a ≠ b → (TX13 a).2.1 ≠ (TX13 b).2.1 := by decide +kernel
theorem tyX13_ok : ∀ k, k < 1 → parseFieldDescriptor (TX13 k).2.2.1 = some (tyX13 k) := by decide +kernel
abbrev cX13_init : ByteArray := prog_18_method_1_code
def yX13_init : MethodName := ⟨RX13, "<init>", "(I)V"⟩
def dkwX13_init_0 : List UInt8 := [42, 183, 0, 1, 42, 27, 181, 0, 7, 177]
abbrev dktX13_init_0 : List UInt8 := dkwX13_init_0 ++ []
theorem dksX13_init_0 : cX13_init.data.toList.drop 0 = dktX13_init_0 := by decide +kernel
theorem dX13_init_0 : decode cX13_init 0 = .ok (.aload_n 0, 1) := dk_42 (dk_at dksX13_init_0 0 rfl rfl)
theorem dX13_init_1 : decode cX13_init 1 = .ok (.invokespecial 1, 3) := dk_183 0 1 (dk_at dksX13_init_0 1 rfl rfl)
theorem dX13_init_4 : decode cX13_init 4 = .ok (.aload_n 0, 1) := dk_42 (dk_at dksX13_init_0 4 rfl rfl)
theorem dX13_init_5 : decode cX13_init 5 = .ok (.iload_n 1, 1) := dk_27 (dk_at dksX13_init_0 5 rfl rfl)
theorem dX13_init_6 : decode cX13_init 6 = .ok (.putfield 7, 3) := dk_181 0 7 (dk_at dksX13_init_0 6 rfl rfl)
theorem dX13_init_9 : decode cX13_init 9 = .ok (.return_, 1) := dk_177 (dk_at dksX13_init_0 9 rfl rfl)
abbrev cX13_of : ByteArray := prog_18_method_2_code
def yX13_of : MethodName := ⟨RX13, "of", "(LDeltaIndex$Run;)I"⟩
def dkwX13_of_4 : List UInt8 := [182, 0, 35, 172]
abbrev dktX13_of_4 : List UInt8 := dkwX13_of_4 ++ []
def dkwX13_of_3 : List UInt8 := [167, 0, 27, 43, 180, 0, 29, 167, 0, 20, 43, 180, 0, 19, 180, 0, 32, 167, 0, 10, 43, 180, 0, 19]
abbrev dktX13_of_3 : List UInt8 := dkwX13_of_3 ++ dktX13_of_4
def dkwX13_of_2 : List UInt8 := [43, 3, 182, 0, 13, 167, 0, 45, 43, 4, 182, 0, 13, 167, 0, 37, 43, 180, 0, 19, 182, 0, 23]
abbrev dktX13_of_2 : List UInt8 := dkwX13_of_2 ++ dktX13_of_3
def dkwX13_of_1 : List UInt8 := [170, 0, 0, 0, 0, 0, 0, 79, 0, 0, 0, 0, 0, 0, 0, 4, 0, 0, 0, 36, 0, 0, 0, 44, 0, 0, 0, 52, 0, 0, 0, 62, 0, 0, 0, 69]
abbrev dktX13_of_1 : List UInt8 := dkwX13_of_1 ++ dktX13_of_2
def dkwX13_of_0 : List UInt8 := [42, 180, 0, 7]
abbrev dktX13_of_0 : List UInt8 := dkwX13_of_0 ++ dktX13_of_1
theorem dksX13_of_0 : cX13_of.data.toList.drop 0 = dktX13_of_0 := by decide +kernel
theorem dksX13_of_1 : cX13_of.data.toList.drop 4 = dktX13_of_1 := dk_seg dksX13_of_0 4 rfl rfl
theorem dksX13_of_2 : cX13_of.data.toList.drop 40 = dktX13_of_2 := dk_seg dksX13_of_1 36 rfl rfl
theorem dksX13_of_3 : cX13_of.data.toList.drop 63 = dktX13_of_3 := dk_seg dksX13_of_2 23 rfl rfl
theorem dksX13_of_4 : cX13_of.data.toList.drop 87 = dktX13_of_4 := dk_seg dksX13_of_3 24 rfl rfl
theorem dX13_of_0 : decode cX13_of 0 = .ok (.aload_n 0, 1) := dk_42 (dk_at dksX13_of_0 0 rfl rfl)
theorem dX13_of_1 : decode cX13_of 1 = .ok (.getfield 7, 3) := dk_180 0 7 (dk_at dksX13_of_0 1 rfl rfl)
theorem dX13_of_4 : decode cX13_of 4 = .ok (.tableswitch 79 0 4 #[36, 44, 52, 62, 69], 36) := by decide +kernel
theorem dX13_of_40 : decode cX13_of 40 = .ok (.aload_n 1, 1) := dk_43 (dk_at dksX13_of_2 0 rfl rfl)
theorem dX13_of_41 : decode cX13_of 41 = .ok (.iconst 0, 1) := dk_3 (dk_at dksX13_of_2 1 rfl rfl)
theorem dX13_of_42 : decode cX13_of 42 = .ok (.invokevirtual 13, 3) := dk_182 0 13 (dk_at dksX13_of_2 2 rfl rfl)
theorem dX13_of_45 : decode cX13_of 45 = .ok (.goto 45, 3) := dk_167 0 45 (dk_at dksX13_of_2 5 rfl rfl)
theorem dX13_of_48 : decode cX13_of 48 = .ok (.aload_n 1, 1) := dk_43 (dk_at dksX13_of_2 8 rfl rfl)
theorem dX13_of_49 : decode cX13_of 49 = .ok (.iconst 1, 1) := dk_4 (dk_at dksX13_of_2 9 rfl rfl)
theorem dX13_of_50 : decode cX13_of 50 = .ok (.invokevirtual 13, 3) := dk_182 0 13 (dk_at dksX13_of_2 10 rfl rfl)
theorem dX13_of_53 : decode cX13_of 53 = .ok (.goto 37, 3) := dk_167 0 37 (dk_at dksX13_of_2 13 rfl rfl)
theorem dX13_of_56 : decode cX13_of 56 = .ok (.aload_n 1, 1) := dk_43 (dk_at dksX13_of_2 16 rfl rfl)
theorem dX13_of_57 : decode cX13_of 57 = .ok (.getfield 19, 3) := dk_180 0 19 (dk_at dksX13_of_2 17 rfl rfl)
theorem dX13_of_60 : decode cX13_of 60 = .ok (.invokevirtual 23, 3) := dk_182 0 23 (dk_at dksX13_of_2 20 rfl rfl)
theorem dX13_of_63 : decode cX13_of 63 = .ok (.goto 27, 3) := dk_167 0 27 (dk_at dksX13_of_3 0 rfl rfl)
theorem dX13_of_66 : decode cX13_of 66 = .ok (.aload_n 1, 1) := dk_43 (dk_at dksX13_of_3 3 rfl rfl)
theorem dX13_of_67 : decode cX13_of 67 = .ok (.getfield 29, 3) := dk_180 0 29 (dk_at dksX13_of_3 4 rfl rfl)
theorem dX13_of_70 : decode cX13_of 70 = .ok (.goto 20, 3) := dk_167 0 20 (dk_at dksX13_of_3 7 rfl rfl)
theorem dX13_of_73 : decode cX13_of 73 = .ok (.aload_n 1, 1) := dk_43 (dk_at dksX13_of_3 10 rfl rfl)
theorem dX13_of_74 : decode cX13_of 74 = .ok (.getfield 19, 3) := dk_180 0 19 (dk_at dksX13_of_3 11 rfl rfl)
theorem dX13_of_77 : decode cX13_of 77 = .ok (.getfield 32, 3) := dk_180 0 32 (dk_at dksX13_of_3 14 rfl rfl)
theorem dX13_of_80 : decode cX13_of 80 = .ok (.goto 10, 3) := dk_167 0 10 (dk_at dksX13_of_3 17 rfl rfl)
theorem dX13_of_83 : decode cX13_of 83 = .ok (.aload_n 1, 1) := dk_43 (dk_at dksX13_of_3 20 rfl rfl)
theorem dX13_of_84 : decode cX13_of 84 = .ok (.getfield 19, 3) := dk_180 0 19 (dk_at dksX13_of_3 21 rfl rfl)
theorem dX13_of_87 : decode cX13_of 87 = .ok (.invokevirtual 35, 3) := dk_182 0 35 (dk_at dksX13_of_4 0 rfl rfl)
theorem dX13_of_90 : decode cX13_of 90 = .ok (.ireturn, 1) := dk_172 (dk_at dksX13_of_4 3 rfl rfl)
theorem q172 : (Jvm.Cond.initialized "DeltaIndex$Var") ∈ lw_all := lw_g (lw_at lw_m1 30 rfl) rfl
theorem q508 : (Jvm.Cond.fieldLink "DeltaIndex$Var" (32 : Nat) "DeltaIndex$Store" "records" "I") ∈ lw_all := lw_g (lw_at lw_m2 126 rfl) rfl
theorem q1117 : (Jvm.Cond.instantiable "DeltaIndex$Var" (1 : Nat)) ∈ lw_all := lw_g (lw_at lw_m5 15 rfl) rfl
theorem q1119 : (Jvm.Cond.instanceMethod ({ cls := "DeltaIndex$Var", name := "<init>", desc := "(I)V" } : Jvm.MethodName)) ∈ lw_all := lw_g (lw_at lw_m5 17 rfl) rfl
theorem q1120 : (Jvm.Cond.code ({ cls := "DeltaIndex$Var", name := "<init>", desc := "(I)V" } : Jvm.MethodName) prog_18_method_1_code (2 : Nat) (Option.none : Option Jvm.ClassFile.FieldType)) ∈ lw_all := lw_g (lw_at lw_m5 18 rfl) rfl
theorem q1121 : (Jvm.Cond.methodLinkNest "DeltaIndex$Var" (1 : Nat) ({ cls := "DeltaIndex$Sum", name := "<init>", desc := "()V" } : Jvm.MethodName) "DeltaIndex") ∈ lw_tbl := lw_at lw_m5 19 rfl
theorem q1122 : (Jvm.Cond.fieldLink "DeltaIndex$Var" (7 : Nat) "DeltaIndex$Var" "which" "I") ∈ lw_all := lw_g (lw_at lw_m5 20 rfl) rfl
theorem q1123 : (Jvm.Cond.laysFinal "DeltaIndex$Var" "DeltaIndex$Var" "which" "I") ∈ lw_all := lw_g (lw_at lw_m5 21 rfl) rfl
theorem q1124 : (Jvm.Cond.soleField "DeltaIndex$Var" "which") ∈ lw_all := lw_g (lw_at lw_m5 22 rfl) rfl
theorem q1125 : (Jvm.Cond.superclass "DeltaIndex$Var" "DeltaIndex$Sum") ∈ lw_all := lw_g (lw_at lw_m5 23 rfl) rfl
theorem q1245 : (Jvm.Cond.selects "DeltaIndex$Var" ({ cls := "java/lang/Object", name := "getClass", desc := "()Ljava/lang/Class;" } : Jvm.MethodName) ({ cls := "java/lang/Object", name := "getClass", desc := "()Ljava/lang/Class;" } : Jvm.MethodName)) ∈ lw_all := lw_g (lw_at lw_m5 143 rfl) rfl
theorem q1274 : (Jvm.Cond.fieldLink "DeltaIndex$Var" (19 : Nat) "DeltaIndex$Run" "store" "LDeltaIndex$Store;") ∈ lw_all := lw_g (lw_at lw_m5 172 rfl) rfl
theorem q1280 : (Jvm.Cond.fieldLink "DeltaIndex$Var" (29 : Nat) "DeltaIndex$Run" "last" "I") ∈ lw_all := lw_g (lw_at lw_m5 178 rfl) rfl
theorem q1361 : (Jvm.Cond.instanceMethod ({ cls := "DeltaIndex$Var", name := "of", desc := "(LDeltaIndex$Run;)I" } : Jvm.MethodName)) ∈ lw_all := lw_g (lw_at lw_m6 19 rfl) rfl
theorem q1362 : (Jvm.Cond.code ({ cls := "DeltaIndex$Var", name := "of", desc := "(LDeltaIndex$Run;)I" } : Jvm.MethodName) prog_18_method_2_code (2 : Nat) (Option.some Jvm.ClassFile.FieldType.int)) ∈ lw_all := lw_g (lw_at lw_m6 20 rfl) rfl
theorem q1363 : (Jvm.Cond.methodLink "DeltaIndex$Var" (13 : Nat) ({ cls := "DeltaIndex$Run", name := "round", desc := "(I)I" } : Jvm.MethodName)) ∈ lw_all := lw_g (lw_at lw_m6 21 rfl) rfl
theorem q1367 : (Jvm.Cond.methodLink "DeltaIndex$Var" (23 : Nat) ({ cls := "DeltaIndex$Store", name := "keys", desc := "()I" } : Jvm.MethodName)) ∈ lw_all := lw_g (lw_at lw_m6 25 rfl) rfl
theorem q1400 : (Jvm.Cond.methodLink "DeltaIndex$Var" (35 : Nat) ({ cls := "DeltaIndex$Store", name := "lostOfAll", desc := "()I" } : Jvm.MethodName)) ∈ lw_all := lw_g (lw_at lw_m6 58 rfl) rfl
theorem q1404 : (Jvm.Cond.selects "DeltaIndex$Var" ({ cls := "DeltaIndex$Sum", name := "of", desc := "(LDeltaIndex$Run;)I" } : Jvm.MethodName) ({ cls := "DeltaIndex$Var", name := "of", desc := "(LDeltaIndex$Run;)I" } : Jvm.MethodName)) ∈ lw_all := lw_g (lw_at lw_m6 62 rfl) rfl
theorem q2371 : (Jvm.Cond.castable "DeltaIndex$Var" "java/lang/Object") ∈ lw_tbl := lw_at lw_m10 69 rfl
theorem in_X13 : ∀ w ∈ wsX130, w ∈ lw_all := lw_in wsX130 [1123] (by decide +kernel) (by decide +kernel)

/-! DeltaIndex$Joined -/
set_option maxRecDepth 100000
def RX14 : String := "DeltaIndex$Joined"
def TX14 : u_T := fun k => match k with
  | 0 => ("DeltaIndex$Joined", "op", "I", true)
  | 1 => ("DeltaIndex$Joined", "a", "LDeltaIndex$Sum;", true)
  | _ => ("DeltaIndex$Joined", "b", "LDeltaIndex$Sum;", true)
def tyX14 : Nat → FieldType := fun k => match k with
  | 0 => .int
  | 1 => .object "DeltaIndex$Sum"
  | _ => .object "DeltaIndex$Sum"
abbrev wsX140 : List Cond := u_ws RX14 TX14 3
theorem nmX14 : ∀ a, a < 3 → ∀ b, b < 3 → a ≠ b → (TX14 a).2.1 ≠ (TX14 b).2.1 := by decide +kernel
theorem tyX14_ok : ∀ k, k < 3 → parseFieldDescriptor (TX14 k).2.2.1 = some (tyX14 k) := by decide +kernel
abbrev cX14_init : ByteArray := prog_7_method_1_code
def yX14_init : MethodName := ⟨RX14, "<init>", "(ILDeltaIndex$Sum;LDeltaIndex$Sum;)V"⟩
def dkwX14_init_0 : List UInt8 := [42, 183, 0, 1, 42, 27, 181, 0, 7, 42, 44, 181, 0, 13, 42, 45, 181, 0, 17, 177]
abbrev dktX14_init_0 : List UInt8 := dkwX14_init_0 ++ []
theorem dksX14_init_0 : cX14_init.data.toList.drop 0 = dktX14_init_0 := by decide +kernel
theorem dX14_init_0 : decode cX14_init 0 = .ok (.aload_n 0, 1) := dk_42 (dk_at dksX14_init_0 0 rfl rfl)
theorem dX14_init_1 : decode cX14_init 1 = .ok (.invokespecial 1, 3) := dk_183 0 1 (dk_at dksX14_init_0 1 rfl rfl)
theorem dX14_init_4 : decode cX14_init 4 = .ok (.aload_n 0, 1) := dk_42 (dk_at dksX14_init_0 4 rfl rfl)
theorem dX14_init_5 : decode cX14_init 5 = .ok (.iload_n 1, 1) := dk_27 (dk_at dksX14_init_0 5 rfl rfl)
theorem dX14_init_6 : decode cX14_init 6 = .ok (.putfield 7, 3) := dk_181 0 7 (dk_at dksX14_init_0 6 rfl rfl)
theorem dX14_init_9 : decode cX14_init 9 = .ok (.aload_n 0, 1) := dk_42 (dk_at dksX14_init_0 9 rfl rfl)
theorem dX14_init_10 : decode cX14_init 10 = .ok (.aload_n 2, 1) := dk_44 (dk_at dksX14_init_0 10 rfl rfl)
theorem dX14_init_11 : decode cX14_init 11 = .ok (.putfield 13, 3) := dk_181 0 13 (dk_at dksX14_init_0 11 rfl rfl)
theorem dX14_init_14 : decode cX14_init 14 = .ok (.aload_n 0, 1) := dk_42 (dk_at dksX14_init_0 14 rfl rfl)
theorem dX14_init_15 : decode cX14_init 15 = .ok (.aload_n 3, 1) := dk_45 (dk_at dksX14_init_0 15 rfl rfl)
theorem dX14_init_16 : decode cX14_init 16 = .ok (.putfield 17, 3) := dk_181 0 17 (dk_at dksX14_init_0 16 rfl rfl)
theorem dX14_init_19 : decode cX14_init 19 = .ok (.return_, 1) := dk_177 (dk_at dksX14_init_0 19 rfl rfl)
abbrev cX14_of : ByteArray := prog_7_method_2_code
def yX14_of : MethodName := ⟨RX14, "of", "(LDeltaIndex$Run;)I"⟩
def dkwX14_of_3 : List UInt8 := [167, 0, 20, 28, 29, 108, 167, 0, 14, 29, 154, 0, 7, 3, 167, 0, 6, 28, 29, 112, 172]
abbrev dktX14_of_3 : List UInt8 := dkwX14_of_3 ++ []
def dkwX14_of_2 : List UInt8 := [28, 29, 96, 167, 0, 40, 28, 29, 100, 167, 0, 34, 28, 29, 104, 167, 0, 28, 29, 154, 0, 7, 3]
abbrev dktX14_of_2 : List UInt8 := dkwX14_of_2 ++ dktX14_of_3
def dkwX14_of_1 : List UInt8 := [170, 0, 0, 0, 0, 70, 0, 0, 0, 42, 0, 0, 0, 47, 0, 0, 0, 50, 0, 0, 0, 38, 0, 0, 0, 70, 0, 0, 0, 44, 0, 0, 0, 70, 0, 0, 0, 56]
abbrev dktX14_of_1 : List UInt8 := dkwX14_of_1 ++ dktX14_of_2
def dkwX14_of_0 : List UInt8 := [42, 180, 0, 13, 43, 182, 0, 20, 61, 42, 180, 0, 17, 43, 182, 0, 20, 62, 42, 180, 0, 7]
abbrev dktX14_of_0 : List UInt8 := dkwX14_of_0 ++ dktX14_of_1
theorem dksX14_of_0 : cX14_of.data.toList.drop 0 = dktX14_of_0 := by decide +kernel
theorem dksX14_of_1 : cX14_of.data.toList.drop 22 = dktX14_of_1 := dk_seg dksX14_of_0 22 rfl rfl
theorem dksX14_of_2 : cX14_of.data.toList.drop 60 = dktX14_of_2 := dk_seg dksX14_of_1 38 rfl rfl
theorem dksX14_of_3 : cX14_of.data.toList.drop 83 = dktX14_of_3 := dk_seg dksX14_of_2 23 rfl rfl
theorem dX14_of_0 : decode cX14_of 0 = .ok (.aload_n 0, 1) := dk_42 (dk_at dksX14_of_0 0 rfl rfl)
theorem dX14_of_1 : decode cX14_of 1 = .ok (.getfield 13, 3) := dk_180 0 13 (dk_at dksX14_of_0 1 rfl rfl)
theorem dX14_of_4 : decode cX14_of 4 = .ok (.aload_n 1, 1) := dk_43 (dk_at dksX14_of_0 4 rfl rfl)
theorem dX14_of_5 : decode cX14_of 5 = .ok (.invokevirtual 20, 3) := dk_182 0 20 (dk_at dksX14_of_0 5 rfl rfl)
theorem dX14_of_8 : decode cX14_of 8 = .ok (.istore_n 2, 1) := dk_61 (dk_at dksX14_of_0 8 rfl rfl)
theorem dX14_of_9 : decode cX14_of 9 = .ok (.aload_n 0, 1) := dk_42 (dk_at dksX14_of_0 9 rfl rfl)
theorem dX14_of_10 : decode cX14_of 10 = .ok (.getfield 17, 3) := dk_180 0 17 (dk_at dksX14_of_0 10 rfl rfl)
theorem dX14_of_13 : decode cX14_of 13 = .ok (.aload_n 1, 1) := dk_43 (dk_at dksX14_of_0 13 rfl rfl)
theorem dX14_of_14 : decode cX14_of 14 = .ok (.invokevirtual 20, 3) := dk_182 0 20 (dk_at dksX14_of_0 14 rfl rfl)
theorem dX14_of_17 : decode cX14_of 17 = .ok (.istore_n 3, 1) := dk_62 (dk_at dksX14_of_0 17 rfl rfl)
theorem dX14_of_18 : decode cX14_of 18 = .ok (.aload_n 0, 1) := dk_42 (dk_at dksX14_of_0 18 rfl rfl)
theorem dX14_of_19 : decode cX14_of 19 = .ok (.getfield 7, 3) := dk_180 0 7 (dk_at dksX14_of_0 19 rfl rfl)
theorem dX14_of_22 : decode cX14_of 22 = .ok (.tableswitch 70 42 47 #[50, 38, 70, 44, 70, 56], 38) := by decide +kernel
theorem dX14_of_60 : decode cX14_of 60 = .ok (.iload_n 2, 1) := dk_28 (dk_at dksX14_of_2 0 rfl rfl)
theorem dX14_of_61 : decode cX14_of 61 = .ok (.iload_n 3, 1) := dk_29 (dk_at dksX14_of_2 1 rfl rfl)
theorem dX14_of_62 : decode cX14_of 62 = .ok (.iadd, 1) := dk_96 (dk_at dksX14_of_2 2 rfl rfl)
theorem dX14_of_63 : decode cX14_of 63 = .ok (.goto 40, 3) := dk_167 0 40 (dk_at dksX14_of_2 3 rfl rfl)
theorem dX14_of_66 : decode cX14_of 66 = .ok (.iload_n 2, 1) := dk_28 (dk_at dksX14_of_2 6 rfl rfl)
theorem dX14_of_67 : decode cX14_of 67 = .ok (.iload_n 3, 1) := dk_29 (dk_at dksX14_of_2 7 rfl rfl)
theorem dX14_of_68 : decode cX14_of 68 = .ok (.isub, 1) := dk_100 (dk_at dksX14_of_2 8 rfl rfl)
theorem dX14_of_69 : decode cX14_of 69 = .ok (.goto 34, 3) := dk_167 0 34 (dk_at dksX14_of_2 9 rfl rfl)
theorem dX14_of_72 : decode cX14_of 72 = .ok (.iload_n 2, 1) := dk_28 (dk_at dksX14_of_2 12 rfl rfl)
theorem dX14_of_73 : decode cX14_of 73 = .ok (.iload_n 3, 1) := dk_29 (dk_at dksX14_of_2 13 rfl rfl)
theorem dX14_of_74 : decode cX14_of 74 = .ok (.imul, 1) := dk_104 (dk_at dksX14_of_2 14 rfl rfl)
theorem dX14_of_75 : decode cX14_of 75 = .ok (.goto 28, 3) := dk_167 0 28 (dk_at dksX14_of_2 15 rfl rfl)
theorem dX14_of_78 : decode cX14_of 78 = .ok (.iload_n 3, 1) := dk_29 (dk_at dksX14_of_2 18 rfl rfl)
theorem dX14_of_79 : decode cX14_of 79 = .ok (.ifCond .ne 7, 3) := dk_154 0 7 (dk_at dksX14_of_2 19 rfl rfl)
theorem dX14_of_82 : decode cX14_of 82 = .ok (.iconst 0, 1) := dk_3 (dk_at dksX14_of_2 22 rfl rfl)
theorem dX14_of_83 : decode cX14_of 83 = .ok (.goto 20, 3) := dk_167 0 20 (dk_at dksX14_of_3 0 rfl rfl)
theorem dX14_of_86 : decode cX14_of 86 = .ok (.iload_n 2, 1) := dk_28 (dk_at dksX14_of_3 3 rfl rfl)
theorem dX14_of_87 : decode cX14_of 87 = .ok (.iload_n 3, 1) := dk_29 (dk_at dksX14_of_3 4 rfl rfl)
theorem dX14_of_88 : decode cX14_of 88 = .ok (.idiv, 1) := dk_108 (dk_at dksX14_of_3 5 rfl rfl)
theorem dX14_of_89 : decode cX14_of 89 = .ok (.goto 14, 3) := dk_167 0 14 (dk_at dksX14_of_3 6 rfl rfl)
theorem dX14_of_92 : decode cX14_of 92 = .ok (.iload_n 3, 1) := dk_29 (dk_at dksX14_of_3 9 rfl rfl)
theorem dX14_of_93 : decode cX14_of 93 = .ok (.ifCond .ne 7, 3) := dk_154 0 7 (dk_at dksX14_of_3 10 rfl rfl)
theorem dX14_of_96 : decode cX14_of 96 = .ok (.iconst 0, 1) := dk_3 (dk_at dksX14_of_3 13 rfl rfl)
theorem dX14_of_97 : decode cX14_of 97 = .ok (.goto 6, 3) := dk_167 0 6 (dk_at dksX14_of_3 14 rfl rfl)
theorem dX14_of_100 : decode cX14_of 100 = .ok (.iload_n 2, 1) := dk_28 (dk_at dksX14_of_3 17 rfl rfl)
theorem dX14_of_101 : decode cX14_of 101 = .ok (.iload_n 3, 1) := dk_29 (dk_at dksX14_of_3 18 rfl rfl)
theorem dX14_of_102 : decode cX14_of 102 = .ok (.irem, 1) := dk_112 (dk_at dksX14_of_3 19 rfl rfl)
theorem dX14_of_103 : decode cX14_of 103 = .ok (.ireturn, 1) := dk_172 (dk_at dksX14_of_3 20 rfl rfl)
theorem q173 : (Jvm.Cond.initialized "DeltaIndex$Joined") ∈ lw_all := lw_g (lw_at lw_m1 31 rfl) rfl
theorem q1127 : (Jvm.Cond.instantiable "DeltaIndex$Joined" (3 : Nat)) ∈ lw_all := lw_g (lw_at lw_m5 25 rfl) rfl
theorem q1129 : (Jvm.Cond.instanceMethod ({ cls := "DeltaIndex$Joined", name := "<init>", desc := "(ILDeltaIndex$Sum;LDeltaIndex$Sum;)V" } : Jvm.MethodName)) ∈ lw_all := lw_g (lw_at lw_m5 27 rfl) rfl
theorem q1130 : (Jvm.Cond.code ({ cls := "DeltaIndex$Joined", name := "<init>", desc := "(ILDeltaIndex$Sum;LDeltaIndex$Sum;)V" } : Jvm.MethodName) prog_7_method_1_code (4 : Nat) (Option.none : Option Jvm.ClassFile.FieldType)) ∈ lw_all := lw_g (lw_at lw_m5 28 rfl) rfl
theorem q1131 : (Jvm.Cond.methodLinkNest "DeltaIndex$Joined" (1 : Nat) ({ cls := "DeltaIndex$Sum", name := "<init>", desc := "()V" } : Jvm.MethodName) "DeltaIndex") ∈ lw_tbl := lw_at lw_m5 29 rfl
theorem q1132 : (Jvm.Cond.fieldLink "DeltaIndex$Joined" (7 : Nat) "DeltaIndex$Joined" "op" "I") ∈ lw_all := lw_g (lw_at lw_m5 30 rfl) rfl
theorem q1133 : (Jvm.Cond.fieldLink "DeltaIndex$Joined" (13 : Nat) "DeltaIndex$Joined" "a" "LDeltaIndex$Sum;") ∈ lw_all := lw_g (lw_at lw_m5 31 rfl) rfl
theorem q1134 : (Jvm.Cond.fieldLink "DeltaIndex$Joined" (17 : Nat) "DeltaIndex$Joined" "b" "LDeltaIndex$Sum;") ∈ lw_all := lw_g (lw_at lw_m5 32 rfl) rfl
theorem q1135 : (Jvm.Cond.laysFinal "DeltaIndex$Joined" "DeltaIndex$Joined" "op" "I") ∈ lw_all := lw_g (lw_at lw_m5 33 rfl) rfl
theorem q1136 : (Jvm.Cond.soleField "DeltaIndex$Joined" "op") ∈ lw_all := lw_g (lw_at lw_m5 34 rfl) rfl
theorem q1137 : (Jvm.Cond.laysFinal "DeltaIndex$Joined" "DeltaIndex$Joined" "a" "LDeltaIndex$Sum;") ∈ lw_all := lw_g (lw_at lw_m5 35 rfl) rfl
theorem q1138 : (Jvm.Cond.soleField "DeltaIndex$Joined" "a") ∈ lw_all := lw_g (lw_at lw_m5 36 rfl) rfl
theorem q1139 : (Jvm.Cond.laysFinal "DeltaIndex$Joined" "DeltaIndex$Joined" "b" "LDeltaIndex$Sum;") ∈ lw_all := lw_g (lw_at lw_m5 37 rfl) rfl
theorem q1140 : (Jvm.Cond.soleField "DeltaIndex$Joined" "b") ∈ lw_all := lw_g (lw_at lw_m5 38 rfl) rfl
theorem q1141 : (Jvm.Cond.superclass "DeltaIndex$Joined" "DeltaIndex$Sum") ∈ lw_all := lw_g (lw_at lw_m5 39 rfl) rfl
theorem q1236 : (Jvm.Cond.selects "DeltaIndex$Joined" ({ cls := "java/lang/Object", name := "getClass", desc := "()Ljava/lang/Class;" } : Jvm.MethodName) ({ cls := "java/lang/Object", name := "getClass", desc := "()Ljava/lang/Class;" } : Jvm.MethodName)) ∈ lw_all := lw_g (lw_at lw_m5 134 rfl) rfl
theorem q1357 : (Jvm.Cond.selects "DeltaIndex$Joined" ({ cls := "DeltaIndex$Sum", name := "of", desc := "(LDeltaIndex$Run;)I" } : Jvm.MethodName) ({ cls := "DeltaIndex$Joined", name := "of", desc := "(LDeltaIndex$Run;)I" } : Jvm.MethodName)) ∈ lw_all := lw_g (lw_at lw_m6 15 rfl) rfl
theorem q1358 : (Jvm.Cond.instanceMethod ({ cls := "DeltaIndex$Joined", name := "of", desc := "(LDeltaIndex$Run;)I" } : Jvm.MethodName)) ∈ lw_all := lw_g (lw_at lw_m6 16 rfl) rfl
theorem q1359 : (Jvm.Cond.code ({ cls := "DeltaIndex$Joined", name := "of", desc := "(LDeltaIndex$Run;)I" } : Jvm.MethodName) prog_7_method_2_code (4 : Nat) (Option.some Jvm.ClassFile.FieldType.int)) ∈ lw_all := lw_g (lw_at lw_m6 17 rfl) rfl
theorem q1360 : (Jvm.Cond.methodLink "DeltaIndex$Joined" (20 : Nat) ({ cls := "DeltaIndex$Sum", name := "of", desc := "(LDeltaIndex$Run;)I" } : Jvm.MethodName)) ∈ lw_all := lw_g (lw_at lw_m6 18 rfl) rfl
theorem q2372 : (Jvm.Cond.castable "DeltaIndex$Joined" "java/lang/Object") ∈ lw_tbl := lw_at lw_m10 70 rfl
theorem in_X14 : ∀ w ∈ wsX140, w ∈ lw_all := lw_in wsX140 [1135, 1137, 1139] (by decide +kernel) (by decide +kernel)

/-! DeltaIndex$Begin -/
set_option maxRecDepth 100000
def RX15 : String := "DeltaIndex$Begin"
def TX15 : u_T := fun k => match k with
  | 0 => ("DeltaIndex$Begin", "hand", "I", true)
  | 1 => ("DeltaIndex$Begin", "act", "I", true)
  | 2 => ("DeltaIndex$Begin", "closed", "Z", true)
  | 3 => ("DeltaIndex$Begin", "key", "LDeltaIndex$Sum;", true)
  | _ => ("DeltaIndex$Begin", "value", "LDeltaIndex$Sum;", true)
def tyX15 : Nat → FieldType := fun k => match k with
  | 0 => .int
  | 1 => .int
  | 2 => .boolean
  | 3 => .object "DeltaIndex$Sum"
  | _ => .object "DeltaIndex$Sum"
abbrev wsX150 : List Cond := u_ws RX15 TX15 5
theorem nmX15 : ∀ a, a < 5 → ∀ b, b < 5 → a ≠ b → (TX15 a).2.1 ≠ (TX15 b).2.1 := by decide +kernel
theorem tyX15_ok : ∀ k, k < 5 → parseFieldDescriptor (TX15 k).2.2.1 = some (tyX15 k) := by decide +kernel
abbrev cX15_init : ByteArray := prog_2_method_1_code
def yX15_init : MethodName := ⟨RX15, "<init>", "(IIZLDeltaIndex$Sum;LDeltaIndex$Sum;)V"⟩
def dkwX15_init_1 : List UInt8 := [181, 0, 22, 42, 25, 5, 181, 0, 26, 177]
abbrev dktX15_init_1 : List UInt8 := dkwX15_init_1 ++ []
def dkwX15_init_0 : List UInt8 := [42, 183, 0, 3, 42, 27, 181, 0, 9, 42, 28, 181, 0, 15, 42, 29, 181, 0, 18, 42, 25, 4]
abbrev dktX15_init_0 : List UInt8 := dkwX15_init_0 ++ dktX15_init_1
theorem dksX15_init_0 : cX15_init.data.toList.drop 0 = dktX15_init_0 := by decide +kernel
theorem dksX15_init_1 : cX15_init.data.toList.drop 22 = dktX15_init_1 := dk_seg dksX15_init_0 22 rfl rfl
theorem dX15_init_0 : decode cX15_init 0 = .ok (.aload_n 0, 1) := dk_42 (dk_at dksX15_init_0 0 rfl rfl)
theorem dX15_init_1 : decode cX15_init 1 = .ok (.invokespecial 3, 3) := dk_183 0 3 (dk_at dksX15_init_0 1 rfl rfl)
theorem dX15_init_4 : decode cX15_init 4 = .ok (.aload_n 0, 1) := dk_42 (dk_at dksX15_init_0 4 rfl rfl)
theorem dX15_init_5 : decode cX15_init 5 = .ok (.iload_n 1, 1) := dk_27 (dk_at dksX15_init_0 5 rfl rfl)
theorem dX15_init_6 : decode cX15_init 6 = .ok (.putfield 9, 3) := dk_181 0 9 (dk_at dksX15_init_0 6 rfl rfl)
theorem dX15_init_9 : decode cX15_init 9 = .ok (.aload_n 0, 1) := dk_42 (dk_at dksX15_init_0 9 rfl rfl)
theorem dX15_init_10 : decode cX15_init 10 = .ok (.iload_n 2, 1) := dk_28 (dk_at dksX15_init_0 10 rfl rfl)
theorem dX15_init_11 : decode cX15_init 11 = .ok (.putfield 15, 3) := dk_181 0 15 (dk_at dksX15_init_0 11 rfl rfl)
theorem dX15_init_14 : decode cX15_init 14 = .ok (.aload_n 0, 1) := dk_42 (dk_at dksX15_init_0 14 rfl rfl)
theorem dX15_init_15 : decode cX15_init 15 = .ok (.iload_n 3, 1) := dk_29 (dk_at dksX15_init_0 15 rfl rfl)
theorem dX15_init_16 : decode cX15_init 16 = .ok (.putfield 18, 3) := dk_181 0 18 (dk_at dksX15_init_0 16 rfl rfl)
theorem dX15_init_19 : decode cX15_init 19 = .ok (.aload_n 0, 1) := dk_42 (dk_at dksX15_init_0 19 rfl rfl)
theorem dX15_init_20 : decode cX15_init 20 = .ok (.aload 4, 2) := dk_25 4 (dk_at dksX15_init_0 20 rfl rfl)
theorem dX15_init_22 : decode cX15_init 22 = .ok (.putfield 22, 3) := dk_181 0 22 (dk_at dksX15_init_1 0 rfl rfl)
theorem dX15_init_25 : decode cX15_init 25 = .ok (.aload_n 0, 1) := dk_42 (dk_at dksX15_init_1 3 rfl rfl)
theorem dX15_init_26 : decode cX15_init 26 = .ok (.aload 5, 2) := dk_25 5 (dk_at dksX15_init_1 4 rfl rfl)
theorem dX15_init_28 : decode cX15_init 28 = .ok (.putfield 26, 3) := dk_181 0 26 (dk_at dksX15_init_1 6 rfl rfl)
theorem dX15_init_31 : decode cX15_init 31 = .ok (.return_, 1) := dk_177 (dk_at dksX15_init_1 9 rfl rfl)
abbrev cX15_does : ByteArray := prog_2_method_2_code
def yX15_does : MethodName := ⟨RX15, "does", "(LDeltaIndex$Run;)V"⟩
def dkwX15_does_3 : List UInt8 := [180, 0, 18, 153, 0, 15, 43, 180, 0, 41, 42, 180, 0, 9, 182, 0, 56, 87, 177]
abbrev dktX15_does_3 : List UInt8 := dkwX15_does_3 ++ []
def dkwX15_does_2 : List UInt8 := [21, 4, 153, 0, 16, 42, 180, 0, 15, 4, 160, 0, 8, 43, 28, 181, 0, 53, 21, 4, 153, 0, 22, 42]
abbrev dktX15_does_2 : List UInt8 := dkwX15_does_2 ++ dktX15_does_3
def dkwX15_does_1 : List UInt8 := [43, 182, 0, 35, 62, 43, 180, 0, 41, 42, 180, 0, 9, 42, 180, 0, 15, 28, 29, 182, 0, 47, 54, 4]
abbrev dktX15_does_1 : List UInt8 := dkwX15_does_1 ++ dktX15_does_2
def dkwX15_does_0 : List UInt8 := [42, 180, 0, 22, 43, 184, 0, 29, 61, 42, 180, 0, 26, 199, 0, 7, 3, 167, 0, 11, 42, 180, 0, 26]
abbrev dktX15_does_0 : List UInt8 := dkwX15_does_0 ++ dktX15_does_1
theorem dksX15_does_0 : cX15_does.data.toList.drop 0 = dktX15_does_0 := by decide +kernel
theorem dksX15_does_1 : cX15_does.data.toList.drop 24 = dktX15_does_1 := dk_seg dksX15_does_0 24 rfl rfl
theorem dksX15_does_2 : cX15_does.data.toList.drop 48 = dktX15_does_2 := dk_seg dksX15_does_1 24 rfl rfl
theorem dksX15_does_3 : cX15_does.data.toList.drop 72 = dktX15_does_3 := dk_seg dksX15_does_2 24 rfl rfl
theorem dX15_does_0 : decode cX15_does 0 = .ok (.aload_n 0, 1) := dk_42 (dk_at dksX15_does_0 0 rfl rfl)
theorem dX15_does_1 : decode cX15_does 1 = .ok (.getfield 22, 3) := dk_180 0 22 (dk_at dksX15_does_0 1 rfl rfl)
theorem dX15_does_4 : decode cX15_does 4 = .ok (.aload_n 1, 1) := dk_43 (dk_at dksX15_does_0 4 rfl rfl)
theorem dX15_does_5 : decode cX15_does 5 = .ok (.invokestatic 29, 3) := dk_184 0 29 (dk_at dksX15_does_0 5 rfl rfl)
theorem dX15_does_8 : decode cX15_does 8 = .ok (.istore_n 2, 1) := dk_61 (dk_at dksX15_does_0 8 rfl rfl)
theorem dX15_does_9 : decode cX15_does 9 = .ok (.aload_n 0, 1) := dk_42 (dk_at dksX15_does_0 9 rfl rfl)
theorem dX15_does_10 : decode cX15_does 10 = .ok (.getfield 26, 3) := dk_180 0 26 (dk_at dksX15_does_0 10 rfl rfl)
theorem dX15_does_13 : decode cX15_does 13 = .ok (.ifnonnull 7, 3) := dk_199 0 7 (dk_at dksX15_does_0 13 rfl rfl)
theorem dX15_does_16 : decode cX15_does 16 = .ok (.iconst 0, 1) := dk_3 (dk_at dksX15_does_0 16 rfl rfl)
theorem dX15_does_17 : decode cX15_does 17 = .ok (.goto 11, 3) := dk_167 0 11 (dk_at dksX15_does_0 17 rfl rfl)
theorem dX15_does_20 : decode cX15_does 20 = .ok (.aload_n 0, 1) := dk_42 (dk_at dksX15_does_0 20 rfl rfl)
theorem dX15_does_21 : decode cX15_does 21 = .ok (.getfield 26, 3) := dk_180 0 26 (dk_at dksX15_does_0 21 rfl rfl)
theorem dX15_does_24 : decode cX15_does 24 = .ok (.aload_n 1, 1) := dk_43 (dk_at dksX15_does_1 0 rfl rfl)
theorem dX15_does_25 : decode cX15_does 25 = .ok (.invokevirtual 35, 3) := dk_182 0 35 (dk_at dksX15_does_1 1 rfl rfl)
theorem dX15_does_28 : decode cX15_does 28 = .ok (.istore_n 3, 1) := dk_62 (dk_at dksX15_does_1 4 rfl rfl)
theorem dX15_does_29 : decode cX15_does 29 = .ok (.aload_n 1, 1) := dk_43 (dk_at dksX15_does_1 5 rfl rfl)
theorem dX15_does_30 : decode cX15_does 30 = .ok (.getfield 41, 3) := dk_180 0 41 (dk_at dksX15_does_1 6 rfl rfl)
theorem dX15_does_33 : decode cX15_does 33 = .ok (.aload_n 0, 1) := dk_42 (dk_at dksX15_does_1 9 rfl rfl)
theorem dX15_does_34 : decode cX15_does 34 = .ok (.getfield 9, 3) := dk_180 0 9 (dk_at dksX15_does_1 10 rfl rfl)
theorem dX15_does_37 : decode cX15_does 37 = .ok (.aload_n 0, 1) := dk_42 (dk_at dksX15_does_1 13 rfl rfl)
theorem dX15_does_38 : decode cX15_does 38 = .ok (.getfield 15, 3) := dk_180 0 15 (dk_at dksX15_does_1 14 rfl rfl)
theorem dX15_does_41 : decode cX15_does 41 = .ok (.iload_n 2, 1) := dk_28 (dk_at dksX15_does_1 17 rfl rfl)
theorem dX15_does_42 : decode cX15_does 42 = .ok (.iload_n 3, 1) := dk_29 (dk_at dksX15_does_1 18 rfl rfl)
theorem dX15_does_43 : decode cX15_does 43 = .ok (.invokevirtual 47, 3) := dk_182 0 47 (dk_at dksX15_does_1 19 rfl rfl)
theorem dX15_does_46 : decode cX15_does 46 = .ok (.istore 4, 2) := dk_54 4 (dk_at dksX15_does_1 22 rfl rfl)
theorem dX15_does_48 : decode cX15_does 48 = .ok (.iload 4, 2) := dk_21 4 (dk_at dksX15_does_2 0 rfl rfl)
theorem dX15_does_50 : decode cX15_does 50 = .ok (.ifCond .eq 16, 3) := dk_153 0 16 (dk_at dksX15_does_2 2 rfl rfl)
theorem dX15_does_53 : decode cX15_does 53 = .ok (.aload_n 0, 1) := dk_42 (dk_at dksX15_does_2 5 rfl rfl)
theorem dX15_does_54 : decode cX15_does 54 = .ok (.getfield 15, 3) := dk_180 0 15 (dk_at dksX15_does_2 6 rfl rfl)
theorem dX15_does_57 : decode cX15_does 57 = .ok (.iconst 1, 1) := dk_4 (dk_at dksX15_does_2 9 rfl rfl)
theorem dX15_does_58 : decode cX15_does 58 = .ok (.if_icmp .ne 8, 3) := dk_160 0 8 (dk_at dksX15_does_2 10 rfl rfl)
theorem dX15_does_61 : decode cX15_does 61 = .ok (.aload_n 1, 1) := dk_43 (dk_at dksX15_does_2 13 rfl rfl)
theorem dX15_does_62 : decode cX15_does 62 = .ok (.iload_n 2, 1) := dk_28 (dk_at dksX15_does_2 14 rfl rfl)
theorem dX15_does_63 : decode cX15_does 63 = .ok (.putfield 53, 3) := dk_181 0 53 (dk_at dksX15_does_2 15 rfl rfl)
theorem dX15_does_66 : decode cX15_does 66 = .ok (.iload 4, 2) := dk_21 4 (dk_at dksX15_does_2 18 rfl rfl)
theorem dX15_does_68 : decode cX15_does 68 = .ok (.ifCond .eq 22, 3) := dk_153 0 22 (dk_at dksX15_does_2 20 rfl rfl)
theorem dX15_does_71 : decode cX15_does 71 = .ok (.aload_n 0, 1) := dk_42 (dk_at dksX15_does_2 23 rfl rfl)
theorem dX15_does_72 : decode cX15_does 72 = .ok (.getfield 18, 3) := dk_180 0 18 (dk_at dksX15_does_3 0 rfl rfl)
theorem dX15_does_75 : decode cX15_does 75 = .ok (.ifCond .eq 15, 3) := dk_153 0 15 (dk_at dksX15_does_3 3 rfl rfl)
theorem dX15_does_78 : decode cX15_does 78 = .ok (.aload_n 1, 1) := dk_43 (dk_at dksX15_does_3 6 rfl rfl)
theorem dX15_does_79 : decode cX15_does 79 = .ok (.getfield 41, 3) := dk_180 0 41 (dk_at dksX15_does_3 7 rfl rfl)
theorem dX15_does_82 : decode cX15_does 82 = .ok (.aload_n 0, 1) := dk_42 (dk_at dksX15_does_3 10 rfl rfl)
theorem dX15_does_83 : decode cX15_does 83 = .ok (.getfield 9, 3) := dk_180 0 9 (dk_at dksX15_does_3 11 rfl rfl)
theorem dX15_does_86 : decode cX15_does 86 = .ok (.invokevirtual 56, 3) := dk_182 0 56 (dk_at dksX15_does_3 14 rfl rfl)
theorem dX15_does_89 : decode cX15_does 89 = .ok (.pop, 1) := dk_87 (dk_at dksX15_does_3 17 rfl rfl)
theorem dX15_does_90 : decode cX15_does 90 = .ok (.return_, 1) := dk_177 (dk_at dksX15_does_3 18 rfl rfl)
theorem q174 : (Jvm.Cond.initialized "DeltaIndex$Begin") ∈ lw_all := lw_g (lw_at lw_m1 32 rfl) rfl
theorem q1143 : (Jvm.Cond.instantiable "DeltaIndex$Begin" (5 : Nat)) ∈ lw_all := lw_g (lw_at lw_m5 41 rfl) rfl
theorem q1145 : (Jvm.Cond.instanceMethod ({ cls := "DeltaIndex$Begin", name := "<init>", desc := "(IIZLDeltaIndex$Sum;LDeltaIndex$Sum;)V" } : Jvm.MethodName)) ∈ lw_all := lw_g (lw_at lw_m5 43 rfl) rfl
theorem q1146 : (Jvm.Cond.code ({ cls := "DeltaIndex$Begin", name := "<init>", desc := "(IIZLDeltaIndex$Sum;LDeltaIndex$Sum;)V" } : Jvm.MethodName) prog_2_method_1_code (6 : Nat) (Option.none : Option Jvm.ClassFile.FieldType)) ∈ lw_all := lw_g (lw_at lw_m5 44 rfl) rfl
theorem q1147 : (Jvm.Cond.methodLink "DeltaIndex$Begin" (3 : Nat) ({ cls := "java/lang/Object", name := "<init>", desc := "()V" } : Jvm.MethodName)) ∈ lw_all := lw_g (lw_at lw_m5 45 rfl) rfl
theorem q1148 : (Jvm.Cond.fieldLink "DeltaIndex$Begin" (9 : Nat) "DeltaIndex$Begin" "hand" "I") ∈ lw_all := lw_g (lw_at lw_m5 46 rfl) rfl
theorem q1149 : (Jvm.Cond.fieldLink "DeltaIndex$Begin" (15 : Nat) "DeltaIndex$Begin" "act" "I") ∈ lw_all := lw_g (lw_at lw_m5 47 rfl) rfl
theorem q1150 : (Jvm.Cond.fieldLink "DeltaIndex$Begin" (18 : Nat) "DeltaIndex$Begin" "closed" "Z") ∈ lw_all := lw_g (lw_at lw_m5 48 rfl) rfl
theorem q1151 : (Jvm.Cond.fieldLink "DeltaIndex$Begin" (22 : Nat) "DeltaIndex$Begin" "key" "LDeltaIndex$Sum;") ∈ lw_all := lw_g (lw_at lw_m5 49 rfl) rfl
theorem q1152 : (Jvm.Cond.fieldLink "DeltaIndex$Begin" (26 : Nat) "DeltaIndex$Begin" "value" "LDeltaIndex$Sum;") ∈ lw_all := lw_g (lw_at lw_m5 50 rfl) rfl
theorem q1153 : (Jvm.Cond.laysFinal "DeltaIndex$Begin" "DeltaIndex$Begin" "hand" "I") ∈ lw_all := lw_g (lw_at lw_m5 51 rfl) rfl
theorem q1154 : (Jvm.Cond.soleField "DeltaIndex$Begin" "hand") ∈ lw_all := lw_g (lw_at lw_m5 52 rfl) rfl
theorem q1155 : (Jvm.Cond.laysFinal "DeltaIndex$Begin" "DeltaIndex$Begin" "act" "I") ∈ lw_all := lw_g (lw_at lw_m5 53 rfl) rfl
theorem q1156 : (Jvm.Cond.soleField "DeltaIndex$Begin" "act") ∈ lw_all := lw_g (lw_at lw_m5 54 rfl) rfl
theorem q1157 : (Jvm.Cond.laysFinal "DeltaIndex$Begin" "DeltaIndex$Begin" "closed" "Z") ∈ lw_all := lw_g (lw_at lw_m5 55 rfl) rfl
theorem q1158 : (Jvm.Cond.soleField "DeltaIndex$Begin" "closed") ∈ lw_all := lw_g (lw_at lw_m5 56 rfl) rfl
theorem q1159 : (Jvm.Cond.laysFinal "DeltaIndex$Begin" "DeltaIndex$Begin" "key" "LDeltaIndex$Sum;") ∈ lw_all := lw_g (lw_at lw_m5 57 rfl) rfl
theorem q1160 : (Jvm.Cond.soleField "DeltaIndex$Begin" "key") ∈ lw_all := lw_g (lw_at lw_m5 58 rfl) rfl
theorem q1161 : (Jvm.Cond.laysFinal "DeltaIndex$Begin" "DeltaIndex$Begin" "value" "LDeltaIndex$Sum;") ∈ lw_all := lw_g (lw_at lw_m5 59 rfl) rfl
theorem q1162 : (Jvm.Cond.soleField "DeltaIndex$Begin" "value") ∈ lw_all := lw_g (lw_at lw_m5 60 rfl) rfl
theorem q1163 : (Jvm.Cond.superclass "DeltaIndex$Begin" "java/lang/Object") ∈ lw_all := lw_g (lw_at lw_m5 61 rfl) rfl
theorem q1231 : (Jvm.Cond.selects "DeltaIndex$Begin" ({ cls := "java/lang/Object", name := "getClass", desc := "()Ljava/lang/Class;" } : Jvm.MethodName) ({ cls := "java/lang/Object", name := "getClass", desc := "()Ljava/lang/Class;" } : Jvm.MethodName)) ∈ lw_all := lw_g (lw_at lw_m5 129 rfl) rfl
theorem q1273 : (Jvm.Cond.fieldLink "DeltaIndex$Begin" (41 : Nat) "DeltaIndex$Run" "store" "LDeltaIndex$Store;") ∈ lw_all := lw_g (lw_at lw_m5 171 rfl) rfl
theorem q1279 : (Jvm.Cond.fieldLink "DeltaIndex$Begin" (53 : Nat) "DeltaIndex$Run" "last" "I") ∈ lw_all := lw_g (lw_at lw_m5 177 rfl) rfl
theorem q1324 : (Jvm.Cond.castable "DeltaIndex$Begin" "DeltaIndex$Tell") ∈ lw_tbl := lw_at lw_m5 222 rfl
theorem q1325 : (Jvm.Cond.unhidden "DeltaIndex$Begin" "counts" "()I") ∈ lw_tbl := lw_at lw_m5 223 rfl
theorem q1343 : (Jvm.Cond.selects "DeltaIndex$Begin" ({ cls := "DeltaIndex$Tell", name := "does", desc := "(LDeltaIndex$Run;)V" } : Jvm.MethodName) ({ cls := "DeltaIndex$Begin", name := "does", desc := "(LDeltaIndex$Run;)V" } : Jvm.MethodName)) ∈ lw_all := lw_g (lw_at lw_m6 1 rfl) rfl
theorem q1344 : (Jvm.Cond.unhidden "DeltaIndex$Begin" "does" "(LDeltaIndex$Run;)V") ∈ lw_tbl := lw_at lw_m6 2 rfl
theorem q1345 : (Jvm.Cond.instanceMethod ({ cls := "DeltaIndex$Begin", name := "does", desc := "(LDeltaIndex$Run;)V" } : Jvm.MethodName)) ∈ lw_all := lw_g (lw_at lw_m6 3 rfl) rfl
theorem q1346 : (Jvm.Cond.publicMethod ({ cls := "DeltaIndex$Begin", name := "does", desc := "(LDeltaIndex$Run;)V" } : Jvm.MethodName)) ∈ lw_tbl := lw_at lw_m6 4 rfl
theorem q1347 : (Jvm.Cond.code ({ cls := "DeltaIndex$Begin", name := "does", desc := "(LDeltaIndex$Run;)V" } : Jvm.MethodName) prog_2_method_2_code (5 : Nat) (Option.none : Option Jvm.ClassFile.FieldType)) ∈ lw_all := lw_g (lw_at lw_m6 5 rfl) rfl
theorem q1348 : (Jvm.Cond.methodLink "DeltaIndex$Begin" (29 : Nat) ({ cls := "DeltaIndex$Tell", name := "keyOf", desc := "(LDeltaIndex$Sum;LDeltaIndex$Run;)I" } : Jvm.MethodName)) ∈ lw_all := lw_g (lw_at lw_m6 6 rfl) rfl
theorem q1408 : (Jvm.Cond.methodLink "DeltaIndex$Begin" (35 : Nat) ({ cls := "DeltaIndex$Sum", name := "of", desc := "(LDeltaIndex$Run;)I" } : Jvm.MethodName)) ∈ lw_all := lw_g (lw_at lw_m6 66 rfl) rfl
theorem q1409 : (Jvm.Cond.methodLink "DeltaIndex$Begin" (47 : Nat) ({ cls := "DeltaIndex$Store", name := "takesUp", desc := "(IIII)Z" } : Jvm.MethodName)) ∈ lw_all := lw_g (lw_at lw_m6 67 rfl) rfl
theorem q1413 : (Jvm.Cond.methodLink "DeltaIndex$Begin" (56 : Nat) ({ cls := "DeltaIndex$Store", name := "closes", desc := "(I)I" } : Jvm.MethodName)) ∈ lw_all := lw_g (lw_at lw_m6 71 rfl) rfl
theorem q2373 : (Jvm.Cond.castable "DeltaIndex$Begin" "java/lang/Object") ∈ lw_tbl := lw_at lw_m10 71 rfl
theorem in_X15 : ∀ w ∈ wsX150, w ∈ lw_all := lw_in wsX150 [1153, 1155, 1157, 1159, 1161] (by decide +kernel) (by decide +kernel)

/-! DeltaIndex$Go -/
set_option maxRecDepth 100000
def RX16 : String := "DeltaIndex$Go"
def TX16 : u_T := fun k => match k with
  | 0 => ("DeltaIndex$Go", "hand", "I", true)
  | _ => ("DeltaIndex$Go", "whole", "Z", true)
def tyX16 : Nat → FieldType := fun k => match k with
  | 0 => .int
  | _ => .boolean
abbrev wsX160 : List Cond := u_ws RX16 TX16 2
theorem nmX16 : ∀ a, a < 2 → ∀ b, b < 2 → a ≠ b → (TX16 a).2.1 ≠ (TX16 b).2.1 := by decide +kernel
theorem tyX16_ok : ∀ k, k < 2 → parseFieldDescriptor (TX16 k).2.2.1 = some (tyX16 k) := by decide +kernel
abbrev cX16_init : ByteArray := prog_5_method_1_code
def yX16_init : MethodName := ⟨RX16, "<init>", "(IZ)V"⟩
def dkwX16_init_0 : List UInt8 := [42, 183, 0, 1, 42, 27, 181, 0, 7, 42, 28, 181, 0, 13, 177]
abbrev dktX16_init_0 : List UInt8 := dkwX16_init_0 ++ []
theorem dksX16_init_0 : cX16_init.data.toList.drop 0 = dktX16_init_0 := by decide +kernel
theorem dX16_init_0 : decode cX16_init 0 = .ok (.aload_n 0, 1) := dk_42 (dk_at dksX16_init_0 0 rfl rfl)
theorem dX16_init_1 : decode cX16_init 1 = .ok (.invokespecial 1, 3) := dk_183 0 1 (dk_at dksX16_init_0 1 rfl rfl)
theorem dX16_init_4 : decode cX16_init 4 = .ok (.aload_n 0, 1) := dk_42 (dk_at dksX16_init_0 4 rfl rfl)
theorem dX16_init_5 : decode cX16_init 5 = .ok (.iload_n 1, 1) := dk_27 (dk_at dksX16_init_0 5 rfl rfl)
theorem dX16_init_6 : decode cX16_init 6 = .ok (.putfield 7, 3) := dk_181 0 7 (dk_at dksX16_init_0 6 rfl rfl)
theorem dX16_init_9 : decode cX16_init 9 = .ok (.aload_n 0, 1) := dk_42 (dk_at dksX16_init_0 9 rfl rfl)
theorem dX16_init_10 : decode cX16_init 10 = .ok (.iload_n 2, 1) := dk_28 (dk_at dksX16_init_0 10 rfl rfl)
theorem dX16_init_11 : decode cX16_init 11 = .ok (.putfield 13, 3) := dk_181 0 13 (dk_at dksX16_init_0 11 rfl rfl)
theorem dX16_init_14 : decode cX16_init 14 = .ok (.return_, 1) := dk_177 (dk_at dksX16_init_0 14 rfl rfl)
abbrev cX16_does : ByteArray := prog_5_method_2_code
def yX16_does : MethodName := ⟨RX16, "does", "(LDeltaIndex$Run;)V"⟩
def dkwX16_does_1 : List UInt8 := [180, 0, 17, 42, 180, 0, 7, 182, 0, 29, 87, 177]
abbrev dktX16_does_1 : List UInt8 := dkwX16_does_1 ++ []
def dkwX16_does_0 : List UInt8 := [42, 180, 0, 13, 153, 0, 18, 43, 180, 0, 17, 42, 180, 0, 7, 182, 0, 23, 87, 167, 0, 15, 43]
abbrev dktX16_does_0 : List UInt8 := dkwX16_does_0 ++ dktX16_does_1
theorem dksX16_does_0 : cX16_does.data.toList.drop 0 = dktX16_does_0 := by decide +kernel
theorem dksX16_does_1 : cX16_does.data.toList.drop 23 = dktX16_does_1 := dk_seg dksX16_does_0 23 rfl rfl
theorem dX16_does_0 : decode cX16_does 0 = .ok (.aload_n 0, 1) := dk_42 (dk_at dksX16_does_0 0 rfl rfl)
theorem dX16_does_1 : decode cX16_does 1 = .ok (.getfield 13, 3) := dk_180 0 13 (dk_at dksX16_does_0 1 rfl rfl)
theorem dX16_does_4 : decode cX16_does 4 = .ok (.ifCond .eq 18, 3) := dk_153 0 18 (dk_at dksX16_does_0 4 rfl rfl)
theorem dX16_does_7 : decode cX16_does 7 = .ok (.aload_n 1, 1) := dk_43 (dk_at dksX16_does_0 7 rfl rfl)
theorem dX16_does_8 : decode cX16_does 8 = .ok (.getfield 17, 3) := dk_180 0 17 (dk_at dksX16_does_0 8 rfl rfl)
theorem dX16_does_11 : decode cX16_does 11 = .ok (.aload_n 0, 1) := dk_42 (dk_at dksX16_does_0 11 rfl rfl)
theorem dX16_does_12 : decode cX16_does 12 = .ok (.getfield 7, 3) := dk_180 0 7 (dk_at dksX16_does_0 12 rfl rfl)
theorem dX16_does_15 : decode cX16_does 15 = .ok (.invokevirtual 23, 3) := dk_182 0 23 (dk_at dksX16_does_0 15 rfl rfl)
theorem dX16_does_18 : decode cX16_does 18 = .ok (.pop, 1) := dk_87 (dk_at dksX16_does_0 18 rfl rfl)
theorem dX16_does_19 : decode cX16_does 19 = .ok (.goto 15, 3) := dk_167 0 15 (dk_at dksX16_does_0 19 rfl rfl)
theorem dX16_does_22 : decode cX16_does 22 = .ok (.aload_n 1, 1) := dk_43 (dk_at dksX16_does_0 22 rfl rfl)
theorem dX16_does_23 : decode cX16_does 23 = .ok (.getfield 17, 3) := dk_180 0 17 (dk_at dksX16_does_1 0 rfl rfl)
theorem dX16_does_26 : decode cX16_does 26 = .ok (.aload_n 0, 1) := dk_42 (dk_at dksX16_does_1 3 rfl rfl)
theorem dX16_does_27 : decode cX16_does 27 = .ok (.getfield 7, 3) := dk_180 0 7 (dk_at dksX16_does_1 4 rfl rfl)
theorem dX16_does_30 : decode cX16_does 30 = .ok (.invokevirtual 29, 3) := dk_182 0 29 (dk_at dksX16_does_1 7 rfl rfl)
theorem dX16_does_33 : decode cX16_does 33 = .ok (.pop, 1) := dk_87 (dk_at dksX16_does_1 10 rfl rfl)
theorem dX16_does_34 : decode cX16_does 34 = .ok (.return_, 1) := dk_177 (dk_at dksX16_does_1 11 rfl rfl)
theorem q175 : (Jvm.Cond.initialized "DeltaIndex$Go") ∈ lw_all := lw_g (lw_at lw_m1 33 rfl) rfl
theorem q1177 : (Jvm.Cond.instantiable "DeltaIndex$Go" (2 : Nat)) ∈ lw_all := lw_g (lw_at lw_m5 75 rfl) rfl
theorem q1179 : (Jvm.Cond.instanceMethod ({ cls := "DeltaIndex$Go", name := "<init>", desc := "(IZ)V" } : Jvm.MethodName)) ∈ lw_all := lw_g (lw_at lw_m5 77 rfl) rfl
theorem q1180 : (Jvm.Cond.code ({ cls := "DeltaIndex$Go", name := "<init>", desc := "(IZ)V" } : Jvm.MethodName) prog_5_method_1_code (3 : Nat) (Option.none : Option Jvm.ClassFile.FieldType)) ∈ lw_all := lw_g (lw_at lw_m5 78 rfl) rfl
theorem q1181 : (Jvm.Cond.methodLink "DeltaIndex$Go" (1 : Nat) ({ cls := "java/lang/Object", name := "<init>", desc := "()V" } : Jvm.MethodName)) ∈ lw_all := lw_g (lw_at lw_m5 79 rfl) rfl
theorem q1182 : (Jvm.Cond.fieldLink "DeltaIndex$Go" (7 : Nat) "DeltaIndex$Go" "hand" "I") ∈ lw_all := lw_g (lw_at lw_m5 80 rfl) rfl
theorem q1183 : (Jvm.Cond.fieldLink "DeltaIndex$Go" (13 : Nat) "DeltaIndex$Go" "whole" "Z") ∈ lw_all := lw_g (lw_at lw_m5 81 rfl) rfl
theorem q1184 : (Jvm.Cond.laysFinal "DeltaIndex$Go" "DeltaIndex$Go" "hand" "I") ∈ lw_all := lw_g (lw_at lw_m5 82 rfl) rfl
theorem q1185 : (Jvm.Cond.soleField "DeltaIndex$Go" "hand") ∈ lw_all := lw_g (lw_at lw_m5 83 rfl) rfl
theorem q1186 : (Jvm.Cond.laysFinal "DeltaIndex$Go" "DeltaIndex$Go" "whole" "Z") ∈ lw_all := lw_g (lw_at lw_m5 84 rfl) rfl
theorem q1187 : (Jvm.Cond.soleField "DeltaIndex$Go" "whole") ∈ lw_all := lw_g (lw_at lw_m5 85 rfl) rfl
theorem q1188 : (Jvm.Cond.superclass "DeltaIndex$Go" "java/lang/Object") ∈ lw_all := lw_g (lw_at lw_m5 86 rfl) rfl
theorem q1234 : (Jvm.Cond.selects "DeltaIndex$Go" ({ cls := "java/lang/Object", name := "getClass", desc := "()Ljava/lang/Class;" } : Jvm.MethodName) ({ cls := "java/lang/Object", name := "getClass", desc := "()Ljava/lang/Class;" } : Jvm.MethodName)) ∈ lw_all := lw_g (lw_at lw_m5 132 rfl) rfl
theorem q1272 : (Jvm.Cond.fieldLink "DeltaIndex$Go" (17 : Nat) "DeltaIndex$Run" "store" "LDeltaIndex$Store;") ∈ lw_all := lw_g (lw_at lw_m5 170 rfl) rfl
theorem q1329 : (Jvm.Cond.castable "DeltaIndex$Go" "DeltaIndex$Tell") ∈ lw_tbl := lw_at lw_m5 227 rfl
theorem q1330 : (Jvm.Cond.unhidden "DeltaIndex$Go" "counts" "()I") ∈ lw_tbl := lw_at lw_m5 228 rfl
theorem q1528 : (Jvm.Cond.selects "DeltaIndex$Go" ({ cls := "DeltaIndex$Tell", name := "does", desc := "(LDeltaIndex$Run;)V" } : Jvm.MethodName) ({ cls := "DeltaIndex$Go", name := "does", desc := "(LDeltaIndex$Run;)V" } : Jvm.MethodName)) ∈ lw_all := lw_g (lw_at lw_m6 186 rfl) rfl
theorem q1529 : (Jvm.Cond.unhidden "DeltaIndex$Go" "does" "(LDeltaIndex$Run;)V") ∈ lw_tbl := lw_at lw_m6 187 rfl
theorem q1530 : (Jvm.Cond.instanceMethod ({ cls := "DeltaIndex$Go", name := "does", desc := "(LDeltaIndex$Run;)V" } : Jvm.MethodName)) ∈ lw_all := lw_g (lw_at lw_m6 188 rfl) rfl
theorem q1531 : (Jvm.Cond.publicMethod ({ cls := "DeltaIndex$Go", name := "does", desc := "(LDeltaIndex$Run;)V" } : Jvm.MethodName)) ∈ lw_tbl := lw_at lw_m6 189 rfl
theorem q1532 : (Jvm.Cond.code ({ cls := "DeltaIndex$Go", name := "does", desc := "(LDeltaIndex$Run;)V" } : Jvm.MethodName) prog_5_method_2_code (2 : Nat) (Option.none : Option Jvm.ClassFile.FieldType)) ∈ lw_all := lw_g (lw_at lw_m6 190 rfl) rfl
theorem q1533 : (Jvm.Cond.methodLink "DeltaIndex$Go" (23 : Nat) ({ cls := "DeltaIndex$Store", name := "closes", desc := "(I)I" } : Jvm.MethodName)) ∈ lw_all := lw_g (lw_at lw_m6 191 rfl) rfl
theorem q1534 : (Jvm.Cond.methodLink "DeltaIndex$Go" (29 : Nat) ({ cls := "DeltaIndex$Store", name := "steps", desc := "(I)I" } : Jvm.MethodName)) ∈ lw_all := lw_g (lw_at lw_m6 192 rfl) rfl
theorem q2374 : (Jvm.Cond.castable "DeltaIndex$Go" "java/lang/Object") ∈ lw_tbl := lw_at lw_m10 72 rfl
theorem in_X16 : ∀ w ∈ wsX160, w ∈ lw_all := lw_in wsX160 [1184, 1186] (by decide +kernel) (by decide +kernel)

/-! DeltaIndex$Sweep -/
set_option maxRecDepth 100000
def RX17 : String := "DeltaIndex$Sweep"
abbrev cX17_init : ByteArray := prog_14_method_1_code
def yX17_init : MethodName := ⟨RX17, "<init>", "()V"⟩
theorem dX17_init_0 : decode cX17_init 0 = .ok (.aload_n 0, 1) := by decide +kernel
theorem dX17_init_1 : decode cX17_init 1 = .ok (.invokespecial 1, 3) := by decide +kernel
theorem dX17_init_4 : decode cX17_init 4 = .ok (.return_, 1) := by decide +kernel
abbrev cX17_does : ByteArray := prog_14_method_2_code
def yX17_does : MethodName := ⟨RX17, "does", "(LDeltaIndex$Run;)V"⟩
def dkwX17_does_0 : List UInt8 := [43, 180, 0, 7, 182, 0, 13, 87, 177]
abbrev dktX17_does_0 : List UInt8 := dkwX17_does_0 ++ []
theorem dksX17_does_0 : cX17_does.data.toList.drop 0 = dktX17_does_0 := by decide +kernel
theorem dX17_does_0 : decode cX17_does 0 = .ok (.aload_n 1, 1) := dk_43 (dk_at dksX17_does_0 0 rfl rfl)
theorem dX17_does_1 : decode cX17_does 1 = .ok (.getfield 7, 3) := dk_180 0 7 (dk_at dksX17_does_0 1 rfl rfl)
theorem dX17_does_4 : decode cX17_does 4 = .ok (.invokevirtual 13, 3) := dk_182 0 13 (dk_at dksX17_does_0 4 rfl rfl)
theorem dX17_does_7 : decode cX17_does 7 = .ok (.pop, 1) := dk_87 (dk_at dksX17_does_0 7 rfl rfl)
theorem dX17_does_8 : decode cX17_does 8 = .ok (.return_, 1) := dk_177 (dk_at dksX17_does_0 8 rfl rfl)
theorem q176 : (Jvm.Cond.initialized "DeltaIndex$Sweep") ∈ lw_all := lw_g (lw_at lw_m1 34 rfl) rfl
theorem q1194 : (Jvm.Cond.instantiable "DeltaIndex$Sweep" (0 : Nat)) ∈ lw_all := lw_g (lw_at lw_m5 92 rfl) rfl
theorem q1196 : (Jvm.Cond.instanceMethod ({ cls := "DeltaIndex$Sweep", name := "<init>", desc := "()V" } : Jvm.MethodName)) ∈ lw_all := lw_g (lw_at lw_m5 94 rfl) rfl
theorem q1197 : (Jvm.Cond.code ({ cls := "DeltaIndex$Sweep", name := "<init>", desc := "()V" } : Jvm.MethodName) prog_14_method_1_code (1 : Nat) (Option.none : Option Jvm.ClassFile.FieldType)) ∈ lw_all := lw_g (lw_at lw_m5 95 rfl) rfl
theorem q1198 : (Jvm.Cond.methodLink "DeltaIndex$Sweep" (1 : Nat) ({ cls := "java/lang/Object", name := "<init>", desc := "()V" } : Jvm.MethodName)) ∈ lw_all := lw_g (lw_at lw_m5 96 rfl) rfl
theorem q1199 : (Jvm.Cond.superclass "DeltaIndex$Sweep" "java/lang/Object") ∈ lw_all := lw_g (lw_at lw_m5 97 rfl) rfl
theorem q1242 : (Jvm.Cond.selects "DeltaIndex$Sweep" ({ cls := "java/lang/Object", name := "getClass", desc := "()Ljava/lang/Class;" } : Jvm.MethodName) ({ cls := "java/lang/Object", name := "getClass", desc := "()Ljava/lang/Class;" } : Jvm.MethodName)) ∈ lw_all := lw_g (lw_at lw_m5 140 rfl) rfl
theorem q1271 : (Jvm.Cond.fieldLink "DeltaIndex$Sweep" (7 : Nat) "DeltaIndex$Run" "store" "LDeltaIndex$Store;") ∈ lw_all := lw_g (lw_at lw_m5 169 rfl) rfl
theorem q1337 : (Jvm.Cond.castable "DeltaIndex$Sweep" "DeltaIndex$Tell") ∈ lw_tbl := lw_at lw_m5 235 rfl
theorem q1338 : (Jvm.Cond.unhidden "DeltaIndex$Sweep" "counts" "()I") ∈ lw_tbl := lw_at lw_m5 236 rfl
theorem q1541 : (Jvm.Cond.selects "DeltaIndex$Sweep" ({ cls := "DeltaIndex$Tell", name := "does", desc := "(LDeltaIndex$Run;)V" } : Jvm.MethodName) ({ cls := "DeltaIndex$Sweep", name := "does", desc := "(LDeltaIndex$Run;)V" } : Jvm.MethodName)) ∈ lw_all := lw_g (lw_at lw_m6 199 rfl) rfl
theorem q1542 : (Jvm.Cond.unhidden "DeltaIndex$Sweep" "does" "(LDeltaIndex$Run;)V") ∈ lw_tbl := lw_at lw_m6 200 rfl
theorem q1543 : (Jvm.Cond.instanceMethod ({ cls := "DeltaIndex$Sweep", name := "does", desc := "(LDeltaIndex$Run;)V" } : Jvm.MethodName)) ∈ lw_all := lw_g (lw_at lw_m6 201 rfl) rfl
theorem q1544 : (Jvm.Cond.publicMethod ({ cls := "DeltaIndex$Sweep", name := "does", desc := "(LDeltaIndex$Run;)V" } : Jvm.MethodName)) ∈ lw_tbl := lw_at lw_m6 202 rfl
theorem q1545 : (Jvm.Cond.code ({ cls := "DeltaIndex$Sweep", name := "does", desc := "(LDeltaIndex$Run;)V" } : Jvm.MethodName) prog_14_method_2_code (2 : Nat) (Option.none : Option Jvm.ClassFile.FieldType)) ∈ lw_all := lw_g (lw_at lw_m6 203 rfl) rfl
theorem q1546 : (Jvm.Cond.methodLink "DeltaIndex$Sweep" (13 : Nat) ({ cls := "DeltaIndex$Store", name := "sweeps", desc := "()I" } : Jvm.MethodName)) ∈ lw_all := lw_g (lw_at lw_m6 204 rfl) rfl
theorem q2375 : (Jvm.Cond.castable "DeltaIndex$Sweep" "java/lang/Object") ∈ lw_tbl := lw_at lw_m10 73 rfl

/-! DeltaIndex$Run -/
set_option maxRecDepth 100000
def RX18 : String := "DeltaIndex$Run"
def TX18 : u_T := fun k => match k with
  | 0 => ("DeltaIndex$Run", "store", "LDeltaIndex$Store;", true)
  | 1 => ("DeltaIndex$Run", "round", "[I", true)
  | 2 => ("DeltaIndex$Run", "deep", "I", false)
  | 3 => ("DeltaIndex$Run", "last", "I", false)
  | _ => ("DeltaIndex$Run", "done", "I", false)
def tyX18 : Nat → FieldType := fun k => match k with
  | 0 => .object "DeltaIndex$Store"
  | 1 => .array .int
  | 2 => .int
  | 3 => .int
  | _ => .int
abbrev wsX180 : List Cond := u_ws RX18 TX18 5
theorem nmX18 : ∀ a, a < 5 → ∀ b, b < 5 → a ≠ b → (TX18 a).2.1 ≠ (TX18 b).2.1 := by decide +kernel
theorem tyX18_ok : ∀ k, k < 5 → parseFieldDescriptor (TX18 k).2.2.1 = some (tyX18 k) := by decide +kernel
abbrev cX18_init : ByteArray := prog_11_method_1_code
def yX18_init : MethodName := ⟨RX18, "<init>", "(LDeltaIndex$Store;)V"⟩
def dkwX18_init_0 : List UInt8 := [42, 183, 0, 3, 42, 7, 188, 10, 181, 0, 9, 42, 43, 181, 0, 15, 177]
abbrev dktX18_init_0 : List UInt8 := dkwX18_init_0 ++ []
theorem dksX18_init_0 : cX18_init.data.toList.drop 0 = dktX18_init_0 := by decide +kernel
theorem dX18_init_0 : decode cX18_init 0 = .ok (.aload_n 0, 1) := dk_42 (dk_at dksX18_init_0 0 rfl rfl)
theorem dX18_init_1 : decode cX18_init 1 = .ok (.invokespecial 3, 3) := dk_183 0 3 (dk_at dksX18_init_0 1 rfl rfl)
theorem dX18_init_4 : decode cX18_init 4 = .ok (.aload_n 0, 1) := dk_42 (dk_at dksX18_init_0 4 rfl rfl)
theorem dX18_init_5 : decode cX18_init 5 = .ok (.iconst 4, 1) := dk_7 (dk_at dksX18_init_0 5 rfl rfl)
theorem dX18_init_6 : decode cX18_init 6 = .ok (.newarray .int, 2) := dk_188_10 (dk_at dksX18_init_0 6 rfl rfl)
theorem dX18_init_8 : decode cX18_init 8 = .ok (.putfield 9, 3) := dk_181 0 9 (dk_at dksX18_init_0 8 rfl rfl)
theorem dX18_init_11 : decode cX18_init 11 = .ok (.aload_n 0, 1) := dk_42 (dk_at dksX18_init_0 11 rfl rfl)
theorem dX18_init_12 : decode cX18_init 12 = .ok (.aload_n 1, 1) := dk_43 (dk_at dksX18_init_0 12 rfl rfl)
theorem dX18_init_13 : decode cX18_init 13 = .ok (.putfield 15, 3) := dk_181 0 15 (dk_at dksX18_init_0 13 rfl rfl)
theorem dX18_init_16 : decode cX18_init 16 = .ok (.return_, 1) := dk_177 (dk_at dksX18_init_0 16 rfl rfl)
abbrev cX18_isOver : ByteArray := prog_11_method_3_code
def yX18_isOver : MethodName := ⟨RX18, "isOver", "()Z"⟩
def dkwX18_isOver_0 : List UInt8 := [42, 180, 0, 23, 17, 1, 144, 160, 0, 7, 4, 167, 0, 4, 3, 172]
abbrev dktX18_isOver_0 : List UInt8 := dkwX18_isOver_0 ++ []
theorem dksX18_isOver_0 : cX18_isOver.data.toList.drop 0 = dktX18_isOver_0 := by decide +kernel
theorem dX18_isOver_0 : decode cX18_isOver 0 = .ok (.aload_n 0, 1) := dk_42 (dk_at dksX18_isOver_0 0 rfl rfl)
theorem dX18_isOver_1 : decode cX18_isOver 1 = .ok (.getfield 23, 3) := dk_180 0 23 (dk_at dksX18_isOver_0 1 rfl rfl)
theorem dX18_isOver_4 : decode cX18_isOver 4 = .ok (.sipush 400, 3) := dk_17 1 144 (dk_at dksX18_isOver_0 4 rfl rfl)
theorem dX18_isOver_7 : decode cX18_isOver 7 = .ok (.if_icmp .ne 7, 3) := dk_160 0 7 (dk_at dksX18_isOver_0 7 rfl rfl)
theorem dX18_isOver_10 : decode cX18_isOver 10 = .ok (.iconst 1, 1) := dk_4 (dk_at dksX18_isOver_0 10 rfl rfl)
theorem dX18_isOver_11 : decode cX18_isOver 11 = .ok (.goto 4, 3) := dk_167 0 4 (dk_at dksX18_isOver_0 11 rfl rfl)
theorem dX18_isOver_14 : decode cX18_isOver 14 = .ok (.iconst 0, 1) := dk_3 (dk_at dksX18_isOver_0 14 rfl rfl)
theorem dX18_isOver_15 : decode cX18_isOver 15 = .ok (.ireturn, 1) := dk_172 (dk_at dksX18_isOver_0 15 rfl rfl)
abbrev cX18_round : ByteArray := prog_11_method_2_code
def yX18_round : MethodName := ⟨RX18, "round", "(I)I"⟩
def dkwX18_round_1 : List UInt8 := [172]
abbrev dktX18_round_1 : List UInt8 := dkwX18_round_1 ++ []
def dkwX18_round_0 : List UInt8 := [42, 180, 0, 19, 27, 100, 157, 0, 7, 3, 167, 0, 14, 42, 180, 0, 9, 42, 180, 0, 19, 27, 100, 46]
abbrev dktX18_round_0 : List UInt8 := dkwX18_round_0 ++ dktX18_round_1
theorem dksX18_round_0 : cX18_round.data.toList.drop 0 = dktX18_round_0 := by decide +kernel
theorem dksX18_round_1 : cX18_round.data.toList.drop 24 = dktX18_round_1 := dk_seg dksX18_round_0 24 rfl rfl
theorem dX18_round_0 : decode cX18_round 0 = .ok (.aload_n 0, 1) := dk_42 (dk_at dksX18_round_0 0 rfl rfl)
theorem dX18_round_1 : decode cX18_round 1 = .ok (.getfield 19, 3) := dk_180 0 19 (dk_at dksX18_round_0 1 rfl rfl)
theorem dX18_round_4 : decode cX18_round 4 = .ok (.iload_n 1, 1) := dk_27 (dk_at dksX18_round_0 4 rfl rfl)
theorem dX18_round_5 : decode cX18_round 5 = .ok (.isub, 1) := dk_100 (dk_at dksX18_round_0 5 rfl rfl)
theorem dX18_round_6 : decode cX18_round 6 = .ok (.ifCond .gt 7, 3) := dk_157 0 7 (dk_at dksX18_round_0 6 rfl rfl)
theorem dX18_round_9 : decode cX18_round 9 = .ok (.iconst 0, 1) := dk_3 (dk_at dksX18_round_0 9 rfl rfl)
theorem dX18_round_10 : decode cX18_round 10 = .ok (.goto 14, 3) := dk_167 0 14 (dk_at dksX18_round_0 10 rfl rfl)
theorem dX18_round_13 : decode cX18_round 13 = .ok (.aload_n 0, 1) := dk_42 (dk_at dksX18_round_0 13 rfl rfl)
theorem dX18_round_14 : decode cX18_round 14 = .ok (.getfield 9, 3) := dk_180 0 9 (dk_at dksX18_round_0 14 rfl rfl)
theorem dX18_round_17 : decode cX18_round 17 = .ok (.aload_n 0, 1) := dk_42 (dk_at dksX18_round_0 17 rfl rfl)
theorem dX18_round_18 : decode cX18_round 18 = .ok (.getfield 19, 3) := dk_180 0 19 (dk_at dksX18_round_0 18 rfl rfl)
theorem dX18_round_21 : decode cX18_round 21 = .ok (.iload_n 1, 1) := dk_27 (dk_at dksX18_round_0 21 rfl rfl)
theorem dX18_round_22 : decode cX18_round 22 = .ok (.isub, 1) := dk_100 (dk_at dksX18_round_0 22 rfl rfl)
theorem dX18_round_23 : decode cX18_round 23 = .ok (.iaload, 1) := dk_46 (dk_at dksX18_round_0 23 rfl rfl)
theorem dX18_round_24 : decode cX18_round 24 = .ok (.ireturn, 1) := dk_172 (dk_at dksX18_round_1 0 rfl rfl)
theorem q177 : (Jvm.Cond.initialized "DeltaIndex$Run") ∈ lw_all := lw_g (lw_at lw_m1 35 rfl) rfl
theorem q1240 : (Jvm.Cond.selects "DeltaIndex$Run" ({ cls := "java/lang/Object", name := "getClass", desc := "()Ljava/lang/Class;" } : Jvm.MethodName) ({ cls := "java/lang/Object", name := "getClass", desc := "()Ljava/lang/Class;" } : Jvm.MethodName)) ∈ lw_all := lw_g (lw_at lw_m5 138 rfl) rfl
theorem q1265 : (Jvm.Cond.instantiable "DeltaIndex$Run" (5 : Nat)) ∈ lw_all := lw_g (lw_at lw_m5 163 rfl) rfl
theorem q1267 : (Jvm.Cond.instanceMethod ({ cls := "DeltaIndex$Run", name := "<init>", desc := "(LDeltaIndex$Store;)V" } : Jvm.MethodName)) ∈ lw_all := lw_g (lw_at lw_m5 165 rfl) rfl
theorem q1268 : (Jvm.Cond.code ({ cls := "DeltaIndex$Run", name := "<init>", desc := "(LDeltaIndex$Store;)V" } : Jvm.MethodName) prog_11_method_1_code (2 : Nat) (Option.none : Option Jvm.ClassFile.FieldType)) ∈ lw_all := lw_g (lw_at lw_m5 166 rfl) rfl
theorem q1269 : (Jvm.Cond.methodLink "DeltaIndex$Run" (3 : Nat) ({ cls := "java/lang/Object", name := "<init>", desc := "()V" } : Jvm.MethodName)) ∈ lw_all := lw_g (lw_at lw_m5 167 rfl) rfl
theorem q1270 : (Jvm.Cond.fieldLink "DeltaIndex$Run" (15 : Nat) "DeltaIndex$Run" "store" "LDeltaIndex$Store;") ∈ lw_all := lw_g (lw_at lw_m5 168 rfl) rfl
theorem q1275 : (Jvm.Cond.fieldLink "DeltaIndex$Run" (9 : Nat) "DeltaIndex$Run" "round" "[I") ∈ lw_all := lw_g (lw_at lw_m5 173 rfl) rfl
theorem q1277 : (Jvm.Cond.fieldLink "DeltaIndex$Run" (19 : Nat) "DeltaIndex$Run" "deep" "I") ∈ lw_all := lw_g (lw_at lw_m5 175 rfl) rfl
theorem q1281 : (Jvm.Cond.fieldLink "DeltaIndex$Run" (23 : Nat) "DeltaIndex$Run" "done" "I") ∈ lw_all := lw_g (lw_at lw_m5 179 rfl) rfl
theorem q1284 : (Jvm.Cond.laysFinal "DeltaIndex$Run" "DeltaIndex$Run" "store" "LDeltaIndex$Store;") ∈ lw_all := lw_g (lw_at lw_m5 182 rfl) rfl
theorem q1285 : (Jvm.Cond.soleField "DeltaIndex$Run" "store") ∈ lw_all := lw_g (lw_at lw_m5 183 rfl) rfl
theorem q1286 : (Jvm.Cond.laysFinal "DeltaIndex$Run" "DeltaIndex$Run" "round" "[I") ∈ lw_all := lw_g (lw_at lw_m5 184 rfl) rfl
theorem q1287 : (Jvm.Cond.soleField "DeltaIndex$Run" "round") ∈ lw_all := lw_g (lw_at lw_m5 185 rfl) rfl
theorem q1288 : (Jvm.Cond.lays "DeltaIndex$Run" "DeltaIndex$Run" "deep" "I") ∈ lw_all := lw_g (lw_at lw_m5 186 rfl) rfl
theorem q1289 : (Jvm.Cond.soleField "DeltaIndex$Run" "deep") ∈ lw_all := lw_g (lw_at lw_m5 187 rfl) rfl
theorem q1290 : (Jvm.Cond.lays "DeltaIndex$Run" "DeltaIndex$Run" "last" "I") ∈ lw_all := lw_g (lw_at lw_m5 188 rfl) rfl
theorem q1291 : (Jvm.Cond.soleField "DeltaIndex$Run" "last") ∈ lw_all := lw_g (lw_at lw_m5 189 rfl) rfl
theorem q1292 : (Jvm.Cond.lays "DeltaIndex$Run" "DeltaIndex$Run" "done" "I") ∈ lw_all := lw_g (lw_at lw_m5 190 rfl) rfl
theorem q1293 : (Jvm.Cond.soleField "DeltaIndex$Run" "done") ∈ lw_all := lw_g (lw_at lw_m5 191 rfl) rfl
theorem q1294 : (Jvm.Cond.superclass "DeltaIndex$Run" "java/lang/Object") ∈ lw_all := lw_g (lw_at lw_m5 192 rfl) rfl
theorem q1304 : (Jvm.Cond.instanceMethod ({ cls := "DeltaIndex$Run", name := "isOver", desc := "()Z" } : Jvm.MethodName)) ∈ lw_all := lw_g (lw_at lw_m5 202 rfl) rfl
theorem q1305 : (Jvm.Cond.selects "DeltaIndex$Run" ({ cls := "DeltaIndex$Run", name := "isOver", desc := "()Z" } : Jvm.MethodName) ({ cls := "DeltaIndex$Run", name := "isOver", desc := "()Z" } : Jvm.MethodName)) ∈ lw_all := lw_g (lw_at lw_m5 203 rfl) rfl
theorem q1306 : (Jvm.Cond.code ({ cls := "DeltaIndex$Run", name := "isOver", desc := "()Z" } : Jvm.MethodName) prog_11_method_3_code (1 : Nat) (Option.some Jvm.ClassFile.FieldType.boolean)) ∈ lw_all := lw_g (lw_at lw_m5 204 rfl) rfl
theorem q1364 : (Jvm.Cond.instanceMethod ({ cls := "DeltaIndex$Run", name := "round", desc := "(I)I" } : Jvm.MethodName)) ∈ lw_all := lw_g (lw_at lw_m6 22 rfl) rfl
theorem q1365 : (Jvm.Cond.selects "DeltaIndex$Run" ({ cls := "DeltaIndex$Run", name := "round", desc := "(I)I" } : Jvm.MethodName) ({ cls := "DeltaIndex$Run", name := "round", desc := "(I)I" } : Jvm.MethodName)) ∈ lw_all := lw_g (lw_at lw_m6 23 rfl) rfl
theorem q1366 : (Jvm.Cond.code ({ cls := "DeltaIndex$Run", name := "round", desc := "(I)I" } : Jvm.MethodName) prog_11_method_2_code (2 : Nat) (Option.some Jvm.ClassFile.FieldType.int)) ∈ lw_all := lw_g (lw_at lw_m6 24 rfl) rfl
theorem q2376 : (Jvm.Cond.castable "DeltaIndex$Run" "java/lang/Object") ∈ lw_tbl := lw_at lw_m10 74 rfl
theorem in_X18 : ∀ w ∈ wsX180, w ∈ lw_all := lw_in wsX180 [1284, 1286, 1288, 1290, 1292] (by decide +kernel) (by decide +kernel)
