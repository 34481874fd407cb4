theorem q142 : (Jvm.Cond.initialized "DeltaIndexLaw") ∈ lw_all := lw_g (lw_at lw_m1 0 rfl) rfl
set_option maxRecDepth 100000
theorem q179 : (Jvm.Cond.classLink "DeltaIndexLaw" (7 : Nat) "DeltaIndex") ∈ lw_all := lw_g (lw_at lw_m1 37 rfl) rfl
theorem q181 : (Jvm.Cond.methodLink "DeltaIndexLaw" (9 : Nat) ({ cls := "DeltaIndex", name := "<init>", desc := "()V" } : Jvm.MethodName)) ∈ lw_all := lw_g (lw_at lw_m1 39 rfl) rfl
theorem q689 : (Jvm.Cond.methodLink "DeltaIndexLaw" (13 : Nat) ({ cls := "DeltaIndex", name := "feed", desc := "(IIIII)I" } : Jvm.MethodName)) ∈ lw_all := lw_g (lw_at lw_m3 67 rfl) rfl
theorem q697 : (Jvm.Cond.methodLink "DeltaIndexLaw" (18 : Nat) ({ cls := "DeltaIndex", name := "back", desc := "(I)I" } : Jvm.MethodName)) ∈ lw_all := lw_g (lw_at lw_m3 75 rfl) rfl
theorem q701 : (Jvm.Cond.methodLink "DeltaIndexLaw" (23 : Nat) ({ cls := "DeltaIndex", name := "read", desc := "()I" } : Jvm.MethodName)) ∈ lw_all := lw_g (lw_at lw_m3 79 rfl) rfl
theorem q1551 : (Jvm.Cond.methodLink "DeltaIndexLaw" (28 : Nat) ({ cls := "DeltaIndex", name := "place", desc := "()I" } : Jvm.MethodName)) ∈ lw_all := lw_g (lw_at lw_m6 209 rfl) rfl
theorem q1555 : (Jvm.Cond.methodLink "DeltaIndexLaw" (32 : Nat) ({ cls := "DeltaIndex", name := "begin", desc := "(IIII)Z" } : Jvm.MethodName)) ∈ lw_all := lw_g (lw_at lw_m6 213 rfl) rfl
theorem q1569 : (Jvm.Cond.methodLink "DeltaIndexLaw" (37 : Nat) ({ cls := "DeltaIndex", name := "step", desc := "(I)I" } : Jvm.MethodName)) ∈ lw_all := lw_g (lw_at lw_m6 227 rfl) rfl
theorem q1574 : (Jvm.Cond.methodLink "DeltaIndexLaw" (41 : Nat) ({ cls := "DeltaIndex", name := "close", desc := "(I)I" } : Jvm.MethodName)) ∈ lw_all := lw_g (lw_at lw_m6 232 rfl) rfl
theorem q1579 : (Jvm.Cond.methodLink "DeltaIndexLaw" (45 : Nat) ({ cls := "DeltaIndex", name := "sweep", desc := "()I" } : Jvm.MethodName)) ∈ lw_all := lw_g (lw_at lw_m6 237 rfl) rfl
theorem q1584 : (Jvm.Cond.methodLink "DeltaIndexLaw" (49 : Nat) ({ cls := "DeltaIndex", name := "has", desc := "(I)I" } : Jvm.MethodName)) ∈ lw_all := lw_g (lw_at lw_m7 2 rfl) rfl
theorem q1596 : (Jvm.Cond.methodLink "DeltaIndexLaw" (53 : Nat) ({ cls := "DeltaIndex", name := "value", desc := "(I)I" } : Jvm.MethodName)) ∈ lw_all := lw_g (lw_at lw_m7 14 rfl) rfl
theorem q1600 : (Jvm.Cond.methodLink "DeltaIndexLaw" (57 : Nat) ({ cls := "DeltaIndex", name := "many", desc := "(II)I" } : Jvm.MethodName)) ∈ lw_all := lw_g (lw_at lw_m7 18 rfl) rfl
theorem q1604 : (Jvm.Cond.methodLink "DeltaIndexLaw" (62 : Nat) ({ cls := "DeltaIndex", name := "sum", desc := "(II)I" } : Jvm.MethodName)) ∈ lw_all := lw_g (lw_at lw_m7 22 rfl) rfl
theorem q1608 : (Jvm.Cond.methodLink "DeltaIndexLaw" (66 : Nat) ({ cls := "DeltaIndex", name := "nth", desc := "(I)I" } : Jvm.MethodName)) ∈ lw_all := lw_g (lw_at lw_m7 26 rfl) rfl
theorem q1612 : (Jvm.Cond.methodLink "DeltaIndexLaw" (70 : Nat) ({ cls := "DeltaIndex", name := "page", desc := "(II)I" } : Jvm.MethodName)) ∈ lw_all := lw_g (lw_at lw_m7 30 rfl) rfl
theorem q1623 : (Jvm.Cond.methodLink "DeltaIndexLaw" (74 : Nat) ({ cls := "DeltaIndex", name := "bound", desc := "(II)I" } : Jvm.MethodName)) ∈ lw_all := lw_g (lw_at lw_m7 41 rfl) rfl
theorem q1628 : (Jvm.Cond.methodLink "DeltaIndexLaw" (78 : Nat) ({ cls := "DeltaIndex", name := "record", desc := "(II)I" } : Jvm.MethodName)) ∈ lw_all := lw_g (lw_at lw_m7 46 rfl) rfl
theorem q1636 : (Jvm.Cond.methodLink "DeltaIndexLaw" (82 : Nat) ({ cls := "DeltaIndex", name := "base", desc := "(III)I" } : Jvm.MethodName)) ∈ lw_all := lw_g (lw_at lw_m7 54 rfl) rfl
theorem q1640 : (Jvm.Cond.methodLink "DeltaIndexLaw" (87 : Nat) ({ cls := "DeltaIndex", name := "hand", desc := "(II)I" } : Jvm.MethodName)) ∈ lw_all := lw_g (lw_at lw_m7 58 rfl) rfl
theorem q1644 : (Jvm.Cond.methodLink "DeltaIndexLaw" (91 : Nat) ({ cls := "DeltaIndex", name := "result", desc := "(I)I" } : Jvm.MethodName)) ∈ lw_all := lw_g (lw_at lw_m7 62 rfl) rfl
theorem q1648 : (Jvm.Cond.methodLink "DeltaIndexLaw" (95 : Nat) ({ cls := "DeltaIndex", name := "halves", desc := "(I)I" } : Jvm.MethodName)) ∈ lw_all := lw_g (lw_at lw_m7 66 rfl) rfl
theorem q1660 : (Jvm.Cond.methodLink "DeltaIndexLaw" (99 : Nat) ({ cls := "DeltaIndex", name := "replay", desc := "(IIII)I" } : Jvm.MethodName)) ∈ lw_all := lw_g (lw_at lw_m7 78 rfl) rfl
theorem q1692 : (Jvm.Cond.methodLink "DeltaIndexLaw" (104 : Nat) ({ cls := "DeltaIndex", name := "hold", desc := "(I)Z" } : Jvm.MethodName)) ∈ lw_all := lw_g (lw_at lw_m7 110 rfl) rfl
theorem q1696 : (Jvm.Cond.methodLink "DeltaIndexLaw" (109 : Nat) ({ cls := "DeltaIndex", name := "restore", desc := "(I)Z" } : Jvm.MethodName)) ∈ lw_all := lw_g (lw_at lw_m7 114 rfl) rfl
theorem q1700 : (Jvm.Cond.methodLink "DeltaIndexLaw" (113 : Nat) ({ cls := "DeltaIndex", name := "count", desc := "(I)I" } : Jvm.MethodName)) ∈ lw_all := lw_g (lw_at lw_m7 118 rfl) rfl
theorem q1714 : (Jvm.Cond.classLink "DeltaIndexLaw" (10 : Nat) "DeltaIndexModel") ∈ lw_all := lw_g (lw_at lw_m7 132 rfl) rfl
theorem q1716 : (Jvm.Cond.methodLink "DeltaIndexLaw" (12 : Nat) ({ cls := "DeltaIndexModel", name := "<init>", desc := "()V" } : Jvm.MethodName)) ∈ lw_all := lw_g (lw_at lw_m7 134 rfl) rfl
theorem q1921 : (Jvm.Cond.methodLink "DeltaIndexLaw" (17 : Nat) ({ cls := "DeltaIndexModel", name := "feed", desc := "(IIIII)I" } : Jvm.MethodName)) ∈ lw_all := lw_g (lw_at lw_m8 99 rfl) rfl
theorem q1929 : (Jvm.Cond.methodLink "DeltaIndexLaw" (22 : Nat) ({ cls := "DeltaIndexModel", name := "back", desc := "(I)I" } : Jvm.MethodName)) ∈ lw_all := lw_g (lw_at lw_m8 107 rfl) rfl
theorem q1933 : (Jvm.Cond.methodLink "DeltaIndexLaw" (27 : Nat) ({ cls := "DeltaIndexModel", name := "read", desc := "()I" } : Jvm.MethodName)) ∈ lw_all := lw_g (lw_at lw_m8 111 rfl) rfl
theorem q2217 : (Jvm.Cond.methodLink "DeltaIndexLaw" (31 : Nat) ({ cls := "DeltaIndexModel", name := "place", desc := "()I" } : Jvm.MethodName)) ∈ lw_all := lw_g (lw_at lw_m9 155 rfl) rfl
theorem q2221 : (Jvm.Cond.methodLink "DeltaIndexLaw" (36 : Nat) ({ cls := "DeltaIndexModel", name := "begin", desc := "(IIII)Z" } : Jvm.MethodName)) ∈ lw_all := lw_g (lw_at lw_m9 159 rfl) rfl
theorem q2234 : (Jvm.Cond.methodLink "DeltaIndexLaw" (40 : Nat) ({ cls := "DeltaIndexModel", name := "step", desc := "(I)I" } : Jvm.MethodName)) ∈ lw_all := lw_g (lw_at lw_m9 172 rfl) rfl
theorem q2238 : (Jvm.Cond.methodLink "DeltaIndexLaw" (44 : Nat) ({ cls := "DeltaIndexModel", name := "close", desc := "(I)I" } : Jvm.MethodName)) ∈ lw_all := lw_g (lw_at lw_m9 176 rfl) rfl
theorem q2242 : (Jvm.Cond.methodLink "DeltaIndexLaw" (48 : Nat) ({ cls := "DeltaIndexModel", name := "sweep", desc := "()I" } : Jvm.MethodName)) ∈ lw_all := lw_g (lw_at lw_m9 180 rfl) rfl
theorem q2246 : (Jvm.Cond.methodLink "DeltaIndexLaw" (52 : Nat) ({ cls := "DeltaIndexModel", name := "has", desc := "(I)I" } : Jvm.MethodName)) ∈ lw_all := lw_g (lw_at lw_m9 184 rfl) rfl
theorem q2254 : (Jvm.Cond.methodLink "DeltaIndexLaw" (56 : Nat) ({ cls := "DeltaIndexModel", name := "value", desc := "(I)I" } : Jvm.MethodName)) ∈ lw_all := lw_g (lw_at lw_m9 192 rfl) rfl
theorem q2258 : (Jvm.Cond.methodLink "DeltaIndexLaw" (61 : Nat) ({ cls := "DeltaIndexModel", name := "many", desc := "(II)I" } : Jvm.MethodName)) ∈ lw_all := lw_g (lw_at lw_m9 196 rfl) rfl
theorem q2262 : (Jvm.Cond.methodLink "DeltaIndexLaw" (65 : Nat) ({ cls := "DeltaIndexModel", name := "sum", desc := "(II)I" } : Jvm.MethodName)) ∈ lw_all := lw_g (lw_at lw_m9 200 rfl) rfl
theorem q2266 : (Jvm.Cond.methodLink "DeltaIndexLaw" (69 : Nat) ({ cls := "DeltaIndexModel", name := "nth", desc := "(I)I" } : Jvm.MethodName)) ∈ lw_all := lw_g (lw_at lw_m9 204 rfl) rfl
theorem q2270 : (Jvm.Cond.methodLink "DeltaIndexLaw" (73 : Nat) ({ cls := "DeltaIndexModel", name := "page", desc := "(II)I" } : Jvm.MethodName)) ∈ lw_all := lw_g (lw_at lw_m9 208 rfl) rfl
theorem q2274 : (Jvm.Cond.methodLink "DeltaIndexLaw" (77 : Nat) ({ cls := "DeltaIndexModel", name := "bound", desc := "(II)I" } : Jvm.MethodName)) ∈ lw_all := lw_g (lw_at lw_m9 212 rfl) rfl
theorem q2278 : (Jvm.Cond.methodLink "DeltaIndexLaw" (81 : Nat) ({ cls := "DeltaIndexModel", name := "record", desc := "(II)I" } : Jvm.MethodName)) ∈ lw_all := lw_g (lw_at lw_m9 216 rfl) rfl
theorem q2286 : (Jvm.Cond.methodLink "DeltaIndexLaw" (86 : Nat) ({ cls := "DeltaIndexModel", name := "base", desc := "(III)I" } : Jvm.MethodName)) ∈ lw_all := lw_g (lw_at lw_m9 224 rfl) rfl
theorem q2290 : (Jvm.Cond.methodLink "DeltaIndexLaw" (90 : Nat) ({ cls := "DeltaIndexModel", name := "hand", desc := "(II)I" } : Jvm.MethodName)) ∈ lw_all := lw_g (lw_at lw_m9 228 rfl) rfl
theorem q2294 : (Jvm.Cond.methodLink "DeltaIndexLaw" (94 : Nat) ({ cls := "DeltaIndexModel", name := "result", desc := "(I)I" } : Jvm.MethodName)) ∈ lw_all := lw_g (lw_at lw_m9 232 rfl) rfl
theorem q2298 : (Jvm.Cond.methodLink "DeltaIndexLaw" (98 : Nat) ({ cls := "DeltaIndexModel", name := "halves", desc := "(I)I" } : Jvm.MethodName)) ∈ lw_all := lw_g (lw_at lw_m9 236 rfl) rfl
theorem q2310 : (Jvm.Cond.methodLink "DeltaIndexLaw" (103 : Nat) ({ cls := "DeltaIndexModel", name := "replay", desc := "(IIII)I" } : Jvm.MethodName)) ∈ lw_all := lw_g (lw_at lw_m10 8 rfl) rfl
theorem q2334 : (Jvm.Cond.methodLink "DeltaIndexLaw" (108 : Nat) ({ cls := "DeltaIndexModel", name := "hold", desc := "(I)Z" } : Jvm.MethodName)) ∈ lw_all := lw_g (lw_at lw_m10 32 rfl) rfl
theorem q2338 : (Jvm.Cond.methodLink "DeltaIndexLaw" (112 : Nat) ({ cls := "DeltaIndexModel", name := "restore", desc := "(I)Z" } : Jvm.MethodName)) ∈ lw_all := lw_g (lw_at lw_m10 36 rfl) rfl
theorem q2342 : (Jvm.Cond.methodLink "DeltaIndexLaw" (116 : Nat) ({ cls := "DeltaIndexModel", name := "count", desc := "(I)I" } : Jvm.MethodName)) ∈ lw_all := lw_g (lw_at lw_m10 40 rfl) rfl

theorem q876 : (Jvm.Cond.sameMethod "[B" "java/lang/Object" "clone" "()Ljava/lang/Object;") ∈ lw_all := lw_g (lw_at lw_m4 14 rfl) rfl
set_option maxRecDepth 100000
theorem q879 : (Jvm.Cond.selects "[B" ({ cls := "[B", name := "clone", desc := "()Ljava/lang/Object;" } : Jvm.MethodName) ({ cls := "java/lang/Object", name := "clone", desc := "()Ljava/lang/Object;" } : Jvm.MethodName)) ∈ lw_all := lw_g (lw_at lw_m4 17 rfl) rfl
theorem q880 : (Jvm.Cond.castable "[B" "java/lang/Cloneable") ∈ lw_tbl := lw_at lw_m4 18 rfl
theorem q2381 : (Jvm.Cond.castable "[B" "java/lang/Object") ∈ lw_tbl := lw_at lw_m10 79 rfl

theorem q2386 : (Jvm.Cond.castable "[I" "java/lang/Object") ∈ lw_tbl := lw_at lw_m10 84 rfl
set_option maxRecDepth 100000

theorem q2390 : (Jvm.Cond.castable "[J" "java/lang/Object") ∈ lw_tbl := lw_at lw_m10 88 rfl
set_option maxRecDepth 100000

theorem q2385 : (Jvm.Cond.castable "[LDeltaIndex$Hand;" "java/lang/Object") ∈ lw_tbl := lw_at lw_m10 83 rfl
set_option maxRecDepth 100000

theorem q2384 : (Jvm.Cond.castable "[LDeltaIndex$Record;" "java/lang/Object") ∈ lw_tbl := lw_at lw_m10 82 rfl
set_option maxRecDepth 100000

theorem q2387 : (Jvm.Cond.castable "[LDeltaIndex$Store;" "java/lang/Object") ∈ lw_tbl := lw_at lw_m10 85 rfl
set_option maxRecDepth 100000

theorem q2378 : (Jvm.Cond.sameMethod "[Ljava/lang/Object;" "java/lang/Object" "getClass" "()Ljava/lang/Class;") ∈ lw_all := lw_g (lw_at lw_m10 76 rfl) rfl
set_option maxRecDepth 100000
theorem q2379 : (Jvm.Cond.selects "[Ljava/lang/Object;" ({ cls := "java/lang/Object", name := "getClass", desc := "()Ljava/lang/Class;" } : Jvm.MethodName) ({ cls := "java/lang/Object", name := "getClass", desc := "()Ljava/lang/Class;" } : Jvm.MethodName)) ∈ lw_all := lw_g (lw_at lw_m10 77 rfl) rfl
theorem q2389 : (Jvm.Cond.castable "[Ljava/lang/Object;" "java/lang/Object") ∈ lw_tbl := lw_at lw_m10 87 rfl

theorem q2382 : (Jvm.Cond.castable "[Ljava/lang/String;" "java/lang/Object") ∈ lw_tbl := lw_at lw_m10 80 rfl
set_option maxRecDepth 100000

theorem q2383 : (Jvm.Cond.castable "[S" "java/lang/Object") ∈ lw_tbl := lw_at lw_m10 81 rfl
set_option maxRecDepth 100000

theorem q2388 : (Jvm.Cond.castable "[Z" "java/lang/Object") ∈ lw_tbl := lw_at lw_m10 86 rfl
set_option maxRecDepth 100000

theorem q168 : (Jvm.Cond.initialized "java/lang/System") ∈ lw_all := lw_g (lw_at lw_m1 26 rfl) rfl
set_option maxRecDepth 100000
theorem q886 : (Jvm.Cond.static ({ cls := "java/lang/System", name := "arraycopy", desc := "(Ljava/lang/Object;ILjava/lang/Object;II)V" } : Jvm.MethodName)) ∈ lw_all := lw_g (lw_at lw_m4 24 rfl) rfl
theorem q887 : (Jvm.Cond.native ({ cls := "java/lang/System", name := "arraycopy", desc := "(Ljava/lang/Object;ILjava/lang/Object;II)V" } : Jvm.MethodName)) ∈ lw_all := lw_g (lw_at lw_m4 25 rfl) rfl

theorem q1043 : (Jvm.Cond.interfaceMethod "jdk/internal/access/JavaLangAccess" "jdk/internal/access/JavaLangAccess" "getUTF16Char" "([BI)C") ∈ lw_tbl := lw_at lw_m4 181 rfl
set_option maxRecDepth 100000
theorem q1044 : (Jvm.Cond.declares ({ cls := "jdk/internal/access/JavaLangAccess", name := "getUTF16Char", desc := "([BI)C" } : Jvm.MethodName)) ∈ lw_tbl := lw_at lw_m4 182 rfl

theorem q260 : (Jvm.Cond.arrayClass Jvm.ClassFile.FieldType.byte) ∈ lw_all := lw_g (lw_at lw_m1 118 rfl) rfl
set_option maxRecDepth 100000
theorem q268 : (Jvm.Cond.arrayOver (Jvm.ClassFile.FieldType.object "java/lang/String")) ∈ lw_tbl := lw_at lw_m1 126 rfl
theorem q317 : (Jvm.Cond.arrayClass Jvm.ClassFile.FieldType.short) ∈ lw_all := lw_g (lw_at lw_m1 175 rfl) rfl
theorem q356 : (Jvm.Cond.arrayOver (Jvm.ClassFile.FieldType.object "DeltaIndex$Record")) ∈ lw_tbl := lw_at lw_m1 214 rfl
theorem q358 : (Jvm.Cond.arrayOver (Jvm.ClassFile.FieldType.object "DeltaIndex$Hand")) ∈ lw_tbl := lw_at lw_m1 216 rfl
theorem q422 : (Jvm.Cond.arrayClass Jvm.ClassFile.FieldType.int) ∈ lw_all := lw_g (lw_at lw_m2 40 rfl) rfl
theorem q551 : (Jvm.Cond.arrayOver (Jvm.ClassFile.FieldType.object "DeltaIndex$Store")) ∈ lw_tbl := lw_at lw_m2 169 rfl
theorem q592 : (Jvm.Cond.arrayClass Jvm.ClassFile.FieldType.boolean) ∈ lw_all := lw_g (lw_at lw_m2 210 rfl) rfl
theorem q1256 : (Jvm.Cond.arrayOver (Jvm.ClassFile.FieldType.object "java/lang/Object")) ∈ lw_tbl := lw_at lw_m5 154 rfl
theorem q1920 : (Jvm.Cond.arrayClass Jvm.ClassFile.FieldType.long) ∈ lw_all := lw_g (lw_at lw_m8 98 rfl) rfl
theorem q2391 : (Jvm.Cond.arrayClass Jvm.ClassFile.FieldType.char) ∈ lw_all := lw_g (lw_at lw_m10 89 rfl) rfl

/-! java/lang/Throwable -/
set_option maxRecDepth 100000
def RJ0 : String := "java/lang/Throwable"
def TJ0 : u_T := fun k => match k with
  | 0 => ("java/lang/Throwable", "cause", "Ljava/lang/Throwable;", false)
  | 1 => ("java/lang/Throwable", "stackTrace", "[Ljava/lang/StackTraceElement;", false)
  | 2 => ("java/lang/Throwable", "suppressedExceptions", "Ljava/util/List;", false)
  | 3 => ("java/lang/Throwable", "detailMessage", "Ljava/lang/String;", false)
  | _ => ("java/lang/Throwable", "backtrace", "Ljava/lang/Object;", false)
def tyJ0 : Nat → FieldType := fun k => match k with
  | 0 => .object "java/lang/Throwable"
  | 1 => .array (.object "java/lang/StackTraceElement")
  | 2 => .object "java/util/List"
  | 3 => .object "java/lang/String"
  | _ => .object "java/lang/Object"
abbrev wsJ00 : List Cond := u_ws RJ0 TJ0 5
theorem nmJ0 : ∀ a, a < 5 → ∀ b, b < 5 → a ≠ b → (TJ0 a).2.1 ≠ (TJ0 b).2.1 := by decide +kernel
theorem tyJ0_ok : ∀ k, k < 5 → parseFieldDescriptor (TJ0 k).2.2.1 = some (tyJ0 k) := by decide +kernel
abbrev cJ0_init : ByteArray := prog_37_method_1_code
def yJ0_init : MethodName := ⟨RJ0, "<init>", "()V"⟩
def dkwJ0_init_1 : List UInt8 := [182, 0, 27, 87, 177]
abbrev dktJ0_init_1 : List UInt8 := dkwJ0_init_1 ++ []
def dkwJ0_init_0 : List UInt8 := [42, 183, 0, 1, 42, 42, 181, 0, 7, 42, 178, 0, 13, 181, 0, 17, 42, 178, 0, 20, 181, 0, 24, 42]
abbrev dktJ0_init_0 : List UInt8 := dkwJ0_init_0 ++ dktJ0_init_1
theorem dksJ0_init_0 : cJ0_init.data.toList.drop 0 = dktJ0_init_0 := by decide +kernel
theorem dksJ0_init_1 : cJ0_init.data.toList.drop 24 = dktJ0_init_1 := dk_seg dksJ0_init_0 24 rfl rfl
theorem dJ0_init_0 : decode cJ0_init 0 = .ok (.aload_n 0, 1) := dk_42 (dk_at dksJ0_init_0 0 rfl rfl)
theorem dJ0_init_1 : decode cJ0_init 1 = .ok (.invokespecial 1, 3) := dk_183 0 1 (dk_at dksJ0_init_0 1 rfl rfl)
theorem dJ0_init_4 : decode cJ0_init 4 = .ok (.aload_n 0, 1) := dk_42 (dk_at dksJ0_init_0 4 rfl rfl)
theorem dJ0_init_5 : decode cJ0_init 5 = .ok (.aload_n 0, 1) := dk_42 (dk_at dksJ0_init_0 5 rfl rfl)
theorem dJ0_init_6 : decode cJ0_init 6 = .ok (.putfield 7, 3) := dk_181 0 7 (dk_at dksJ0_init_0 6 rfl rfl)
theorem dJ0_init_9 : decode cJ0_init 9 = .ok (.aload_n 0, 1) := dk_42 (dk_at dksJ0_init_0 9 rfl rfl)
theorem dJ0_init_10 : decode cJ0_init 10 = .ok (.getstatic 13, 3) := dk_178 0 13 (dk_at dksJ0_init_0 10 rfl rfl)
theorem dJ0_init_13 : decode cJ0_init 13 = .ok (.putfield 17, 3) := dk_181 0 17 (dk_at dksJ0_init_0 13 rfl rfl)
theorem dJ0_init_16 : decode cJ0_init 16 = .ok (.aload_n 0, 1) := dk_42 (dk_at dksJ0_init_0 16 rfl rfl)
theorem dJ0_init_17 : decode cJ0_init 17 = .ok (.getstatic 20, 3) := dk_178 0 20 (dk_at dksJ0_init_0 17 rfl rfl)
theorem dJ0_init_20 : decode cJ0_init 20 = .ok (.putfield 24, 3) := dk_181 0 24 (dk_at dksJ0_init_0 20 rfl rfl)
theorem dJ0_init_23 : decode cJ0_init 23 = .ok (.aload_n 0, 1) := dk_42 (dk_at dksJ0_init_0 23 rfl rfl)
theorem dJ0_init_24 : decode cJ0_init 24 = .ok (.invokevirtual 27, 3) := dk_182 0 27 (dk_at dksJ0_init_1 0 rfl rfl)
theorem dJ0_init_27 : decode cJ0_init 27 = .ok (.pop, 1) := dk_87 (dk_at dksJ0_init_1 3 rfl rfl)
theorem dJ0_init_28 : decode cJ0_init 28 = .ok (.return_, 1) := dk_177 (dk_at dksJ0_init_1 4 rfl rfl)
abbrev cJ0_init_2 : ByteArray := prog_37_method_5_code
def yJ0_init_2 : MethodName := ⟨RJ0, "<init>", "(Ljava/lang/String;Ljava/lang/Throwable;ZZ)V"⟩
def dkwJ0_init_2_2 : List UInt8 := [44, 181, 0, 7, 29, 154, 0, 8, 42, 1, 181, 0, 24, 177]
abbrev dktJ0_init_2_2 : List UInt8 := dkwJ0_init_2_2 ++ []
def dkwJ0_init_2_1 : List UInt8 := [21, 4, 153, 0, 11, 42, 182, 0, 27, 87, 167, 0, 8, 42, 1, 181, 0, 17, 42, 43, 181, 0, 31, 42]
abbrev dktJ0_init_2_1 : List UInt8 := dkwJ0_init_2_1 ++ dktJ0_init_2_2
def dkwJ0_init_2_0 : List UInt8 := [42, 183, 0, 1, 42, 42, 181, 0, 7, 42, 178, 0, 13, 181, 0, 17, 42, 178, 0, 20, 181, 0, 24]
abbrev dktJ0_init_2_0 : List UInt8 := dkwJ0_init_2_0 ++ dktJ0_init_2_1
theorem dksJ0_init_2_0 : cJ0_init_2.data.toList.drop 0 = dktJ0_init_2_0 := by decide +kernel
theorem dksJ0_init_2_1 : cJ0_init_2.data.toList.drop 23 = dktJ0_init_2_1 := dk_seg dksJ0_init_2_0 23 rfl rfl
theorem dksJ0_init_2_2 : cJ0_init_2.data.toList.drop 47 = dktJ0_init_2_2 := dk_seg dksJ0_init_2_1 24 rfl rfl
theorem dJ0_init_2_0 : decode cJ0_init_2 0 = .ok (.aload_n 0, 1) := dk_42 (dk_at dksJ0_init_2_0 0 rfl rfl)
theorem dJ0_init_2_1 : decode cJ0_init_2 1 = .ok (.invokespecial 1, 3) := dk_183 0 1 (dk_at dksJ0_init_2_0 1 rfl rfl)
theorem dJ0_init_2_4 : decode cJ0_init_2 4 = .ok (.aload_n 0, 1) := dk_42 (dk_at dksJ0_init_2_0 4 rfl rfl)
theorem dJ0_init_2_5 : decode cJ0_init_2 5 = .ok (.aload_n 0, 1) := dk_42 (dk_at dksJ0_init_2_0 5 rfl rfl)
theorem dJ0_init_2_6 : decode cJ0_init_2 6 = .ok (.putfield 7, 3) := dk_181 0 7 (dk_at dksJ0_init_2_0 6 rfl rfl)
theorem dJ0_init_2_9 : decode cJ0_init_2 9 = .ok (.aload_n 0, 1) := dk_42 (dk_at dksJ0_init_2_0 9 rfl rfl)
theorem dJ0_init_2_10 : decode cJ0_init_2 10 = .ok (.getstatic 13, 3) := dk_178 0 13 (dk_at dksJ0_init_2_0 10 rfl rfl)
theorem dJ0_init_2_13 : decode cJ0_init_2 13 = .ok (.putfield 17, 3) := dk_181 0 17 (dk_at dksJ0_init_2_0 13 rfl rfl)
theorem dJ0_init_2_16 : decode cJ0_init_2 16 = .ok (.aload_n 0, 1) := dk_42 (dk_at dksJ0_init_2_0 16 rfl rfl)
theorem dJ0_init_2_17 : decode cJ0_init_2 17 = .ok (.getstatic 20, 3) := dk_178 0 20 (dk_at dksJ0_init_2_0 17 rfl rfl)
theorem dJ0_init_2_20 : decode cJ0_init_2 20 = .ok (.putfield 24, 3) := dk_181 0 24 (dk_at dksJ0_init_2_0 20 rfl rfl)
theorem dJ0_init_2_23 : decode cJ0_init_2 23 = .ok (.iload 4, 2) := dk_21 4 (dk_at dksJ0_init_2_1 0 rfl rfl)
theorem dJ0_init_2_25 : decode cJ0_init_2 25 = .ok (.ifCond .eq 11, 3) := dk_153 0 11 (dk_at dksJ0_init_2_1 2 rfl rfl)
theorem dJ0_init_2_28 : decode cJ0_init_2 28 = .ok (.aload_n 0, 1) := dk_42 (dk_at dksJ0_init_2_1 5 rfl rfl)
theorem dJ0_init_2_29 : decode cJ0_init_2 29 = .ok (.invokevirtual 27, 3) := dk_182 0 27 (dk_at dksJ0_init_2_1 6 rfl rfl)
theorem dJ0_init_2_32 : decode cJ0_init_2 32 = .ok (.pop, 1) := dk_87 (dk_at dksJ0_init_2_1 9 rfl rfl)
theorem dJ0_init_2_33 : decode cJ0_init_2 33 = .ok (.goto 8, 3) := dk_167 0 8 (dk_at dksJ0_init_2_1 10 rfl rfl)
theorem dJ0_init_2_36 : decode cJ0_init_2 36 = .ok (.aload_n 0, 1) := dk_42 (dk_at dksJ0_init_2_1 13 rfl rfl)
theorem dJ0_init_2_37 : decode cJ0_init_2 37 = .ok (.aconst_null, 1) := dk_1 (dk_at dksJ0_init_2_1 14 rfl rfl)
theorem dJ0_init_2_38 : decode cJ0_init_2 38 = .ok (.putfield 17, 3) := dk_181 0 17 (dk_at dksJ0_init_2_1 15 rfl rfl)
theorem dJ0_init_2_41 : decode cJ0_init_2 41 = .ok (.aload_n 0, 1) := dk_42 (dk_at dksJ0_init_2_1 18 rfl rfl)
theorem dJ0_init_2_42 : decode cJ0_init_2 42 = .ok (.aload_n 1, 1) := dk_43 (dk_at dksJ0_init_2_1 19 rfl rfl)
theorem dJ0_init_2_43 : decode cJ0_init_2 43 = .ok (.putfield 31, 3) := dk_181 0 31 (dk_at dksJ0_init_2_1 20 rfl rfl)
theorem dJ0_init_2_46 : decode cJ0_init_2 46 = .ok (.aload_n 0, 1) := dk_42 (dk_at dksJ0_init_2_1 23 rfl rfl)
theorem dJ0_init_2_47 : decode cJ0_init_2 47 = .ok (.aload_n 2, 1) := dk_44 (dk_at dksJ0_init_2_2 0 rfl rfl)
theorem dJ0_init_2_48 : decode cJ0_init_2 48 = .ok (.putfield 7, 3) := dk_181 0 7 (dk_at dksJ0_init_2_2 1 rfl rfl)
theorem dJ0_init_2_51 : decode cJ0_init_2 51 = .ok (.iload_n 3, 1) := dk_29 (dk_at dksJ0_init_2_2 4 rfl rfl)
theorem dJ0_init_2_52 : decode cJ0_init_2 52 = .ok (.ifCond .ne 8, 3) := dk_154 0 8 (dk_at dksJ0_init_2_2 5 rfl rfl)
theorem dJ0_init_2_55 : decode cJ0_init_2 55 = .ok (.aload_n 0, 1) := dk_42 (dk_at dksJ0_init_2_2 8 rfl rfl)
theorem dJ0_init_2_56 : decode cJ0_init_2 56 = .ok (.aconst_null, 1) := dk_1 (dk_at dksJ0_init_2_2 9 rfl rfl)
theorem dJ0_init_2_57 : decode cJ0_init_2 57 = .ok (.putfield 24, 3) := dk_181 0 24 (dk_at dksJ0_init_2_2 10 rfl rfl)
theorem dJ0_init_2_60 : decode cJ0_init_2 60 = .ok (.return_, 1) := dk_177 (dk_at dksJ0_init_2_2 13 rfl rfl)
theorem q144 : (Jvm.Cond.initialized "java/lang/Throwable") ∈ lw_all := lw_g (lw_at lw_m1 2 rfl) rfl
theorem q194 : (Jvm.Cond.declares ({ cls := "java/lang/Throwable", name := "<init>", desc := "()V" } : Jvm.MethodName)) ∈ lw_tbl := lw_at lw_m1 52 rfl
theorem q195 : (Jvm.Cond.declares ({ cls := "java/lang/Throwable", name := "<init>", desc := "(Ljava/lang/String;)V" } : Jvm.MethodName)) ∈ lw_tbl := lw_at lw_m1 53 rfl
theorem q199 : (Jvm.Cond.lays "java/lang/Throwable" "java/lang/Throwable" "cause" "Ljava/lang/Throwable;") ∈ lw_all := lw_g (lw_at lw_m1 57 rfl) rfl
theorem q201 : (Jvm.Cond.lays "java/lang/Throwable" "java/lang/Throwable" "stackTrace" "[Ljava/lang/StackTraceElement;") ∈ lw_all := lw_g (lw_at lw_m1 59 rfl) rfl
theorem q203 : (Jvm.Cond.lays "java/lang/Throwable" "java/lang/Throwable" "suppressedExceptions" "Ljava/util/List;") ∈ lw_all := lw_g (lw_at lw_m1 61 rfl) rfl
theorem q205 : (Jvm.Cond.lays "java/lang/Throwable" "java/lang/Throwable" "detailMessage" "Ljava/lang/String;") ∈ lw_all := lw_g (lw_at lw_m1 63 rfl) rfl
theorem q207 : (Jvm.Cond.lays "java/lang/Throwable" "java/lang/Throwable" "backtrace" "Ljava/lang/Object;") ∈ lw_all := lw_g (lw_at lw_m1 65 rfl) rfl
theorem q208 : (Jvm.Cond.fieldLink "java/lang/Throwable" (198 : Nat) "java/lang/Throwable" "backtrace" "Ljava/lang/Object;") ∈ lw_all := lw_g (lw_at lw_m1 66 rfl) rfl
theorem q209 : (Jvm.Cond.superclass "java/lang/Throwable" "java/lang/Object") ∈ lw_all := lw_g (lw_at lw_m1 67 rfl) rfl
theorem q210 : (Jvm.Cond.instanceMethod ({ cls := "java/lang/Throwable", name := "<init>", desc := "()V" } : Jvm.MethodName)) ∈ lw_all := lw_g (lw_at lw_m1 68 rfl) rfl
theorem q211 : (Jvm.Cond.code ({ cls := "java/lang/Throwable", name := "<init>", desc := "()V" } : Jvm.MethodName) prog_37_method_1_code (1 : Nat) (Option.none : Option Jvm.ClassFile.FieldType)) ∈ lw_all := lw_g (lw_at lw_m1 69 rfl) rfl
theorem q212 : (Jvm.Cond.methodLink "java/lang/Throwable" (1 : Nat) ({ cls := "java/lang/Object", name := "<init>", desc := "()V" } : Jvm.MethodName)) ∈ lw_all := lw_g (lw_at lw_m1 70 rfl) rfl
theorem q213 : (Jvm.Cond.fieldLink "java/lang/Throwable" (13 : Nat) "java/lang/Throwable" "UNASSIGNED_STACK" "[Ljava/lang/StackTraceElement;") ∈ lw_all := lw_g (lw_at lw_m1 71 rfl) rfl
theorem q214 : (Jvm.Cond.laysStatic "java/lang/Throwable" "UNASSIGNED_STACK" "[Ljava/lang/StackTraceElement;") ∈ lw_tbl := lw_at lw_m1 72 rfl
theorem q215 : (Jvm.Cond.fieldLink "java/lang/Throwable" (20 : Nat) "java/lang/Throwable" "SUPPRESSED_SENTINEL" "Ljava/util/List;") ∈ lw_all := lw_g (lw_at lw_m1 73 rfl) rfl
theorem q216 : (Jvm.Cond.laysStatic "java/lang/Throwable" "SUPPRESSED_SENTINEL" "Ljava/util/List;") ∈ lw_tbl := lw_at lw_m1 74 rfl
theorem q217 : (Jvm.Cond.methodLink "java/lang/Throwable" (27 : Nat) ({ cls := "java/lang/Throwable", name := "fillInStackTrace", desc := "()Ljava/lang/Throwable;" } : Jvm.MethodName)) ∈ lw_all := lw_g (lw_at lw_m1 75 rfl) rfl
theorem q218 : (Jvm.Cond.instanceMethod ({ cls := "java/lang/Throwable", name := "fillInStackTrace", desc := "()Ljava/lang/Throwable;" } : Jvm.MethodName)) ∈ lw_all := lw_g (lw_at lw_m1 76 rfl) rfl
theorem q219 : (Jvm.Cond.sameMethod "java/lang/Throwable" "java/lang/Throwable" "fillInStackTrace" "()Ljava/lang/Throwable;") ∈ lw_all := lw_g (lw_at lw_m1 77 rfl) rfl
theorem q220 : (Jvm.Cond.codeSync ({ cls := "java/lang/Throwable", name := "fillInStackTrace", desc := "()Ljava/lang/Throwable;" } : Jvm.MethodName) prog_37_method_18_code (1 : Nat) (Option.some (Jvm.ClassFile.FieldType.object "java/lang/Throwable"))) ∈ lw_all := lw_g (lw_at lw_m1 78 rfl) rfl
theorem q221 : (Jvm.Cond.methodLink "java/lang/Throwable" (202 : Nat) ({ cls := "java/lang/Throwable", name := "fillInStackTrace", desc := "(I)Ljava/lang/Throwable;" } : Jvm.MethodName)) ∈ lw_all := lw_g (lw_at lw_m1 79 rfl) rfl
theorem q222 : (Jvm.Cond.privateMethod ({ cls := "java/lang/Throwable", name := "fillInStackTrace", desc := "(I)Ljava/lang/Throwable;" } : Jvm.MethodName)) ∈ lw_tbl := lw_at lw_m1 80 rfl
theorem q223 : (Jvm.Cond.instanceMethod ({ cls := "java/lang/Throwable", name := "fillInStackTrace", desc := "(I)Ljava/lang/Throwable;" } : Jvm.MethodName)) ∈ lw_all := lw_g (lw_at lw_m1 81 rfl) rfl
theorem q224 : (Jvm.Cond.instantiable "java/lang/Throwable" (6 : Nat)) ∈ lw_all := lw_g (lw_at lw_m1 82 rfl) rfl
theorem q225 : (Jvm.Cond.native ({ cls := "java/lang/Throwable", name := "fillInStackTrace", desc := "(I)Ljava/lang/Throwable;" } : Jvm.MethodName)) ∈ lw_all := lw_g (lw_at lw_m1 83 rfl) rfl
theorem q237 : (Jvm.Cond.instanceMethod ({ cls := "java/lang/Throwable", name := "<init>", desc := "(Ljava/lang/String;Ljava/lang/Throwable;ZZ)V" } : Jvm.MethodName)) ∈ lw_all := lw_g (lw_at lw_m1 95 rfl) rfl
theorem q238 : (Jvm.Cond.code ({ cls := "java/lang/Throwable", name := "<init>", desc := "(Ljava/lang/String;Ljava/lang/Throwable;ZZ)V" } : Jvm.MethodName) prog_37_method_5_code (5 : Nat) (Option.none : Option Jvm.ClassFile.FieldType)) ∈ lw_all := lw_g (lw_at lw_m1 96 rfl) rfl
theorem q243 : (Jvm.Cond.fieldLink "java/lang/Throwable" (198 : Nat) "java/lang/Throwable" "backtrace" "Ljava/lang/Object;") ∈ lw_all := lw_g (lw_at lw_m1 101 rfl) rfl
theorem q244 : (Jvm.Cond.fieldLink "java/lang/Throwable" (31 : Nat) "java/lang/Throwable" "detailMessage" "Ljava/lang/String;") ∈ lw_all := lw_g (lw_at lw_m1 102 rfl) rfl
theorem q245 : (Jvm.Cond.fieldLink "java/lang/Throwable" (7 : Nat) "java/lang/Throwable" "cause" "Ljava/lang/Throwable;") ∈ lw_all := lw_g (lw_at lw_m1 103 rfl) rfl
theorem q246 : (Jvm.Cond.fieldLink "java/lang/Throwable" (17 : Nat) "java/lang/Throwable" "stackTrace" "[Ljava/lang/StackTraceElement;") ∈ lw_all := lw_g (lw_at lw_m1 104 rfl) rfl
theorem q247 : (Jvm.Cond.fieldLink "java/lang/Throwable" (24 : Nat) "java/lang/Throwable" "suppressedExceptions" "Ljava/util/List;") ∈ lw_all := lw_g (lw_at lw_m1 105 rfl) rfl
theorem q252 : (Jvm.Cond.soleField "java/lang/Throwable" "backtrace") ∈ lw_all := lw_g (lw_at lw_m1 110 rfl) rfl
theorem q253 : (Jvm.Cond.soleField "java/lang/Throwable" "detailMessage") ∈ lw_all := lw_g (lw_at lw_m1 111 rfl) rfl
theorem q254 : (Jvm.Cond.soleField "java/lang/Throwable" "cause") ∈ lw_all := lw_g (lw_at lw_m1 112 rfl) rfl
theorem q255 : (Jvm.Cond.soleField "java/lang/Throwable" "stackTrace") ∈ lw_all := lw_g (lw_at lw_m1 113 rfl) rfl
theorem q257 : (Jvm.Cond.soleField "java/lang/Throwable" "depth") ∈ lw_all := lw_g (lw_at lw_m1 115 rfl) rfl
theorem q258 : (Jvm.Cond.soleField "java/lang/Throwable" "suppressedExceptions") ∈ lw_all := lw_g (lw_at lw_m1 116 rfl) rfl
theorem q2350 : (Jvm.Cond.sameMethod "java/lang/Throwable" "java/lang/Throwable" "fillInStackTrace" "(I)Ljava/lang/Throwable;") ∈ lw_all := lw_g (lw_at lw_m10 48 rfl) rfl
theorem q2377 : (Jvm.Cond.castable "java/lang/Throwable" "java/lang/Object") ∈ lw_tbl := lw_at lw_m10 75 rfl
theorem in_J0 : ∀ w ∈ wsJ00, w ∈ lw_all := lw_in wsJ00 [199, 201, 203, 205, 207] (by decide +kernel) (by decide +kernel)

/-! java/lang/Exception -/
set_option maxRecDepth 100000
def RJ1 : String := "java/lang/Exception"
abbrev cJ1_init : ByteArray := prog_27_method_5_code
def yJ1_init : MethodName := ⟨RJ1, "<init>", "(Ljava/lang/String;Ljava/lang/Throwable;ZZ)V"⟩
def dkwJ1_init_0 : List UInt8 := [42, 43, 44, 29, 21, 4, 183, 0, 16, 177]
abbrev dktJ1_init_0 : List UInt8 := dkwJ1_init_0 ++ []
theorem dksJ1_init_0 : cJ1_init.data.toList.drop 0 = dktJ1_init_0 := by decide +kernel
theorem dJ1_init_0 : decode cJ1_init 0 = .ok (.aload_n 0, 1) := dk_42 (dk_at dksJ1_init_0 0 rfl rfl)
theorem dJ1_init_1 : decode cJ1_init 1 = .ok (.aload_n 1, 1) := dk_43 (dk_at dksJ1_init_0 1 rfl rfl)
theorem dJ1_init_2 : decode cJ1_init 2 = .ok (.aload_n 2, 1) := dk_44 (dk_at dksJ1_init_0 2 rfl rfl)
theorem dJ1_init_3 : decode cJ1_init 3 = .ok (.iload_n 3, 1) := dk_29 (dk_at dksJ1_init_0 3 rfl rfl)
theorem dJ1_init_4 : decode cJ1_init 4 = .ok (.iload 4, 2) := dk_21 4 (dk_at dksJ1_init_0 4 rfl rfl)
theorem dJ1_init_6 : decode cJ1_init 6 = .ok (.invokespecial 16, 3) := dk_183 0 16 (dk_at dksJ1_init_0 6 rfl rfl)
theorem dJ1_init_9 : decode cJ1_init 9 = .ok (.return_, 1) := dk_177 (dk_at dksJ1_init_0 9 rfl rfl)
theorem q145 : (Jvm.Cond.initialized "java/lang/Exception") ∈ lw_all := lw_g (lw_at lw_m1 3 rfl) rfl
theorem q192 : (Jvm.Cond.declares ({ cls := "java/lang/Exception", name := "<init>", desc := "()V" } : Jvm.MethodName)) ∈ lw_tbl := lw_at lw_m1 50 rfl
theorem q193 : (Jvm.Cond.declares ({ cls := "java/lang/Exception", name := "<init>", desc := "(Ljava/lang/String;)V" } : Jvm.MethodName)) ∈ lw_tbl := lw_at lw_m1 51 rfl
theorem q234 : (Jvm.Cond.instanceMethod ({ cls := "java/lang/Exception", name := "<init>", desc := "(Ljava/lang/String;Ljava/lang/Throwable;ZZ)V" } : Jvm.MethodName)) ∈ lw_all := lw_g (lw_at lw_m1 92 rfl) rfl
theorem q235 : (Jvm.Cond.code ({ cls := "java/lang/Exception", name := "<init>", desc := "(Ljava/lang/String;Ljava/lang/Throwable;ZZ)V" } : Jvm.MethodName) prog_27_method_5_code (5 : Nat) (Option.none : Option Jvm.ClassFile.FieldType)) ∈ lw_all := lw_g (lw_at lw_m1 93 rfl) rfl
theorem q236 : (Jvm.Cond.methodLink "java/lang/Exception" (16 : Nat) ({ cls := "java/lang/Throwable", name := "<init>", desc := "(Ljava/lang/String;Ljava/lang/Throwable;ZZ)V" } : Jvm.MethodName)) ∈ lw_all := lw_g (lw_at lw_m1 94 rfl) rfl

/-! java/lang/RuntimeException -/
set_option maxRecDepth 100000
def RJ2 : String := "java/lang/RuntimeException"
abbrev cJ2_init : ByteArray := prog_30_method_5_code
def yJ2_init : MethodName := ⟨RJ2, "<init>", "(Ljava/lang/String;Ljava/lang/Throwable;ZZ)V"⟩
def dkwJ2_init_0 : List UInt8 := [42, 43, 44, 29, 21, 4, 183, 0, 16, 177]
abbrev dktJ2_init_0 : List UInt8 := dkwJ2_init_0 ++ []
theorem dksJ2_init_0 : cJ2_init.data.toList.drop 0 = dktJ2_init_0 := by decide +kernel
theorem dJ2_init_0 : decode cJ2_init 0 = .ok (.aload_n 0, 1) := dk_42 (dk_at dksJ2_init_0 0 rfl rfl)
theorem dJ2_init_1 : decode cJ2_init 1 = .ok (.aload_n 1, 1) := dk_43 (dk_at dksJ2_init_0 1 rfl rfl)
theorem dJ2_init_2 : decode cJ2_init 2 = .ok (.aload_n 2, 1) := dk_44 (dk_at dksJ2_init_0 2 rfl rfl)
theorem dJ2_init_3 : decode cJ2_init 3 = .ok (.iload_n 3, 1) := dk_29 (dk_at dksJ2_init_0 3 rfl rfl)
theorem dJ2_init_4 : decode cJ2_init 4 = .ok (.iload 4, 2) := dk_21 4 (dk_at dksJ2_init_0 4 rfl rfl)
theorem dJ2_init_6 : decode cJ2_init 6 = .ok (.invokespecial 16, 3) := dk_183 0 16 (dk_at dksJ2_init_0 6 rfl rfl)
theorem dJ2_init_9 : decode cJ2_init 9 = .ok (.return_, 1) := dk_177 (dk_at dksJ2_init_0 9 rfl rfl)
theorem q146 : (Jvm.Cond.initialized "java/lang/RuntimeException") ∈ lw_all := lw_g (lw_at lw_m1 4 rfl) rfl
theorem q190 : (Jvm.Cond.declares ({ cls := "java/lang/RuntimeException", name := "<init>", desc := "()V" } : Jvm.MethodName)) ∈ lw_tbl := lw_at lw_m1 48 rfl
theorem q191 : (Jvm.Cond.declares ({ cls := "java/lang/RuntimeException", name := "<init>", desc := "(Ljava/lang/String;)V" } : Jvm.MethodName)) ∈ lw_tbl := lw_at lw_m1 49 rfl
theorem q231 : (Jvm.Cond.instanceMethod ({ cls := "java/lang/RuntimeException", name := "<init>", desc := "(Ljava/lang/String;Ljava/lang/Throwable;ZZ)V" } : Jvm.MethodName)) ∈ lw_all := lw_g (lw_at lw_m1 89 rfl) rfl
theorem q232 : (Jvm.Cond.code ({ cls := "java/lang/RuntimeException", name := "<init>", desc := "(Ljava/lang/String;Ljava/lang/Throwable;ZZ)V" } : Jvm.MethodName) prog_30_method_5_code (5 : Nat) (Option.none : Option Jvm.ClassFile.FieldType)) ∈ lw_all := lw_g (lw_at lw_m1 90 rfl) rfl
theorem q233 : (Jvm.Cond.methodLink "java/lang/RuntimeException" (16 : Nat) ({ cls := "java/lang/Exception", name := "<init>", desc := "(Ljava/lang/String;Ljava/lang/Throwable;ZZ)V" } : Jvm.MethodName)) ∈ lw_all := lw_g (lw_at lw_m1 91 rfl) rfl

/-! java/util/AbstractCollection -/
set_option maxRecDepth 100000
def RJ3 : String := "java/util/AbstractCollection"
abbrev cJ3_init : ByteArray := prog_40_method_1_code
def yJ3_init : MethodName := ⟨RJ3, "<init>", "()V"⟩
theorem dJ3_init_0 : decode cJ3_init 0 = .ok (.aload_n 0, 1) := by decide +kernel
theorem dJ3_init_1 : decode cJ3_init 1 = .ok (.invokespecial 1, 3) := by decide +kernel
theorem dJ3_init_4 : decode cJ3_init 4 = .ok (.return_, 1) := by decide +kernel
theorem q155 : (Jvm.Cond.initialized "java/util/AbstractCollection") ∈ lw_all := lw_g (lw_at lw_m1 13 rfl) rfl
theorem q575 : (Jvm.Cond.instanceMethod ({ cls := "java/util/AbstractCollection", name := "<init>", desc := "()V" } : Jvm.MethodName)) ∈ lw_all := lw_g (lw_at lw_m2 193 rfl) rfl
theorem q576 : (Jvm.Cond.code ({ cls := "java/util/AbstractCollection", name := "<init>", desc := "()V" } : Jvm.MethodName) prog_40_method_1_code (1 : Nat) (Option.none : Option Jvm.ClassFile.FieldType)) ∈ lw_all := lw_g (lw_at lw_m2 194 rfl) rfl
theorem q577 : (Jvm.Cond.methodLink "java/util/AbstractCollection" (1 : Nat) ({ cls := "java/lang/Object", name := "<init>", desc := "()V" } : Jvm.MethodName)) ∈ lw_all := lw_g (lw_at lw_m2 195 rfl) rfl

/-! java/util/AbstractList -/
set_option maxRecDepth 100000
def RJ4 : String := "java/util/AbstractList"
abbrev cJ4_init : ByteArray := prog_41_method_1_code
def yJ4_init : MethodName := ⟨RJ4, "<init>", "()V"⟩
def dkwJ4_init_0 : List UInt8 := [42, 183, 0, 1, 42, 3, 181, 0, 7, 177]
abbrev dktJ4_init_0 : List UInt8 := dkwJ4_init_0 ++ []
theorem dksJ4_init_0 : cJ4_init.data.toList.drop 0 = dktJ4_init_0 := by decide +kernel
theorem dJ4_init_0 : decode cJ4_init 0 = .ok (.aload_n 0, 1) := dk_42 (dk_at dksJ4_init_0 0 rfl rfl)
theorem dJ4_init_1 : decode cJ4_init 1 = .ok (.invokespecial 1, 3) := dk_183 0 1 (dk_at dksJ4_init_0 1 rfl rfl)
theorem dJ4_init_4 : decode cJ4_init 4 = .ok (.aload_n 0, 1) := dk_42 (dk_at dksJ4_init_0 4 rfl rfl)
theorem dJ4_init_5 : decode cJ4_init 5 = .ok (.iconst 0, 1) := dk_3 (dk_at dksJ4_init_0 5 rfl rfl)
theorem dJ4_init_6 : decode cJ4_init 6 = .ok (.putfield 7, 3) := dk_181 0 7 (dk_at dksJ4_init_0 6 rfl rfl)
theorem dJ4_init_9 : decode cJ4_init 9 = .ok (.return_, 1) := dk_177 (dk_at dksJ4_init_0 9 rfl rfl)
theorem q156 : (Jvm.Cond.initialized "java/util/AbstractList") ∈ lw_all := lw_g (lw_at lw_m1 14 rfl) rfl
theorem q572 : (Jvm.Cond.instanceMethod ({ cls := "java/util/AbstractList", name := "<init>", desc := "()V" } : Jvm.MethodName)) ∈ lw_all := lw_g (lw_at lw_m2 190 rfl) rfl
theorem q573 : (Jvm.Cond.code ({ cls := "java/util/AbstractList", name := "<init>", desc := "()V" } : Jvm.MethodName) prog_41_method_1_code (1 : Nat) (Option.none : Option Jvm.ClassFile.FieldType)) ∈ lw_all := lw_g (lw_at lw_m2 191 rfl) rfl
theorem q574 : (Jvm.Cond.methodLink "java/util/AbstractList" (1 : Nat) ({ cls := "java/util/AbstractCollection", name := "<init>", desc := "()V" } : Jvm.MethodName)) ∈ lw_all := lw_g (lw_at lw_m2 192 rfl) rfl
theorem q582 : (Jvm.Cond.fieldLink "java/util/AbstractList" (7 : Nat) "java/util/AbstractList" "modCount" "I") ∈ lw_all := lw_g (lw_at lw_m2 200 rfl) rfl
theorem q590 : (Jvm.Cond.soleField "java/util/AbstractList" "modCount") ∈ lw_all := lw_g (lw_at lw_m2 208 rfl) rfl

/-! java/util/ArrayList -/
set_option maxRecDepth 100000
def RJ5 : String := "java/util/ArrayList"
def TJ5 : u_T := fun k => match k with
  | 0 => ("java/util/AbstractList", "modCount", "I", false)
  | 1 => ("java/util/ArrayList", "elementData", "[Ljava/lang/Object;", false)
  | _ => ("java/util/ArrayList", "size", "I", false)
def tyJ5 : Nat → FieldType := fun k => match k with
  | 0 => .int
  | 1 => .array (.object "java/lang/Object")
  | _ => .int
abbrev wsJ50 : List Cond := u_ws RJ5 TJ5 3
theorem nmJ5 : ∀ a, a < 3 → ∀ b, b < 3 → a ≠ b → (TJ5 a).2.1 ≠ (TJ5 b).2.1 := by decide +kernel
theorem tyJ5_ok : ∀ k, k < 3 → parseFieldDescriptor (TJ5 k).2.2.1 = some (tyJ5 k) := by decide +kernel
abbrev cJ5_init : ByteArray := prog_42_method_2_code
def yJ5_init : MethodName := ⟨RJ5, "<init>", "()V"⟩
def dkwJ5_init_0 : List UInt8 := [42, 183, 0, 1, 42, 178, 0, 39, 181, 0, 9, 177]
abbrev dktJ5_init_0 : List UInt8 := dkwJ5_init_0 ++ []
theorem dksJ5_init_0 : cJ5_init.data.toList.drop 0 = dktJ5_init_0 := by decide +kernel
theorem dJ5_init_0 : decode cJ5_init 0 = .ok (.aload_n 0, 1) := dk_42 (dk_at dksJ5_init_0 0 rfl rfl)
theorem dJ5_init_1 : decode cJ5_init 1 = .ok (.invokespecial 1, 3) := dk_183 0 1 (dk_at dksJ5_init_0 1 rfl rfl)
theorem dJ5_init_4 : decode cJ5_init 4 = .ok (.aload_n 0, 1) := dk_42 (dk_at dksJ5_init_0 4 rfl rfl)
theorem dJ5_init_5 : decode cJ5_init 5 = .ok (.getstatic 39, 3) := dk_178 0 39 (dk_at dksJ5_init_0 5 rfl rfl)
theorem dJ5_init_8 : decode cJ5_init 8 = .ok (.putfield 9, 3) := dk_181 0 9 (dk_at dksJ5_init_0 8 rfl rfl)
theorem dJ5_init_11 : decode cJ5_init 11 = .ok (.return_, 1) := dk_177 (dk_at dksJ5_init_0 11 rfl rfl)
abbrev cJ5_add : ByteArray := prog_42_method_25_code
def yJ5_add : MethodName := ⟨RJ5, "add", "(Ljava/lang/Object;)Z"⟩
def dkwJ5_add_1 : List UInt8 := [172]
abbrev dktJ5_add_1 : List UInt8 := dkwJ5_add_1 ++ []
def dkwJ5_add_0 : List UInt8 := [42, 89, 180, 0, 63, 4, 96, 181, 0, 63, 42, 43, 42, 180, 0, 9, 42, 180, 0, 48, 182, 0, 131, 4]
abbrev dktJ5_add_0 : List UInt8 := dkwJ5_add_0 ++ dktJ5_add_1
theorem dksJ5_add_0 : cJ5_add.data.toList.drop 0 = dktJ5_add_0 := by decide +kernel
theorem dksJ5_add_1 : cJ5_add.data.toList.drop 24 = dktJ5_add_1 := dk_seg dksJ5_add_0 24 rfl rfl
theorem dJ5_add_0 : decode cJ5_add 0 = .ok (.aload_n 0, 1) := dk_42 (dk_at dksJ5_add_0 0 rfl rfl)
theorem dJ5_add_1 : decode cJ5_add 1 = .ok (.dup, 1) := dk_89 (dk_at dksJ5_add_0 1 rfl rfl)
theorem dJ5_add_2 : decode cJ5_add 2 = .ok (.getfield 63, 3) := dk_180 0 63 (dk_at dksJ5_add_0 2 rfl rfl)
theorem dJ5_add_5 : decode cJ5_add 5 = .ok (.iconst 1, 1) := dk_4 (dk_at dksJ5_add_0 5 rfl rfl)
theorem dJ5_add_6 : decode cJ5_add 6 = .ok (.iadd, 1) := dk_96 (dk_at dksJ5_add_0 6 rfl rfl)
theorem dJ5_add_7 : decode cJ5_add 7 = .ok (.putfield 63, 3) := dk_181 0 63 (dk_at dksJ5_add_0 7 rfl rfl)
theorem dJ5_add_10 : decode cJ5_add 10 = .ok (.aload_n 0, 1) := dk_42 (dk_at dksJ5_add_0 10 rfl rfl)
theorem dJ5_add_11 : decode cJ5_add 11 = .ok (.aload_n 1, 1) := dk_43 (dk_at dksJ5_add_0 11 rfl rfl)
theorem dJ5_add_12 : decode cJ5_add 12 = .ok (.aload_n 0, 1) := dk_42 (dk_at dksJ5_add_0 12 rfl rfl)
theorem dJ5_add_13 : decode cJ5_add 13 = .ok (.getfield 9, 3) := dk_180 0 9 (dk_at dksJ5_add_0 13 rfl rfl)
theorem dJ5_add_16 : decode cJ5_add 16 = .ok (.aload_n 0, 1) := dk_42 (dk_at dksJ5_add_0 16 rfl rfl)
theorem dJ5_add_17 : decode cJ5_add 17 = .ok (.getfield 48, 3) := dk_180 0 48 (dk_at dksJ5_add_0 17 rfl rfl)
theorem dJ5_add_20 : decode cJ5_add 20 = .ok (.invokevirtual 131, 3) := dk_182 0 131 (dk_at dksJ5_add_0 20 rfl rfl)
theorem dJ5_add_23 : decode cJ5_add 23 = .ok (.iconst 1, 1) := dk_4 (dk_at dksJ5_add_0 23 rfl rfl)
theorem dJ5_add_24 : decode cJ5_add 24 = .ok (.ireturn, 1) := dk_172 (dk_at dksJ5_add_1 0 rfl rfl)
abbrev cJ5_add_2 : ByteArray := prog_42_method_24_code
def yJ5_add_2 : MethodName := ⟨RJ5, "add", "(Ljava/lang/Object;[Ljava/lang/Object;I)V"⟩
def dkwJ5_add_2_0 : List UInt8 := [29, 44, 190, 160, 0, 8, 42, 182, 0, 129, 77, 44, 29, 43, 83, 42, 29, 4, 96, 181, 0, 48, 177]
abbrev dktJ5_add_2_0 : List UInt8 := dkwJ5_add_2_0 ++ []
theorem dksJ5_add_2_0 : cJ5_add_2.data.toList.drop 0 = dktJ5_add_2_0 := by decide +kernel
theorem dJ5_add_2_0 : decode cJ5_add_2 0 = .ok (.iload_n 3, 1) := dk_29 (dk_at dksJ5_add_2_0 0 rfl rfl)
theorem dJ5_add_2_1 : decode cJ5_add_2 1 = .ok (.aload_n 2, 1) := dk_44 (dk_at dksJ5_add_2_0 1 rfl rfl)
theorem dJ5_add_2_2 : decode cJ5_add_2 2 = .ok (.arraylength, 1) := dk_190 (dk_at dksJ5_add_2_0 2 rfl rfl)
theorem dJ5_add_2_3 : decode cJ5_add_2 3 = .ok (.if_icmp .ne 8, 3) := dk_160 0 8 (dk_at dksJ5_add_2_0 3 rfl rfl)
theorem dJ5_add_2_6 : decode cJ5_add_2 6 = .ok (.aload_n 0, 1) := dk_42 (dk_at dksJ5_add_2_0 6 rfl rfl)
theorem dJ5_add_2_7 : decode cJ5_add_2 7 = .ok (.invokevirtual 129, 3) := dk_182 0 129 (dk_at dksJ5_add_2_0 7 rfl rfl)
theorem dJ5_add_2_10 : decode cJ5_add_2 10 = .ok (.astore_n 2, 1) := dk_77 (dk_at dksJ5_add_2_0 10 rfl rfl)
theorem dJ5_add_2_11 : decode cJ5_add_2 11 = .ok (.aload_n 2, 1) := dk_44 (dk_at dksJ5_add_2_0 11 rfl rfl)
theorem dJ5_add_2_12 : decode cJ5_add_2 12 = .ok (.iload_n 3, 1) := dk_29 (dk_at dksJ5_add_2_0 12 rfl rfl)
theorem dJ5_add_2_13 : decode cJ5_add_2 13 = .ok (.aload_n 1, 1) := dk_43 (dk_at dksJ5_add_2_0 13 rfl rfl)
theorem dJ5_add_2_14 : decode cJ5_add_2 14 = .ok (.aastore, 1) := dk_83 (dk_at dksJ5_add_2_0 14 rfl rfl)
theorem dJ5_add_2_15 : decode cJ5_add_2 15 = .ok (.aload_n 0, 1) := dk_42 (dk_at dksJ5_add_2_0 15 rfl rfl)
theorem dJ5_add_2_16 : decode cJ5_add_2 16 = .ok (.iload_n 3, 1) := dk_29 (dk_at dksJ5_add_2_0 16 rfl rfl)
theorem dJ5_add_2_17 : decode cJ5_add_2 17 = .ok (.iconst 1, 1) := dk_4 (dk_at dksJ5_add_2_0 17 rfl rfl)
theorem dJ5_add_2_18 : decode cJ5_add_2 18 = .ok (.iadd, 1) := dk_96 (dk_at dksJ5_add_2_0 18 rfl rfl)
theorem dJ5_add_2_19 : decode cJ5_add_2 19 = .ok (.putfield 48, 3) := dk_181 0 48 (dk_at dksJ5_add_2_0 19 rfl rfl)
theorem dJ5_add_2_22 : decode cJ5_add_2 22 = .ok (.return_, 1) := dk_177 (dk_at dksJ5_add_2_0 22 rfl rfl)
abbrev cJ5_grow : ByteArray := prog_42_method_7_code
def yJ5_grow : MethodName := ⟨RJ5, "grow", "()[Ljava/lang/Object;"⟩
def dkwJ5_grow_0 : List UInt8 := [42, 42, 180, 0, 48, 4, 96, 182, 0, 69, 176]
abbrev dktJ5_grow_0 : List UInt8 := dkwJ5_grow_0 ++ []
theorem dksJ5_grow_0 : cJ5_grow.data.toList.drop 0 = dktJ5_grow_0 := by decide +kernel
theorem dJ5_grow_0 : decode cJ5_grow 0 = .ok (.aload_n 0, 1) := dk_42 (dk_at dksJ5_grow_0 0 rfl rfl)
theorem dJ5_grow_1 : decode cJ5_grow 1 = .ok (.aload_n 0, 1) := dk_42 (dk_at dksJ5_grow_0 1 rfl rfl)
theorem dJ5_grow_2 : decode cJ5_grow 2 = .ok (.getfield 48, 3) := dk_180 0 48 (dk_at dksJ5_grow_0 2 rfl rfl)
theorem dJ5_grow_5 : decode cJ5_grow 5 = .ok (.iconst 1, 1) := dk_4 (dk_at dksJ5_grow_0 5 rfl rfl)
theorem dJ5_grow_6 : decode cJ5_grow 6 = .ok (.iadd, 1) := dk_96 (dk_at dksJ5_grow_0 6 rfl rfl)
theorem dJ5_grow_7 : decode cJ5_grow 7 = .ok (.invokevirtual 69, 3) := dk_182 0 69 (dk_at dksJ5_grow_0 7 rfl rfl)
theorem dJ5_grow_10 : decode cJ5_grow 10 = .ok (.areturn, 1) := dk_176 (dk_at dksJ5_grow_0 10 rfl rfl)
abbrev cJ5_grow_2 : ByteArray := prog_42_method_6_code
def yJ5_grow_2 : MethodName := ⟨RJ5, "grow", "(I)[Ljava/lang/Object;"⟩
def dkwJ5_grow_2_2 : List UInt8 := [27, 184, 0, 79, 189, 0, 7, 90, 181, 0, 9, 176]
abbrev dktJ5_grow_2_2 : List UInt8 := dkwJ5_grow_2_2 ++ []
def dkwJ5_grow_2_1 : List UInt8 := [28, 4, 122, 184, 0, 73, 62, 42, 42, 180, 0, 9, 29, 184, 0, 66, 90, 181, 0, 9, 176, 42, 16, 10]
abbrev dktJ5_grow_2_1 : List UInt8 := dkwJ5_grow_2_1 ++ dktJ5_grow_2_2
def dkwJ5_grow_2_0 : List UInt8 := [42, 180, 0, 9, 190, 61, 28, 157, 0, 13, 42, 180, 0, 9, 178, 0, 39, 165, 0, 28, 28, 27, 28, 100]
abbrev dktJ5_grow_2_0 : List UInt8 := dkwJ5_grow_2_0 ++ dktJ5_grow_2_1
theorem dksJ5_grow_2_0 : cJ5_grow_2.data.toList.drop 0 = dktJ5_grow_2_0 := by decide +kernel
theorem dksJ5_grow_2_1 : cJ5_grow_2.data.toList.drop 24 = dktJ5_grow_2_1 := dk_seg dksJ5_grow_2_0 24 rfl rfl
theorem dksJ5_grow_2_2 : cJ5_grow_2.data.toList.drop 48 = dktJ5_grow_2_2 := dk_seg dksJ5_grow_2_1 24 rfl rfl
theorem dJ5_grow_2_0 : decode cJ5_grow_2 0 = .ok (.aload_n 0, 1) := dk_42 (dk_at dksJ5_grow_2_0 0 rfl rfl)
theorem dJ5_grow_2_1 : decode cJ5_grow_2 1 = .ok (.getfield 9, 3) := dk_180 0 9 (dk_at dksJ5_grow_2_0 1 rfl rfl)
theorem dJ5_grow_2_4 : decode cJ5_grow_2 4 = .ok (.arraylength, 1) := dk_190 (dk_at dksJ5_grow_2_0 4 rfl rfl)
theorem dJ5_grow_2_5 : decode cJ5_grow_2 5 = .ok (.istore_n 2, 1) := dk_61 (dk_at dksJ5_grow_2_0 5 rfl rfl)
theorem dJ5_grow_2_6 : decode cJ5_grow_2 6 = .ok (.iload_n 2, 1) := dk_28 (dk_at dksJ5_grow_2_0 6 rfl rfl)
theorem dJ5_grow_2_7 : decode cJ5_grow_2 7 = .ok (.ifCond .gt 13, 3) := dk_157 0 13 (dk_at dksJ5_grow_2_0 7 rfl rfl)
theorem dJ5_grow_2_10 : decode cJ5_grow_2 10 = .ok (.aload_n 0, 1) := dk_42 (dk_at dksJ5_grow_2_0 10 rfl rfl)
theorem dJ5_grow_2_11 : decode cJ5_grow_2 11 = .ok (.getfield 9, 3) := dk_180 0 9 (dk_at dksJ5_grow_2_0 11 rfl rfl)
theorem dJ5_grow_2_14 : decode cJ5_grow_2 14 = .ok (.getstatic 39, 3) := dk_178 0 39 (dk_at dksJ5_grow_2_0 14 rfl rfl)
theorem dJ5_grow_2_17 : decode cJ5_grow_2 17 = .ok (.if_acmp .eq 28, 3) := dk_165 0 28 (dk_at dksJ5_grow_2_0 17 rfl rfl)
theorem dJ5_grow_2_20 : decode cJ5_grow_2 20 = .ok (.iload_n 2, 1) := dk_28 (dk_at dksJ5_grow_2_0 20 rfl rfl)
theorem dJ5_grow_2_21 : decode cJ5_grow_2 21 = .ok (.iload_n 1, 1) := dk_27 (dk_at dksJ5_grow_2_0 21 rfl rfl)
theorem dJ5_grow_2_22 : decode cJ5_grow_2 22 = .ok (.iload_n 2, 1) := dk_28 (dk_at dksJ5_grow_2_0 22 rfl rfl)
theorem dJ5_grow_2_23 : decode cJ5_grow_2 23 = .ok (.isub, 1) := dk_100 (dk_at dksJ5_grow_2_0 23 rfl rfl)
theorem dJ5_grow_2_24 : decode cJ5_grow_2 24 = .ok (.iload_n 2, 1) := dk_28 (dk_at dksJ5_grow_2_1 0 rfl rfl)
theorem dJ5_grow_2_25 : decode cJ5_grow_2 25 = .ok (.iconst 1, 1) := dk_4 (dk_at dksJ5_grow_2_1 1 rfl rfl)
theorem dJ5_grow_2_26 : decode cJ5_grow_2 26 = .ok (.ishr, 1) := dk_122 (dk_at dksJ5_grow_2_1 2 rfl rfl)
theorem dJ5_grow_2_27 : decode cJ5_grow_2 27 = .ok (.invokestatic 73, 3) := dk_184 0 73 (dk_at dksJ5_grow_2_1 3 rfl rfl)
theorem dJ5_grow_2_30 : decode cJ5_grow_2 30 = .ok (.istore_n 3, 1) := dk_62 (dk_at dksJ5_grow_2_1 6 rfl rfl)
theorem dJ5_grow_2_31 : decode cJ5_grow_2 31 = .ok (.aload_n 0, 1) := dk_42 (dk_at dksJ5_grow_2_1 7 rfl rfl)
theorem dJ5_grow_2_32 : decode cJ5_grow_2 32 = .ok (.aload_n 0, 1) := dk_42 (dk_at dksJ5_grow_2_1 8 rfl rfl)
theorem dJ5_grow_2_33 : decode cJ5_grow_2 33 = .ok (.getfield 9, 3) := dk_180 0 9 (dk_at dksJ5_grow_2_1 9 rfl rfl)
theorem dJ5_grow_2_36 : decode cJ5_grow_2 36 = .ok (.iload_n 3, 1) := dk_29 (dk_at dksJ5_grow_2_1 12 rfl rfl)
theorem dJ5_grow_2_37 : decode cJ5_grow_2 37 = .ok (.invokestatic 66, 3) := dk_184 0 66 (dk_at dksJ5_grow_2_1 13 rfl rfl)
theorem dJ5_grow_2_40 : decode cJ5_grow_2 40 = .ok (.dup_x1, 1) := dk_90 (dk_at dksJ5_grow_2_1 16 rfl rfl)
theorem dJ5_grow_2_41 : decode cJ5_grow_2 41 = .ok (.putfield 9, 3) := dk_181 0 9 (dk_at dksJ5_grow_2_1 17 rfl rfl)
theorem dJ5_grow_2_44 : decode cJ5_grow_2 44 = .ok (.areturn, 1) := dk_176 (dk_at dksJ5_grow_2_1 20 rfl rfl)
theorem dJ5_grow_2_45 : decode cJ5_grow_2 45 = .ok (.aload_n 0, 1) := dk_42 (dk_at dksJ5_grow_2_1 21 rfl rfl)
theorem dJ5_grow_2_46 : decode cJ5_grow_2 46 = .ok (.bipush 10, 2) := dk_16 10 (dk_at dksJ5_grow_2_1 22 rfl rfl)
theorem dJ5_grow_2_48 : decode cJ5_grow_2 48 = .ok (.iload_n 1, 1) := dk_27 (dk_at dksJ5_grow_2_2 0 rfl rfl)
theorem dJ5_grow_2_49 : decode cJ5_grow_2 49 = .ok (.invokestatic 79, 3) := dk_184 0 79 (dk_at dksJ5_grow_2_2 1 rfl rfl)
theorem dJ5_grow_2_52 : decode cJ5_grow_2 52 = .ok (.anewarray 7, 3) := dk_189 0 7 (dk_at dksJ5_grow_2_2 4 rfl rfl)
theorem dJ5_grow_2_55 : decode cJ5_grow_2 55 = .ok (.dup_x1, 1) := dk_90 (dk_at dksJ5_grow_2_2 7 rfl rfl)
theorem dJ5_grow_2_56 : decode cJ5_grow_2 56 = .ok (.putfield 9, 3) := dk_181 0 9 (dk_at dksJ5_grow_2_2 8 rfl rfl)
theorem dJ5_grow_2_59 : decode cJ5_grow_2 59 = .ok (.areturn, 1) := dk_176 (dk_at dksJ5_grow_2_2 11 rfl rfl)
abbrev cJ5_size : ByteArray := prog_42_method_8_code
def yJ5_size : MethodName := ⟨RJ5, "size", "()I"⟩
theorem dJ5_size_0 : decode cJ5_size 0 = .ok (.aload_n 0, 1) := by decide +kernel
theorem dJ5_size_1 : decode cJ5_size 1 = .ok (.getfield 48, 3) := by decide +kernel
theorem dJ5_size_4 : decode cJ5_size 4 = .ok (.ireturn, 1) := by decide +kernel
abbrev cJ5_get : ByteArray := prog_42_method_20_code
def yJ5_get : MethodName := ⟨RJ5, "get", "(I)Ljava/lang/Object;"⟩
def dkwJ5_get_0 : List UInt8 := [27, 42, 180, 0, 48, 184, 0, 118, 87, 42, 27, 182, 0, 123, 176]
abbrev dktJ5_get_0 : List UInt8 := dkwJ5_get_0 ++ []
theorem dksJ5_get_0 : cJ5_get.data.toList.drop 0 = dktJ5_get_0 := by decide +kernel
theorem dJ5_get_0 : decode cJ5_get 0 = .ok (.iload_n 1, 1) := dk_27 (dk_at dksJ5_get_0 0 rfl rfl)
theorem dJ5_get_1 : decode cJ5_get 1 = .ok (.aload_n 0, 1) := dk_42 (dk_at dksJ5_get_0 1 rfl rfl)
theorem dJ5_get_2 : decode cJ5_get 2 = .ok (.getfield 48, 3) := dk_180 0 48 (dk_at dksJ5_get_0 2 rfl rfl)
theorem dJ5_get_5 : decode cJ5_get 5 = .ok (.invokestatic 118, 3) := dk_184 0 118 (dk_at dksJ5_get_0 5 rfl rfl)
theorem dJ5_get_8 : decode cJ5_get 8 = .ok (.pop, 1) := dk_87 (dk_at dksJ5_get_0 8 rfl rfl)
theorem dJ5_get_9 : decode cJ5_get 9 = .ok (.aload_n 0, 1) := dk_42 (dk_at dksJ5_get_0 9 rfl rfl)
theorem dJ5_get_10 : decode cJ5_get 10 = .ok (.iload_n 1, 1) := dk_27 (dk_at dksJ5_get_0 10 rfl rfl)
theorem dJ5_get_11 : decode cJ5_get 11 = .ok (.invokevirtual 123, 3) := dk_182 0 123 (dk_at dksJ5_get_0 11 rfl rfl)
theorem dJ5_get_14 : decode cJ5_get 14 = .ok (.areturn, 1) := dk_176 (dk_at dksJ5_get_0 14 rfl rfl)
abbrev cJ5_elementData : ByteArray := prog_42_method_18_code
def yJ5_elementData : MethodName := ⟨RJ5, "elementData", "(I)Ljava/lang/Object;"⟩
def dkwJ5_elementData_0 : List UInt8 := [42, 180, 0, 9, 27, 50, 176]
abbrev dktJ5_elementData_0 : List UInt8 := dkwJ5_elementData_0 ++ []
theorem dksJ5_elementData_0 : cJ5_elementData.data.toList.drop 0 = dktJ5_elementData_0 := by decide +kernel
theorem dJ5_elementData_0 : decode cJ5_elementData 0 = .ok (.aload_n 0, 1) := dk_42 (dk_at dksJ5_elementData_0 0 rfl rfl)
theorem dJ5_elementData_1 : decode cJ5_elementData 1 = .ok (.getfield 9, 3) := dk_180 0 9 (dk_at dksJ5_elementData_0 1 rfl rfl)
theorem dJ5_elementData_4 : decode cJ5_elementData 4 = .ok (.iload_n 1, 1) := dk_27 (dk_at dksJ5_elementData_0 4 rfl rfl)
theorem dJ5_elementData_5 : decode cJ5_elementData 5 = .ok (.aaload, 1) := dk_50 (dk_at dksJ5_elementData_0 5 rfl rfl)
theorem dJ5_elementData_6 : decode cJ5_elementData 6 = .ok (.areturn, 1) := dk_176 (dk_at dksJ5_elementData_0 6 rfl rfl)
theorem q157 : (Jvm.Cond.initialized "java/util/ArrayList") ∈ lw_all := lw_g (lw_at lw_m1 15 rfl) rfl
theorem q567 : (Jvm.Cond.instantiable "java/util/ArrayList" (3 : Nat)) ∈ lw_all := lw_g (lw_at lw_m2 185 rfl) rfl
theorem q569 : (Jvm.Cond.instanceMethod ({ cls := "java/util/ArrayList", name := "<init>", desc := "()V" } : Jvm.MethodName)) ∈ lw_all := lw_g (lw_at lw_m2 187 rfl) rfl
theorem q570 : (Jvm.Cond.code ({ cls := "java/util/ArrayList", name := "<init>", desc := "()V" } : Jvm.MethodName) prog_42_method_2_code (1 : Nat) (Option.none : Option Jvm.ClassFile.FieldType)) ∈ lw_all := lw_g (lw_at lw_m2 188 rfl) rfl
theorem q571 : (Jvm.Cond.methodLink "java/util/ArrayList" (1 : Nat) ({ cls := "java/util/AbstractList", name := "<init>", desc := "()V" } : Jvm.MethodName)) ∈ lw_all := lw_g (lw_at lw_m2 189 rfl) rfl
theorem q578 : (Jvm.Cond.fieldLink "java/util/ArrayList" (39 : Nat) "java/util/ArrayList" "DEFAULTCAPACITY_EMPTY_ELEMENTDATA" "[Ljava/lang/Object;") ∈ lw_all := lw_g (lw_at lw_m2 196 rfl) rfl
theorem q579 : (Jvm.Cond.laysStatic "java/util/ArrayList" "DEFAULTCAPACITY_EMPTY_ELEMENTDATA" "[Ljava/lang/Object;") ∈ lw_tbl := lw_at lw_m2 197 rfl
theorem q580 : (Jvm.Cond.fieldLink "java/util/ArrayList" (9 : Nat) "java/util/ArrayList" "elementData" "[Ljava/lang/Object;") ∈ lw_all := lw_g (lw_at lw_m2 198 rfl) rfl
theorem q581 : (Jvm.Cond.fieldLink "java/util/ArrayList" (48 : Nat) "java/util/ArrayList" "size" "I") ∈ lw_all := lw_g (lw_at lw_m2 199 rfl) rfl
theorem q583 : (Jvm.Cond.fieldLink "java/util/ArrayList" (63 : Nat) "java/util/ArrayList" "modCount" "I") ∈ lw_all := lw_g (lw_at lw_m2 201 rfl) rfl
theorem q584 : (Jvm.Cond.sameField "java/util/ArrayList" "java/util/AbstractList" "modCount" "I") ∈ lw_all := lw_g (lw_at lw_m2 202 rfl) rfl
theorem q585 : (Jvm.Cond.lays "java/util/ArrayList" "java/util/ArrayList" "elementData" "[Ljava/lang/Object;") ∈ lw_all := lw_g (lw_at lw_m2 203 rfl) rfl
theorem q586 : (Jvm.Cond.soleField "java/util/ArrayList" "elementData") ∈ lw_all := lw_g (lw_at lw_m2 204 rfl) rfl
theorem q587 : (Jvm.Cond.lays "java/util/ArrayList" "java/util/ArrayList" "size" "I") ∈ lw_all := lw_g (lw_at lw_m2 205 rfl) rfl
theorem q588 : (Jvm.Cond.soleField "java/util/ArrayList" "size") ∈ lw_all := lw_g (lw_at lw_m2 206 rfl) rfl
theorem q589 : (Jvm.Cond.lays "java/util/ArrayList" "java/util/AbstractList" "modCount" "I") ∈ lw_all := lw_g (lw_at lw_m2 207 rfl) rfl
theorem q591 : (Jvm.Cond.superclass "java/util/ArrayList" "java/util/AbstractList") ∈ lw_all := lw_g (lw_at lw_m2 209 rfl) rfl
theorem q1208 : (Jvm.Cond.instanceMethod ({ cls := "java/util/ArrayList", name := "add", desc := "(Ljava/lang/Object;)Z" } : Jvm.MethodName)) ∈ lw_all := lw_g (lw_at lw_m5 106 rfl) rfl
theorem q1209 : (Jvm.Cond.selects "java/util/ArrayList" ({ cls := "java/util/ArrayList", name := "add", desc := "(Ljava/lang/Object;)Z" } : Jvm.MethodName) ({ cls := "java/util/ArrayList", name := "add", desc := "(Ljava/lang/Object;)Z" } : Jvm.MethodName)) ∈ lw_all := lw_g (lw_at lw_m5 107 rfl) rfl
theorem q1210 : (Jvm.Cond.code ({ cls := "java/util/ArrayList", name := "add", desc := "(Ljava/lang/Object;)Z" } : Jvm.MethodName) prog_42_method_25_code (2 : Nat) (Option.some Jvm.ClassFile.FieldType.boolean)) ∈ lw_all := lw_g (lw_at lw_m5 108 rfl) rfl
theorem q1211 : (Jvm.Cond.methodLink "java/util/ArrayList" (131 : Nat) ({ cls := "java/util/ArrayList", name := "add", desc := "(Ljava/lang/Object;[Ljava/lang/Object;I)V" } : Jvm.MethodName)) ∈ lw_all := lw_g (lw_at lw_m5 109 rfl) rfl
theorem q1212 : (Jvm.Cond.privateMethod ({ cls := "java/util/ArrayList", name := "add", desc := "(Ljava/lang/Object;[Ljava/lang/Object;I)V" } : Jvm.MethodName)) ∈ lw_tbl := lw_at lw_m5 110 rfl
theorem q1213 : (Jvm.Cond.instanceMethod ({ cls := "java/util/ArrayList", name := "add", desc := "(Ljava/lang/Object;[Ljava/lang/Object;I)V" } : Jvm.MethodName)) ∈ lw_all := lw_g (lw_at lw_m5 111 rfl) rfl
theorem q1214 : (Jvm.Cond.code ({ cls := "java/util/ArrayList", name := "add", desc := "(Ljava/lang/Object;[Ljava/lang/Object;I)V" } : Jvm.MethodName) prog_42_method_24_code (4 : Nat) (Option.none : Option Jvm.ClassFile.FieldType)) ∈ lw_all := lw_g (lw_at lw_m5 112 rfl) rfl
theorem q1215 : (Jvm.Cond.methodLink "java/util/ArrayList" (129 : Nat) ({ cls := "java/util/ArrayList", name := "grow", desc := "()[Ljava/lang/Object;" } : Jvm.MethodName)) ∈ lw_all := lw_g (lw_at lw_m5 113 rfl) rfl
theorem q1216 : (Jvm.Cond.privateMethod ({ cls := "java/util/ArrayList", name := "grow", desc := "()[Ljava/lang/Object;" } : Jvm.MethodName)) ∈ lw_tbl := lw_at lw_m5 114 rfl
theorem q1217 : (Jvm.Cond.instanceMethod ({ cls := "java/util/ArrayList", name := "grow", desc := "()[Ljava/lang/Object;" } : Jvm.MethodName)) ∈ lw_all := lw_g (lw_at lw_m5 115 rfl) rfl
theorem q1218 : (Jvm.Cond.code ({ cls := "java/util/ArrayList", name := "grow", desc := "()[Ljava/lang/Object;" } : Jvm.MethodName) prog_42_method_7_code (1 : Nat) (Option.some (Jvm.ClassFile.FieldType.array (Jvm.ClassFile.FieldType.object "java/lang/Object")))) ∈ lw_all := lw_g (lw_at lw_m5 116 rfl) rfl
theorem q1219 : (Jvm.Cond.methodLink "java/util/ArrayList" (69 : Nat) ({ cls := "java/util/ArrayList", name := "grow", desc := "(I)[Ljava/lang/Object;" } : Jvm.MethodName)) ∈ lw_all := lw_g (lw_at lw_m5 117 rfl) rfl
theorem q1220 : (Jvm.Cond.privateMethod ({ cls := "java/util/ArrayList", name := "grow", desc := "(I)[Ljava/lang/Object;" } : Jvm.MethodName)) ∈ lw_tbl := lw_at lw_m5 118 rfl
theorem q1221 : (Jvm.Cond.instanceMethod ({ cls := "java/util/ArrayList", name := "grow", desc := "(I)[Ljava/lang/Object;" } : Jvm.MethodName)) ∈ lw_all := lw_g (lw_at lw_m5 119 rfl) rfl
theorem q1222 : (Jvm.Cond.code ({ cls := "java/util/ArrayList", name := "grow", desc := "(I)[Ljava/lang/Object;" } : Jvm.MethodName) prog_42_method_6_code (4 : Nat) (Option.some (Jvm.ClassFile.FieldType.array (Jvm.ClassFile.FieldType.object "java/lang/Object")))) ∈ lw_all := lw_g (lw_at lw_m5 120 rfl) rfl
theorem q1223 : (Jvm.Cond.methodLink "java/util/ArrayList" (73 : Nat) ({ cls := "jdk/internal/util/ArraysSupport", name := "newLength", desc := "(III)I" } : Jvm.MethodName)) ∈ lw_all := lw_g (lw_at lw_m5 121 rfl) rfl
theorem q1224 : (Jvm.Cond.methodLink "java/util/ArrayList" (66 : Nat) ({ cls := "java/util/Arrays", name := "copyOf", desc := "([Ljava/lang/Object;I)[Ljava/lang/Object;" } : Jvm.MethodName)) ∈ lw_all := lw_g (lw_at lw_m5 122 rfl) rfl
theorem q1250 : (Jvm.Cond.selects "java/util/ArrayList" ({ cls := "java/lang/Object", name := "getClass", desc := "()Ljava/lang/Class;" } : Jvm.MethodName) ({ cls := "java/lang/Object", name := "getClass", desc := "()Ljava/lang/Class;" } : Jvm.MethodName)) ∈ lw_all := lw_g (lw_at lw_m5 148 rfl) rfl
theorem q1258 : (Jvm.Cond.methodLink "java/util/ArrayList" (79 : Nat) ({ cls := "java/lang/Math", name := "max", desc := "(II)I" } : Jvm.MethodName)) ∈ lw_all := lw_g (lw_at lw_m5 156 rfl) rfl
theorem q1259 : (Jvm.Cond.classLink "java/util/ArrayList" (7 : Nat) "java/lang/Object") ∈ lw_all := lw_g (lw_at lw_m5 157 rfl) rfl
theorem q1300 : (Jvm.Cond.instanceMethod ({ cls := "java/util/ArrayList", name := "size", desc := "()I" } : Jvm.MethodName)) ∈ lw_all := lw_g (lw_at lw_m5 198 rfl) rfl
theorem q1301 : (Jvm.Cond.selects "java/util/ArrayList" ({ cls := "java/util/ArrayList", name := "size", desc := "()I" } : Jvm.MethodName) ({ cls := "java/util/ArrayList", name := "size", desc := "()I" } : Jvm.MethodName)) ∈ lw_all := lw_g (lw_at lw_m5 199 rfl) rfl
theorem q1302 : (Jvm.Cond.code ({ cls := "java/util/ArrayList", name := "size", desc := "()I" } : Jvm.MethodName) prog_42_method_8_code (1 : Nat) (Option.some Jvm.ClassFile.FieldType.int)) ∈ lw_all := lw_g (lw_at lw_m5 200 rfl) rfl
theorem q1308 : (Jvm.Cond.instanceMethod ({ cls := "java/util/ArrayList", name := "get", desc := "(I)Ljava/lang/Object;" } : Jvm.MethodName)) ∈ lw_all := lw_g (lw_at lw_m5 206 rfl) rfl
theorem q1309 : (Jvm.Cond.selects "java/util/ArrayList" ({ cls := "java/util/ArrayList", name := "get", desc := "(I)Ljava/lang/Object;" } : Jvm.MethodName) ({ cls := "java/util/ArrayList", name := "get", desc := "(I)Ljava/lang/Object;" } : Jvm.MethodName)) ∈ lw_all := lw_g (lw_at lw_m5 207 rfl) rfl
theorem q1310 : (Jvm.Cond.code ({ cls := "java/util/ArrayList", name := "get", desc := "(I)Ljava/lang/Object;" } : Jvm.MethodName) prog_42_method_20_code (2 : Nat) (Option.some (Jvm.ClassFile.FieldType.object "java/lang/Object"))) ∈ lw_all := lw_g (lw_at lw_m5 208 rfl) rfl
theorem q1311 : (Jvm.Cond.methodLink "java/util/ArrayList" (118 : Nat) ({ cls := "java/util/Objects", name := "checkIndex", desc := "(II)I" } : Jvm.MethodName)) ∈ lw_all := lw_g (lw_at lw_m5 209 rfl) rfl
theorem q1315 : (Jvm.Cond.methodLink "java/util/ArrayList" (123 : Nat) ({ cls := "java/util/ArrayList", name := "elementData", desc := "(I)Ljava/lang/Object;" } : Jvm.MethodName)) ∈ lw_all := lw_g (lw_at lw_m5 213 rfl) rfl
theorem q1316 : (Jvm.Cond.instanceMethod ({ cls := "java/util/ArrayList", name := "elementData", desc := "(I)Ljava/lang/Object;" } : Jvm.MethodName)) ∈ lw_all := lw_g (lw_at lw_m5 214 rfl) rfl
theorem q1317 : (Jvm.Cond.selects "java/util/ArrayList" ({ cls := "java/util/ArrayList", name := "elementData", desc := "(I)Ljava/lang/Object;" } : Jvm.MethodName) ({ cls := "java/util/ArrayList", name := "elementData", desc := "(I)Ljava/lang/Object;" } : Jvm.MethodName)) ∈ lw_all := lw_g (lw_at lw_m5 215 rfl) rfl
theorem q1318 : (Jvm.Cond.code ({ cls := "java/util/ArrayList", name := "elementData", desc := "(I)Ljava/lang/Object;" } : Jvm.MethodName) prog_42_method_18_code (2 : Nat) (Option.some (Jvm.ClassFile.FieldType.object "java/lang/Object"))) ∈ lw_all := lw_g (lw_at lw_m5 216 rfl) rfl
theorem q2366 : (Jvm.Cond.castable "java/util/ArrayList" "java/lang/Object") ∈ lw_tbl := lw_at lw_m10 64 rfl
theorem in_J5 : ∀ w ∈ wsJ50, w ∈ lw_all := lw_in wsJ50 [589, 585, 587] (by decide +kernel) (by decide +kernel)

/-! java/lang/String -/
set_option maxRecDepth 100000
def RJ6 : String := "java/lang/String"
def TJ6 : u_T := fun k => match k with
  | 0 => ("java/lang/String", "value", "[B", true)
  | 1 => ("java/lang/String", "coder", "B", true)
  | 2 => ("java/lang/String", "hash", "I", false)
  | _ => ("java/lang/String", "hashIsZero", "Z", false)
def tyJ6 : Nat → FieldType := fun k => match k with
  | 0 => .array .byte
  | 1 => .byte
  | 2 => .int
  | _ => .boolean
abbrev wsJ60 : List Cond := u_ws RJ6 TJ6 4
theorem nmJ6 : ∀ a, a < 4 → ∀ b, b < 4 → a ≠ b → (TJ6 a).2.1 ≠ (TJ6 b).2.1 := by decide +kernel
theorem tyJ6_ok : ∀ k, k < 4 → parseFieldDescriptor (TJ6 k).2.2.1 = some (tyJ6 k) := by decide +kernel
abbrev cJ6_length : ByteArray := prog_31_method_54_code
def yJ6_length : MethodName := ⟨RJ6, "length", "()I"⟩
def dkwJ6_length_0 : List UInt8 := [42, 180, 0, 9, 190, 42, 182, 1, 79, 122, 172]
abbrev dktJ6_length_0 : List UInt8 := dkwJ6_length_0 ++ []
theorem dksJ6_length_0 : cJ6_length.data.toList.drop 0 = dktJ6_length_0 := by decide +kernel
theorem dJ6_length_0 : decode cJ6_length 0 = .ok (.aload_n 0, 1) := dk_42 (dk_at dksJ6_length_0 0 rfl rfl)
theorem dJ6_length_1 : decode cJ6_length 1 = .ok (.getfield 9, 3) := dk_180 0 9 (dk_at dksJ6_length_0 1 rfl rfl)
theorem dJ6_length_4 : decode cJ6_length 4 = .ok (.arraylength, 1) := dk_190 (dk_at dksJ6_length_0 4 rfl rfl)
theorem dJ6_length_5 : decode cJ6_length 5 = .ok (.aload_n 0, 1) := dk_42 (dk_at dksJ6_length_0 5 rfl rfl)
theorem dJ6_length_6 : decode cJ6_length 6 = .ok (.invokevirtual 335, 3) := dk_182 1 79 (dk_at dksJ6_length_0 6 rfl rfl)
theorem dJ6_length_9 : decode cJ6_length 9 = .ok (.ishr, 1) := dk_122 (dk_at dksJ6_length_0 9 rfl rfl)
theorem dJ6_length_10 : decode cJ6_length 10 = .ok (.ireturn, 1) := dk_172 (dk_at dksJ6_length_0 10 rfl rfl)
abbrev cJ6_coder : ByteArray := prog_31_method_152_code
def yJ6_coder : MethodName := ⟨RJ6, "coder", "()B"⟩
def dkwJ6_coder_0 : List UInt8 := [178, 0, 38, 153, 0, 10, 42, 180, 0, 15, 167, 0, 4, 4, 172]
abbrev dktJ6_coder_0 : List UInt8 := dkwJ6_coder_0 ++ []
theorem dksJ6_coder_0 : cJ6_coder.data.toList.drop 0 = dktJ6_coder_0 := by decide +kernel
theorem dJ6_coder_0 : decode cJ6_coder 0 = .ok (.getstatic 38, 3) := dk_178 0 38 (dk_at dksJ6_coder_0 0 rfl rfl)
theorem dJ6_coder_3 : decode cJ6_coder 3 = .ok (.ifCond .eq 10, 3) := dk_153 0 10 (dk_at dksJ6_coder_0 3 rfl rfl)
theorem dJ6_coder_6 : decode cJ6_coder 6 = .ok (.aload_n 0, 1) := dk_42 (dk_at dksJ6_coder_0 6 rfl rfl)
theorem dJ6_coder_7 : decode cJ6_coder 7 = .ok (.getfield 15, 3) := dk_180 0 15 (dk_at dksJ6_coder_0 7 rfl rfl)
theorem dJ6_coder_10 : decode cJ6_coder 10 = .ok (.goto 4, 3) := dk_167 0 4 (dk_at dksJ6_coder_0 10 rfl rfl)
theorem dJ6_coder_13 : decode cJ6_coder 13 = .ok (.iconst 1, 1) := dk_4 (dk_at dksJ6_coder_0 13 rfl rfl)
theorem dJ6_coder_14 : decode cJ6_coder 14 = .ok (.ireturn, 1) := dk_172 (dk_at dksJ6_coder_0 14 rfl rfl)
abbrev cJ6_charAt : ByteArray := prog_31_method_56_code
def yJ6_charAt : MethodName := ⟨RJ6, "charAt", "(I)C"⟩
def dkwJ6_charAt_1 : List UInt8 := [172]
abbrev dktJ6_charAt_1 : List UInt8 := dkwJ6_charAt_1 ++ []
def dkwJ6_charAt_0 : List UInt8 := [42, 182, 1, 236, 153, 0, 12, 42, 180, 0, 9, 27, 184, 1, 239, 172, 42, 180, 0, 9, 27, 184, 1, 242]
abbrev dktJ6_charAt_0 : List UInt8 := dkwJ6_charAt_0 ++ dktJ6_charAt_1
theorem dksJ6_charAt_0 : cJ6_charAt.data.toList.drop 0 = dktJ6_charAt_0 := by decide +kernel
theorem dksJ6_charAt_1 : cJ6_charAt.data.toList.drop 24 = dktJ6_charAt_1 := dk_seg dksJ6_charAt_0 24 rfl rfl
theorem dJ6_charAt_0 : decode cJ6_charAt 0 = .ok (.aload_n 0, 1) := dk_42 (dk_at dksJ6_charAt_0 0 rfl rfl)
theorem dJ6_charAt_1 : decode cJ6_charAt 1 = .ok (.invokevirtual 492, 3) := dk_182 1 236 (dk_at dksJ6_charAt_0 1 rfl rfl)
theorem dJ6_charAt_4 : decode cJ6_charAt 4 = .ok (.ifCond .eq 12, 3) := dk_153 0 12 (dk_at dksJ6_charAt_0 4 rfl rfl)
theorem dJ6_charAt_7 : decode cJ6_charAt 7 = .ok (.aload_n 0, 1) := dk_42 (dk_at dksJ6_charAt_0 7 rfl rfl)
theorem dJ6_charAt_8 : decode cJ6_charAt 8 = .ok (.getfield 9, 3) := dk_180 0 9 (dk_at dksJ6_charAt_0 8 rfl rfl)
theorem dJ6_charAt_11 : decode cJ6_charAt 11 = .ok (.iload_n 1, 1) := dk_27 (dk_at dksJ6_charAt_0 11 rfl rfl)
theorem dJ6_charAt_12 : decode cJ6_charAt 12 = .ok (.invokestatic 495, 3) := dk_184 1 239 (dk_at dksJ6_charAt_0 12 rfl rfl)
theorem dJ6_charAt_15 : decode cJ6_charAt 15 = .ok (.ireturn, 1) := dk_172 (dk_at dksJ6_charAt_0 15 rfl rfl)
theorem dJ6_charAt_16 : decode cJ6_charAt 16 = .ok (.aload_n 0, 1) := dk_42 (dk_at dksJ6_charAt_0 16 rfl rfl)
theorem dJ6_charAt_17 : decode cJ6_charAt 17 = .ok (.getfield 9, 3) := dk_180 0 9 (dk_at dksJ6_charAt_0 17 rfl rfl)
theorem dJ6_charAt_20 : decode cJ6_charAt 20 = .ok (.iload_n 1, 1) := dk_27 (dk_at dksJ6_charAt_0 20 rfl rfl)
theorem dJ6_charAt_21 : decode cJ6_charAt 21 = .ok (.invokestatic 498, 3) := dk_184 1 242 (dk_at dksJ6_charAt_0 21 rfl rfl)
theorem dJ6_charAt_24 : decode cJ6_charAt 24 = .ok (.ireturn, 1) := dk_172 (dk_at dksJ6_charAt_1 0 rfl rfl)
abbrev cJ6_isLatin1 : ByteArray := prog_31_method_154_code
def yJ6_isLatin1 : MethodName := ⟨RJ6, "isLatin1", "()Z"⟩
def dkwJ6_isLatin1_0 : List UInt8 := [178, 0, 38, 153, 0, 14, 42, 180, 0, 15, 154, 0, 7, 4, 167, 0, 4, 3, 172]
abbrev dktJ6_isLatin1_0 : List UInt8 := dkwJ6_isLatin1_0 ++ []
theorem dksJ6_isLatin1_0 : cJ6_isLatin1.data.toList.drop 0 = dktJ6_isLatin1_0 := by decide +kernel
theorem dJ6_isLatin1_0 : decode cJ6_isLatin1 0 = .ok (.getstatic 38, 3) := dk_178 0 38 (dk_at dksJ6_isLatin1_0 0 rfl rfl)
theorem dJ6_isLatin1_3 : decode cJ6_isLatin1 3 = .ok (.ifCond .eq 14, 3) := dk_153 0 14 (dk_at dksJ6_isLatin1_0 3 rfl rfl)
theorem dJ6_isLatin1_6 : decode cJ6_isLatin1 6 = .ok (.aload_n 0, 1) := dk_42 (dk_at dksJ6_isLatin1_0 6 rfl rfl)
theorem dJ6_isLatin1_7 : decode cJ6_isLatin1 7 = .ok (.getfield 15, 3) := dk_180 0 15 (dk_at dksJ6_isLatin1_0 7 rfl rfl)
theorem dJ6_isLatin1_10 : decode cJ6_isLatin1 10 = .ok (.ifCond .ne 7, 3) := dk_154 0 7 (dk_at dksJ6_isLatin1_0 10 rfl rfl)
theorem dJ6_isLatin1_13 : decode cJ6_isLatin1 13 = .ok (.iconst 1, 1) := dk_4 (dk_at dksJ6_isLatin1_0 13 rfl rfl)
theorem dJ6_isLatin1_14 : decode cJ6_isLatin1 14 = .ok (.goto 4, 3) := dk_167 0 4 (dk_at dksJ6_isLatin1_0 14 rfl rfl)
theorem dJ6_isLatin1_17 : decode cJ6_isLatin1 17 = .ok (.iconst 0, 1) := dk_3 (dk_at dksJ6_isLatin1_0 17 rfl rfl)
theorem dJ6_isLatin1_18 : decode cJ6_isLatin1 18 = .ok (.ireturn, 1) := dk_172 (dk_at dksJ6_isLatin1_0 18 rfl rfl)
abbrev cJ6_checkIndex : ByteArray := prog_31_method_155_code
def yJ6_checkIndex : MethodName := ⟨RJ6, "checkIndex", "(II)V"⟩
def dkwJ6_checkIndex_0 : List UInt8 := [26, 27, 178, 4, 29, 184, 4, 35, 87, 177]
abbrev dktJ6_checkIndex_0 : List UInt8 := dkwJ6_checkIndex_0 ++ []
theorem dksJ6_checkIndex_0 : cJ6_checkIndex.data.toList.drop 0 = dktJ6_checkIndex_0 := by decide +kernel
theorem dJ6_checkIndex_0 : decode cJ6_checkIndex 0 = .ok (.iload_n 0, 1) := dk_26 (dk_at dksJ6_checkIndex_0 0 rfl rfl)
theorem dJ6_checkIndex_1 : decode cJ6_checkIndex 1 = .ok (.iload_n 1, 1) := dk_27 (dk_at dksJ6_checkIndex_0 1 rfl rfl)
theorem dJ6_checkIndex_2 : decode cJ6_checkIndex 2 = .ok (.getstatic 1053, 3) := dk_178 4 29 (dk_at dksJ6_checkIndex_0 2 rfl rfl)
theorem dJ6_checkIndex_5 : decode cJ6_checkIndex 5 = .ok (.invokestatic 1059, 3) := dk_184 4 35 (dk_at dksJ6_checkIndex_0 5 rfl rfl)
theorem dJ6_checkIndex_8 : decode cJ6_checkIndex 8 = .ok (.pop, 1) := dk_87 (dk_at dksJ6_checkIndex_0 8 rfl rfl)
theorem dJ6_checkIndex_9 : decode cJ6_checkIndex 9 = .ok (.return_, 1) := dk_177 (dk_at dksJ6_checkIndex_0 9 rfl rfl)
abbrev cJ6_checkBoundsOffCount : ByteArray := prog_31_method_157_code
def yJ6_checkBoundsOffCount : MethodName := ⟨RJ6, "checkBoundsOffCount", "(III)I"⟩
def dkwJ6_checkBoundsOffCount_0 : List UInt8 := [26, 27, 28, 178, 4, 29, 184, 4, 41, 172]
abbrev dktJ6_checkBoundsOffCount_0 : List UInt8 := dkwJ6_checkBoundsOffCount_0 ++ []
theorem dksJ6_checkBoundsOffCount_0 : cJ6_checkBoundsOffCount.data.toList.drop 0 = dktJ6_checkBoundsOffCount_0 := by decide +kernel
theorem dJ6_checkBoundsOffCount_0 : decode cJ6_checkBoundsOffCount 0 = .ok (.iload_n 0, 1) := dk_26 (dk_at dksJ6_checkBoundsOffCount_0 0 rfl rfl)
theorem dJ6_checkBoundsOffCount_1 : decode cJ6_checkBoundsOffCount 1 = .ok (.iload_n 1, 1) := dk_27 (dk_at dksJ6_checkBoundsOffCount_0 1 rfl rfl)
theorem dJ6_checkBoundsOffCount_2 : decode cJ6_checkBoundsOffCount 2 = .ok (.iload_n 2, 1) := dk_28 (dk_at dksJ6_checkBoundsOffCount_0 2 rfl rfl)
theorem dJ6_checkBoundsOffCount_3 : decode cJ6_checkBoundsOffCount 3 = .ok (.getstatic 1053, 3) := dk_178 4 29 (dk_at dksJ6_checkBoundsOffCount_0 3 rfl rfl)
theorem dJ6_checkBoundsOffCount_6 : decode cJ6_checkBoundsOffCount 6 = .ok (.invokestatic 1065, 3) := dk_184 4 41 (dk_at dksJ6_checkBoundsOffCount_0 6 rfl rfl)
theorem dJ6_checkBoundsOffCount_9 : decode cJ6_checkBoundsOffCount 9 = .ok (.ireturn, 1) := dk_172 (dk_at dksJ6_checkBoundsOffCount_0 9 rfl rfl)
abbrev cJ6_init : ByteArray := prog_31_method_53_code
def yJ6_init : MethodName := ⟨RJ6, "<init>", "(Ljava/lang/StringBuilder;)V"⟩
def dkwJ6_init_0 : List UInt8 := [42, 43, 1, 183, 1, 233, 177]
abbrev dktJ6_init_0 : List UInt8 := dkwJ6_init_0 ++ []
theorem dksJ6_init_0 : cJ6_init.data.toList.drop 0 = dktJ6_init_0 := by decide +kernel
theorem dJ6_init_0 : decode cJ6_init 0 = .ok (.aload_n 0, 1) := dk_42 (dk_at dksJ6_init_0 0 rfl rfl)
theorem dJ6_init_1 : decode cJ6_init 1 = .ok (.aload_n 1, 1) := dk_43 (dk_at dksJ6_init_0 1 rfl rfl)
theorem dJ6_init_2 : decode cJ6_init 2 = .ok (.aconst_null, 1) := dk_1 (dk_at dksJ6_init_0 2 rfl rfl)
theorem dJ6_init_3 : decode cJ6_init 3 = .ok (.invokespecial 489, 3) := dk_183 1 233 (dk_at dksJ6_init_0 3 rfl rfl)
theorem dJ6_init_6 : decode cJ6_init 6 = .ok (.return_, 1) := dk_177 (dk_at dksJ6_init_0 6 rfl rfl)
abbrev cJ6_init_2 : ByteArray := prog_31_method_150_code
def yJ6_init_2 : MethodName := ⟨RJ6, "<init>", "(Ljava/lang/AbstractStringBuilder;Ljava/lang/Void;)V"⟩
def dkwJ6_init_2_4 : List UInt8 := [181, 0, 9, 177]
abbrev dktJ6_init_2_4 : List UInt8 := dkwJ6_init_2_4 ++ []
def dkwJ6_init_2_3 : List UInt8 := [184, 0, 47, 181, 0, 15, 177, 42, 4, 181, 0, 15, 42, 45, 3, 21, 4, 4, 120, 184, 0, 54]
abbrev dktJ6_init_2_3 : List UInt8 := dkwJ6_init_2_3 ++ dktJ6_init_2_4
def dkwJ6_init_2_2 : List UInt8 := [180, 4, 24, 153, 0, 28, 42, 45, 3, 21, 4, 184, 4, 27, 181, 0, 9, 42, 42, 180, 0, 9, 21, 4]
abbrev dktJ6_init_2_2 : List UInt8 := dkwJ6_init_2_2 ++ dktJ6_init_2_3
def dkwJ6_init_2_1 : List UInt8 := [181, 0, 15, 42, 45, 3, 21, 4, 184, 0, 54, 181, 0, 9, 167, 0, 59, 178, 0, 38, 153, 0, 35, 43]
abbrev dktJ6_init_2_1 : List UInt8 := dkwJ6_init_2_1 ++ dktJ6_init_2_2
def dkwJ6_init_2_0 : List UInt8 := [42, 183, 0, 1, 43, 182, 2, 40, 78, 43, 182, 2, 37, 54, 4, 43, 182, 4, 23, 153, 0, 22, 42, 3]
abbrev dktJ6_init_2_0 : List UInt8 := dkwJ6_init_2_0 ++ dktJ6_init_2_1
theorem dksJ6_init_2_0 : cJ6_init_2.data.toList.drop 0 = dktJ6_init_2_0 := by decide +kernel
theorem dksJ6_init_2_1 : cJ6_init_2.data.toList.drop 24 = dktJ6_init_2_1 := dk_seg dksJ6_init_2_0 24 rfl rfl
theorem dksJ6_init_2_2 : cJ6_init_2.data.toList.drop 48 = dktJ6_init_2_2 := dk_seg dksJ6_init_2_1 24 rfl rfl
theorem dksJ6_init_2_3 : cJ6_init_2.data.toList.drop 72 = dktJ6_init_2_3 := dk_seg dksJ6_init_2_2 24 rfl rfl
theorem dksJ6_init_2_4 : cJ6_init_2.data.toList.drop 94 = dktJ6_init_2_4 := dk_seg dksJ6_init_2_3 22 rfl rfl
theorem dJ6_init_2_0 : decode cJ6_init_2 0 = .ok (.aload_n 0, 1) := dk_42 (dk_at dksJ6_init_2_0 0 rfl rfl)
theorem dJ6_init_2_1 : decode cJ6_init_2 1 = .ok (.invokespecial 1, 3) := dk_183 0 1 (dk_at dksJ6_init_2_0 1 rfl rfl)
theorem dJ6_init_2_4 : decode cJ6_init_2 4 = .ok (.aload_n 1, 1) := dk_43 (dk_at dksJ6_init_2_0 4 rfl rfl)
theorem dJ6_init_2_5 : decode cJ6_init_2 5 = .ok (.invokevirtual 552, 3) := dk_182 2 40 (dk_at dksJ6_init_2_0 5 rfl rfl)
theorem dJ6_init_2_8 : decode cJ6_init_2 8 = .ok (.astore_n 3, 1) := dk_78 (dk_at dksJ6_init_2_0 8 rfl rfl)
theorem dJ6_init_2_9 : decode cJ6_init_2 9 = .ok (.aload_n 1, 1) := dk_43 (dk_at dksJ6_init_2_0 9 rfl rfl)
theorem dJ6_init_2_10 : decode cJ6_init_2 10 = .ok (.invokevirtual 549, 3) := dk_182 2 37 (dk_at dksJ6_init_2_0 10 rfl rfl)
theorem dJ6_init_2_13 : decode cJ6_init_2 13 = .ok (.istore 4, 2) := dk_54 4 (dk_at dksJ6_init_2_0 13 rfl rfl)
theorem dJ6_init_2_15 : decode cJ6_init_2 15 = .ok (.aload_n 1, 1) := dk_43 (dk_at dksJ6_init_2_0 15 rfl rfl)
theorem dJ6_init_2_16 : decode cJ6_init_2 16 = .ok (.invokevirtual 1047, 3) := dk_182 4 23 (dk_at dksJ6_init_2_0 16 rfl rfl)
theorem dJ6_init_2_19 : decode cJ6_init_2 19 = .ok (.ifCond .eq 22, 3) := dk_153 0 22 (dk_at dksJ6_init_2_0 19 rfl rfl)
theorem dJ6_init_2_22 : decode cJ6_init_2 22 = .ok (.aload_n 0, 1) := dk_42 (dk_at dksJ6_init_2_0 22 rfl rfl)
theorem dJ6_init_2_23 : decode cJ6_init_2 23 = .ok (.iconst 0, 1) := dk_3 (dk_at dksJ6_init_2_0 23 rfl rfl)
theorem dJ6_init_2_24 : decode cJ6_init_2 24 = .ok (.putfield 15, 3) := dk_181 0 15 (dk_at dksJ6_init_2_1 0 rfl rfl)
theorem dJ6_init_2_27 : decode cJ6_init_2 27 = .ok (.aload_n 0, 1) := dk_42 (dk_at dksJ6_init_2_1 3 rfl rfl)
theorem dJ6_init_2_28 : decode cJ6_init_2 28 = .ok (.aload_n 3, 1) := dk_45 (dk_at dksJ6_init_2_1 4 rfl rfl)
theorem dJ6_init_2_29 : decode cJ6_init_2 29 = .ok (.iconst 0, 1) := dk_3 (dk_at dksJ6_init_2_1 5 rfl rfl)
theorem dJ6_init_2_30 : decode cJ6_init_2 30 = .ok (.iload 4, 2) := dk_21 4 (dk_at dksJ6_init_2_1 6 rfl rfl)
theorem dJ6_init_2_32 : decode cJ6_init_2 32 = .ok (.invokestatic 54, 3) := dk_184 0 54 (dk_at dksJ6_init_2_1 8 rfl rfl)
theorem dJ6_init_2_35 : decode cJ6_init_2 35 = .ok (.putfield 9, 3) := dk_181 0 9 (dk_at dksJ6_init_2_1 11 rfl rfl)
theorem dJ6_init_2_38 : decode cJ6_init_2 38 = .ok (.goto 59, 3) := dk_167 0 59 (dk_at dksJ6_init_2_1 14 rfl rfl)
theorem dJ6_init_2_41 : decode cJ6_init_2 41 = .ok (.getstatic 38, 3) := dk_178 0 38 (dk_at dksJ6_init_2_1 17 rfl rfl)
theorem dJ6_init_2_44 : decode cJ6_init_2 44 = .ok (.ifCond .eq 35, 3) := dk_153 0 35 (dk_at dksJ6_init_2_1 20 rfl rfl)
theorem dJ6_init_2_47 : decode cJ6_init_2 47 = .ok (.aload_n 1, 1) := dk_43 (dk_at dksJ6_init_2_1 23 rfl rfl)
theorem dJ6_init_2_48 : decode cJ6_init_2 48 = .ok (.getfield 1048, 3) := dk_180 4 24 (dk_at dksJ6_init_2_2 0 rfl rfl)
theorem dJ6_init_2_51 : decode cJ6_init_2 51 = .ok (.ifCond .eq 28, 3) := dk_153 0 28 (dk_at dksJ6_init_2_2 3 rfl rfl)
theorem dJ6_init_2_54 : decode cJ6_init_2 54 = .ok (.aload_n 0, 1) := dk_42 (dk_at dksJ6_init_2_2 6 rfl rfl)
theorem dJ6_init_2_55 : decode cJ6_init_2 55 = .ok (.aload_n 3, 1) := dk_45 (dk_at dksJ6_init_2_2 7 rfl rfl)
theorem dJ6_init_2_56 : decode cJ6_init_2 56 = .ok (.iconst 0, 1) := dk_3 (dk_at dksJ6_init_2_2 8 rfl rfl)
theorem dJ6_init_2_57 : decode cJ6_init_2 57 = .ok (.iload 4, 2) := dk_21 4 (dk_at dksJ6_init_2_2 9 rfl rfl)
theorem dJ6_init_2_59 : decode cJ6_init_2 59 = .ok (.invokestatic 1051, 3) := dk_184 4 27 (dk_at dksJ6_init_2_2 11 rfl rfl)
theorem dJ6_init_2_62 : decode cJ6_init_2 62 = .ok (.putfield 9, 3) := dk_181 0 9 (dk_at dksJ6_init_2_2 14 rfl rfl)
theorem dJ6_init_2_65 : decode cJ6_init_2 65 = .ok (.aload_n 0, 1) := dk_42 (dk_at dksJ6_init_2_2 17 rfl rfl)
theorem dJ6_init_2_66 : decode cJ6_init_2 66 = .ok (.aload_n 0, 1) := dk_42 (dk_at dksJ6_init_2_2 18 rfl rfl)
theorem dJ6_init_2_67 : decode cJ6_init_2 67 = .ok (.getfield 9, 3) := dk_180 0 9 (dk_at dksJ6_init_2_2 19 rfl rfl)
theorem dJ6_init_2_70 : decode cJ6_init_2 70 = .ok (.iload 4, 2) := dk_21 4 (dk_at dksJ6_init_2_2 22 rfl rfl)
theorem dJ6_init_2_72 : decode cJ6_init_2 72 = .ok (.invokestatic 47, 3) := dk_184 0 47 (dk_at dksJ6_init_2_3 0 rfl rfl)
theorem dJ6_init_2_75 : decode cJ6_init_2 75 = .ok (.putfield 15, 3) := dk_181 0 15 (dk_at dksJ6_init_2_3 3 rfl rfl)
theorem dJ6_init_2_78 : decode cJ6_init_2 78 = .ok (.return_, 1) := dk_177 (dk_at dksJ6_init_2_3 6 rfl rfl)
theorem dJ6_init_2_79 : decode cJ6_init_2 79 = .ok (.aload_n 0, 1) := dk_42 (dk_at dksJ6_init_2_3 7 rfl rfl)
theorem dJ6_init_2_80 : decode cJ6_init_2 80 = .ok (.iconst 1, 1) := dk_4 (dk_at dksJ6_init_2_3 8 rfl rfl)
theorem dJ6_init_2_81 : decode cJ6_init_2 81 = .ok (.putfield 15, 3) := dk_181 0 15 (dk_at dksJ6_init_2_3 9 rfl rfl)
theorem dJ6_init_2_84 : decode cJ6_init_2 84 = .ok (.aload_n 0, 1) := dk_42 (dk_at dksJ6_init_2_3 12 rfl rfl)
theorem dJ6_init_2_85 : decode cJ6_init_2 85 = .ok (.aload_n 3, 1) := dk_45 (dk_at dksJ6_init_2_3 13 rfl rfl)
theorem dJ6_init_2_86 : decode cJ6_init_2 86 = .ok (.iconst 0, 1) := dk_3 (dk_at dksJ6_init_2_3 14 rfl rfl)
theorem dJ6_init_2_87 : decode cJ6_init_2 87 = .ok (.iload 4, 2) := dk_21 4 (dk_at dksJ6_init_2_3 15 rfl rfl)
theorem dJ6_init_2_89 : decode cJ6_init_2 89 = .ok (.iconst 1, 1) := dk_4 (dk_at dksJ6_init_2_3 17 rfl rfl)
theorem dJ6_init_2_90 : decode cJ6_init_2 90 = .ok (.ishl, 1) := dk_120 (dk_at dksJ6_init_2_3 18 rfl rfl)
theorem dJ6_init_2_91 : decode cJ6_init_2 91 = .ok (.invokestatic 54, 3) := dk_184 0 54 (dk_at dksJ6_init_2_3 19 rfl rfl)
theorem dJ6_init_2_94 : decode cJ6_init_2 94 = .ok (.putfield 9, 3) := dk_181 0 9 (dk_at dksJ6_init_2_4 0 rfl rfl)
theorem dJ6_init_2_97 : decode cJ6_init_2 97 = .ok (.return_, 1) := dk_177 (dk_at dksJ6_init_2_4 3 rfl rfl)
abbrev cJ6_equals : ByteArray := prog_31_method_66_code
def yJ6_equals : MethodName := ⟨RJ6, "equals", "(Ljava/lang/Object;)Z"⟩
def dkwJ6_equals_2 : List UInt8 := [184, 2, 29, 153, 0, 7, 4, 167, 0, 4, 3, 172]
abbrev dktJ6_equals_2 : List UInt8 := dkwJ6_equals_2 ++ []
def dkwJ6_equals_1 : List UInt8 := [153, 0, 14, 42, 180, 0, 15, 44, 180, 0, 15, 160, 0, 21, 42, 180, 0, 9, 44, 180, 0, 9]
abbrev dktJ6_equals_1 : List UInt8 := dkwJ6_equals_1 ++ dktJ6_equals_2
def dkwJ6_equals_0 : List UInt8 := [42, 43, 166, 0, 5, 4, 172, 43, 193, 0, 10, 153, 0, 43, 43, 192, 0, 10, 77, 178, 0, 38]
abbrev dktJ6_equals_0 : List UInt8 := dkwJ6_equals_0 ++ dktJ6_equals_1
theorem dksJ6_equals_0 : cJ6_equals.data.toList.drop 0 = dktJ6_equals_0 := by decide +kernel
theorem dksJ6_equals_1 : cJ6_equals.data.toList.drop 22 = dktJ6_equals_1 := dk_seg dksJ6_equals_0 22 rfl rfl
theorem dksJ6_equals_2 : cJ6_equals.data.toList.drop 44 = dktJ6_equals_2 := dk_seg dksJ6_equals_1 22 rfl rfl
theorem dJ6_equals_0 : decode cJ6_equals 0 = .ok (.aload_n 0, 1) := dk_42 (dk_at dksJ6_equals_0 0 rfl rfl)
theorem dJ6_equals_1 : decode cJ6_equals 1 = .ok (.aload_n 1, 1) := dk_43 (dk_at dksJ6_equals_0 1 rfl rfl)
theorem dJ6_equals_2 : decode cJ6_equals 2 = .ok (.if_acmp .ne 5, 3) := dk_166 0 5 (dk_at dksJ6_equals_0 2 rfl rfl)
theorem dJ6_equals_5 : decode cJ6_equals 5 = .ok (.iconst 1, 1) := dk_4 (dk_at dksJ6_equals_0 5 rfl rfl)
theorem dJ6_equals_6 : decode cJ6_equals 6 = .ok (.ireturn, 1) := dk_172 (dk_at dksJ6_equals_0 6 rfl rfl)
theorem dJ6_equals_7 : decode cJ6_equals 7 = .ok (.aload_n 1, 1) := dk_43 (dk_at dksJ6_equals_0 7 rfl rfl)
theorem dJ6_equals_8 : decode cJ6_equals 8 = .ok (.instanceof 10, 3) := dk_193 0 10 (dk_at dksJ6_equals_0 8 rfl rfl)
theorem dJ6_equals_11 : decode cJ6_equals 11 = .ok (.ifCond .eq 43, 3) := dk_153 0 43 (dk_at dksJ6_equals_0 11 rfl rfl)
theorem dJ6_equals_14 : decode cJ6_equals 14 = .ok (.aload_n 1, 1) := dk_43 (dk_at dksJ6_equals_0 14 rfl rfl)
theorem dJ6_equals_15 : decode cJ6_equals 15 = .ok (.checkcast 10, 3) := dk_192 0 10 (dk_at dksJ6_equals_0 15 rfl rfl)
theorem dJ6_equals_18 : decode cJ6_equals 18 = .ok (.astore_n 2, 1) := dk_77 (dk_at dksJ6_equals_0 18 rfl rfl)
theorem dJ6_equals_19 : decode cJ6_equals 19 = .ok (.getstatic 38, 3) := dk_178 0 38 (dk_at dksJ6_equals_0 19 rfl rfl)
theorem dJ6_equals_22 : decode cJ6_equals 22 = .ok (.ifCond .eq 14, 3) := dk_153 0 14 (dk_at dksJ6_equals_1 0 rfl rfl)
theorem dJ6_equals_25 : decode cJ6_equals 25 = .ok (.aload_n 0, 1) := dk_42 (dk_at dksJ6_equals_1 3 rfl rfl)
theorem dJ6_equals_26 : decode cJ6_equals 26 = .ok (.getfield 15, 3) := dk_180 0 15 (dk_at dksJ6_equals_1 4 rfl rfl)
theorem dJ6_equals_29 : decode cJ6_equals 29 = .ok (.aload_n 2, 1) := dk_44 (dk_at dksJ6_equals_1 7 rfl rfl)
theorem dJ6_equals_30 : decode cJ6_equals 30 = .ok (.getfield 15, 3) := dk_180 0 15 (dk_at dksJ6_equals_1 8 rfl rfl)
theorem dJ6_equals_33 : decode cJ6_equals 33 = .ok (.if_icmp .ne 21, 3) := dk_160 0 21 (dk_at dksJ6_equals_1 11 rfl rfl)
theorem dJ6_equals_36 : decode cJ6_equals 36 = .ok (.aload_n 0, 1) := dk_42 (dk_at dksJ6_equals_1 14 rfl rfl)
theorem dJ6_equals_37 : decode cJ6_equals 37 = .ok (.getfield 9, 3) := dk_180 0 9 (dk_at dksJ6_equals_1 15 rfl rfl)
theorem dJ6_equals_40 : decode cJ6_equals 40 = .ok (.aload_n 2, 1) := dk_44 (dk_at dksJ6_equals_1 18 rfl rfl)
theorem dJ6_equals_41 : decode cJ6_equals 41 = .ok (.getfield 9, 3) := dk_180 0 9 (dk_at dksJ6_equals_1 19 rfl rfl)
theorem dJ6_equals_44 : decode cJ6_equals 44 = .ok (.invokestatic 541, 3) := dk_184 2 29 (dk_at dksJ6_equals_2 0 rfl rfl)
theorem dJ6_equals_47 : decode cJ6_equals 47 = .ok (.ifCond .eq 7, 3) := dk_153 0 7 (dk_at dksJ6_equals_2 3 rfl rfl)
theorem dJ6_equals_50 : decode cJ6_equals 50 = .ok (.iconst 1, 1) := dk_4 (dk_at dksJ6_equals_2 6 rfl rfl)
theorem dJ6_equals_51 : decode cJ6_equals 51 = .ok (.goto 4, 3) := dk_167 0 4 (dk_at dksJ6_equals_2 7 rfl rfl)
theorem dJ6_equals_54 : decode cJ6_equals 54 = .ok (.iconst 0, 1) := dk_3 (dk_at dksJ6_equals_2 10 rfl rfl)
theorem dJ6_equals_55 : decode cJ6_equals 55 = .ok (.ireturn, 1) := dk_172 (dk_at dksJ6_equals_2 11 rfl rfl)
abbrev cJ6_hashCode : ByteArray := prog_31_method_78_code
def yJ6_hashCode : MethodName := ⟨RJ6, "hashCode", "()I"⟩
def dkwJ6_hashCode_2 : List UInt8 := [181, 0, 23, 167, 0, 8, 42, 27, 181, 0, 19, 27, 172]
abbrev dktJ6_hashCode_2 : List UInt8 := dkwJ6_hashCode_2 ++ []
def dkwJ6_hashCode_1 : List UInt8 := [180, 0, 9, 184, 2, 116, 167, 0, 10, 42, 180, 0, 9, 184, 2, 120, 60, 27, 154, 0, 11, 42, 4]
abbrev dktJ6_hashCode_1 : List UInt8 := dkwJ6_hashCode_1 ++ dktJ6_hashCode_2
def dkwJ6_hashCode_0 : List UInt8 := [42, 180, 0, 19, 60, 27, 154, 0, 52, 42, 180, 0, 23, 154, 0, 45, 42, 182, 1, 236, 153, 0, 13, 42]
abbrev dktJ6_hashCode_0 : List UInt8 := dkwJ6_hashCode_0 ++ dktJ6_hashCode_1
theorem dksJ6_hashCode_0 : cJ6_hashCode.data.toList.drop 0 = dktJ6_hashCode_0 := by decide +kernel
theorem dksJ6_hashCode_1 : cJ6_hashCode.data.toList.drop 24 = dktJ6_hashCode_1 := dk_seg dksJ6_hashCode_0 24 rfl rfl
theorem dksJ6_hashCode_2 : cJ6_hashCode.data.toList.drop 47 = dktJ6_hashCode_2 := dk_seg dksJ6_hashCode_1 23 rfl rfl
theorem dJ6_hashCode_0 : decode cJ6_hashCode 0 = .ok (.aload_n 0, 1) := dk_42 (dk_at dksJ6_hashCode_0 0 rfl rfl)
theorem dJ6_hashCode_1 : decode cJ6_hashCode 1 = .ok (.getfield 19, 3) := dk_180 0 19 (dk_at dksJ6_hashCode_0 1 rfl rfl)
theorem dJ6_hashCode_4 : decode cJ6_hashCode 4 = .ok (.istore_n 1, 1) := dk_60 (dk_at dksJ6_hashCode_0 4 rfl rfl)
theorem dJ6_hashCode_5 : decode cJ6_hashCode 5 = .ok (.iload_n 1, 1) := dk_27 (dk_at dksJ6_hashCode_0 5 rfl rfl)
theorem dJ6_hashCode_6 : decode cJ6_hashCode 6 = .ok (.ifCond .ne 52, 3) := dk_154 0 52 (dk_at dksJ6_hashCode_0 6 rfl rfl)
theorem dJ6_hashCode_9 : decode cJ6_hashCode 9 = .ok (.aload_n 0, 1) := dk_42 (dk_at dksJ6_hashCode_0 9 rfl rfl)
theorem dJ6_hashCode_10 : decode cJ6_hashCode 10 = .ok (.getfield 23, 3) := dk_180 0 23 (dk_at dksJ6_hashCode_0 10 rfl rfl)
theorem dJ6_hashCode_13 : decode cJ6_hashCode 13 = .ok (.ifCond .ne 45, 3) := dk_154 0 45 (dk_at dksJ6_hashCode_0 13 rfl rfl)
theorem dJ6_hashCode_16 : decode cJ6_hashCode 16 = .ok (.aload_n 0, 1) := dk_42 (dk_at dksJ6_hashCode_0 16 rfl rfl)
theorem dJ6_hashCode_17 : decode cJ6_hashCode 17 = .ok (.invokevirtual 492, 3) := dk_182 1 236 (dk_at dksJ6_hashCode_0 17 rfl rfl)
theorem dJ6_hashCode_20 : decode cJ6_hashCode 20 = .ok (.ifCond .eq 13, 3) := dk_153 0 13 (dk_at dksJ6_hashCode_0 20 rfl rfl)
theorem dJ6_hashCode_23 : decode cJ6_hashCode 23 = .ok (.aload_n 0, 1) := dk_42 (dk_at dksJ6_hashCode_0 23 rfl rfl)
theorem dJ6_hashCode_24 : decode cJ6_hashCode 24 = .ok (.getfield 9, 3) := dk_180 0 9 (dk_at dksJ6_hashCode_1 0 rfl rfl)
theorem dJ6_hashCode_27 : decode cJ6_hashCode 27 = .ok (.invokestatic 628, 3) := dk_184 2 116 (dk_at dksJ6_hashCode_1 3 rfl rfl)
theorem dJ6_hashCode_30 : decode cJ6_hashCode 30 = .ok (.goto 10, 3) := dk_167 0 10 (dk_at dksJ6_hashCode_1 6 rfl rfl)
theorem dJ6_hashCode_33 : decode cJ6_hashCode 33 = .ok (.aload_n 0, 1) := dk_42 (dk_at dksJ6_hashCode_1 9 rfl rfl)
theorem dJ6_hashCode_34 : decode cJ6_hashCode 34 = .ok (.getfield 9, 3) := dk_180 0 9 (dk_at dksJ6_hashCode_1 10 rfl rfl)
theorem dJ6_hashCode_37 : decode cJ6_hashCode 37 = .ok (.invokestatic 632, 3) := dk_184 2 120 (dk_at dksJ6_hashCode_1 13 rfl rfl)
theorem dJ6_hashCode_40 : decode cJ6_hashCode 40 = .ok (.istore_n 1, 1) := dk_60 (dk_at dksJ6_hashCode_1 16 rfl rfl)
theorem dJ6_hashCode_41 : decode cJ6_hashCode 41 = .ok (.iload_n 1, 1) := dk_27 (dk_at dksJ6_hashCode_1 17 rfl rfl)
theorem dJ6_hashCode_42 : decode cJ6_hashCode 42 = .ok (.ifCond .ne 11, 3) := dk_154 0 11 (dk_at dksJ6_hashCode_1 18 rfl rfl)
theorem dJ6_hashCode_45 : decode cJ6_hashCode 45 = .ok (.aload_n 0, 1) := dk_42 (dk_at dksJ6_hashCode_1 21 rfl rfl)
theorem dJ6_hashCode_46 : decode cJ6_hashCode 46 = .ok (.iconst 1, 1) := dk_4 (dk_at dksJ6_hashCode_1 22 rfl rfl)
theorem dJ6_hashCode_47 : decode cJ6_hashCode 47 = .ok (.putfield 23, 3) := dk_181 0 23 (dk_at dksJ6_hashCode_2 0 rfl rfl)
theorem dJ6_hashCode_50 : decode cJ6_hashCode 50 = .ok (.goto 8, 3) := dk_167 0 8 (dk_at dksJ6_hashCode_2 3 rfl rfl)
theorem dJ6_hashCode_53 : decode cJ6_hashCode 53 = .ok (.aload_n 0, 1) := dk_42 (dk_at dksJ6_hashCode_2 6 rfl rfl)
theorem dJ6_hashCode_54 : decode cJ6_hashCode 54 = .ok (.iload_n 1, 1) := dk_27 (dk_at dksJ6_hashCode_2 7 rfl rfl)
theorem dJ6_hashCode_55 : decode cJ6_hashCode 55 = .ok (.putfield 19, 3) := dk_181 0 19 (dk_at dksJ6_hashCode_2 8 rfl rfl)
theorem dJ6_hashCode_58 : decode cJ6_hashCode 58 = .ok (.iload_n 1, 1) := dk_27 (dk_at dksJ6_hashCode_2 11 rfl rfl)
theorem dJ6_hashCode_59 : decode cJ6_hashCode 59 = .ok (.ireturn, 1) := dk_172 (dk_at dksJ6_hashCode_2 12 rfl rfl)
theorem q159 : (Jvm.Cond.initialized "java/lang/String") ∈ lw_all := lw_g (lw_at lw_m1 17 rfl) rfl
theorem q726 : (Jvm.Cond.instanceMethod ({ cls := "java/lang/String", name := "length", desc := "()I" } : Jvm.MethodName)) ∈ lw_all := lw_g (lw_at lw_m3 104 rfl) rfl
theorem q727 : (Jvm.Cond.selects "java/lang/String" ({ cls := "java/lang/String", name := "length", desc := "()I" } : Jvm.MethodName) ({ cls := "java/lang/String", name := "length", desc := "()I" } : Jvm.MethodName)) ∈ lw_all := lw_g (lw_at lw_m3 105 rfl) rfl
theorem q728 : (Jvm.Cond.code ({ cls := "java/lang/String", name := "length", desc := "()I" } : Jvm.MethodName) prog_31_method_54_code (1 : Nat) (Option.some Jvm.ClassFile.FieldType.int)) ∈ lw_all := lw_g (lw_at lw_m3 106 rfl) rfl
theorem q729 : (Jvm.Cond.methodLink "java/lang/String" (335 : Nat) ({ cls := "java/lang/String", name := "coder", desc := "()B" } : Jvm.MethodName)) ∈ lw_all := lw_g (lw_at lw_m3 107 rfl) rfl
theorem q730 : (Jvm.Cond.instanceMethod ({ cls := "java/lang/String", name := "coder", desc := "()B" } : Jvm.MethodName)) ∈ lw_all := lw_g (lw_at lw_m3 108 rfl) rfl
theorem q731 : (Jvm.Cond.selects "java/lang/String" ({ cls := "java/lang/String", name := "coder", desc := "()B" } : Jvm.MethodName) ({ cls := "java/lang/String", name := "coder", desc := "()B" } : Jvm.MethodName)) ∈ lw_all := lw_g (lw_at lw_m3 109 rfl) rfl
theorem q732 : (Jvm.Cond.code ({ cls := "java/lang/String", name := "coder", desc := "()B" } : Jvm.MethodName) prog_31_method_152_code (1 : Nat) (Option.some Jvm.ClassFile.FieldType.byte)) ∈ lw_all := lw_g (lw_at lw_m3 110 rfl) rfl
theorem q733 : (Jvm.Cond.fieldLink "java/lang/String" (38 : Nat) "java/lang/String" "COMPACT_STRINGS" "Z") ∈ lw_all := lw_g (lw_at lw_m3 111 rfl) rfl
theorem q734 : (Jvm.Cond.laysStatic "java/lang/String" "COMPACT_STRINGS" "Z") ∈ lw_tbl := lw_at lw_m3 112 rfl
theorem q736 : (Jvm.Cond.instanceMethod ({ cls := "java/lang/String", name := "charAt", desc := "(I)C" } : Jvm.MethodName)) ∈ lw_all := lw_g (lw_at lw_m3 114 rfl) rfl
theorem q737 : (Jvm.Cond.selects "java/lang/String" ({ cls := "java/lang/String", name := "charAt", desc := "(I)C" } : Jvm.MethodName) ({ cls := "java/lang/String", name := "charAt", desc := "(I)C" } : Jvm.MethodName)) ∈ lw_all := lw_g (lw_at lw_m3 115 rfl) rfl
theorem q738 : (Jvm.Cond.code ({ cls := "java/lang/String", name := "charAt", desc := "(I)C" } : Jvm.MethodName) prog_31_method_56_code (2 : Nat) (Option.some Jvm.ClassFile.FieldType.char)) ∈ lw_all := lw_g (lw_at lw_m3 116 rfl) rfl
theorem q739 : (Jvm.Cond.methodLink "java/lang/String" (492 : Nat) ({ cls := "java/lang/String", name := "isLatin1", desc := "()Z" } : Jvm.MethodName)) ∈ lw_all := lw_g (lw_at lw_m3 117 rfl) rfl
theorem q740 : (Jvm.Cond.instanceMethod ({ cls := "java/lang/String", name := "isLatin1", desc := "()Z" } : Jvm.MethodName)) ∈ lw_all := lw_g (lw_at lw_m3 118 rfl) rfl
theorem q741 : (Jvm.Cond.selects "java/lang/String" ({ cls := "java/lang/String", name := "isLatin1", desc := "()Z" } : Jvm.MethodName) ({ cls := "java/lang/String", name := "isLatin1", desc := "()Z" } : Jvm.MethodName)) ∈ lw_all := lw_g (lw_at lw_m3 119 rfl) rfl
theorem q742 : (Jvm.Cond.code ({ cls := "java/lang/String", name := "isLatin1", desc := "()Z" } : Jvm.MethodName) prog_31_method_154_code (1 : Nat) (Option.some Jvm.ClassFile.FieldType.boolean)) ∈ lw_all := lw_g (lw_at lw_m3 120 rfl) rfl
theorem q743 : (Jvm.Cond.methodLink "java/lang/String" (495 : Nat) ({ cls := "java/lang/StringLatin1", name := "charAt", desc := "([BI)C" } : Jvm.MethodName)) ∈ lw_all := lw_g (lw_at lw_m3 121 rfl) rfl
theorem q747 : (Jvm.Cond.static ({ cls := "java/lang/String", name := "checkIndex", desc := "(II)V" } : Jvm.MethodName)) ∈ lw_all := lw_g (lw_at lw_m3 125 rfl) rfl
theorem q748 : (Jvm.Cond.code ({ cls := "java/lang/String", name := "checkIndex", desc := "(II)V" } : Jvm.MethodName) prog_31_method_155_code (2 : Nat) (Option.none : Option Jvm.ClassFile.FieldType)) ∈ lw_all := lw_g (lw_at lw_m3 126 rfl) rfl
theorem q749 : (Jvm.Cond.fieldLink "java/lang/String" (1053 : Nat) "jdk/internal/util/Preconditions" "SIOOBE_FORMATTER" "Ljava/util/function/BiFunction;") ∈ lw_all := lw_g (lw_at lw_m3 127 rfl) rfl
theorem q751 : (Jvm.Cond.methodLink "java/lang/String" (1059 : Nat) ({ cls := "jdk/internal/util/Preconditions", name := "checkIndex", desc := "(IILjava/util/function/BiFunction;)I" } : Jvm.MethodName)) ∈ lw_all := lw_g (lw_at lw_m3 129 rfl) rfl
theorem q754 : (Jvm.Cond.methodLink "java/lang/String" (498 : Nat) ({ cls := "java/lang/StringUTF16", name := "charAt", desc := "([BI)C" } : Jvm.MethodName)) ∈ lw_all := lw_g (lw_at lw_m3 132 rfl) rfl
theorem q835 : (Jvm.Cond.fieldLink "java/lang/String" (1048 : Nat) "java/lang/AbstractStringBuilder" "maybeLatin1" "Z") ∈ lw_all := lw_g (lw_at lw_m3 213 rfl) rfl
theorem q910 : (Jvm.Cond.static ({ cls := "java/lang/String", name := "checkBoundsOffCount", desc := "(III)I" } : Jvm.MethodName)) ∈ lw_all := lw_g (lw_at lw_m4 48 rfl) rfl
theorem q911 : (Jvm.Cond.code ({ cls := "java/lang/String", name := "checkBoundsOffCount", desc := "(III)I" } : Jvm.MethodName) prog_31_method_157_code (3 : Nat) (Option.some Jvm.ClassFile.FieldType.int)) ∈ lw_all := lw_g (lw_at lw_m4 49 rfl) rfl
theorem q912 : (Jvm.Cond.methodLink "java/lang/String" (1065 : Nat) ({ cls := "jdk/internal/util/Preconditions", name := "checkFromIndexSize", desc := "(IIILjava/util/function/BiFunction;)I" } : Jvm.MethodName)) ∈ lw_all := lw_g (lw_at lw_m4 50 rfl) rfl
theorem q926 : (Jvm.Cond.instantiable "java/lang/String" (4 : Nat)) ∈ lw_all := lw_g (lw_at lw_m4 64 rfl) rfl
theorem q928 : (Jvm.Cond.instanceMethod ({ cls := "java/lang/String", name := "<init>", desc := "(Ljava/lang/StringBuilder;)V" } : Jvm.MethodName)) ∈ lw_all := lw_g (lw_at lw_m4 66 rfl) rfl
theorem q929 : (Jvm.Cond.code ({ cls := "java/lang/String", name := "<init>", desc := "(Ljava/lang/StringBuilder;)V" } : Jvm.MethodName) prog_31_method_53_code (2 : Nat) (Option.none : Option Jvm.ClassFile.FieldType)) ∈ lw_all := lw_g (lw_at lw_m4 67 rfl) rfl
theorem q930 : (Jvm.Cond.methodLink "java/lang/String" (489 : Nat) ({ cls := "java/lang/String", name := "<init>", desc := "(Ljava/lang/AbstractStringBuilder;Ljava/lang/Void;)V" } : Jvm.MethodName)) ∈ lw_all := lw_g (lw_at lw_m4 68 rfl) rfl
theorem q931 : (Jvm.Cond.instanceMethod ({ cls := "java/lang/String", name := "<init>", desc := "(Ljava/lang/AbstractStringBuilder;Ljava/lang/Void;)V" } : Jvm.MethodName)) ∈ lw_all := lw_g (lw_at lw_m4 69 rfl) rfl
theorem q932 : (Jvm.Cond.code ({ cls := "java/lang/String", name := "<init>", desc := "(Ljava/lang/AbstractStringBuilder;Ljava/lang/Void;)V" } : Jvm.MethodName) prog_31_method_150_code (5 : Nat) (Option.none : Option Jvm.ClassFile.FieldType)) ∈ lw_all := lw_g (lw_at lw_m4 70 rfl) rfl
theorem q933 : (Jvm.Cond.methodLink "java/lang/String" (1 : Nat) ({ cls := "java/lang/Object", name := "<init>", desc := "()V" } : Jvm.MethodName)) ∈ lw_all := lw_g (lw_at lw_m4 71 rfl) rfl
theorem q934 : (Jvm.Cond.methodLink "java/lang/String" (552 : Nat) ({ cls := "java/lang/AbstractStringBuilder", name := "getValue", desc := "()[B" } : Jvm.MethodName)) ∈ lw_all := lw_g (lw_at lw_m4 72 rfl) rfl
theorem q939 : (Jvm.Cond.methodLink "java/lang/String" (549 : Nat) ({ cls := "java/lang/AbstractStringBuilder", name := "length", desc := "()I" } : Jvm.MethodName)) ∈ lw_all := lw_g (lw_at lw_m4 77 rfl) rfl
theorem q947 : (Jvm.Cond.methodLink "java/lang/String" (1047 : Nat) ({ cls := "java/lang/AbstractStringBuilder", name := "isLatin1", desc := "()Z" } : Jvm.MethodName)) ∈ lw_all := lw_g (lw_at lw_m4 85 rfl) rfl
theorem q948 : (Jvm.Cond.methodLink "java/lang/String" (54 : Nat) ({ cls := "java/util/Arrays", name := "copyOfRange", desc := "([BII)[B" } : Jvm.MethodName)) ∈ lw_all := lw_g (lw_at lw_m4 86 rfl) rfl
theorem q957 : (Jvm.Cond.methodLink "java/lang/String" (1051 : Nat) ({ cls := "java/lang/StringUTF16", name := "compress", desc := "([BII)[B" } : Jvm.MethodName)) ∈ lw_all := lw_g (lw_at lw_m4 95 rfl) rfl
theorem q964 : (Jvm.Cond.methodLink "java/lang/String" (47 : Nat) ({ cls := "java/lang/StringUTF16", name := "coderFromArrayLen", desc := "([BI)B" } : Jvm.MethodName)) ∈ lw_all := lw_g (lw_at lw_m4 102 rfl) rfl
theorem q967 : (Jvm.Cond.fieldLink "java/lang/String" (9 : Nat) "java/lang/String" "value" "[B") ∈ lw_all := lw_g (lw_at lw_m4 105 rfl) rfl
theorem q968 : (Jvm.Cond.fieldLink "java/lang/String" (15 : Nat) "java/lang/String" "coder" "B") ∈ lw_all := lw_g (lw_at lw_m4 106 rfl) rfl
theorem q969 : (Jvm.Cond.fieldLink "java/lang/String" (19 : Nat) "java/lang/String" "hash" "I") ∈ lw_all := lw_g (lw_at lw_m4 107 rfl) rfl
theorem q970 : (Jvm.Cond.fieldLink "java/lang/String" (23 : Nat) "java/lang/String" "hashIsZero" "Z") ∈ lw_all := lw_g (lw_at lw_m4 108 rfl) rfl
theorem q971 : (Jvm.Cond.laysFinal "java/lang/String" "java/lang/String" "value" "[B") ∈ lw_all := lw_g (lw_at lw_m4 109 rfl) rfl
theorem q972 : (Jvm.Cond.soleField "java/lang/String" "value") ∈ lw_all := lw_g (lw_at lw_m4 110 rfl) rfl
theorem q973 : (Jvm.Cond.laysFinal "java/lang/String" "java/lang/String" "coder" "B") ∈ lw_all := lw_g (lw_at lw_m4 111 rfl) rfl
theorem q974 : (Jvm.Cond.soleField "java/lang/String" "coder") ∈ lw_all := lw_g (lw_at lw_m4 112 rfl) rfl
theorem q975 : (Jvm.Cond.lays "java/lang/String" "java/lang/String" "hash" "I") ∈ lw_all := lw_g (lw_at lw_m4 113 rfl) rfl
theorem q976 : (Jvm.Cond.soleField "java/lang/String" "hash") ∈ lw_all := lw_g (lw_at lw_m4 114 rfl) rfl
theorem q977 : (Jvm.Cond.lays "java/lang/String" "java/lang/String" "hashIsZero" "Z") ∈ lw_all := lw_g (lw_at lw_m4 115 rfl) rfl
theorem q978 : (Jvm.Cond.soleField "java/lang/String" "hashIsZero") ∈ lw_all := lw_g (lw_at lw_m4 116 rfl) rfl
theorem q979 : (Jvm.Cond.superclass "java/lang/String" "java/lang/Object") ∈ lw_all := lw_g (lw_at lw_m4 117 rfl) rfl
theorem q981 : (Jvm.Cond.instanceMethod ({ cls := "java/lang/String", name := "equals", desc := "(Ljava/lang/Object;)Z" } : Jvm.MethodName)) ∈ lw_all := lw_g (lw_at lw_m4 119 rfl) rfl
theorem q982 : (Jvm.Cond.selects "java/lang/String" ({ cls := "java/lang/String", name := "equals", desc := "(Ljava/lang/Object;)Z" } : Jvm.MethodName) ({ cls := "java/lang/String", name := "equals", desc := "(Ljava/lang/Object;)Z" } : Jvm.MethodName)) ∈ lw_all := lw_g (lw_at lw_m4 120 rfl) rfl
theorem q983 : (Jvm.Cond.code ({ cls := "java/lang/String", name := "equals", desc := "(Ljava/lang/Object;)Z" } : Jvm.MethodName) prog_31_method_66_code (3 : Nat) (Option.some Jvm.ClassFile.FieldType.boolean)) ∈ lw_all := lw_g (lw_at lw_m4 121 rfl) rfl
theorem q984 : (Jvm.Cond.classLink "java/lang/String" (10 : Nat) "java/lang/String") ∈ lw_all := lw_g (lw_at lw_m4 122 rfl) rfl
theorem q985 : (Jvm.Cond.methodLink "java/lang/String" (541 : Nat) ({ cls := "java/lang/StringLatin1", name := "equals", desc := "([B[B)Z" } : Jvm.MethodName)) ∈ lw_all := lw_g (lw_at lw_m4 123 rfl) rfl
theorem q1023 : (Jvm.Cond.instanceMethod ({ cls := "java/lang/String", name := "hashCode", desc := "()I" } : Jvm.MethodName)) ∈ lw_all := lw_g (lw_at lw_m4 161 rfl) rfl
theorem q1024 : (Jvm.Cond.selects "java/lang/String" ({ cls := "java/lang/String", name := "hashCode", desc := "()I" } : Jvm.MethodName) ({ cls := "java/lang/String", name := "hashCode", desc := "()I" } : Jvm.MethodName)) ∈ lw_all := lw_g (lw_at lw_m4 162 rfl) rfl
theorem q1025 : (Jvm.Cond.code ({ cls := "java/lang/String", name := "hashCode", desc := "()I" } : Jvm.MethodName) prog_31_method_78_code (2 : Nat) (Option.some Jvm.ClassFile.FieldType.int)) ∈ lw_all := lw_g (lw_at lw_m4 163 rfl) rfl
theorem q1026 : (Jvm.Cond.methodLink "java/lang/String" (628 : Nat) ({ cls := "java/lang/StringLatin1", name := "hashCode", desc := "([B)I" } : Jvm.MethodName)) ∈ lw_all := lw_g (lw_at lw_m4 164 rfl) rfl
theorem q1067 : (Jvm.Cond.methodLink "java/lang/String" (632 : Nat) ({ cls := "java/lang/StringUTF16", name := "hashCode", desc := "([B)I" } : Jvm.MethodName)) ∈ lw_all := lw_g (lw_at lw_m4 205 rfl) rfl
theorem q1247 : (Jvm.Cond.selects "java/lang/String" ({ cls := "java/lang/Object", name := "getClass", desc := "()Ljava/lang/Class;" } : Jvm.MethodName) ({ cls := "java/lang/Object", name := "getClass", desc := "()Ljava/lang/Class;" } : Jvm.MethodName)) ∈ lw_all := lw_g (lw_at lw_m5 145 rfl) rfl
theorem q2356 : (Jvm.Cond.castable "java/lang/String" "java/lang/Object") ∈ lw_tbl := lw_at lw_m10 54 rfl
theorem in_J6 : ∀ w ∈ wsJ60, w ∈ lw_all := lw_in wsJ60 [971, 973, 975, 977] (by decide +kernel) (by decide +kernel)

/-! java/lang/StringLatin1 -/
set_option maxRecDepth 100000
def RJ7 : String := "java/lang/StringLatin1"
abbrev cJ7_charAt : ByteArray := prog_33_method_2_code
def yJ7_charAt : MethodName := ⟨RJ7, "charAt", "([BI)C"⟩
def dkwJ7_charAt_0 : List UInt8 := [27, 42, 190, 184, 0, 9, 42, 27, 51, 17, 0, 255, 126, 146, 172]
abbrev dktJ7_charAt_0 : List UInt8 := dkwJ7_charAt_0 ++ []
theorem dksJ7_charAt_0 : cJ7_charAt.data.toList.drop 0 = dktJ7_charAt_0 := by decide +kernel
theorem dJ7_charAt_0 : decode cJ7_charAt 0 = .ok (.iload_n 1, 1) := dk_27 (dk_at dksJ7_charAt_0 0 rfl rfl)
theorem dJ7_charAt_1 : decode cJ7_charAt 1 = .ok (.aload_n 0, 1) := dk_42 (dk_at dksJ7_charAt_0 1 rfl rfl)
theorem dJ7_charAt_2 : decode cJ7_charAt 2 = .ok (.arraylength, 1) := dk_190 (dk_at dksJ7_charAt_0 2 rfl rfl)
theorem dJ7_charAt_3 : decode cJ7_charAt 3 = .ok (.invokestatic 9, 3) := dk_184 0 9 (dk_at dksJ7_charAt_0 3 rfl rfl)
theorem dJ7_charAt_6 : decode cJ7_charAt 6 = .ok (.aload_n 0, 1) := dk_42 (dk_at dksJ7_charAt_0 6 rfl rfl)
theorem dJ7_charAt_7 : decode cJ7_charAt 7 = .ok (.iload_n 1, 1) := dk_27 (dk_at dksJ7_charAt_0 7 rfl rfl)
theorem dJ7_charAt_8 : decode cJ7_charAt 8 = .ok (.baload, 1) := dk_51 (dk_at dksJ7_charAt_0 8 rfl rfl)
theorem dJ7_charAt_9 : decode cJ7_charAt 9 = .ok (.sipush 255, 3) := dk_17 0 255 (dk_at dksJ7_charAt_0 9 rfl rfl)
theorem dJ7_charAt_12 : decode cJ7_charAt 12 = .ok (.iand, 1) := dk_126 (dk_at dksJ7_charAt_0 12 rfl rfl)
theorem dJ7_charAt_13 : decode cJ7_charAt 13 = .ok (.i2c, 1) := dk_146 (dk_at dksJ7_charAt_0 13 rfl rfl)
theorem dJ7_charAt_14 : decode cJ7_charAt 14 = .ok (.ireturn, 1) := dk_172 (dk_at dksJ7_charAt_0 14 rfl rfl)
abbrev cJ7_canEncode : ByteArray := prog_33_method_3_code
def yJ7_canEncode : MethodName := ⟨RJ7, "canEncode", "(C)Z"⟩
def dkwJ7_canEncode_0 : List UInt8 := [26, 17, 0, 255, 163, 0, 7, 4, 167, 0, 4, 3, 172]
abbrev dktJ7_canEncode_0 : List UInt8 := dkwJ7_canEncode_0 ++ []
theorem dksJ7_canEncode_0 : cJ7_canEncode.data.toList.drop 0 = dktJ7_canEncode_0 := by decide +kernel
theorem dJ7_canEncode_0 : decode cJ7_canEncode 0 = .ok (.iload_n 0, 1) := dk_26 (dk_at dksJ7_canEncode_0 0 rfl rfl)
theorem dJ7_canEncode_1 : decode cJ7_canEncode 1 = .ok (.sipush 255, 3) := dk_17 0 255 (dk_at dksJ7_canEncode_0 1 rfl rfl)
theorem dJ7_canEncode_4 : decode cJ7_canEncode 4 = .ok (.if_icmp .gt 7, 3) := dk_163 0 7 (dk_at dksJ7_canEncode_0 4 rfl rfl)
theorem dJ7_canEncode_7 : decode cJ7_canEncode 7 = .ok (.iconst 1, 1) := dk_4 (dk_at dksJ7_canEncode_0 7 rfl rfl)
theorem dJ7_canEncode_8 : decode cJ7_canEncode 8 = .ok (.goto 4, 3) := dk_167 0 4 (dk_at dksJ7_canEncode_0 8 rfl rfl)
theorem dJ7_canEncode_11 : decode cJ7_canEncode 11 = .ok (.iconst 0, 1) := dk_3 (dk_at dksJ7_canEncode_0 11 rfl rfl)
theorem dJ7_canEncode_12 : decode cJ7_canEncode 12 = .ok (.ireturn, 1) := dk_172 (dk_at dksJ7_canEncode_0 12 rfl rfl)
abbrev cJ7_inflate : ByteArray := prog_33_method_50_code
def yJ7_inflate : MethodName := ⟨RJ7, "inflate", "([BI[BII)V"⟩
def dkwJ7_inflate_0 : List UInt8 := [42, 27, 44, 29, 21, 4, 184, 0, 240, 177]
abbrev dktJ7_inflate_0 : List UInt8 := dkwJ7_inflate_0 ++ []
theorem dksJ7_inflate_0 : cJ7_inflate.data.toList.drop 0 = dktJ7_inflate_0 := by decide +kernel
theorem dJ7_inflate_0 : decode cJ7_inflate 0 = .ok (.aload_n 0, 1) := dk_42 (dk_at dksJ7_inflate_0 0 rfl rfl)
theorem dJ7_inflate_1 : decode cJ7_inflate 1 = .ok (.iload_n 1, 1) := dk_27 (dk_at dksJ7_inflate_0 1 rfl rfl)
theorem dJ7_inflate_2 : decode cJ7_inflate 2 = .ok (.aload_n 2, 1) := dk_44 (dk_at dksJ7_inflate_0 2 rfl rfl)
theorem dJ7_inflate_3 : decode cJ7_inflate 3 = .ok (.iload_n 3, 1) := dk_29 (dk_at dksJ7_inflate_0 3 rfl rfl)
theorem dJ7_inflate_4 : decode cJ7_inflate 4 = .ok (.iload 4, 2) := dk_21 4 (dk_at dksJ7_inflate_0 4 rfl rfl)
theorem dJ7_inflate_6 : decode cJ7_inflate 6 = .ok (.invokestatic 240, 3) := dk_184 0 240 (dk_at dksJ7_inflate_0 6 rfl rfl)
theorem dJ7_inflate_9 : decode cJ7_inflate 9 = .ok (.return_, 1) := dk_177 (dk_at dksJ7_inflate_0 9 rfl rfl)
abbrev cJ7_equals : ByteArray := prog_33_method_13_code
def yJ7_equals : MethodName := ⟨RJ7, "equals", "([B[B)Z"⟩
def dkwJ7_equals_1 : List UInt8 := [3, 172, 132, 2, 1, 167, 255, 236, 4, 172, 3, 172]
abbrev dktJ7_equals_1 : List UInt8 := dkwJ7_equals_1 ++ []
def dkwJ7_equals_0 : List UInt8 := [42, 190, 43, 190, 160, 0, 30, 3, 61, 28, 42, 190, 162, 0, 20, 42, 28, 51, 43, 28, 51, 159, 0, 5]
abbrev dktJ7_equals_0 : List UInt8 := dkwJ7_equals_0 ++ dktJ7_equals_1
theorem dksJ7_equals_0 : cJ7_equals.data.toList.drop 0 = dktJ7_equals_0 := by decide +kernel
theorem dksJ7_equals_1 : cJ7_equals.data.toList.drop 24 = dktJ7_equals_1 := dk_seg dksJ7_equals_0 24 rfl rfl
theorem dJ7_equals_0 : decode cJ7_equals 0 = .ok (.aload_n 0, 1) := dk_42 (dk_at dksJ7_equals_0 0 rfl rfl)
theorem dJ7_equals_1 : decode cJ7_equals 1 = .ok (.arraylength, 1) := dk_190 (dk_at dksJ7_equals_0 1 rfl rfl)
theorem dJ7_equals_2 : decode cJ7_equals 2 = .ok (.aload_n 1, 1) := dk_43 (dk_at dksJ7_equals_0 2 rfl rfl)
theorem dJ7_equals_3 : decode cJ7_equals 3 = .ok (.arraylength, 1) := dk_190 (dk_at dksJ7_equals_0 3 rfl rfl)
theorem dJ7_equals_4 : decode cJ7_equals 4 = .ok (.if_icmp .ne 30, 3) := dk_160 0 30 (dk_at dksJ7_equals_0 4 rfl rfl)
theorem dJ7_equals_7 : decode cJ7_equals 7 = .ok (.iconst 0, 1) := dk_3 (dk_at dksJ7_equals_0 7 rfl rfl)
theorem dJ7_equals_8 : decode cJ7_equals 8 = .ok (.istore_n 2, 1) := dk_61 (dk_at dksJ7_equals_0 8 rfl rfl)
theorem dJ7_equals_9 : decode cJ7_equals 9 = .ok (.iload_n 2, 1) := dk_28 (dk_at dksJ7_equals_0 9 rfl rfl)
theorem dJ7_equals_10 : decode cJ7_equals 10 = .ok (.aload_n 0, 1) := dk_42 (dk_at dksJ7_equals_0 10 rfl rfl)
theorem dJ7_equals_11 : decode cJ7_equals 11 = .ok (.arraylength, 1) := dk_190 (dk_at dksJ7_equals_0 11 rfl rfl)
theorem dJ7_equals_12 : decode cJ7_equals 12 = .ok (.if_icmp .ge 20, 3) := dk_162 0 20 (dk_at dksJ7_equals_0 12 rfl rfl)
theorem dJ7_equals_15 : decode cJ7_equals 15 = .ok (.aload_n 0, 1) := dk_42 (dk_at dksJ7_equals_0 15 rfl rfl)
theorem dJ7_equals_16 : decode cJ7_equals 16 = .ok (.iload_n 2, 1) := dk_28 (dk_at dksJ7_equals_0 16 rfl rfl)
theorem dJ7_equals_17 : decode cJ7_equals 17 = .ok (.baload, 1) := dk_51 (dk_at dksJ7_equals_0 17 rfl rfl)
theorem dJ7_equals_18 : decode cJ7_equals 18 = .ok (.aload_n 1, 1) := dk_43 (dk_at dksJ7_equals_0 18 rfl rfl)
theorem dJ7_equals_19 : decode cJ7_equals 19 = .ok (.iload_n 2, 1) := dk_28 (dk_at dksJ7_equals_0 19 rfl rfl)
theorem dJ7_equals_20 : decode cJ7_equals 20 = .ok (.baload, 1) := dk_51 (dk_at dksJ7_equals_0 20 rfl rfl)
theorem dJ7_equals_21 : decode cJ7_equals 21 = .ok (.if_icmp .eq 5, 3) := dk_159 0 5 (dk_at dksJ7_equals_0 21 rfl rfl)
theorem dJ7_equals_24 : decode cJ7_equals 24 = .ok (.iconst 0, 1) := dk_3 (dk_at dksJ7_equals_1 0 rfl rfl)
theorem dJ7_equals_25 : decode cJ7_equals 25 = .ok (.ireturn, 1) := dk_172 (dk_at dksJ7_equals_1 1 rfl rfl)
theorem dJ7_equals_26 : decode cJ7_equals 26 = .ok (.iinc 2 1, 3) := dk_132 2 1 (dk_at dksJ7_equals_1 2 rfl rfl)
theorem dJ7_equals_29 : decode cJ7_equals 29 = .ok (.goto (-20), 3) := dk_167 255 236 (dk_at dksJ7_equals_1 5 rfl rfl)
theorem dJ7_equals_32 : decode cJ7_equals 32 = .ok (.iconst 1, 1) := dk_4 (dk_at dksJ7_equals_1 8 rfl rfl)
theorem dJ7_equals_33 : decode cJ7_equals 33 = .ok (.ireturn, 1) := dk_172 (dk_at dksJ7_equals_1 9 rfl rfl)
theorem dJ7_equals_34 : decode cJ7_equals 34 = .ok (.iconst 0, 1) := dk_3 (dk_at dksJ7_equals_1 10 rfl rfl)
theorem dJ7_equals_35 : decode cJ7_equals 35 = .ok (.ireturn, 1) := dk_172 (dk_at dksJ7_equals_1 11 rfl rfl)
abbrev cJ7_hashCode : ByteArray := prog_33_method_21_code
def yJ7_hashCode : MethodName := ⟨RJ7, "hashCode", "([B)I"⟩
def dkwJ7_hashCode_2 : List UInt8 := [3, 167, 0, 22, 42, 3, 51, 17, 0, 255, 126, 167, 0, 12, 42, 3, 42, 190, 3, 7, 184, 0, 84, 172]
abbrev dktJ7_hashCode_2 : List UInt8 := dkwJ7_hashCode_2 ++ []
def dkwJ7_hashCode_1 : List UInt8 := [171, 0, 0, 0, 0, 40, 0, 0, 0, 2, 0, 0, 0, 0, 0, 0, 0, 26, 0, 0, 0, 1, 0, 0, 0, 30]
abbrev dktJ7_hashCode_1 : List UInt8 := dkwJ7_hashCode_1 ++ dktJ7_hashCode_2
def dkwJ7_hashCode_0 : List UInt8 := [42, 190]
abbrev dktJ7_hashCode_0 : List UInt8 := dkwJ7_hashCode_0 ++ dktJ7_hashCode_1
theorem dksJ7_hashCode_0 : cJ7_hashCode.data.toList.drop 0 = dktJ7_hashCode_0 := by decide +kernel
theorem dksJ7_hashCode_1 : cJ7_hashCode.data.toList.drop 2 = dktJ7_hashCode_1 := dk_seg dksJ7_hashCode_0 2 rfl rfl
theorem dksJ7_hashCode_2 : cJ7_hashCode.data.toList.drop 28 = dktJ7_hashCode_2 := dk_seg dksJ7_hashCode_1 26 rfl rfl
theorem dJ7_hashCode_0 : decode cJ7_hashCode 0 = .ok (.aload_n 0, 1) := dk_42 (dk_at dksJ7_hashCode_0 0 rfl rfl)
theorem dJ7_hashCode_1 : decode cJ7_hashCode 1 = .ok (.arraylength, 1) := dk_190 (dk_at dksJ7_hashCode_0 1 rfl rfl)
theorem dJ7_hashCode_2 : decode cJ7_hashCode 2 = .ok (.lookupswitch 40 #[(0, 26), (1, 30)], 26) := by decide +kernel
theorem dJ7_hashCode_28 : decode cJ7_hashCode 28 = .ok (.iconst 0, 1) := dk_3 (dk_at dksJ7_hashCode_2 0 rfl rfl)
theorem dJ7_hashCode_29 : decode cJ7_hashCode 29 = .ok (.goto 22, 3) := dk_167 0 22 (dk_at dksJ7_hashCode_2 1 rfl rfl)
theorem dJ7_hashCode_32 : decode cJ7_hashCode 32 = .ok (.aload_n 0, 1) := dk_42 (dk_at dksJ7_hashCode_2 4 rfl rfl)
theorem dJ7_hashCode_33 : decode cJ7_hashCode 33 = .ok (.iconst 0, 1) := dk_3 (dk_at dksJ7_hashCode_2 5 rfl rfl)
theorem dJ7_hashCode_34 : decode cJ7_hashCode 34 = .ok (.baload, 1) := dk_51 (dk_at dksJ7_hashCode_2 6 rfl rfl)
theorem dJ7_hashCode_35 : decode cJ7_hashCode 35 = .ok (.sipush 255, 3) := dk_17 0 255 (dk_at dksJ7_hashCode_2 7 rfl rfl)
theorem dJ7_hashCode_38 : decode cJ7_hashCode 38 = .ok (.iand, 1) := dk_126 (dk_at dksJ7_hashCode_2 10 rfl rfl)
theorem dJ7_hashCode_39 : decode cJ7_hashCode 39 = .ok (.goto 12, 3) := dk_167 0 12 (dk_at dksJ7_hashCode_2 11 rfl rfl)
theorem dJ7_hashCode_42 : decode cJ7_hashCode 42 = .ok (.aload_n 0, 1) := dk_42 (dk_at dksJ7_hashCode_2 14 rfl rfl)
theorem dJ7_hashCode_43 : decode cJ7_hashCode 43 = .ok (.iconst 0, 1) := dk_3 (dk_at dksJ7_hashCode_2 15 rfl rfl)
theorem dJ7_hashCode_44 : decode cJ7_hashCode 44 = .ok (.aload_n 0, 1) := dk_42 (dk_at dksJ7_hashCode_2 16 rfl rfl)
theorem dJ7_hashCode_45 : decode cJ7_hashCode 45 = .ok (.arraylength, 1) := dk_190 (dk_at dksJ7_hashCode_2 17 rfl rfl)
theorem dJ7_hashCode_46 : decode cJ7_hashCode 46 = .ok (.iconst 0, 1) := dk_3 (dk_at dksJ7_hashCode_2 18 rfl rfl)
theorem dJ7_hashCode_47 : decode cJ7_hashCode 47 = .ok (.iconst 4, 1) := dk_7 (dk_at dksJ7_hashCode_2 19 rfl rfl)
theorem dJ7_hashCode_48 : decode cJ7_hashCode 48 = .ok (.invokestatic 84, 3) := dk_184 0 84 (dk_at dksJ7_hashCode_2 20 rfl rfl)
theorem dJ7_hashCode_51 : decode cJ7_hashCode 51 = .ok (.ireturn, 1) := dk_172 (dk_at dksJ7_hashCode_2 23 rfl rfl)
theorem q160 : (Jvm.Cond.initialized "java/lang/StringLatin1") ∈ lw_all := lw_g (lw_at lw_m1 18 rfl) rfl
theorem q744 : (Jvm.Cond.static ({ cls := "java/lang/StringLatin1", name := "charAt", desc := "([BI)C" } : Jvm.MethodName)) ∈ lw_all := lw_g (lw_at lw_m3 122 rfl) rfl
theorem q745 : (Jvm.Cond.code ({ cls := "java/lang/StringLatin1", name := "charAt", desc := "([BI)C" } : Jvm.MethodName) prog_33_method_2_code (2 : Nat) (Option.some Jvm.ClassFile.FieldType.char)) ∈ lw_all := lw_g (lw_at lw_m3 123 rfl) rfl
theorem q746 : (Jvm.Cond.methodLink "java/lang/StringLatin1" (9 : Nat) ({ cls := "java/lang/String", name := "checkIndex", desc := "(II)V" } : Jvm.MethodName)) ∈ lw_all := lw_g (lw_at lw_m3 124 rfl) rfl
theorem q894 : (Jvm.Cond.static ({ cls := "java/lang/StringLatin1", name := "canEncode", desc := "(C)Z" } : Jvm.MethodName)) ∈ lw_all := lw_g (lw_at lw_m4 32 rfl) rfl
theorem q895 : (Jvm.Cond.code ({ cls := "java/lang/StringLatin1", name := "canEncode", desc := "(C)Z" } : Jvm.MethodName) prog_33_method_3_code (1 : Nat) (Option.some Jvm.ClassFile.FieldType.boolean)) ∈ lw_all := lw_g (lw_at lw_m4 33 rfl) rfl
theorem q901 : (Jvm.Cond.static ({ cls := "java/lang/StringLatin1", name := "inflate", desc := "([BI[BII)V" } : Jvm.MethodName)) ∈ lw_all := lw_g (lw_at lw_m4 39 rfl) rfl
theorem q902 : (Jvm.Cond.code ({ cls := "java/lang/StringLatin1", name := "inflate", desc := "([BI[BII)V" } : Jvm.MethodName) prog_33_method_50_code (5 : Nat) (Option.none : Option Jvm.ClassFile.FieldType)) ∈ lw_all := lw_g (lw_at lw_m4 40 rfl) rfl
theorem q903 : (Jvm.Cond.methodLink "java/lang/StringLatin1" (240 : Nat) ({ cls := "java/lang/StringUTF16", name := "inflate", desc := "([BI[BII)V" } : Jvm.MethodName)) ∈ lw_all := lw_g (lw_at lw_m4 41 rfl) rfl
theorem q986 : (Jvm.Cond.static ({ cls := "java/lang/StringLatin1", name := "equals", desc := "([B[B)Z" } : Jvm.MethodName)) ∈ lw_all := lw_g (lw_at lw_m4 124 rfl) rfl
theorem q987 : (Jvm.Cond.code ({ cls := "java/lang/StringLatin1", name := "equals", desc := "([B[B)Z" } : Jvm.MethodName) prog_33_method_13_code (3 : Nat) (Option.some Jvm.ClassFile.FieldType.boolean)) ∈ lw_all := lw_g (lw_at lw_m4 125 rfl) rfl
theorem q1027 : (Jvm.Cond.static ({ cls := "java/lang/StringLatin1", name := "hashCode", desc := "([B)I" } : Jvm.MethodName)) ∈ lw_all := lw_g (lw_at lw_m4 165 rfl) rfl
theorem q1028 : (Jvm.Cond.code ({ cls := "java/lang/StringLatin1", name := "hashCode", desc := "([B)I" } : Jvm.MethodName) prog_33_method_21_code (1 : Nat) (Option.some Jvm.ClassFile.FieldType.int)) ∈ lw_all := lw_g (lw_at lw_m4 166 rfl) rfl
theorem q1029 : (Jvm.Cond.methodLink "java/lang/StringLatin1" (84 : Nat) ({ cls := "jdk/internal/util/ArraysSupport", name := "vectorizedHashCode", desc := "(Ljava/lang/Object;IIII)I" } : Jvm.MethodName)) ∈ lw_all := lw_g (lw_at lw_m4 167 rfl) rfl

/-! jdk/internal/util/Preconditions -/
set_option maxRecDepth 100000
def RJ8 : String := "jdk/internal/util/Preconditions"
abbrev cJ8_checkIndex : ByteArray := prog_51_method_11_code
def yJ8_checkIndex : MethodName := ⟨RJ8, "checkIndex", "(IILjava/util/function/BiFunction;)I"⟩
def dkwJ8_checkIndex_0 : List UInt8 := [26, 155, 0, 8, 26, 27, 161, 0, 10, 44, 26, 27, 184, 0, 95, 191, 26, 172]
abbrev dktJ8_checkIndex_0 : List UInt8 := dkwJ8_checkIndex_0 ++ []
theorem dksJ8_checkIndex_0 : cJ8_checkIndex.data.toList.drop 0 = dktJ8_checkIndex_0 := by decide +kernel
theorem dJ8_checkIndex_0 : decode cJ8_checkIndex 0 = .ok (.iload_n 0, 1) := dk_26 (dk_at dksJ8_checkIndex_0 0 rfl rfl)
theorem dJ8_checkIndex_1 : decode cJ8_checkIndex 1 = .ok (.ifCond .lt 8, 3) := dk_155 0 8 (dk_at dksJ8_checkIndex_0 1 rfl rfl)
theorem dJ8_checkIndex_4 : decode cJ8_checkIndex 4 = .ok (.iload_n 0, 1) := dk_26 (dk_at dksJ8_checkIndex_0 4 rfl rfl)
theorem dJ8_checkIndex_5 : decode cJ8_checkIndex 5 = .ok (.iload_n 1, 1) := dk_27 (dk_at dksJ8_checkIndex_0 5 rfl rfl)
theorem dJ8_checkIndex_6 : decode cJ8_checkIndex 6 = .ok (.if_icmp .lt 10, 3) := dk_161 0 10 (dk_at dksJ8_checkIndex_0 6 rfl rfl)
theorem dJ8_checkIndex_9 : decode cJ8_checkIndex 9 = .ok (.aload_n 2, 1) := dk_44 (dk_at dksJ8_checkIndex_0 9 rfl rfl)
theorem dJ8_checkIndex_10 : decode cJ8_checkIndex 10 = .ok (.iload_n 0, 1) := dk_26 (dk_at dksJ8_checkIndex_0 10 rfl rfl)
theorem dJ8_checkIndex_11 : decode cJ8_checkIndex 11 = .ok (.iload_n 1, 1) := dk_27 (dk_at dksJ8_checkIndex_0 11 rfl rfl)
theorem dJ8_checkIndex_12 : decode cJ8_checkIndex 12 = .ok (.invokestatic 95, 3) := dk_184 0 95 (dk_at dksJ8_checkIndex_0 12 rfl rfl)
theorem dJ8_checkIndex_15 : decode cJ8_checkIndex 15 = .ok (.athrow, 1) := dk_191 (dk_at dksJ8_checkIndex_0 15 rfl rfl)
theorem dJ8_checkIndex_16 : decode cJ8_checkIndex 16 = .ok (.iload_n 0, 1) := dk_26 (dk_at dksJ8_checkIndex_0 16 rfl rfl)
theorem dJ8_checkIndex_17 : decode cJ8_checkIndex 17 = .ok (.ireturn, 1) := dk_172 (dk_at dksJ8_checkIndex_0 17 rfl rfl)
abbrev cJ8_checkFromIndexSize : ByteArray := prog_51_method_13_code
def yJ8_checkFromIndexSize : MethodName := ⟨RJ8, "checkFromIndexSize", "(IIILjava/util/function/BiFunction;)I"⟩
def dkwJ8_checkFromIndexSize_1 : List UInt8 := [172]
abbrev dktJ8_checkFromIndexSize_1 : List UInt8 := dkwJ8_checkFromIndexSize_1 ++ []
def dkwJ8_checkFromIndexSize_0 : List UInt8 := [28, 26, 128, 27, 128, 155, 0, 10, 27, 28, 26, 100, 164, 0, 11, 45, 26, 27, 28, 184, 0, 103, 191, 26]
abbrev dktJ8_checkFromIndexSize_0 : List UInt8 := dkwJ8_checkFromIndexSize_0 ++ dktJ8_checkFromIndexSize_1
theorem dksJ8_checkFromIndexSize_0 : cJ8_checkFromIndexSize.data.toList.drop 0 = dktJ8_checkFromIndexSize_0 := by decide +kernel
theorem dksJ8_checkFromIndexSize_1 : cJ8_checkFromIndexSize.data.toList.drop 24 = dktJ8_checkFromIndexSize_1 := dk_seg dksJ8_checkFromIndexSize_0 24 rfl rfl
theorem dJ8_checkFromIndexSize_0 : decode cJ8_checkFromIndexSize 0 = .ok (.iload_n 2, 1) := dk_28 (dk_at dksJ8_checkFromIndexSize_0 0 rfl rfl)
theorem dJ8_checkFromIndexSize_1 : decode cJ8_checkFromIndexSize 1 = .ok (.iload_n 0, 1) := dk_26 (dk_at dksJ8_checkFromIndexSize_0 1 rfl rfl)
theorem dJ8_checkFromIndexSize_2 : decode cJ8_checkFromIndexSize 2 = .ok (.ior, 1) := dk_128 (dk_at dksJ8_checkFromIndexSize_0 2 rfl rfl)
theorem dJ8_checkFromIndexSize_3 : decode cJ8_checkFromIndexSize 3 = .ok (.iload_n 1, 1) := dk_27 (dk_at dksJ8_checkFromIndexSize_0 3 rfl rfl)
theorem dJ8_checkFromIndexSize_4 : decode cJ8_checkFromIndexSize 4 = .ok (.ior, 1) := dk_128 (dk_at dksJ8_checkFromIndexSize_0 4 rfl rfl)
theorem dJ8_checkFromIndexSize_5 : decode cJ8_checkFromIndexSize 5 = .ok (.ifCond .lt 10, 3) := dk_155 0 10 (dk_at dksJ8_checkFromIndexSize_0 5 rfl rfl)
theorem dJ8_checkFromIndexSize_8 : decode cJ8_checkFromIndexSize 8 = .ok (.iload_n 1, 1) := dk_27 (dk_at dksJ8_checkFromIndexSize_0 8 rfl rfl)
theorem dJ8_checkFromIndexSize_9 : decode cJ8_checkFromIndexSize 9 = .ok (.iload_n 2, 1) := dk_28 (dk_at dksJ8_checkFromIndexSize_0 9 rfl rfl)
theorem dJ8_checkFromIndexSize_10 : decode cJ8_checkFromIndexSize 10 = .ok (.iload_n 0, 1) := dk_26 (dk_at dksJ8_checkFromIndexSize_0 10 rfl rfl)
theorem dJ8_checkFromIndexSize_11 : decode cJ8_checkFromIndexSize 11 = .ok (.isub, 1) := dk_100 (dk_at dksJ8_checkFromIndexSize_0 11 rfl rfl)
theorem dJ8_checkFromIndexSize_12 : decode cJ8_checkFromIndexSize 12 = .ok (.if_icmp .le 11, 3) := dk_164 0 11 (dk_at dksJ8_checkFromIndexSize_0 12 rfl rfl)
theorem dJ8_checkFromIndexSize_15 : decode cJ8_checkFromIndexSize 15 = .ok (.aload_n 3, 1) := dk_45 (dk_at dksJ8_checkFromIndexSize_0 15 rfl rfl)
theorem dJ8_checkFromIndexSize_16 : decode cJ8_checkFromIndexSize 16 = .ok (.iload_n 0, 1) := dk_26 (dk_at dksJ8_checkFromIndexSize_0 16 rfl rfl)
theorem dJ8_checkFromIndexSize_17 : decode cJ8_checkFromIndexSize 17 = .ok (.iload_n 1, 1) := dk_27 (dk_at dksJ8_checkFromIndexSize_0 17 rfl rfl)
theorem dJ8_checkFromIndexSize_18 : decode cJ8_checkFromIndexSize 18 = .ok (.iload_n 2, 1) := dk_28 (dk_at dksJ8_checkFromIndexSize_0 18 rfl rfl)
theorem dJ8_checkFromIndexSize_19 : decode cJ8_checkFromIndexSize 19 = .ok (.invokestatic 103, 3) := dk_184 0 103 (dk_at dksJ8_checkFromIndexSize_0 19 rfl rfl)
theorem dJ8_checkFromIndexSize_22 : decode cJ8_checkFromIndexSize 22 = .ok (.athrow, 1) := dk_191 (dk_at dksJ8_checkFromIndexSize_0 22 rfl rfl)
theorem dJ8_checkFromIndexSize_23 : decode cJ8_checkFromIndexSize 23 = .ok (.iload_n 0, 1) := dk_26 (dk_at dksJ8_checkFromIndexSize_0 23 rfl rfl)
theorem dJ8_checkFromIndexSize_24 : decode cJ8_checkFromIndexSize 24 = .ok (.ireturn, 1) := dk_172 (dk_at dksJ8_checkFromIndexSize_1 0 rfl rfl)
theorem q161 : (Jvm.Cond.initialized "jdk/internal/util/Preconditions") ∈ lw_all := lw_g (lw_at lw_m1 19 rfl) rfl
theorem q750 : (Jvm.Cond.laysStatic "jdk/internal/util/Preconditions" "SIOOBE_FORMATTER" "Ljava/util/function/BiFunction;") ∈ lw_tbl := lw_at lw_m3 128 rfl
theorem q752 : (Jvm.Cond.static ({ cls := "jdk/internal/util/Preconditions", name := "checkIndex", desc := "(IILjava/util/function/BiFunction;)I" } : Jvm.MethodName)) ∈ lw_all := lw_g (lw_at lw_m3 130 rfl) rfl
theorem q753 : (Jvm.Cond.code ({ cls := "jdk/internal/util/Preconditions", name := "checkIndex", desc := "(IILjava/util/function/BiFunction;)I" } : Jvm.MethodName) prog_51_method_11_code (3 : Nat) (Option.some Jvm.ClassFile.FieldType.int)) ∈ lw_all := lw_g (lw_at lw_m3 131 rfl) rfl
theorem q913 : (Jvm.Cond.static ({ cls := "jdk/internal/util/Preconditions", name := "checkFromIndexSize", desc := "(IIILjava/util/function/BiFunction;)I" } : Jvm.MethodName)) ∈ lw_all := lw_g (lw_at lw_m4 51 rfl) rfl
theorem q914 : (Jvm.Cond.code ({ cls := "jdk/internal/util/Preconditions", name := "checkFromIndexSize", desc := "(IIILjava/util/function/BiFunction;)I" } : Jvm.MethodName) prog_51_method_13_code (4 : Nat) (Option.some Jvm.ClassFile.FieldType.int)) ∈ lw_all := lw_g (lw_at lw_m4 52 rfl) rfl

/-! java/lang/StringUTF16 -/
set_option maxRecDepth 100000
def RJ9 : String := "java/lang/StringUTF16"
abbrev cJ9_charAt : ByteArray := prog_34_method_83_code
def yJ9_charAt : MethodName := ⟨RJ9, "charAt", "([BI)C"⟩
def dkwJ9_charAt_0 : List UInt8 := [27, 42, 184, 0, 67, 42, 27, 184, 0, 71, 172]
abbrev dktJ9_charAt_0 : List UInt8 := dkwJ9_charAt_0 ++ []
theorem dksJ9_charAt_0 : cJ9_charAt.data.toList.drop 0 = dktJ9_charAt_0 := by decide +kernel
theorem dJ9_charAt_0 : decode cJ9_charAt 0 = .ok (.iload_n 1, 1) := dk_27 (dk_at dksJ9_charAt_0 0 rfl rfl)
theorem dJ9_charAt_1 : decode cJ9_charAt 1 = .ok (.aload_n 0, 1) := dk_42 (dk_at dksJ9_charAt_0 1 rfl rfl)
theorem dJ9_charAt_2 : decode cJ9_charAt 2 = .ok (.invokestatic 67, 3) := dk_184 0 67 (dk_at dksJ9_charAt_0 2 rfl rfl)
theorem dJ9_charAt_5 : decode cJ9_charAt 5 = .ok (.aload_n 0, 1) := dk_42 (dk_at dksJ9_charAt_0 5 rfl rfl)
theorem dJ9_charAt_6 : decode cJ9_charAt 6 = .ok (.iload_n 1, 1) := dk_27 (dk_at dksJ9_charAt_0 6 rfl rfl)
theorem dJ9_charAt_7 : decode cJ9_charAt 7 = .ok (.invokestatic 71, 3) := dk_184 0 71 (dk_at dksJ9_charAt_0 7 rfl rfl)
theorem dJ9_charAt_10 : decode cJ9_charAt 10 = .ok (.ireturn, 1) := dk_172 (dk_at dksJ9_charAt_0 10 rfl rfl)
abbrev cJ9_checkIndex : ByteArray := prog_34_method_91_code
def yJ9_checkIndex : MethodName := ⟨RJ9, "checkIndex", "(I[B)V"⟩
def dkwJ9_checkIndex_0 : List UInt8 := [26, 43, 184, 0, 48, 184, 1, 158, 177]
abbrev dktJ9_checkIndex_0 : List UInt8 := dkwJ9_checkIndex_0 ++ []
theorem dksJ9_checkIndex_0 : cJ9_checkIndex.data.toList.drop 0 = dktJ9_checkIndex_0 := by decide +kernel
theorem dJ9_checkIndex_0 : decode cJ9_checkIndex 0 = .ok (.iload_n 0, 1) := dk_26 (dk_at dksJ9_checkIndex_0 0 rfl rfl)
theorem dJ9_checkIndex_1 : decode cJ9_checkIndex 1 = .ok (.aload_n 1, 1) := dk_43 (dk_at dksJ9_checkIndex_0 1 rfl rfl)
theorem dJ9_checkIndex_2 : decode cJ9_checkIndex 2 = .ok (.invokestatic 48, 3) := dk_184 0 48 (dk_at dksJ9_checkIndex_0 2 rfl rfl)
theorem dJ9_checkIndex_5 : decode cJ9_checkIndex 5 = .ok (.invokestatic 414, 3) := dk_184 1 158 (dk_at dksJ9_checkIndex_0 5 rfl rfl)
theorem dJ9_checkIndex_8 : decode cJ9_checkIndex 8 = .ok (.return_, 1) := dk_177 (dk_at dksJ9_checkIndex_0 8 rfl rfl)
abbrev cJ9_length : ByteArray := prog_34_method_6_code
def yJ9_length : MethodName := ⟨RJ9, "length", "([B)I"⟩
def dkwJ9_length_0 : List UInt8 := [42, 190, 4, 122, 172]
abbrev dktJ9_length_0 : List UInt8 := dkwJ9_length_0 ++ []
theorem dksJ9_length_0 : cJ9_length.data.toList.drop 0 = dktJ9_length_0 := by decide +kernel
theorem dJ9_length_0 : decode cJ9_length 0 = .ok (.aload_n 0, 1) := dk_42 (dk_at dksJ9_length_0 0 rfl rfl)
theorem dJ9_length_1 : decode cJ9_length 1 = .ok (.arraylength, 1) := dk_190 (dk_at dksJ9_length_0 1 rfl rfl)
theorem dJ9_length_2 : decode cJ9_length 2 = .ok (.iconst 1, 1) := dk_4 (dk_at dksJ9_length_0 2 rfl rfl)
theorem dJ9_length_3 : decode cJ9_length 3 = .ok (.ishr, 1) := dk_122 (dk_at dksJ9_length_0 3 rfl rfl)
theorem dJ9_length_4 : decode cJ9_length 4 = .ok (.ireturn, 1) := dk_172 (dk_at dksJ9_length_0 4 rfl rfl)
abbrev cJ9_getChar : ByteArray := prog_34_method_5_code
def yJ9_getChar : MethodName := ⟨RJ9, "getChar", "([BI)C"⟩
def dkwJ9_getChar_2 : List UInt8 := [51, 17, 0, 255, 126, 178, 0, 63, 120, 128, 146, 172]
abbrev dktJ9_getChar_2 : List UInt8 := dkwJ9_getChar_2 ++ []
def dkwJ9_getChar_1 : List UInt8 := [183, 0, 56, 191, 27, 4, 120, 60, 42, 27, 132, 1, 1, 51, 17, 0, 255, 126, 178, 0, 59, 120, 42, 27]
abbrev dktJ9_getChar_1 : List UInt8 := dkwJ9_getChar_1 ++ dktJ9_getChar_2
def dkwJ9_getChar_0 : List UInt8 := [178, 0, 44, 154, 0, 25, 27, 155, 0, 11, 27, 42, 184, 0, 48, 161, 0, 13, 187, 0, 52, 89, 18, 54]
abbrev dktJ9_getChar_0 : List UInt8 := dkwJ9_getChar_0 ++ dktJ9_getChar_1
theorem dksJ9_getChar_0 : cJ9_getChar.data.toList.drop 0 = dktJ9_getChar_0 := by decide +kernel
theorem dksJ9_getChar_1 : cJ9_getChar.data.toList.drop 24 = dktJ9_getChar_1 := dk_seg dksJ9_getChar_0 24 rfl rfl
theorem dksJ9_getChar_2 : cJ9_getChar.data.toList.drop 48 = dktJ9_getChar_2 := dk_seg dksJ9_getChar_1 24 rfl rfl
theorem dJ9_getChar_0 : decode cJ9_getChar 0 = .ok (.getstatic 44, 3) := dk_178 0 44 (dk_at dksJ9_getChar_0 0 rfl rfl)
theorem dJ9_getChar_3 : decode cJ9_getChar 3 = .ok (.ifCond .ne 25, 3) := dk_154 0 25 (dk_at dksJ9_getChar_0 3 rfl rfl)
theorem dJ9_getChar_6 : decode cJ9_getChar 6 = .ok (.iload_n 1, 1) := dk_27 (dk_at dksJ9_getChar_0 6 rfl rfl)
theorem dJ9_getChar_7 : decode cJ9_getChar 7 = .ok (.ifCond .lt 11, 3) := dk_155 0 11 (dk_at dksJ9_getChar_0 7 rfl rfl)
theorem dJ9_getChar_10 : decode cJ9_getChar 10 = .ok (.iload_n 1, 1) := dk_27 (dk_at dksJ9_getChar_0 10 rfl rfl)
theorem dJ9_getChar_11 : decode cJ9_getChar 11 = .ok (.aload_n 0, 1) := dk_42 (dk_at dksJ9_getChar_0 11 rfl rfl)
theorem dJ9_getChar_12 : decode cJ9_getChar 12 = .ok (.invokestatic 48, 3) := dk_184 0 48 (dk_at dksJ9_getChar_0 12 rfl rfl)
theorem dJ9_getChar_15 : decode cJ9_getChar 15 = .ok (.if_icmp .lt 13, 3) := dk_161 0 13 (dk_at dksJ9_getChar_0 15 rfl rfl)
theorem dJ9_getChar_18 : decode cJ9_getChar 18 = .ok (.new 52, 3) := dk_187 0 52 (dk_at dksJ9_getChar_0 18 rfl rfl)
theorem dJ9_getChar_21 : decode cJ9_getChar 21 = .ok (.dup, 1) := dk_89 (dk_at dksJ9_getChar_0 21 rfl rfl)
theorem dJ9_getChar_22 : decode cJ9_getChar 22 = .ok (.ldc 54, 2) := dk_18 54 (dk_at dksJ9_getChar_0 22 rfl rfl)
theorem dJ9_getChar_24 : decode cJ9_getChar 24 = .ok (.invokespecial 56, 3) := dk_183 0 56 (dk_at dksJ9_getChar_1 0 rfl rfl)
theorem dJ9_getChar_27 : decode cJ9_getChar 27 = .ok (.athrow, 1) := dk_191 (dk_at dksJ9_getChar_1 3 rfl rfl)
theorem dJ9_getChar_28 : decode cJ9_getChar 28 = .ok (.iload_n 1, 1) := dk_27 (dk_at dksJ9_getChar_1 4 rfl rfl)
theorem dJ9_getChar_29 : decode cJ9_getChar 29 = .ok (.iconst 1, 1) := dk_4 (dk_at dksJ9_getChar_1 5 rfl rfl)
theorem dJ9_getChar_30 : decode cJ9_getChar 30 = .ok (.ishl, 1) := dk_120 (dk_at dksJ9_getChar_1 6 rfl rfl)
theorem dJ9_getChar_31 : decode cJ9_getChar 31 = .ok (.istore_n 1, 1) := dk_60 (dk_at dksJ9_getChar_1 7 rfl rfl)
theorem dJ9_getChar_32 : decode cJ9_getChar 32 = .ok (.aload_n 0, 1) := dk_42 (dk_at dksJ9_getChar_1 8 rfl rfl)
theorem dJ9_getChar_33 : decode cJ9_getChar 33 = .ok (.iload_n 1, 1) := dk_27 (dk_at dksJ9_getChar_1 9 rfl rfl)
theorem dJ9_getChar_34 : decode cJ9_getChar 34 = .ok (.iinc 1 1, 3) := dk_132 1 1 (dk_at dksJ9_getChar_1 10 rfl rfl)
theorem dJ9_getChar_37 : decode cJ9_getChar 37 = .ok (.baload, 1) := dk_51 (dk_at dksJ9_getChar_1 13 rfl rfl)
theorem dJ9_getChar_38 : decode cJ9_getChar 38 = .ok (.sipush 255, 3) := dk_17 0 255 (dk_at dksJ9_getChar_1 14 rfl rfl)
theorem dJ9_getChar_41 : decode cJ9_getChar 41 = .ok (.iand, 1) := dk_126 (dk_at dksJ9_getChar_1 17 rfl rfl)
theorem dJ9_getChar_42 : decode cJ9_getChar 42 = .ok (.getstatic 59, 3) := dk_178 0 59 (dk_at dksJ9_getChar_1 18 rfl rfl)
theorem dJ9_getChar_45 : decode cJ9_getChar 45 = .ok (.ishl, 1) := dk_120 (dk_at dksJ9_getChar_1 21 rfl rfl)
theorem dJ9_getChar_46 : decode cJ9_getChar 46 = .ok (.aload_n 0, 1) := dk_42 (dk_at dksJ9_getChar_1 22 rfl rfl)
theorem dJ9_getChar_47 : decode cJ9_getChar 47 = .ok (.iload_n 1, 1) := dk_27 (dk_at dksJ9_getChar_1 23 rfl rfl)
theorem dJ9_getChar_48 : decode cJ9_getChar 48 = .ok (.baload, 1) := dk_51 (dk_at dksJ9_getChar_2 0 rfl rfl)
theorem dJ9_getChar_49 : decode cJ9_getChar 49 = .ok (.sipush 255, 3) := dk_17 0 255 (dk_at dksJ9_getChar_2 1 rfl rfl)
theorem dJ9_getChar_52 : decode cJ9_getChar 52 = .ok (.iand, 1) := dk_126 (dk_at dksJ9_getChar_2 4 rfl rfl)
theorem dJ9_getChar_53 : decode cJ9_getChar 53 = .ok (.getstatic 63, 3) := dk_178 0 63 (dk_at dksJ9_getChar_2 5 rfl rfl)
theorem dJ9_getChar_56 : decode cJ9_getChar 56 = .ok (.ishl, 1) := dk_120 (dk_at dksJ9_getChar_2 8 rfl rfl)
theorem dJ9_getChar_57 : decode cJ9_getChar 57 = .ok (.ior, 1) := dk_128 (dk_at dksJ9_getChar_2 9 rfl rfl)
theorem dJ9_getChar_58 : decode cJ9_getChar 58 = .ok (.i2c, 1) := dk_146 (dk_at dksJ9_getChar_2 10 rfl rfl)
theorem dJ9_getChar_59 : decode cJ9_getChar 59 = .ok (.ireturn, 1) := dk_172 (dk_at dksJ9_getChar_2 11 rfl rfl)
abbrev cJ9_newBytesFor : ByteArray := prog_34_method_2_code
def yJ9_newBytesFor : MethodName := ⟨RJ9, "newBytesFor", "(I)[B"⟩
def dkwJ9_newBytesFor_0 : List UInt8 := [26, 184, 0, 11, 188, 8, 176]
abbrev dktJ9_newBytesFor_0 : List UInt8 := dkwJ9_newBytesFor_0 ++ []
theorem dksJ9_newBytesFor_0 : cJ9_newBytesFor.data.toList.drop 0 = dktJ9_newBytesFor_0 := by decide +kernel
theorem dJ9_newBytesFor_0 : decode cJ9_newBytesFor 0 = .ok (.iload_n 0, 1) := dk_26 (dk_at dksJ9_newBytesFor_0 0 rfl rfl)
theorem dJ9_newBytesFor_1 : decode cJ9_newBytesFor 1 = .ok (.invokestatic 11, 3) := dk_184 0 11 (dk_at dksJ9_newBytesFor_0 1 rfl rfl)
theorem dJ9_newBytesFor_4 : decode cJ9_newBytesFor 4 = .ok (.newarray .byte, 2) := dk_188_8 (dk_at dksJ9_newBytesFor_0 4 rfl rfl)
theorem dJ9_newBytesFor_6 : decode cJ9_newBytesFor 6 = .ok (.areturn, 1) := dk_176 (dk_at dksJ9_newBytesFor_0 6 rfl rfl)
abbrev cJ9_newBytesLength : ByteArray := prog_34_method_3_code
def yJ9_newBytesLength : MethodName := ⟨RJ9, "newBytesLength", "(I)I"⟩
def dkwJ9_newBytesLength_2 : List UInt8 := [182, 0, 32, 182, 0, 37, 183, 0, 41, 191, 26, 4, 120, 172]
abbrev dktJ9_newBytesLength_2 : List UInt8 := dkwJ9_newBytesLength_2 ++ []
def dkwJ9_newBytesLength_1 : List UInt8 := [187, 0, 23, 89, 183, 0, 25, 18, 26, 182, 0, 28, 26, 182, 0, 32, 18, 35, 182, 0, 28, 18, 20]
abbrev dktJ9_newBytesLength_1 : List UInt8 := dkwJ9_newBytesLength_1 ++ dktJ9_newBytesLength_2
def dkwJ9_newBytesLength_0 : List UInt8 := [26, 156, 0, 11, 187, 0, 17, 89, 183, 0, 19, 191, 26, 18, 20, 161, 0, 40, 187, 0, 21, 89]
abbrev dktJ9_newBytesLength_0 : List UInt8 := dkwJ9_newBytesLength_0 ++ dktJ9_newBytesLength_1
theorem dksJ9_newBytesLength_0 : cJ9_newBytesLength.data.toList.drop 0 = dktJ9_newBytesLength_0 := by decide +kernel
theorem dksJ9_newBytesLength_1 : cJ9_newBytesLength.data.toList.drop 22 = dktJ9_newBytesLength_1 := dk_seg dksJ9_newBytesLength_0 22 rfl rfl
theorem dksJ9_newBytesLength_2 : cJ9_newBytesLength.data.toList.drop 45 = dktJ9_newBytesLength_2 := dk_seg dksJ9_newBytesLength_1 23 rfl rfl
theorem dJ9_newBytesLength_0 : decode cJ9_newBytesLength 0 = .ok (.iload_n 0, 1) := dk_26 (dk_at dksJ9_newBytesLength_0 0 rfl rfl)
theorem dJ9_newBytesLength_1 : decode cJ9_newBytesLength 1 = .ok (.ifCond .ge 11, 3) := dk_156 0 11 (dk_at dksJ9_newBytesLength_0 1 rfl rfl)
theorem dJ9_newBytesLength_4 : decode cJ9_newBytesLength 4 = .ok (.new 17, 3) := dk_187 0 17 (dk_at dksJ9_newBytesLength_0 4 rfl rfl)
theorem dJ9_newBytesLength_7 : decode cJ9_newBytesLength 7 = .ok (.dup, 1) := dk_89 (dk_at dksJ9_newBytesLength_0 7 rfl rfl)
theorem dJ9_newBytesLength_8 : decode cJ9_newBytesLength 8 = .ok (.invokespecial 19, 3) := dk_183 0 19 (dk_at dksJ9_newBytesLength_0 8 rfl rfl)
theorem dJ9_newBytesLength_11 : decode cJ9_newBytesLength 11 = .ok (.athrow, 1) := dk_191 (dk_at dksJ9_newBytesLength_0 11 rfl rfl)
theorem dJ9_newBytesLength_12 : decode cJ9_newBytesLength 12 = .ok (.iload_n 0, 1) := dk_26 (dk_at dksJ9_newBytesLength_0 12 rfl rfl)
theorem dJ9_newBytesLength_13 : decode cJ9_newBytesLength 13 = .ok (.ldc 20, 2) := dk_18 20 (dk_at dksJ9_newBytesLength_0 13 rfl rfl)
theorem dJ9_newBytesLength_15 : decode cJ9_newBytesLength 15 = .ok (.if_icmp .lt 40, 3) := dk_161 0 40 (dk_at dksJ9_newBytesLength_0 15 rfl rfl)
theorem dJ9_newBytesLength_18 : decode cJ9_newBytesLength 18 = .ok (.new 21, 3) := dk_187 0 21 (dk_at dksJ9_newBytesLength_0 18 rfl rfl)
theorem dJ9_newBytesLength_21 : decode cJ9_newBytesLength 21 = .ok (.dup, 1) := dk_89 (dk_at dksJ9_newBytesLength_0 21 rfl rfl)
theorem dJ9_newBytesLength_22 : decode cJ9_newBytesLength 22 = .ok (.new 23, 3) := dk_187 0 23 (dk_at dksJ9_newBytesLength_1 0 rfl rfl)
theorem dJ9_newBytesLength_25 : decode cJ9_newBytesLength 25 = .ok (.dup, 1) := dk_89 (dk_at dksJ9_newBytesLength_1 3 rfl rfl)
theorem dJ9_newBytesLength_26 : decode cJ9_newBytesLength 26 = .ok (.invokespecial 25, 3) := dk_183 0 25 (dk_at dksJ9_newBytesLength_1 4 rfl rfl)
theorem dJ9_newBytesLength_29 : decode cJ9_newBytesLength 29 = .ok (.ldc 26, 2) := dk_18 26 (dk_at dksJ9_newBytesLength_1 7 rfl rfl)
theorem dJ9_newBytesLength_31 : decode cJ9_newBytesLength 31 = .ok (.invokevirtual 28, 3) := dk_182 0 28 (dk_at dksJ9_newBytesLength_1 9 rfl rfl)
theorem dJ9_newBytesLength_34 : decode cJ9_newBytesLength 34 = .ok (.iload_n 0, 1) := dk_26 (dk_at dksJ9_newBytesLength_1 12 rfl rfl)
theorem dJ9_newBytesLength_35 : decode cJ9_newBytesLength 35 = .ok (.invokevirtual 32, 3) := dk_182 0 32 (dk_at dksJ9_newBytesLength_1 13 rfl rfl)
theorem dJ9_newBytesLength_38 : decode cJ9_newBytesLength 38 = .ok (.ldc 35, 2) := dk_18 35 (dk_at dksJ9_newBytesLength_1 16 rfl rfl)
theorem dJ9_newBytesLength_40 : decode cJ9_newBytesLength 40 = .ok (.invokevirtual 28, 3) := dk_182 0 28 (dk_at dksJ9_newBytesLength_1 18 rfl rfl)
theorem dJ9_newBytesLength_43 : decode cJ9_newBytesLength 43 = .ok (.ldc 20, 2) := dk_18 20 (dk_at dksJ9_newBytesLength_1 21 rfl rfl)
theorem dJ9_newBytesLength_45 : decode cJ9_newBytesLength 45 = .ok (.invokevirtual 32, 3) := dk_182 0 32 (dk_at dksJ9_newBytesLength_2 0 rfl rfl)
theorem dJ9_newBytesLength_48 : decode cJ9_newBytesLength 48 = .ok (.invokevirtual 37, 3) := dk_182 0 37 (dk_at dksJ9_newBytesLength_2 3 rfl rfl)
theorem dJ9_newBytesLength_51 : decode cJ9_newBytesLength 51 = .ok (.invokespecial 41, 3) := dk_183 0 41 (dk_at dksJ9_newBytesLength_2 6 rfl rfl)
theorem dJ9_newBytesLength_54 : decode cJ9_newBytesLength 54 = .ok (.athrow, 1) := dk_191 (dk_at dksJ9_newBytesLength_2 9 rfl rfl)
theorem dJ9_newBytesLength_55 : decode cJ9_newBytesLength 55 = .ok (.iload_n 0, 1) := dk_26 (dk_at dksJ9_newBytesLength_2 10 rfl rfl)
theorem dJ9_newBytesLength_56 : decode cJ9_newBytesLength 56 = .ok (.iconst 1, 1) := dk_4 (dk_at dksJ9_newBytesLength_2 11 rfl rfl)
theorem dJ9_newBytesLength_57 : decode cJ9_newBytesLength 57 = .ok (.ishl, 1) := dk_120 (dk_at dksJ9_newBytesLength_2 12 rfl rfl)
theorem dJ9_newBytesLength_58 : decode cJ9_newBytesLength 58 = .ok (.ireturn, 1) := dk_172 (dk_at dksJ9_newBytesLength_2 13 rfl rfl)
abbrev cJ9_inflate : ByteArray := prog_34_method_86_code
def yJ9_inflate : MethodName := ⟨RJ9, "inflate", "([BI[BII)V"⟩
def dkwJ9_inflate_1 : List UInt8 := [132, 1, 1, 51, 17, 0, 255, 126, 184, 0, 111, 132, 5, 1, 167, 255, 228, 177]
abbrev dktJ9_inflate_1 : List UInt8 := dkwJ9_inflate_1 ++ []
def dkwJ9_inflate_0 : List UInt8 := [29, 21, 4, 44, 184, 0, 173, 3, 54, 5, 21, 5, 21, 4, 162, 0, 27, 44, 29, 132, 3, 1, 42, 27]
abbrev dktJ9_inflate_0 : List UInt8 := dkwJ9_inflate_0 ++ dktJ9_inflate_1
theorem dksJ9_inflate_0 : cJ9_inflate.data.toList.drop 0 = dktJ9_inflate_0 := by decide +kernel
theorem dksJ9_inflate_1 : cJ9_inflate.data.toList.drop 24 = dktJ9_inflate_1 := dk_seg dksJ9_inflate_0 24 rfl rfl
theorem dJ9_inflate_0 : decode cJ9_inflate 0 = .ok (.iload_n 3, 1) := dk_29 (dk_at dksJ9_inflate_0 0 rfl rfl)
theorem dJ9_inflate_1 : decode cJ9_inflate 1 = .ok (.iload 4, 2) := dk_21 4 (dk_at dksJ9_inflate_0 1 rfl rfl)
theorem dJ9_inflate_3 : decode cJ9_inflate 3 = .ok (.aload_n 2, 1) := dk_44 (dk_at dksJ9_inflate_0 3 rfl rfl)
theorem dJ9_inflate_4 : decode cJ9_inflate 4 = .ok (.invokestatic 173, 3) := dk_184 0 173 (dk_at dksJ9_inflate_0 4 rfl rfl)
theorem dJ9_inflate_7 : decode cJ9_inflate 7 = .ok (.iconst 0, 1) := dk_3 (dk_at dksJ9_inflate_0 7 rfl rfl)
theorem dJ9_inflate_8 : decode cJ9_inflate 8 = .ok (.istore 5, 2) := dk_54 5 (dk_at dksJ9_inflate_0 8 rfl rfl)
theorem dJ9_inflate_10 : decode cJ9_inflate 10 = .ok (.iload 5, 2) := dk_21 5 (dk_at dksJ9_inflate_0 10 rfl rfl)
theorem dJ9_inflate_12 : decode cJ9_inflate 12 = .ok (.iload 4, 2) := dk_21 4 (dk_at dksJ9_inflate_0 12 rfl rfl)
theorem dJ9_inflate_14 : decode cJ9_inflate 14 = .ok (.if_icmp .ge 27, 3) := dk_162 0 27 (dk_at dksJ9_inflate_0 14 rfl rfl)
theorem dJ9_inflate_17 : decode cJ9_inflate 17 = .ok (.aload_n 2, 1) := dk_44 (dk_at dksJ9_inflate_0 17 rfl rfl)
theorem dJ9_inflate_18 : decode cJ9_inflate 18 = .ok (.iload_n 3, 1) := dk_29 (dk_at dksJ9_inflate_0 18 rfl rfl)
theorem dJ9_inflate_19 : decode cJ9_inflate 19 = .ok (.iinc 3 1, 3) := dk_132 3 1 (dk_at dksJ9_inflate_0 19 rfl rfl)
theorem dJ9_inflate_22 : decode cJ9_inflate 22 = .ok (.aload_n 0, 1) := dk_42 (dk_at dksJ9_inflate_0 22 rfl rfl)
theorem dJ9_inflate_23 : decode cJ9_inflate 23 = .ok (.iload_n 1, 1) := dk_27 (dk_at dksJ9_inflate_0 23 rfl rfl)
theorem dJ9_inflate_24 : decode cJ9_inflate 24 = .ok (.iinc 1 1, 3) := dk_132 1 1 (dk_at dksJ9_inflate_1 0 rfl rfl)
theorem dJ9_inflate_27 : decode cJ9_inflate 27 = .ok (.baload, 1) := dk_51 (dk_at dksJ9_inflate_1 3 rfl rfl)
theorem dJ9_inflate_28 : decode cJ9_inflate 28 = .ok (.sipush 255, 3) := dk_17 0 255 (dk_at dksJ9_inflate_1 4 rfl rfl)
theorem dJ9_inflate_31 : decode cJ9_inflate 31 = .ok (.iand, 1) := dk_126 (dk_at dksJ9_inflate_1 7 rfl rfl)
theorem dJ9_inflate_32 : decode cJ9_inflate 32 = .ok (.invokestatic 111, 3) := dk_184 0 111 (dk_at dksJ9_inflate_1 8 rfl rfl)
theorem dJ9_inflate_35 : decode cJ9_inflate 35 = .ok (.iinc 5 1, 3) := dk_132 5 1 (dk_at dksJ9_inflate_1 11 rfl rfl)
theorem dJ9_inflate_38 : decode cJ9_inflate 38 = .ok (.goto (-28), 3) := dk_167 255 228 (dk_at dksJ9_inflate_1 14 rfl rfl)
theorem dJ9_inflate_41 : decode cJ9_inflate 41 = .ok (.return_, 1) := dk_177 (dk_at dksJ9_inflate_1 17 rfl rfl)
abbrev cJ9_checkBoundsOffCount : ByteArray := prog_34_method_94_code
def yJ9_checkBoundsOffCount : MethodName := ⟨RJ9, "checkBoundsOffCount", "(II[B)V"⟩
def dkwJ9_checkBoundsOffCount_0 : List UInt8 := [26, 27, 44, 184, 0, 48, 184, 1, 163, 87, 177]
abbrev dktJ9_checkBoundsOffCount_0 : List UInt8 := dkwJ9_checkBoundsOffCount_0 ++ []
theorem dksJ9_checkBoundsOffCount_0 : cJ9_checkBoundsOffCount.data.toList.drop 0 = dktJ9_checkBoundsOffCount_0 := by decide +kernel
theorem dJ9_checkBoundsOffCount_0 : decode cJ9_checkBoundsOffCount 0 = .ok (.iload_n 0, 1) := dk_26 (dk_at dksJ9_checkBoundsOffCount_0 0 rfl rfl)
theorem dJ9_checkBoundsOffCount_1 : decode cJ9_checkBoundsOffCount 1 = .ok (.iload_n 1, 1) := dk_27 (dk_at dksJ9_checkBoundsOffCount_0 1 rfl rfl)
theorem dJ9_checkBoundsOffCount_2 : decode cJ9_checkBoundsOffCount 2 = .ok (.aload_n 2, 1) := dk_44 (dk_at dksJ9_checkBoundsOffCount_0 2 rfl rfl)
theorem dJ9_checkBoundsOffCount_3 : decode cJ9_checkBoundsOffCount 3 = .ok (.invokestatic 48, 3) := dk_184 0 48 (dk_at dksJ9_checkBoundsOffCount_0 3 rfl rfl)
theorem dJ9_checkBoundsOffCount_6 : decode cJ9_checkBoundsOffCount 6 = .ok (.invokestatic 419, 3) := dk_184 1 163 (dk_at dksJ9_checkBoundsOffCount_0 6 rfl rfl)
theorem dJ9_checkBoundsOffCount_9 : decode cJ9_checkBoundsOffCount 9 = .ok (.pop, 1) := dk_87 (dk_at dksJ9_checkBoundsOffCount_0 9 rfl rfl)
theorem dJ9_checkBoundsOffCount_10 : decode cJ9_checkBoundsOffCount 10 = .ok (.return_, 1) := dk_177 (dk_at dksJ9_checkBoundsOffCount_0 10 rfl rfl)
abbrev cJ9_putChar : ByteArray := prog_34_method_4_code
def yJ9_putChar : MethodName := ⟨RJ9, "putChar", "([BII)V"⟩
def dkwJ9_putChar_2 : List UInt8 := [178, 0, 63, 122, 145, 84, 177]
abbrev dktJ9_putChar_2 : List UInt8 := dkwJ9_putChar_2 ++ []
def dkwJ9_putChar_1 : List UInt8 := [183, 0, 56, 191, 27, 4, 120, 60, 42, 27, 132, 1, 1, 28, 178, 0, 59, 122, 145, 84, 42, 27, 28]
abbrev dktJ9_putChar_1 : List UInt8 := dkwJ9_putChar_1 ++ dktJ9_putChar_2
def dkwJ9_putChar_0 : List UInt8 := [178, 0, 44, 154, 0, 25, 27, 155, 0, 11, 27, 42, 184, 0, 48, 161, 0, 13, 187, 0, 52, 89, 18, 54]
abbrev dktJ9_putChar_0 : List UInt8 := dkwJ9_putChar_0 ++ dktJ9_putChar_1
theorem dksJ9_putChar_0 : cJ9_putChar.data.toList.drop 0 = dktJ9_putChar_0 := by decide +kernel
theorem dksJ9_putChar_1 : cJ9_putChar.data.toList.drop 24 = dktJ9_putChar_1 := dk_seg dksJ9_putChar_0 24 rfl rfl
theorem dksJ9_putChar_2 : cJ9_putChar.data.toList.drop 47 = dktJ9_putChar_2 := dk_seg dksJ9_putChar_1 23 rfl rfl
theorem dJ9_putChar_0 : decode cJ9_putChar 0 = .ok (.getstatic 44, 3) := dk_178 0 44 (dk_at dksJ9_putChar_0 0 rfl rfl)
theorem dJ9_putChar_3 : decode cJ9_putChar 3 = .ok (.ifCond .ne 25, 3) := dk_154 0 25 (dk_at dksJ9_putChar_0 3 rfl rfl)
theorem dJ9_putChar_6 : decode cJ9_putChar 6 = .ok (.iload_n 1, 1) := dk_27 (dk_at dksJ9_putChar_0 6 rfl rfl)
theorem dJ9_putChar_7 : decode cJ9_putChar 7 = .ok (.ifCond .lt 11, 3) := dk_155 0 11 (dk_at dksJ9_putChar_0 7 rfl rfl)
theorem dJ9_putChar_10 : decode cJ9_putChar 10 = .ok (.iload_n 1, 1) := dk_27 (dk_at dksJ9_putChar_0 10 rfl rfl)
theorem dJ9_putChar_11 : decode cJ9_putChar 11 = .ok (.aload_n 0, 1) := dk_42 (dk_at dksJ9_putChar_0 11 rfl rfl)
theorem dJ9_putChar_12 : decode cJ9_putChar 12 = .ok (.invokestatic 48, 3) := dk_184 0 48 (dk_at dksJ9_putChar_0 12 rfl rfl)
theorem dJ9_putChar_15 : decode cJ9_putChar 15 = .ok (.if_icmp .lt 13, 3) := dk_161 0 13 (dk_at dksJ9_putChar_0 15 rfl rfl)
theorem dJ9_putChar_18 : decode cJ9_putChar 18 = .ok (.new 52, 3) := dk_187 0 52 (dk_at dksJ9_putChar_0 18 rfl rfl)
theorem dJ9_putChar_21 : decode cJ9_putChar 21 = .ok (.dup, 1) := dk_89 (dk_at dksJ9_putChar_0 21 rfl rfl)
theorem dJ9_putChar_22 : decode cJ9_putChar 22 = .ok (.ldc 54, 2) := dk_18 54 (dk_at dksJ9_putChar_0 22 rfl rfl)
theorem dJ9_putChar_24 : decode cJ9_putChar 24 = .ok (.invokespecial 56, 3) := dk_183 0 56 (dk_at dksJ9_putChar_1 0 rfl rfl)
theorem dJ9_putChar_27 : decode cJ9_putChar 27 = .ok (.athrow, 1) := dk_191 (dk_at dksJ9_putChar_1 3 rfl rfl)
theorem dJ9_putChar_28 : decode cJ9_putChar 28 = .ok (.iload_n 1, 1) := dk_27 (dk_at dksJ9_putChar_1 4 rfl rfl)
theorem dJ9_putChar_29 : decode cJ9_putChar 29 = .ok (.iconst 1, 1) := dk_4 (dk_at dksJ9_putChar_1 5 rfl rfl)
theorem dJ9_putChar_30 : decode cJ9_putChar 30 = .ok (.ishl, 1) := dk_120 (dk_at dksJ9_putChar_1 6 rfl rfl)
theorem dJ9_putChar_31 : decode cJ9_putChar 31 = .ok (.istore_n 1, 1) := dk_60 (dk_at dksJ9_putChar_1 7 rfl rfl)
theorem dJ9_putChar_32 : decode cJ9_putChar 32 = .ok (.aload_n 0, 1) := dk_42 (dk_at dksJ9_putChar_1 8 rfl rfl)
theorem dJ9_putChar_33 : decode cJ9_putChar 33 = .ok (.iload_n 1, 1) := dk_27 (dk_at dksJ9_putChar_1 9 rfl rfl)
theorem dJ9_putChar_34 : decode cJ9_putChar 34 = .ok (.iinc 1 1, 3) := dk_132 1 1 (dk_at dksJ9_putChar_1 10 rfl rfl)
theorem dJ9_putChar_37 : decode cJ9_putChar 37 = .ok (.iload_n 2, 1) := dk_28 (dk_at dksJ9_putChar_1 13 rfl rfl)
theorem dJ9_putChar_38 : decode cJ9_putChar 38 = .ok (.getstatic 59, 3) := dk_178 0 59 (dk_at dksJ9_putChar_1 14 rfl rfl)
theorem dJ9_putChar_41 : decode cJ9_putChar 41 = .ok (.ishr, 1) := dk_122 (dk_at dksJ9_putChar_1 17 rfl rfl)
theorem dJ9_putChar_42 : decode cJ9_putChar 42 = .ok (.i2b, 1) := dk_145 (dk_at dksJ9_putChar_1 18 rfl rfl)
theorem dJ9_putChar_43 : decode cJ9_putChar 43 = .ok (.bastore, 1) := dk_84 (dk_at dksJ9_putChar_1 19 rfl rfl)
theorem dJ9_putChar_44 : decode cJ9_putChar 44 = .ok (.aload_n 0, 1) := dk_42 (dk_at dksJ9_putChar_1 20 rfl rfl)
theorem dJ9_putChar_45 : decode cJ9_putChar 45 = .ok (.iload_n 1, 1) := dk_27 (dk_at dksJ9_putChar_1 21 rfl rfl)
theorem dJ9_putChar_46 : decode cJ9_putChar 46 = .ok (.iload_n 2, 1) := dk_28 (dk_at dksJ9_putChar_1 22 rfl rfl)
theorem dJ9_putChar_47 : decode cJ9_putChar 47 = .ok (.getstatic 63, 3) := dk_178 0 63 (dk_at dksJ9_putChar_2 0 rfl rfl)
theorem dJ9_putChar_50 : decode cJ9_putChar 50 = .ok (.ishr, 1) := dk_122 (dk_at dksJ9_putChar_2 3 rfl rfl)
theorem dJ9_putChar_51 : decode cJ9_putChar 51 = .ok (.i2b, 1) := dk_145 (dk_at dksJ9_putChar_2 4 rfl rfl)
theorem dJ9_putChar_52 : decode cJ9_putChar 52 = .ok (.bastore, 1) := dk_84 (dk_at dksJ9_putChar_2 5 rfl rfl)
theorem dJ9_putChar_53 : decode cJ9_putChar 53 = .ok (.return_, 1) := dk_177 (dk_at dksJ9_putChar_2 6 rfl rfl)
abbrev cJ9_putCharSB : ByteArray := prog_34_method_71_code
def yJ9_putCharSB : MethodName := ⟨RJ9, "putCharSB", "([BII)V"⟩
def dkwJ9_putCharSB_0 : List UInt8 := [27, 42, 184, 0, 67, 42, 27, 28, 184, 0, 111, 177]
abbrev dktJ9_putCharSB_0 : List UInt8 := dkwJ9_putCharSB_0 ++ []
theorem dksJ9_putCharSB_0 : cJ9_putCharSB.data.toList.drop 0 = dktJ9_putCharSB_0 := by decide +kernel
theorem dJ9_putCharSB_0 : decode cJ9_putCharSB 0 = .ok (.iload_n 1, 1) := dk_27 (dk_at dksJ9_putCharSB_0 0 rfl rfl)
theorem dJ9_putCharSB_1 : decode cJ9_putCharSB 1 = .ok (.aload_n 0, 1) := dk_42 (dk_at dksJ9_putCharSB_0 1 rfl rfl)
theorem dJ9_putCharSB_2 : decode cJ9_putCharSB 2 = .ok (.invokestatic 67, 3) := dk_184 0 67 (dk_at dksJ9_putCharSB_0 2 rfl rfl)
theorem dJ9_putCharSB_5 : decode cJ9_putCharSB 5 = .ok (.aload_n 0, 1) := dk_42 (dk_at dksJ9_putCharSB_0 5 rfl rfl)
theorem dJ9_putCharSB_6 : decode cJ9_putCharSB 6 = .ok (.iload_n 1, 1) := dk_27 (dk_at dksJ9_putCharSB_0 6 rfl rfl)
theorem dJ9_putCharSB_7 : decode cJ9_putCharSB 7 = .ok (.iload_n 2, 1) := dk_28 (dk_at dksJ9_putCharSB_0 7 rfl rfl)
theorem dJ9_putCharSB_8 : decode cJ9_putCharSB 8 = .ok (.invokestatic 111, 3) := dk_184 0 111 (dk_at dksJ9_putCharSB_0 8 rfl rfl)
theorem dJ9_putCharSB_11 : decode cJ9_putCharSB 11 = .ok (.return_, 1) := dk_177 (dk_at dksJ9_putCharSB_0 11 rfl rfl)
abbrev cJ9_compress : ByteArray := prog_34_method_17_code
def yJ9_compress : MethodName := ⟨RJ9, "compress", "([BII)[B"⟩
def dkwJ9_compress_2 : List UInt8 := [25, 5, 3, 45, 3, 28, 184, 0, 123, 28, 159, 0, 6, 25, 5, 176, 45, 176]
abbrev dktJ9_compress_2 : List UInt8 := dkwJ9_compress_2 ++ []
def dkwJ9_compress_1 : List UInt8 := [27, 28, 96, 184, 0, 11, 184, 0, 126, 58, 5, 25, 5, 21, 4, 184, 0, 71, 17, 0, 255, 163, 0, 16]
abbrev dktJ9_compress_1 : List UInt8 := dkwJ9_compress_1 ++ dktJ9_compress_2
def dkwJ9_compress_0 : List UInt8 := [28, 188, 8, 78, 42, 27, 45, 3, 28, 184, 0, 123, 54, 4, 21, 4, 28, 159, 0, 47, 42, 27, 4, 120]
abbrev dktJ9_compress_0 : List UInt8 := dkwJ9_compress_0 ++ dktJ9_compress_1
theorem dksJ9_compress_0 : cJ9_compress.data.toList.drop 0 = dktJ9_compress_0 := by decide +kernel
theorem dksJ9_compress_1 : cJ9_compress.data.toList.drop 24 = dktJ9_compress_1 := dk_seg dksJ9_compress_0 24 rfl rfl
theorem dksJ9_compress_2 : cJ9_compress.data.toList.drop 48 = dktJ9_compress_2 := dk_seg dksJ9_compress_1 24 rfl rfl
theorem dJ9_compress_0 : decode cJ9_compress 0 = .ok (.iload_n 2, 1) := dk_28 (dk_at dksJ9_compress_0 0 rfl rfl)
theorem dJ9_compress_1 : decode cJ9_compress 1 = .ok (.newarray .byte, 2) := dk_188_8 (dk_at dksJ9_compress_0 1 rfl rfl)
theorem dJ9_compress_3 : decode cJ9_compress 3 = .ok (.astore_n 3, 1) := dk_78 (dk_at dksJ9_compress_0 3 rfl rfl)
theorem dJ9_compress_4 : decode cJ9_compress 4 = .ok (.aload_n 0, 1) := dk_42 (dk_at dksJ9_compress_0 4 rfl rfl)
theorem dJ9_compress_5 : decode cJ9_compress 5 = .ok (.iload_n 1, 1) := dk_27 (dk_at dksJ9_compress_0 5 rfl rfl)
theorem dJ9_compress_6 : decode cJ9_compress 6 = .ok (.aload_n 3, 1) := dk_45 (dk_at dksJ9_compress_0 6 rfl rfl)
theorem dJ9_compress_7 : decode cJ9_compress 7 = .ok (.iconst 0, 1) := dk_3 (dk_at dksJ9_compress_0 7 rfl rfl)
theorem dJ9_compress_8 : decode cJ9_compress 8 = .ok (.iload_n 2, 1) := dk_28 (dk_at dksJ9_compress_0 8 rfl rfl)
theorem dJ9_compress_9 : decode cJ9_compress 9 = .ok (.invokestatic 123, 3) := dk_184 0 123 (dk_at dksJ9_compress_0 9 rfl rfl)
theorem dJ9_compress_12 : decode cJ9_compress 12 = .ok (.istore 4, 2) := dk_54 4 (dk_at dksJ9_compress_0 12 rfl rfl)
theorem dJ9_compress_14 : decode cJ9_compress 14 = .ok (.iload 4, 2) := dk_21 4 (dk_at dksJ9_compress_0 14 rfl rfl)
theorem dJ9_compress_16 : decode cJ9_compress 16 = .ok (.iload_n 2, 1) := dk_28 (dk_at dksJ9_compress_0 16 rfl rfl)
theorem dJ9_compress_17 : decode cJ9_compress 17 = .ok (.if_icmp .eq 47, 3) := dk_159 0 47 (dk_at dksJ9_compress_0 17 rfl rfl)
theorem dJ9_compress_20 : decode cJ9_compress 20 = .ok (.aload_n 0, 1) := dk_42 (dk_at dksJ9_compress_0 20 rfl rfl)
theorem dJ9_compress_21 : decode cJ9_compress 21 = .ok (.iload_n 1, 1) := dk_27 (dk_at dksJ9_compress_0 21 rfl rfl)
theorem dJ9_compress_22 : decode cJ9_compress 22 = .ok (.iconst 1, 1) := dk_4 (dk_at dksJ9_compress_0 22 rfl rfl)
theorem dJ9_compress_23 : decode cJ9_compress 23 = .ok (.ishl, 1) := dk_120 (dk_at dksJ9_compress_0 23 rfl rfl)
theorem dJ9_compress_24 : decode cJ9_compress 24 = .ok (.iload_n 1, 1) := dk_27 (dk_at dksJ9_compress_1 0 rfl rfl)
theorem dJ9_compress_25 : decode cJ9_compress 25 = .ok (.iload_n 2, 1) := dk_28 (dk_at dksJ9_compress_1 1 rfl rfl)
theorem dJ9_compress_26 : decode cJ9_compress 26 = .ok (.iadd, 1) := dk_96 (dk_at dksJ9_compress_1 2 rfl rfl)
theorem dJ9_compress_27 : decode cJ9_compress 27 = .ok (.invokestatic 11, 3) := dk_184 0 11 (dk_at dksJ9_compress_1 3 rfl rfl)
theorem dJ9_compress_30 : decode cJ9_compress 30 = .ok (.invokestatic 126, 3) := dk_184 0 126 (dk_at dksJ9_compress_1 6 rfl rfl)
theorem dJ9_compress_33 : decode cJ9_compress 33 = .ok (.astore 5, 2) := dk_58 5 (dk_at dksJ9_compress_1 9 rfl rfl)
theorem dJ9_compress_35 : decode cJ9_compress 35 = .ok (.aload 5, 2) := dk_25 5 (dk_at dksJ9_compress_1 11 rfl rfl)
theorem dJ9_compress_37 : decode cJ9_compress 37 = .ok (.iload 4, 2) := dk_21 4 (dk_at dksJ9_compress_1 13 rfl rfl)
theorem dJ9_compress_39 : decode cJ9_compress 39 = .ok (.invokestatic 71, 3) := dk_184 0 71 (dk_at dksJ9_compress_1 15 rfl rfl)
theorem dJ9_compress_42 : decode cJ9_compress 42 = .ok (.sipush 255, 3) := dk_17 0 255 (dk_at dksJ9_compress_1 18 rfl rfl)
theorem dJ9_compress_45 : decode cJ9_compress 45 = .ok (.if_icmp .gt 16, 3) := dk_163 0 16 (dk_at dksJ9_compress_1 21 rfl rfl)
theorem dJ9_compress_48 : decode cJ9_compress 48 = .ok (.aload 5, 2) := dk_25 5 (dk_at dksJ9_compress_2 0 rfl rfl)
theorem dJ9_compress_50 : decode cJ9_compress 50 = .ok (.iconst 0, 1) := dk_3 (dk_at dksJ9_compress_2 2 rfl rfl)
theorem dJ9_compress_51 : decode cJ9_compress 51 = .ok (.aload_n 3, 1) := dk_45 (dk_at dksJ9_compress_2 3 rfl rfl)
theorem dJ9_compress_52 : decode cJ9_compress 52 = .ok (.iconst 0, 1) := dk_3 (dk_at dksJ9_compress_2 4 rfl rfl)
theorem dJ9_compress_53 : decode cJ9_compress 53 = .ok (.iload_n 2, 1) := dk_28 (dk_at dksJ9_compress_2 5 rfl rfl)
theorem dJ9_compress_54 : decode cJ9_compress 54 = .ok (.invokestatic 123, 3) := dk_184 0 123 (dk_at dksJ9_compress_2 6 rfl rfl)
theorem dJ9_compress_57 : decode cJ9_compress 57 = .ok (.iload_n 2, 1) := dk_28 (dk_at dksJ9_compress_2 9 rfl rfl)
theorem dJ9_compress_58 : decode cJ9_compress 58 = .ok (.if_icmp .eq 6, 3) := dk_159 0 6 (dk_at dksJ9_compress_2 10 rfl rfl)
theorem dJ9_compress_61 : decode cJ9_compress 61 = .ok (.aload 5, 2) := dk_25 5 (dk_at dksJ9_compress_2 13 rfl rfl)
theorem dJ9_compress_63 : decode cJ9_compress 63 = .ok (.areturn, 1) := dk_176 (dk_at dksJ9_compress_2 15 rfl rfl)
theorem dJ9_compress_64 : decode cJ9_compress 64 = .ok (.aload_n 3, 1) := dk_45 (dk_at dksJ9_compress_2 16 rfl rfl)
theorem dJ9_compress_65 : decode cJ9_compress 65 = .ok (.areturn, 1) := dk_176 (dk_at dksJ9_compress_2 17 rfl rfl)
abbrev cJ9_compress_2 : ByteArray := prog_34_method_22_code
def yJ9_compress_2 : MethodName := ⟨RJ9, "compress", "([BI[BII)I"⟩
def dkwJ9_compress_2_2 : List UInt8 := [132, 5, 1, 167, 255, 216, 21, 4, 172]
abbrev dktJ9_compress_2_2 : List UInt8 := dkwJ9_compress_2_2 ++ []
def dkwJ9_compress_2_1 : List UInt8 := [21, 6, 17, 0, 255, 164, 0, 6, 21, 5, 172, 44, 29, 21, 6, 145, 84, 132, 1, 1, 132, 3, 1]
abbrev dktJ9_compress_2_1 : List UInt8 := dkwJ9_compress_2_1 ++ dktJ9_compress_2_2
def dkwJ9_compress_2_0 : List UInt8 := [27, 21, 4, 42, 184, 0, 173, 3, 54, 5, 21, 5, 21, 4, 162, 0, 39, 42, 27, 184, 0, 71, 54, 6]
abbrev dktJ9_compress_2_0 : List UInt8 := dkwJ9_compress_2_0 ++ dktJ9_compress_2_1
theorem dksJ9_compress_2_0 : cJ9_compress_2.data.toList.drop 0 = dktJ9_compress_2_0 := by decide +kernel
theorem dksJ9_compress_2_1 : cJ9_compress_2.data.toList.drop 24 = dktJ9_compress_2_1 := dk_seg dksJ9_compress_2_0 24 rfl rfl
theorem dksJ9_compress_2_2 : cJ9_compress_2.data.toList.drop 47 = dktJ9_compress_2_2 := dk_seg dksJ9_compress_2_1 23 rfl rfl
theorem dJ9_compress_2_0 : decode cJ9_compress_2 0 = .ok (.iload_n 1, 1) := dk_27 (dk_at dksJ9_compress_2_0 0 rfl rfl)
theorem dJ9_compress_2_1 : decode cJ9_compress_2 1 = .ok (.iload 4, 2) := dk_21 4 (dk_at dksJ9_compress_2_0 1 rfl rfl)
theorem dJ9_compress_2_3 : decode cJ9_compress_2 3 = .ok (.aload_n 0, 1) := dk_42 (dk_at dksJ9_compress_2_0 3 rfl rfl)
theorem dJ9_compress_2_4 : decode cJ9_compress_2 4 = .ok (.invokestatic 173, 3) := dk_184 0 173 (dk_at dksJ9_compress_2_0 4 rfl rfl)
theorem dJ9_compress_2_7 : decode cJ9_compress_2 7 = .ok (.iconst 0, 1) := dk_3 (dk_at dksJ9_compress_2_0 7 rfl rfl)
theorem dJ9_compress_2_8 : decode cJ9_compress_2 8 = .ok (.istore 5, 2) := dk_54 5 (dk_at dksJ9_compress_2_0 8 rfl rfl)
theorem dJ9_compress_2_10 : decode cJ9_compress_2 10 = .ok (.iload 5, 2) := dk_21 5 (dk_at dksJ9_compress_2_0 10 rfl rfl)
theorem dJ9_compress_2_12 : decode cJ9_compress_2 12 = .ok (.iload 4, 2) := dk_21 4 (dk_at dksJ9_compress_2_0 12 rfl rfl)
theorem dJ9_compress_2_14 : decode cJ9_compress_2 14 = .ok (.if_icmp .ge 39, 3) := dk_162 0 39 (dk_at dksJ9_compress_2_0 14 rfl rfl)
theorem dJ9_compress_2_17 : decode cJ9_compress_2 17 = .ok (.aload_n 0, 1) := dk_42 (dk_at dksJ9_compress_2_0 17 rfl rfl)
theorem dJ9_compress_2_18 : decode cJ9_compress_2 18 = .ok (.iload_n 1, 1) := dk_27 (dk_at dksJ9_compress_2_0 18 rfl rfl)
theorem dJ9_compress_2_19 : decode cJ9_compress_2 19 = .ok (.invokestatic 71, 3) := dk_184 0 71 (dk_at dksJ9_compress_2_0 19 rfl rfl)
theorem dJ9_compress_2_22 : decode cJ9_compress_2 22 = .ok (.istore 6, 2) := dk_54 6 (dk_at dksJ9_compress_2_0 22 rfl rfl)
theorem dJ9_compress_2_24 : decode cJ9_compress_2 24 = .ok (.iload 6, 2) := dk_21 6 (dk_at dksJ9_compress_2_1 0 rfl rfl)
theorem dJ9_compress_2_26 : decode cJ9_compress_2 26 = .ok (.sipush 255, 3) := dk_17 0 255 (dk_at dksJ9_compress_2_1 2 rfl rfl)
theorem dJ9_compress_2_29 : decode cJ9_compress_2 29 = .ok (.if_icmp .le 6, 3) := dk_164 0 6 (dk_at dksJ9_compress_2_1 5 rfl rfl)
theorem dJ9_compress_2_32 : decode cJ9_compress_2 32 = .ok (.iload 5, 2) := dk_21 5 (dk_at dksJ9_compress_2_1 8 rfl rfl)
theorem dJ9_compress_2_34 : decode cJ9_compress_2 34 = .ok (.ireturn, 1) := dk_172 (dk_at dksJ9_compress_2_1 10 rfl rfl)
theorem dJ9_compress_2_35 : decode cJ9_compress_2 35 = .ok (.aload_n 2, 1) := dk_44 (dk_at dksJ9_compress_2_1 11 rfl rfl)
theorem dJ9_compress_2_36 : decode cJ9_compress_2 36 = .ok (.iload_n 3, 1) := dk_29 (dk_at dksJ9_compress_2_1 12 rfl rfl)
theorem dJ9_compress_2_37 : decode cJ9_compress_2 37 = .ok (.iload 6, 2) := dk_21 6 (dk_at dksJ9_compress_2_1 13 rfl rfl)
theorem dJ9_compress_2_39 : decode cJ9_compress_2 39 = .ok (.i2b, 1) := dk_145 (dk_at dksJ9_compress_2_1 15 rfl rfl)
theorem dJ9_compress_2_40 : decode cJ9_compress_2 40 = .ok (.bastore, 1) := dk_84 (dk_at dksJ9_compress_2_1 16 rfl rfl)
theorem dJ9_compress_2_41 : decode cJ9_compress_2 41 = .ok (.iinc 1 1, 3) := dk_132 1 1 (dk_at dksJ9_compress_2_1 17 rfl rfl)
theorem dJ9_compress_2_44 : decode cJ9_compress_2 44 = .ok (.iinc 3 1, 3) := dk_132 3 1 (dk_at dksJ9_compress_2_1 20 rfl rfl)
theorem dJ9_compress_2_47 : decode cJ9_compress_2 47 = .ok (.iinc 5 1, 3) := dk_132 5 1 (dk_at dksJ9_compress_2_2 0 rfl rfl)
theorem dJ9_compress_2_50 : decode cJ9_compress_2 50 = .ok (.goto (-40), 3) := dk_167 255 216 (dk_at dksJ9_compress_2_2 3 rfl rfl)
theorem dJ9_compress_2_53 : decode cJ9_compress_2 53 = .ok (.iload 4, 2) := dk_21 4 (dk_at dksJ9_compress_2_2 6 rfl rfl)
theorem dJ9_compress_2_55 : decode cJ9_compress_2 55 = .ok (.ireturn, 1) := dk_172 (dk_at dksJ9_compress_2_2 8 rfl rfl)
abbrev cJ9_coderFromArrayLen : ByteArray := prog_34_method_15_code
def yJ9_coderFromArrayLen : MethodName := ⟨RJ9, "coderFromArrayLen", "([BI)B"⟩
def dkwJ9_coderFromArrayLen_0 : List UInt8 := [27, 42, 190, 100, 16, 31, 124, 145, 172]
abbrev dktJ9_coderFromArrayLen_0 : List UInt8 := dkwJ9_coderFromArrayLen_0 ++ []
theorem dksJ9_coderFromArrayLen_0 : cJ9_coderFromArrayLen.data.toList.drop 0 = dktJ9_coderFromArrayLen_0 := by decide +kernel
theorem dJ9_coderFromArrayLen_0 : decode cJ9_coderFromArrayLen 0 = .ok (.iload_n 1, 1) := dk_27 (dk_at dksJ9_coderFromArrayLen_0 0 rfl rfl)
theorem dJ9_coderFromArrayLen_1 : decode cJ9_coderFromArrayLen 1 = .ok (.aload_n 0, 1) := dk_42 (dk_at dksJ9_coderFromArrayLen_0 1 rfl rfl)
theorem dJ9_coderFromArrayLen_2 : decode cJ9_coderFromArrayLen 2 = .ok (.arraylength, 1) := dk_190 (dk_at dksJ9_coderFromArrayLen_0 2 rfl rfl)
theorem dJ9_coderFromArrayLen_3 : decode cJ9_coderFromArrayLen 3 = .ok (.isub, 1) := dk_100 (dk_at dksJ9_coderFromArrayLen_0 3 rfl rfl)
theorem dJ9_coderFromArrayLen_4 : decode cJ9_coderFromArrayLen 4 = .ok (.bipush 31, 2) := dk_16 31 (dk_at dksJ9_coderFromArrayLen_0 4 rfl rfl)
theorem dJ9_coderFromArrayLen_6 : decode cJ9_coderFromArrayLen 6 = .ok (.iushr, 1) := dk_124 (dk_at dksJ9_coderFromArrayLen_0 6 rfl rfl)
theorem dJ9_coderFromArrayLen_7 : decode cJ9_coderFromArrayLen 7 = .ok (.i2b, 1) := dk_145 (dk_at dksJ9_coderFromArrayLen_0 7 rfl rfl)
theorem dJ9_coderFromArrayLen_8 : decode cJ9_coderFromArrayLen 8 = .ok (.ireturn, 1) := dk_172 (dk_at dksJ9_coderFromArrayLen_0 8 rfl rfl)
abbrev cJ9_hashCode : ByteArray := prog_34_method_39_code
def yJ9_hashCode : MethodName := ⟨RJ9, "hashCode", "([B)I"⟩
def dkwJ9_hashCode_2 : List UInt8 := [3, 167, 0, 22, 42, 3, 184, 0, 71, 167, 0, 14, 42, 3, 42, 190, 4, 122, 3, 8, 184, 0, 220, 172]
abbrev dktJ9_hashCode_2 : List UInt8 := dkwJ9_hashCode_2 ++ []
def dkwJ9_hashCode_1 : List UInt8 := [171, 0, 0, 0, 0, 38, 0, 0, 0, 2, 0, 0, 0, 0, 0, 0, 0, 26, 0, 0, 0, 2, 0, 0, 0, 30]
abbrev dktJ9_hashCode_1 : List UInt8 := dkwJ9_hashCode_1 ++ dktJ9_hashCode_2
def dkwJ9_hashCode_0 : List UInt8 := [42, 190]
abbrev dktJ9_hashCode_0 : List UInt8 := dkwJ9_hashCode_0 ++ dktJ9_hashCode_1
theorem dksJ9_hashCode_0 : cJ9_hashCode.data.toList.drop 0 = dktJ9_hashCode_0 := by decide +kernel
theorem dksJ9_hashCode_1 : cJ9_hashCode.data.toList.drop 2 = dktJ9_hashCode_1 := dk_seg dksJ9_hashCode_0 2 rfl rfl
theorem dksJ9_hashCode_2 : cJ9_hashCode.data.toList.drop 28 = dktJ9_hashCode_2 := dk_seg dksJ9_hashCode_1 26 rfl rfl
theorem dJ9_hashCode_0 : decode cJ9_hashCode 0 = .ok (.aload_n 0, 1) := dk_42 (dk_at dksJ9_hashCode_0 0 rfl rfl)
theorem dJ9_hashCode_1 : decode cJ9_hashCode 1 = .ok (.arraylength, 1) := dk_190 (dk_at dksJ9_hashCode_0 1 rfl rfl)
theorem dJ9_hashCode_2 : decode cJ9_hashCode 2 = .ok (.lookupswitch 38 #[(0, 26), (2, 30)], 26) := by decide +kernel
theorem dJ9_hashCode_28 : decode cJ9_hashCode 28 = .ok (.iconst 0, 1) := dk_3 (dk_at dksJ9_hashCode_2 0 rfl rfl)
theorem dJ9_hashCode_29 : decode cJ9_hashCode 29 = .ok (.goto 22, 3) := dk_167 0 22 (dk_at dksJ9_hashCode_2 1 rfl rfl)
theorem dJ9_hashCode_32 : decode cJ9_hashCode 32 = .ok (.aload_n 0, 1) := dk_42 (dk_at dksJ9_hashCode_2 4 rfl rfl)
theorem dJ9_hashCode_33 : decode cJ9_hashCode 33 = .ok (.iconst 0, 1) := dk_3 (dk_at dksJ9_hashCode_2 5 rfl rfl)
theorem dJ9_hashCode_34 : decode cJ9_hashCode 34 = .ok (.invokestatic 71, 3) := dk_184 0 71 (dk_at dksJ9_hashCode_2 6 rfl rfl)
theorem dJ9_hashCode_37 : decode cJ9_hashCode 37 = .ok (.goto 14, 3) := dk_167 0 14 (dk_at dksJ9_hashCode_2 9 rfl rfl)
theorem dJ9_hashCode_40 : decode cJ9_hashCode 40 = .ok (.aload_n 0, 1) := dk_42 (dk_at dksJ9_hashCode_2 12 rfl rfl)
theorem dJ9_hashCode_41 : decode cJ9_hashCode 41 = .ok (.iconst 0, 1) := dk_3 (dk_at dksJ9_hashCode_2 13 rfl rfl)
theorem dJ9_hashCode_42 : decode cJ9_hashCode 42 = .ok (.aload_n 0, 1) := dk_42 (dk_at dksJ9_hashCode_2 14 rfl rfl)
theorem dJ9_hashCode_43 : decode cJ9_hashCode 43 = .ok (.arraylength, 1) := dk_190 (dk_at dksJ9_hashCode_2 15 rfl rfl)
theorem dJ9_hashCode_44 : decode cJ9_hashCode 44 = .ok (.iconst 1, 1) := dk_4 (dk_at dksJ9_hashCode_2 16 rfl rfl)
theorem dJ9_hashCode_45 : decode cJ9_hashCode 45 = .ok (.ishr, 1) := dk_122 (dk_at dksJ9_hashCode_2 17 rfl rfl)
theorem dJ9_hashCode_46 : decode cJ9_hashCode 46 = .ok (.iconst 0, 1) := dk_3 (dk_at dksJ9_hashCode_2 18 rfl rfl)
theorem dJ9_hashCode_47 : decode cJ9_hashCode 47 = .ok (.iconst 5, 1) := dk_8 (dk_at dksJ9_hashCode_2 19 rfl rfl)
theorem dJ9_hashCode_48 : decode cJ9_hashCode 48 = .ok (.invokestatic 220, 3) := dk_184 0 220 (dk_at dksJ9_hashCode_2 20 rfl rfl)
theorem dJ9_hashCode_51 : decode cJ9_hashCode 51 = .ok (.ireturn, 1) := dk_172 (dk_at dksJ9_hashCode_2 23 rfl rfl)
theorem q162 : (Jvm.Cond.initialized "java/lang/StringUTF16") ∈ lw_all := lw_g (lw_at lw_m1 20 rfl) rfl
theorem q755 : (Jvm.Cond.static ({ cls := "java/lang/StringUTF16", name := "charAt", desc := "([BI)C" } : Jvm.MethodName)) ∈ lw_all := lw_g (lw_at lw_m3 133 rfl) rfl
theorem q756 : (Jvm.Cond.code ({ cls := "java/lang/StringUTF16", name := "charAt", desc := "([BI)C" } : Jvm.MethodName) prog_34_method_83_code (2 : Nat) (Option.some Jvm.ClassFile.FieldType.char)) ∈ lw_all := lw_g (lw_at lw_m3 134 rfl) rfl
theorem q757 : (Jvm.Cond.methodLink "java/lang/StringUTF16" (67 : Nat) ({ cls := "java/lang/StringUTF16", name := "checkIndex", desc := "(I[B)V" } : Jvm.MethodName)) ∈ lw_all := lw_g (lw_at lw_m3 135 rfl) rfl
theorem q758 : (Jvm.Cond.static ({ cls := "java/lang/StringUTF16", name := "checkIndex", desc := "(I[B)V" } : Jvm.MethodName)) ∈ lw_all := lw_g (lw_at lw_m3 136 rfl) rfl
theorem q759 : (Jvm.Cond.code ({ cls := "java/lang/StringUTF16", name := "checkIndex", desc := "(I[B)V" } : Jvm.MethodName) prog_34_method_91_code (2 : Nat) (Option.none : Option Jvm.ClassFile.FieldType)) ∈ lw_all := lw_g (lw_at lw_m3 137 rfl) rfl
theorem q760 : (Jvm.Cond.methodLink "java/lang/StringUTF16" (48 : Nat) ({ cls := "java/lang/StringUTF16", name := "length", desc := "([B)I" } : Jvm.MethodName)) ∈ lw_all := lw_g (lw_at lw_m3 138 rfl) rfl
theorem q761 : (Jvm.Cond.static ({ cls := "java/lang/StringUTF16", name := "length", desc := "([B)I" } : Jvm.MethodName)) ∈ lw_all := lw_g (lw_at lw_m3 139 rfl) rfl
theorem q762 : (Jvm.Cond.code ({ cls := "java/lang/StringUTF16", name := "length", desc := "([B)I" } : Jvm.MethodName) prog_34_method_6_code (1 : Nat) (Option.some Jvm.ClassFile.FieldType.int)) ∈ lw_all := lw_g (lw_at lw_m3 140 rfl) rfl
theorem q763 : (Jvm.Cond.methodLink "java/lang/StringUTF16" (414 : Nat) ({ cls := "java/lang/String", name := "checkIndex", desc := "(II)V" } : Jvm.MethodName)) ∈ lw_all := lw_g (lw_at lw_m3 141 rfl) rfl
theorem q764 : (Jvm.Cond.methodLink "java/lang/StringUTF16" (71 : Nat) ({ cls := "java/lang/StringUTF16", name := "getChar", desc := "([BI)C" } : Jvm.MethodName)) ∈ lw_all := lw_g (lw_at lw_m3 142 rfl) rfl
theorem q765 : (Jvm.Cond.static ({ cls := "java/lang/StringUTF16", name := "getChar", desc := "([BI)C" } : Jvm.MethodName)) ∈ lw_all := lw_g (lw_at lw_m3 143 rfl) rfl
theorem q766 : (Jvm.Cond.code ({ cls := "java/lang/StringUTF16", name := "getChar", desc := "([BI)C" } : Jvm.MethodName) prog_34_method_5_code (2 : Nat) (Option.some Jvm.ClassFile.FieldType.char)) ∈ lw_all := lw_g (lw_at lw_m3 144 rfl) rfl
theorem q767 : (Jvm.Cond.fieldLink "java/lang/StringUTF16" (44 : Nat) "java/lang/StringUTF16" "$assertionsDisabled" "Z") ∈ lw_all := lw_g (lw_at lw_m3 145 rfl) rfl
theorem q768 : (Jvm.Cond.laysStatic "java/lang/StringUTF16" "$assertionsDisabled" "Z") ∈ lw_tbl := lw_at lw_m3 146 rfl
theorem q769 : (Jvm.Cond.fieldLink "java/lang/StringUTF16" (59 : Nat) "java/lang/StringUTF16" "HI_BYTE_SHIFT" "I") ∈ lw_all := lw_g (lw_at lw_m3 147 rfl) rfl
theorem q770 : (Jvm.Cond.laysStatic "java/lang/StringUTF16" "HI_BYTE_SHIFT" "I") ∈ lw_tbl := lw_at lw_m3 148 rfl
theorem q771 : (Jvm.Cond.fieldLink "java/lang/StringUTF16" (63 : Nat) "java/lang/StringUTF16" "LO_BYTE_SHIFT" "I") ∈ lw_all := lw_g (lw_at lw_m3 149 rfl) rfl
theorem q772 : (Jvm.Cond.laysStatic "java/lang/StringUTF16" "LO_BYTE_SHIFT" "I") ∈ lw_tbl := lw_at lw_m3 150 rfl
theorem q827 : (Jvm.Cond.static ({ cls := "java/lang/StringUTF16", name := "newBytesFor", desc := "(I)[B" } : Jvm.MethodName)) ∈ lw_all := lw_g (lw_at lw_m3 205 rfl) rfl
theorem q828 : (Jvm.Cond.code ({ cls := "java/lang/StringUTF16", name := "newBytesFor", desc := "(I)[B" } : Jvm.MethodName) prog_34_method_2_code (1 : Nat) (Option.some (Jvm.ClassFile.FieldType.array Jvm.ClassFile.FieldType.byte))) ∈ lw_all := lw_g (lw_at lw_m3 206 rfl) rfl
theorem q829 : (Jvm.Cond.methodLink "java/lang/StringUTF16" (11 : Nat) ({ cls := "java/lang/StringUTF16", name := "newBytesLength", desc := "(I)I" } : Jvm.MethodName)) ∈ lw_all := lw_g (lw_at lw_m3 207 rfl) rfl
theorem q830 : (Jvm.Cond.static ({ cls := "java/lang/StringUTF16", name := "newBytesLength", desc := "(I)I" } : Jvm.MethodName)) ∈ lw_all := lw_g (lw_at lw_m3 208 rfl) rfl
theorem q831 : (Jvm.Cond.code ({ cls := "java/lang/StringUTF16", name := "newBytesLength", desc := "(I)I" } : Jvm.MethodName) prog_34_method_3_code (1 : Nat) (Option.some Jvm.ClassFile.FieldType.int)) ∈ lw_all := lw_g (lw_at lw_m3 209 rfl) rfl
theorem q832 : (Jvm.Cond.constant "java/lang/StringUTF16" (20 : Nat) (1073741823 : Int32)) ∈ lw_all := lw_g (lw_at lw_m3 210 rfl) rfl
theorem q904 : (Jvm.Cond.static ({ cls := "java/lang/StringUTF16", name := "inflate", desc := "([BI[BII)V" } : Jvm.MethodName)) ∈ lw_all := lw_g (lw_at lw_m4 42 rfl) rfl
theorem q905 : (Jvm.Cond.code ({ cls := "java/lang/StringUTF16", name := "inflate", desc := "([BI[BII)V" } : Jvm.MethodName) prog_34_method_86_code (6 : Nat) (Option.none : Option Jvm.ClassFile.FieldType)) ∈ lw_all := lw_g (lw_at lw_m4 43 rfl) rfl
theorem q906 : (Jvm.Cond.methodLink "java/lang/StringUTF16" (173 : Nat) ({ cls := "java/lang/StringUTF16", name := "checkBoundsOffCount", desc := "(II[B)V" } : Jvm.MethodName)) ∈ lw_all := lw_g (lw_at lw_m4 44 rfl) rfl
theorem q907 : (Jvm.Cond.static ({ cls := "java/lang/StringUTF16", name := "checkBoundsOffCount", desc := "(II[B)V" } : Jvm.MethodName)) ∈ lw_all := lw_g (lw_at lw_m4 45 rfl) rfl
theorem q908 : (Jvm.Cond.code ({ cls := "java/lang/StringUTF16", name := "checkBoundsOffCount", desc := "(II[B)V" } : Jvm.MethodName) prog_34_method_94_code (3 : Nat) (Option.none : Option Jvm.ClassFile.FieldType)) ∈ lw_all := lw_g (lw_at lw_m4 46 rfl) rfl
theorem q909 : (Jvm.Cond.methodLink "java/lang/StringUTF16" (419 : Nat) ({ cls := "java/lang/String", name := "checkBoundsOffCount", desc := "(III)I" } : Jvm.MethodName)) ∈ lw_all := lw_g (lw_at lw_m4 47 rfl) rfl
theorem q915 : (Jvm.Cond.methodLink "java/lang/StringUTF16" (111 : Nat) ({ cls := "java/lang/StringUTF16", name := "putChar", desc := "([BII)V" } : Jvm.MethodName)) ∈ lw_all := lw_g (lw_at lw_m4 53 rfl) rfl
theorem q916 : (Jvm.Cond.static ({ cls := "java/lang/StringUTF16", name := "putChar", desc := "([BII)V" } : Jvm.MethodName)) ∈ lw_all := lw_g (lw_at lw_m4 54 rfl) rfl
theorem q917 : (Jvm.Cond.code ({ cls := "java/lang/StringUTF16", name := "putChar", desc := "([BII)V" } : Jvm.MethodName) prog_34_method_4_code (3 : Nat) (Option.none : Option Jvm.ClassFile.FieldType)) ∈ lw_all := lw_g (lw_at lw_m4 55 rfl) rfl
theorem q919 : (Jvm.Cond.static ({ cls := "java/lang/StringUTF16", name := "putCharSB", desc := "([BII)V" } : Jvm.MethodName)) ∈ lw_all := lw_g (lw_at lw_m4 57 rfl) rfl
theorem q920 : (Jvm.Cond.code ({ cls := "java/lang/StringUTF16", name := "putCharSB", desc := "([BII)V" } : Jvm.MethodName) prog_34_method_71_code (3 : Nat) (Option.none : Option Jvm.ClassFile.FieldType)) ∈ lw_all := lw_g (lw_at lw_m4 58 rfl) rfl
theorem q958 : (Jvm.Cond.static ({ cls := "java/lang/StringUTF16", name := "compress", desc := "([BII)[B" } : Jvm.MethodName)) ∈ lw_all := lw_g (lw_at lw_m4 96 rfl) rfl
theorem q959 : (Jvm.Cond.code ({ cls := "java/lang/StringUTF16", name := "compress", desc := "([BII)[B" } : Jvm.MethodName) prog_34_method_17_code (6 : Nat) (Option.some (Jvm.ClassFile.FieldType.array Jvm.ClassFile.FieldType.byte))) ∈ lw_all := lw_g (lw_at lw_m4 97 rfl) rfl
theorem q960 : (Jvm.Cond.methodLink "java/lang/StringUTF16" (123 : Nat) ({ cls := "java/lang/StringUTF16", name := "compress", desc := "([BI[BII)I" } : Jvm.MethodName)) ∈ lw_all := lw_g (lw_at lw_m4 98 rfl) rfl
theorem q961 : (Jvm.Cond.static ({ cls := "java/lang/StringUTF16", name := "compress", desc := "([BI[BII)I" } : Jvm.MethodName)) ∈ lw_all := lw_g (lw_at lw_m4 99 rfl) rfl
theorem q962 : (Jvm.Cond.code ({ cls := "java/lang/StringUTF16", name := "compress", desc := "([BI[BII)I" } : Jvm.MethodName) prog_34_method_22_code (7 : Nat) (Option.some Jvm.ClassFile.FieldType.int)) ∈ lw_all := lw_g (lw_at lw_m4 100 rfl) rfl
theorem q963 : (Jvm.Cond.methodLink "java/lang/StringUTF16" (126 : Nat) ({ cls := "java/util/Arrays", name := "copyOfRange", desc := "([BII)[B" } : Jvm.MethodName)) ∈ lw_all := lw_g (lw_at lw_m4 101 rfl) rfl
theorem q965 : (Jvm.Cond.static ({ cls := "java/lang/StringUTF16", name := "coderFromArrayLen", desc := "([BI)B" } : Jvm.MethodName)) ∈ lw_all := lw_g (lw_at lw_m4 103 rfl) rfl
theorem q966 : (Jvm.Cond.code ({ cls := "java/lang/StringUTF16", name := "coderFromArrayLen", desc := "([BI)B" } : Jvm.MethodName) prog_34_method_15_code (2 : Nat) (Option.some Jvm.ClassFile.FieldType.byte)) ∈ lw_all := lw_g (lw_at lw_m4 104 rfl) rfl
theorem q1068 : (Jvm.Cond.static ({ cls := "java/lang/StringUTF16", name := "hashCode", desc := "([B)I" } : Jvm.MethodName)) ∈ lw_all := lw_g (lw_at lw_m4 206 rfl) rfl
theorem q1069 : (Jvm.Cond.code ({ cls := "java/lang/StringUTF16", name := "hashCode", desc := "([B)I" } : Jvm.MethodName) prog_34_method_39_code (1 : Nat) (Option.some Jvm.ClassFile.FieldType.int)) ∈ lw_all := lw_g (lw_at lw_m4 207 rfl) rfl
theorem q1070 : (Jvm.Cond.methodLink "java/lang/StringUTF16" (220 : Nat) ({ cls := "jdk/internal/util/ArraysSupport", name := "vectorizedHashCode", desc := "(Ljava/lang/Object;IIII)I" } : Jvm.MethodName)) ∈ lw_all := lw_g (lw_at lw_m4 208 rfl) rfl

/-! java/lang/AbstractStringBuilder -/
set_option maxRecDepth 100000
def RJ10 : String := "java/lang/AbstractStringBuilder"
abbrev cJ10_init : ByteArray := prog_22_method_2_code
def yJ10_init : MethodName := ⟨RJ10, "<init>", "(I)V"⟩
def dkwJ10_init_1 : List UInt8 := [167, 0, 16, 42, 27, 184, 0, 26, 181, 0, 15, 42, 4, 181, 0, 22, 177]
abbrev dktJ10_init_1 : List UInt8 := dkwJ10_init_1 ++ []
def dkwJ10_init_0 : List UInt8 := [42, 183, 0, 3, 178, 0, 18, 153, 0, 18, 42, 27, 188, 8, 181, 0, 15, 42, 3, 181, 0, 22]
abbrev dktJ10_init_0 : List UInt8 := dkwJ10_init_0 ++ dktJ10_init_1
theorem dksJ10_init_0 : cJ10_init.data.toList.drop 0 = dktJ10_init_0 := by decide +kernel
theorem dksJ10_init_1 : cJ10_init.data.toList.drop 22 = dktJ10_init_1 := dk_seg dksJ10_init_0 22 rfl rfl
theorem dJ10_init_0 : decode cJ10_init 0 = .ok (.aload_n 0, 1) := dk_42 (dk_at dksJ10_init_0 0 rfl rfl)
theorem dJ10_init_1 : decode cJ10_init 1 = .ok (.invokespecial 3, 3) := dk_183 0 3 (dk_at dksJ10_init_0 1 rfl rfl)
theorem dJ10_init_4 : decode cJ10_init 4 = .ok (.getstatic 18, 3) := dk_178 0 18 (dk_at dksJ10_init_0 4 rfl rfl)
theorem dJ10_init_7 : decode cJ10_init 7 = .ok (.ifCond .eq 18, 3) := dk_153 0 18 (dk_at dksJ10_init_0 7 rfl rfl)
theorem dJ10_init_10 : decode cJ10_init 10 = .ok (.aload_n 0, 1) := dk_42 (dk_at dksJ10_init_0 10 rfl rfl)
theorem dJ10_init_11 : decode cJ10_init 11 = .ok (.iload_n 1, 1) := dk_27 (dk_at dksJ10_init_0 11 rfl rfl)
theorem dJ10_init_12 : decode cJ10_init 12 = .ok (.newarray .byte, 2) := dk_188_8 (dk_at dksJ10_init_0 12 rfl rfl)
theorem dJ10_init_14 : decode cJ10_init 14 = .ok (.putfield 15, 3) := dk_181 0 15 (dk_at dksJ10_init_0 14 rfl rfl)
theorem dJ10_init_17 : decode cJ10_init 17 = .ok (.aload_n 0, 1) := dk_42 (dk_at dksJ10_init_0 17 rfl rfl)
theorem dJ10_init_18 : decode cJ10_init 18 = .ok (.iconst 0, 1) := dk_3 (dk_at dksJ10_init_0 18 rfl rfl)
theorem dJ10_init_19 : decode cJ10_init 19 = .ok (.putfield 22, 3) := dk_181 0 22 (dk_at dksJ10_init_0 19 rfl rfl)
theorem dJ10_init_22 : decode cJ10_init 22 = .ok (.goto 16, 3) := dk_167 0 16 (dk_at dksJ10_init_1 0 rfl rfl)
theorem dJ10_init_25 : decode cJ10_init 25 = .ok (.aload_n 0, 1) := dk_42 (dk_at dksJ10_init_1 3 rfl rfl)
theorem dJ10_init_26 : decode cJ10_init 26 = .ok (.iload_n 1, 1) := dk_27 (dk_at dksJ10_init_1 4 rfl rfl)
theorem dJ10_init_27 : decode cJ10_init 27 = .ok (.invokestatic 26, 3) := dk_184 0 26 (dk_at dksJ10_init_1 5 rfl rfl)
theorem dJ10_init_30 : decode cJ10_init 30 = .ok (.putfield 15, 3) := dk_181 0 15 (dk_at dksJ10_init_1 8 rfl rfl)
theorem dJ10_init_33 : decode cJ10_init 33 = .ok (.aload_n 0, 1) := dk_42 (dk_at dksJ10_init_1 11 rfl rfl)
theorem dJ10_init_34 : decode cJ10_init 34 = .ok (.iconst 1, 1) := dk_4 (dk_at dksJ10_init_1 12 rfl rfl)
theorem dJ10_init_35 : decode cJ10_init 35 = .ok (.putfield 22, 3) := dk_181 0 22 (dk_at dksJ10_init_1 13 rfl rfl)
theorem dJ10_init_38 : decode cJ10_init 38 = .ok (.return_, 1) := dk_177 (dk_at dksJ10_init_1 16 rfl rfl)
abbrev cJ10_append : ByteArray := prog_22_method_31_code
def yJ10_append : MethodName := ⟨RJ10, "append", "(C)Ljava/lang/AbstractStringBuilder;"⟩
def dkwJ10_append_3 : List UInt8 := [181, 0, 79, 27, 184, 0, 197, 42, 176]
abbrev dktJ10_append_3 : List UInt8 := dkwJ10_append_3 ++ []
def dkwJ10_append_2 : List UInt8 := [182, 0, 83, 153, 0, 7, 42, 182, 0, 195, 42, 180, 0, 15, 42, 89, 180, 0, 79, 90, 4, 96]
abbrev dktJ10_append_2 : List UInt8 := dkwJ10_append_2 ++ dktJ10_append_3
def dkwJ10_append_1 : List UInt8 := [42, 180, 0, 15, 42, 89, 180, 0, 79, 90, 4, 96, 181, 0, 79, 27, 145, 84, 167, 0, 33, 42]
abbrev dktJ10_append_1 : List UInt8 := dkwJ10_append_1 ++ dktJ10_append_2
def dkwJ10_append_0 : List UInt8 := [42, 42, 180, 0, 79, 4, 96, 182, 0, 100, 42, 182, 0, 83, 153, 0, 31, 27, 184, 0, 191, 153, 0, 24]
abbrev dktJ10_append_0 : List UInt8 := dkwJ10_append_0 ++ dktJ10_append_1
theorem dksJ10_append_0 : cJ10_append.data.toList.drop 0 = dktJ10_append_0 := by decide +kernel
theorem dksJ10_append_1 : cJ10_append.data.toList.drop 24 = dktJ10_append_1 := dk_seg dksJ10_append_0 24 rfl rfl
theorem dksJ10_append_2 : cJ10_append.data.toList.drop 46 = dktJ10_append_2 := dk_seg dksJ10_append_1 22 rfl rfl
theorem dksJ10_append_3 : cJ10_append.data.toList.drop 68 = dktJ10_append_3 := dk_seg dksJ10_append_2 22 rfl rfl
theorem dJ10_append_0 : decode cJ10_append 0 = .ok (.aload_n 0, 1) := dk_42 (dk_at dksJ10_append_0 0 rfl rfl)
theorem dJ10_append_1 : decode cJ10_append 1 = .ok (.aload_n 0, 1) := dk_42 (dk_at dksJ10_append_0 1 rfl rfl)
theorem dJ10_append_2 : decode cJ10_append 2 = .ok (.getfield 79, 3) := dk_180 0 79 (dk_at dksJ10_append_0 2 rfl rfl)
theorem dJ10_append_5 : decode cJ10_append 5 = .ok (.iconst 1, 1) := dk_4 (dk_at dksJ10_append_0 5 rfl rfl)
theorem dJ10_append_6 : decode cJ10_append 6 = .ok (.iadd, 1) := dk_96 (dk_at dksJ10_append_0 6 rfl rfl)
theorem dJ10_append_7 : decode cJ10_append 7 = .ok (.invokevirtual 100, 3) := dk_182 0 100 (dk_at dksJ10_append_0 7 rfl rfl)
theorem dJ10_append_10 : decode cJ10_append 10 = .ok (.aload_n 0, 1) := dk_42 (dk_at dksJ10_append_0 10 rfl rfl)
theorem dJ10_append_11 : decode cJ10_append 11 = .ok (.invokevirtual 83, 3) := dk_182 0 83 (dk_at dksJ10_append_0 11 rfl rfl)
theorem dJ10_append_14 : decode cJ10_append 14 = .ok (.ifCond .eq 31, 3) := dk_153 0 31 (dk_at dksJ10_append_0 14 rfl rfl)
theorem dJ10_append_17 : decode cJ10_append 17 = .ok (.iload_n 1, 1) := dk_27 (dk_at dksJ10_append_0 17 rfl rfl)
theorem dJ10_append_18 : decode cJ10_append 18 = .ok (.invokestatic 191, 3) := dk_184 0 191 (dk_at dksJ10_append_0 18 rfl rfl)
theorem dJ10_append_21 : decode cJ10_append 21 = .ok (.ifCond .eq 24, 3) := dk_153 0 24 (dk_at dksJ10_append_0 21 rfl rfl)
theorem dJ10_append_24 : decode cJ10_append 24 = .ok (.aload_n 0, 1) := dk_42 (dk_at dksJ10_append_1 0 rfl rfl)
theorem dJ10_append_25 : decode cJ10_append 25 = .ok (.getfield 15, 3) := dk_180 0 15 (dk_at dksJ10_append_1 1 rfl rfl)
theorem dJ10_append_28 : decode cJ10_append 28 = .ok (.aload_n 0, 1) := dk_42 (dk_at dksJ10_append_1 4 rfl rfl)
theorem dJ10_append_29 : decode cJ10_append 29 = .ok (.dup, 1) := dk_89 (dk_at dksJ10_append_1 5 rfl rfl)
theorem dJ10_append_30 : decode cJ10_append 30 = .ok (.getfield 79, 3) := dk_180 0 79 (dk_at dksJ10_append_1 6 rfl rfl)
theorem dJ10_append_33 : decode cJ10_append 33 = .ok (.dup_x1, 1) := dk_90 (dk_at dksJ10_append_1 9 rfl rfl)
theorem dJ10_append_34 : decode cJ10_append 34 = .ok (.iconst 1, 1) := dk_4 (dk_at dksJ10_append_1 10 rfl rfl)
theorem dJ10_append_35 : decode cJ10_append 35 = .ok (.iadd, 1) := dk_96 (dk_at dksJ10_append_1 11 rfl rfl)
theorem dJ10_append_36 : decode cJ10_append 36 = .ok (.putfield 79, 3) := dk_181 0 79 (dk_at dksJ10_append_1 12 rfl rfl)
theorem dJ10_append_39 : decode cJ10_append 39 = .ok (.iload_n 1, 1) := dk_27 (dk_at dksJ10_append_1 15 rfl rfl)
theorem dJ10_append_40 : decode cJ10_append 40 = .ok (.i2b, 1) := dk_145 (dk_at dksJ10_append_1 16 rfl rfl)
theorem dJ10_append_41 : decode cJ10_append 41 = .ok (.bastore, 1) := dk_84 (dk_at dksJ10_append_1 17 rfl rfl)
theorem dJ10_append_42 : decode cJ10_append 42 = .ok (.goto 33, 3) := dk_167 0 33 (dk_at dksJ10_append_1 18 rfl rfl)
theorem dJ10_append_45 : decode cJ10_append 45 = .ok (.aload_n 0, 1) := dk_42 (dk_at dksJ10_append_1 21 rfl rfl)
theorem dJ10_append_46 : decode cJ10_append 46 = .ok (.invokevirtual 83, 3) := dk_182 0 83 (dk_at dksJ10_append_2 0 rfl rfl)
theorem dJ10_append_49 : decode cJ10_append 49 = .ok (.ifCond .eq 7, 3) := dk_153 0 7 (dk_at dksJ10_append_2 3 rfl rfl)
theorem dJ10_append_52 : decode cJ10_append 52 = .ok (.aload_n 0, 1) := dk_42 (dk_at dksJ10_append_2 6 rfl rfl)
theorem dJ10_append_53 : decode cJ10_append 53 = .ok (.invokevirtual 195, 3) := dk_182 0 195 (dk_at dksJ10_append_2 7 rfl rfl)
theorem dJ10_append_56 : decode cJ10_append 56 = .ok (.aload_n 0, 1) := dk_42 (dk_at dksJ10_append_2 10 rfl rfl)
theorem dJ10_append_57 : decode cJ10_append 57 = .ok (.getfield 15, 3) := dk_180 0 15 (dk_at dksJ10_append_2 11 rfl rfl)
theorem dJ10_append_60 : decode cJ10_append 60 = .ok (.aload_n 0, 1) := dk_42 (dk_at dksJ10_append_2 14 rfl rfl)
theorem dJ10_append_61 : decode cJ10_append 61 = .ok (.dup, 1) := dk_89 (dk_at dksJ10_append_2 15 rfl rfl)
theorem dJ10_append_62 : decode cJ10_append 62 = .ok (.getfield 79, 3) := dk_180 0 79 (dk_at dksJ10_append_2 16 rfl rfl)
theorem dJ10_append_65 : decode cJ10_append 65 = .ok (.dup_x1, 1) := dk_90 (dk_at dksJ10_append_2 19 rfl rfl)
theorem dJ10_append_66 : decode cJ10_append 66 = .ok (.iconst 1, 1) := dk_4 (dk_at dksJ10_append_2 20 rfl rfl)
theorem dJ10_append_67 : decode cJ10_append 67 = .ok (.iadd, 1) := dk_96 (dk_at dksJ10_append_2 21 rfl rfl)
theorem dJ10_append_68 : decode cJ10_append 68 = .ok (.putfield 79, 3) := dk_181 0 79 (dk_at dksJ10_append_3 0 rfl rfl)
theorem dJ10_append_71 : decode cJ10_append 71 = .ok (.iload_n 1, 1) := dk_27 (dk_at dksJ10_append_3 3 rfl rfl)
theorem dJ10_append_72 : decode cJ10_append 72 = .ok (.invokestatic 197, 3) := dk_184 0 197 (dk_at dksJ10_append_3 4 rfl rfl)
theorem dJ10_append_75 : decode cJ10_append 75 = .ok (.aload_n 0, 1) := dk_42 (dk_at dksJ10_append_3 7 rfl rfl)
theorem dJ10_append_76 : decode cJ10_append 76 = .ok (.areturn, 1) := dk_176 (dk_at dksJ10_append_3 8 rfl rfl)
abbrev cJ10_ensureCapacityInternal : ByteArray := prog_22_method_9_code
def yJ10_ensureCapacityInternal : MethodName := ⟨RJ10, "ensureCapacityInternal", "(I)V"⟩
def dkwJ10_ensureCapacityInternal_1 : List UInt8 := [182, 0, 104, 42, 180, 0, 22, 120, 184, 0, 108, 181, 0, 15, 177]
abbrev dktJ10_ensureCapacityInternal_1 : List UInt8 := dkwJ10_ensureCapacityInternal_1 ++ []
def dkwJ10_ensureCapacityInternal_0 : List UInt8 := [42, 180, 0, 15, 190, 42, 180, 0, 22, 122, 61, 27, 28, 100, 158, 0, 24, 42, 42, 180, 0, 15, 42, 27]
abbrev dktJ10_ensureCapacityInternal_0 : List UInt8 := dkwJ10_ensureCapacityInternal_0 ++ dktJ10_ensureCapacityInternal_1
theorem dksJ10_ensureCapacityInternal_0 : cJ10_ensureCapacityInternal.data.toList.drop 0 = dktJ10_ensureCapacityInternal_0 := by decide +kernel
theorem dksJ10_ensureCapacityInternal_1 : cJ10_ensureCapacityInternal.data.toList.drop 24 = dktJ10_ensureCapacityInternal_1 := dk_seg dksJ10_ensureCapacityInternal_0 24 rfl rfl
theorem dJ10_ensureCapacityInternal_0 : decode cJ10_ensureCapacityInternal 0 = .ok (.aload_n 0, 1) := dk_42 (dk_at dksJ10_ensureCapacityInternal_0 0 rfl rfl)
theorem dJ10_ensureCapacityInternal_1 : decode cJ10_ensureCapacityInternal 1 = .ok (.getfield 15, 3) := dk_180 0 15 (dk_at dksJ10_ensureCapacityInternal_0 1 rfl rfl)
theorem dJ10_ensureCapacityInternal_4 : decode cJ10_ensureCapacityInternal 4 = .ok (.arraylength, 1) := dk_190 (dk_at dksJ10_ensureCapacityInternal_0 4 rfl rfl)
theorem dJ10_ensureCapacityInternal_5 : decode cJ10_ensureCapacityInternal 5 = .ok (.aload_n 0, 1) := dk_42 (dk_at dksJ10_ensureCapacityInternal_0 5 rfl rfl)
theorem dJ10_ensureCapacityInternal_6 : decode cJ10_ensureCapacityInternal 6 = .ok (.getfield 22, 3) := dk_180 0 22 (dk_at dksJ10_ensureCapacityInternal_0 6 rfl rfl)
theorem dJ10_ensureCapacityInternal_9 : decode cJ10_ensureCapacityInternal 9 = .ok (.ishr, 1) := dk_122 (dk_at dksJ10_ensureCapacityInternal_0 9 rfl rfl)
theorem dJ10_ensureCapacityInternal_10 : decode cJ10_ensureCapacityInternal 10 = .ok (.istore_n 2, 1) := dk_61 (dk_at dksJ10_ensureCapacityInternal_0 10 rfl rfl)
theorem dJ10_ensureCapacityInternal_11 : decode cJ10_ensureCapacityInternal 11 = .ok (.iload_n 1, 1) := dk_27 (dk_at dksJ10_ensureCapacityInternal_0 11 rfl rfl)
theorem dJ10_ensureCapacityInternal_12 : decode cJ10_ensureCapacityInternal 12 = .ok (.iload_n 2, 1) := dk_28 (dk_at dksJ10_ensureCapacityInternal_0 12 rfl rfl)
theorem dJ10_ensureCapacityInternal_13 : decode cJ10_ensureCapacityInternal 13 = .ok (.isub, 1) := dk_100 (dk_at dksJ10_ensureCapacityInternal_0 13 rfl rfl)
theorem dJ10_ensureCapacityInternal_14 : decode cJ10_ensureCapacityInternal 14 = .ok (.ifCond .le 24, 3) := dk_158 0 24 (dk_at dksJ10_ensureCapacityInternal_0 14 rfl rfl)
theorem dJ10_ensureCapacityInternal_17 : decode cJ10_ensureCapacityInternal 17 = .ok (.aload_n 0, 1) := dk_42 (dk_at dksJ10_ensureCapacityInternal_0 17 rfl rfl)
theorem dJ10_ensureCapacityInternal_18 : decode cJ10_ensureCapacityInternal 18 = .ok (.aload_n 0, 1) := dk_42 (dk_at dksJ10_ensureCapacityInternal_0 18 rfl rfl)
theorem dJ10_ensureCapacityInternal_19 : decode cJ10_ensureCapacityInternal 19 = .ok (.getfield 15, 3) := dk_180 0 15 (dk_at dksJ10_ensureCapacityInternal_0 19 rfl rfl)
theorem dJ10_ensureCapacityInternal_22 : decode cJ10_ensureCapacityInternal 22 = .ok (.aload_n 0, 1) := dk_42 (dk_at dksJ10_ensureCapacityInternal_0 22 rfl rfl)
theorem dJ10_ensureCapacityInternal_23 : decode cJ10_ensureCapacityInternal 23 = .ok (.iload_n 1, 1) := dk_27 (dk_at dksJ10_ensureCapacityInternal_0 23 rfl rfl)
theorem dJ10_ensureCapacityInternal_24 : decode cJ10_ensureCapacityInternal 24 = .ok (.invokevirtual 104, 3) := dk_182 0 104 (dk_at dksJ10_ensureCapacityInternal_1 0 rfl rfl)
theorem dJ10_ensureCapacityInternal_27 : decode cJ10_ensureCapacityInternal 27 = .ok (.aload_n 0, 1) := dk_42 (dk_at dksJ10_ensureCapacityInternal_1 3 rfl rfl)
theorem dJ10_ensureCapacityInternal_28 : decode cJ10_ensureCapacityInternal 28 = .ok (.getfield 22, 3) := dk_180 0 22 (dk_at dksJ10_ensureCapacityInternal_1 4 rfl rfl)
theorem dJ10_ensureCapacityInternal_31 : decode cJ10_ensureCapacityInternal 31 = .ok (.ishl, 1) := dk_120 (dk_at dksJ10_ensureCapacityInternal_1 7 rfl rfl)
theorem dJ10_ensureCapacityInternal_32 : decode cJ10_ensureCapacityInternal 32 = .ok (.invokestatic 108, 3) := dk_184 0 108 (dk_at dksJ10_ensureCapacityInternal_1 8 rfl rfl)
theorem dJ10_ensureCapacityInternal_35 : decode cJ10_ensureCapacityInternal 35 = .ok (.putfield 15, 3) := dk_181 0 15 (dk_at dksJ10_ensureCapacityInternal_1 11 rfl rfl)
theorem dJ10_ensureCapacityInternal_38 : decode cJ10_ensureCapacityInternal 38 = .ok (.return_, 1) := dk_177 (dk_at dksJ10_ensureCapacityInternal_1 14 rfl rfl)
abbrev cJ10_newCapacity : ByteArray := prog_22_method_10_code
def yJ10_newCapacity : MethodName := ⟨RJ10, "newCapacity", "(I)I"⟩
def dkwJ10_newCapacity_2 : List UInt8 := [183, 0, 124, 191, 21, 5, 42, 180, 0, 22, 122, 172]
abbrev dktJ10_newCapacity_2 : List UInt8 := dkwJ10_newCapacity_2 ++ []
def dkwJ10_newCapacity_1 : List UInt8 := [180, 0, 22, 120, 96, 184, 0, 114, 54, 5, 21, 5, 18, 39, 160, 0, 13, 187, 0, 120, 89, 18, 122]
abbrev dktJ10_newCapacity_1 : List UInt8 := dkwJ10_newCapacity_1 ++ dktJ10_newCapacity_2
def dkwJ10_newCapacity_0 : List UInt8 := [42, 180, 0, 15, 190, 61, 27, 42, 180, 0, 22, 120, 62, 29, 28, 100, 54, 4, 28, 21, 4, 28, 5, 42]
abbrev dktJ10_newCapacity_0 : List UInt8 := dkwJ10_newCapacity_0 ++ dktJ10_newCapacity_1
theorem dksJ10_newCapacity_0 : cJ10_newCapacity.data.toList.drop 0 = dktJ10_newCapacity_0 := by decide +kernel
theorem dksJ10_newCapacity_1 : cJ10_newCapacity.data.toList.drop 24 = dktJ10_newCapacity_1 := dk_seg dksJ10_newCapacity_0 24 rfl rfl
theorem dksJ10_newCapacity_2 : cJ10_newCapacity.data.toList.drop 47 = dktJ10_newCapacity_2 := dk_seg dksJ10_newCapacity_1 23 rfl rfl
theorem dJ10_newCapacity_0 : decode cJ10_newCapacity 0 = .ok (.aload_n 0, 1) := dk_42 (dk_at dksJ10_newCapacity_0 0 rfl rfl)
theorem dJ10_newCapacity_1 : decode cJ10_newCapacity 1 = .ok (.getfield 15, 3) := dk_180 0 15 (dk_at dksJ10_newCapacity_0 1 rfl rfl)
theorem dJ10_newCapacity_4 : decode cJ10_newCapacity 4 = .ok (.arraylength, 1) := dk_190 (dk_at dksJ10_newCapacity_0 4 rfl rfl)
theorem dJ10_newCapacity_5 : decode cJ10_newCapacity 5 = .ok (.istore_n 2, 1) := dk_61 (dk_at dksJ10_newCapacity_0 5 rfl rfl)
theorem dJ10_newCapacity_6 : decode cJ10_newCapacity 6 = .ok (.iload_n 1, 1) := dk_27 (dk_at dksJ10_newCapacity_0 6 rfl rfl)
theorem dJ10_newCapacity_7 : decode cJ10_newCapacity 7 = .ok (.aload_n 0, 1) := dk_42 (dk_at dksJ10_newCapacity_0 7 rfl rfl)
theorem dJ10_newCapacity_8 : decode cJ10_newCapacity 8 = .ok (.getfield 22, 3) := dk_180 0 22 (dk_at dksJ10_newCapacity_0 8 rfl rfl)
theorem dJ10_newCapacity_11 : decode cJ10_newCapacity 11 = .ok (.ishl, 1) := dk_120 (dk_at dksJ10_newCapacity_0 11 rfl rfl)
theorem dJ10_newCapacity_12 : decode cJ10_newCapacity 12 = .ok (.istore_n 3, 1) := dk_62 (dk_at dksJ10_newCapacity_0 12 rfl rfl)
theorem dJ10_newCapacity_13 : decode cJ10_newCapacity 13 = .ok (.iload_n 3, 1) := dk_29 (dk_at dksJ10_newCapacity_0 13 rfl rfl)
theorem dJ10_newCapacity_14 : decode cJ10_newCapacity 14 = .ok (.iload_n 2, 1) := dk_28 (dk_at dksJ10_newCapacity_0 14 rfl rfl)
theorem dJ10_newCapacity_15 : decode cJ10_newCapacity 15 = .ok (.isub, 1) := dk_100 (dk_at dksJ10_newCapacity_0 15 rfl rfl)
theorem dJ10_newCapacity_16 : decode cJ10_newCapacity 16 = .ok (.istore 4, 2) := dk_54 4 (dk_at dksJ10_newCapacity_0 16 rfl rfl)
theorem dJ10_newCapacity_18 : decode cJ10_newCapacity 18 = .ok (.iload_n 2, 1) := dk_28 (dk_at dksJ10_newCapacity_0 18 rfl rfl)
theorem dJ10_newCapacity_19 : decode cJ10_newCapacity 19 = .ok (.iload 4, 2) := dk_21 4 (dk_at dksJ10_newCapacity_0 19 rfl rfl)
theorem dJ10_newCapacity_21 : decode cJ10_newCapacity 21 = .ok (.iload_n 2, 1) := dk_28 (dk_at dksJ10_newCapacity_0 21 rfl rfl)
theorem dJ10_newCapacity_22 : decode cJ10_newCapacity 22 = .ok (.iconst 2, 1) := dk_5 (dk_at dksJ10_newCapacity_0 22 rfl rfl)
theorem dJ10_newCapacity_23 : decode cJ10_newCapacity 23 = .ok (.aload_n 0, 1) := dk_42 (dk_at dksJ10_newCapacity_0 23 rfl rfl)
theorem dJ10_newCapacity_24 : decode cJ10_newCapacity 24 = .ok (.getfield 22, 3) := dk_180 0 22 (dk_at dksJ10_newCapacity_1 0 rfl rfl)
theorem dJ10_newCapacity_27 : decode cJ10_newCapacity 27 = .ok (.ishl, 1) := dk_120 (dk_at dksJ10_newCapacity_1 3 rfl rfl)
theorem dJ10_newCapacity_28 : decode cJ10_newCapacity 28 = .ok (.iadd, 1) := dk_96 (dk_at dksJ10_newCapacity_1 4 rfl rfl)
theorem dJ10_newCapacity_29 : decode cJ10_newCapacity 29 = .ok (.invokestatic 114, 3) := dk_184 0 114 (dk_at dksJ10_newCapacity_1 5 rfl rfl)
theorem dJ10_newCapacity_32 : decode cJ10_newCapacity 32 = .ok (.istore 5, 2) := dk_54 5 (dk_at dksJ10_newCapacity_1 8 rfl rfl)
theorem dJ10_newCapacity_34 : decode cJ10_newCapacity 34 = .ok (.iload 5, 2) := dk_21 5 (dk_at dksJ10_newCapacity_1 10 rfl rfl)
theorem dJ10_newCapacity_36 : decode cJ10_newCapacity 36 = .ok (.ldc 39, 2) := dk_18 39 (dk_at dksJ10_newCapacity_1 12 rfl rfl)
theorem dJ10_newCapacity_38 : decode cJ10_newCapacity 38 = .ok (.if_icmp .ne 13, 3) := dk_160 0 13 (dk_at dksJ10_newCapacity_1 14 rfl rfl)
theorem dJ10_newCapacity_41 : decode cJ10_newCapacity 41 = .ok (.new 120, 3) := dk_187 0 120 (dk_at dksJ10_newCapacity_1 17 rfl rfl)
theorem dJ10_newCapacity_44 : decode cJ10_newCapacity 44 = .ok (.dup, 1) := dk_89 (dk_at dksJ10_newCapacity_1 20 rfl rfl)
theorem dJ10_newCapacity_45 : decode cJ10_newCapacity 45 = .ok (.ldc 122, 2) := dk_18 122 (dk_at dksJ10_newCapacity_1 21 rfl rfl)
theorem dJ10_newCapacity_47 : decode cJ10_newCapacity 47 = .ok (.invokespecial 124, 3) := dk_183 0 124 (dk_at dksJ10_newCapacity_2 0 rfl rfl)
theorem dJ10_newCapacity_50 : decode cJ10_newCapacity 50 = .ok (.athrow, 1) := dk_191 (dk_at dksJ10_newCapacity_2 3 rfl rfl)
theorem dJ10_newCapacity_51 : decode cJ10_newCapacity 51 = .ok (.iload 5, 2) := dk_21 5 (dk_at dksJ10_newCapacity_2 4 rfl rfl)
theorem dJ10_newCapacity_53 : decode cJ10_newCapacity 53 = .ok (.aload_n 0, 1) := dk_42 (dk_at dksJ10_newCapacity_2 6 rfl rfl)
theorem dJ10_newCapacity_54 : decode cJ10_newCapacity 54 = .ok (.getfield 22, 3) := dk_180 0 22 (dk_at dksJ10_newCapacity_2 7 rfl rfl)
theorem dJ10_newCapacity_57 : decode cJ10_newCapacity 57 = .ok (.ishr, 1) := dk_122 (dk_at dksJ10_newCapacity_2 10 rfl rfl)
theorem dJ10_newCapacity_58 : decode cJ10_newCapacity 58 = .ok (.ireturn, 1) := dk_172 (dk_at dksJ10_newCapacity_2 11 rfl rfl)
abbrev cJ10_isLatin1 : ByteArray := prog_22_method_68_code
def yJ10_isLatin1 : MethodName := ⟨RJ10, "isLatin1", "()Z"⟩
def dkwJ10_isLatin1_0 : List UInt8 := [178, 0, 18, 153, 0, 14, 42, 180, 0, 22, 154, 0, 7, 4, 167, 0, 4, 3, 172]
abbrev dktJ10_isLatin1_0 : List UInt8 := dkwJ10_isLatin1_0 ++ []
theorem dksJ10_isLatin1_0 : cJ10_isLatin1.data.toList.drop 0 = dktJ10_isLatin1_0 := by decide +kernel
theorem dJ10_isLatin1_0 : decode cJ10_isLatin1 0 = .ok (.getstatic 18, 3) := dk_178 0 18 (dk_at dksJ10_isLatin1_0 0 rfl rfl)
theorem dJ10_isLatin1_3 : decode cJ10_isLatin1 3 = .ok (.ifCond .eq 14, 3) := dk_153 0 14 (dk_at dksJ10_isLatin1_0 3 rfl rfl)
theorem dJ10_isLatin1_6 : decode cJ10_isLatin1 6 = .ok (.aload_n 0, 1) := dk_42 (dk_at dksJ10_isLatin1_0 6 rfl rfl)
theorem dJ10_isLatin1_7 : decode cJ10_isLatin1 7 = .ok (.getfield 22, 3) := dk_180 0 22 (dk_at dksJ10_isLatin1_0 7 rfl rfl)
theorem dJ10_isLatin1_10 : decode cJ10_isLatin1 10 = .ok (.ifCond .ne 7, 3) := dk_154 0 7 (dk_at dksJ10_isLatin1_0 10 rfl rfl)
theorem dJ10_isLatin1_13 : decode cJ10_isLatin1 13 = .ok (.iconst 1, 1) := dk_4 (dk_at dksJ10_isLatin1_0 13 rfl rfl)
theorem dJ10_isLatin1_14 : decode cJ10_isLatin1 14 = .ok (.goto 4, 3) := dk_167 0 4 (dk_at dksJ10_isLatin1_0 14 rfl rfl)
theorem dJ10_isLatin1_17 : decode cJ10_isLatin1 17 = .ok (.iconst 0, 1) := dk_3 (dk_at dksJ10_isLatin1_0 17 rfl rfl)
theorem dJ10_isLatin1_18 : decode cJ10_isLatin1 18 = .ok (.ireturn, 1) := dk_172 (dk_at dksJ10_isLatin1_0 18 rfl rfl)
abbrev cJ10_inflate : ByteArray := prog_22_method_11_code
def yJ10_inflate : MethodName := ⟨RJ10, "inflate", "()V"⟩
def dkwJ10_inflate_1 : List UInt8 := [42, 180, 0, 79, 184, 0, 125, 42, 43, 181, 0, 15, 42, 4, 181, 0, 22, 177]
abbrev dktJ10_inflate_1 : List UInt8 := dkwJ10_inflate_1 ++ []
def dkwJ10_inflate_0 : List UInt8 := [42, 182, 0, 83, 154, 0, 4, 177, 42, 180, 0, 15, 190, 184, 0, 26, 76, 42, 180, 0, 15, 3, 43, 3]
abbrev dktJ10_inflate_0 : List UInt8 := dkwJ10_inflate_0 ++ dktJ10_inflate_1
theorem dksJ10_inflate_0 : cJ10_inflate.data.toList.drop 0 = dktJ10_inflate_0 := by decide +kernel
theorem dksJ10_inflate_1 : cJ10_inflate.data.toList.drop 24 = dktJ10_inflate_1 := dk_seg dksJ10_inflate_0 24 rfl rfl
theorem dJ10_inflate_0 : decode cJ10_inflate 0 = .ok (.aload_n 0, 1) := dk_42 (dk_at dksJ10_inflate_0 0 rfl rfl)
theorem dJ10_inflate_1 : decode cJ10_inflate 1 = .ok (.invokevirtual 83, 3) := dk_182 0 83 (dk_at dksJ10_inflate_0 1 rfl rfl)
theorem dJ10_inflate_4 : decode cJ10_inflate 4 = .ok (.ifCond .ne 4, 3) := dk_154 0 4 (dk_at dksJ10_inflate_0 4 rfl rfl)
theorem dJ10_inflate_7 : decode cJ10_inflate 7 = .ok (.return_, 1) := dk_177 (dk_at dksJ10_inflate_0 7 rfl rfl)
theorem dJ10_inflate_8 : decode cJ10_inflate 8 = .ok (.aload_n 0, 1) := dk_42 (dk_at dksJ10_inflate_0 8 rfl rfl)
theorem dJ10_inflate_9 : decode cJ10_inflate 9 = .ok (.getfield 15, 3) := dk_180 0 15 (dk_at dksJ10_inflate_0 9 rfl rfl)
theorem dJ10_inflate_12 : decode cJ10_inflate 12 = .ok (.arraylength, 1) := dk_190 (dk_at dksJ10_inflate_0 12 rfl rfl)
theorem dJ10_inflate_13 : decode cJ10_inflate 13 = .ok (.invokestatic 26, 3) := dk_184 0 26 (dk_at dksJ10_inflate_0 13 rfl rfl)
theorem dJ10_inflate_16 : decode cJ10_inflate 16 = .ok (.astore_n 1, 1) := dk_76 (dk_at dksJ10_inflate_0 16 rfl rfl)
theorem dJ10_inflate_17 : decode cJ10_inflate 17 = .ok (.aload_n 0, 1) := dk_42 (dk_at dksJ10_inflate_0 17 rfl rfl)
theorem dJ10_inflate_18 : decode cJ10_inflate 18 = .ok (.getfield 15, 3) := dk_180 0 15 (dk_at dksJ10_inflate_0 18 rfl rfl)
theorem dJ10_inflate_21 : decode cJ10_inflate 21 = .ok (.iconst 0, 1) := dk_3 (dk_at dksJ10_inflate_0 21 rfl rfl)
theorem dJ10_inflate_22 : decode cJ10_inflate 22 = .ok (.aload_n 1, 1) := dk_43 (dk_at dksJ10_inflate_0 22 rfl rfl)
theorem dJ10_inflate_23 : decode cJ10_inflate 23 = .ok (.iconst 0, 1) := dk_3 (dk_at dksJ10_inflate_0 23 rfl rfl)
theorem dJ10_inflate_24 : decode cJ10_inflate 24 = .ok (.aload_n 0, 1) := dk_42 (dk_at dksJ10_inflate_1 0 rfl rfl)
theorem dJ10_inflate_25 : decode cJ10_inflate 25 = .ok (.getfield 79, 3) := dk_180 0 79 (dk_at dksJ10_inflate_1 1 rfl rfl)
theorem dJ10_inflate_28 : decode cJ10_inflate 28 = .ok (.invokestatic 125, 3) := dk_184 0 125 (dk_at dksJ10_inflate_1 4 rfl rfl)
theorem dJ10_inflate_31 : decode cJ10_inflate 31 = .ok (.aload_n 0, 1) := dk_42 (dk_at dksJ10_inflate_1 7 rfl rfl)
theorem dJ10_inflate_32 : decode cJ10_inflate 32 = .ok (.aload_n 1, 1) := dk_43 (dk_at dksJ10_inflate_1 8 rfl rfl)
theorem dJ10_inflate_33 : decode cJ10_inflate 33 = .ok (.putfield 15, 3) := dk_181 0 15 (dk_at dksJ10_inflate_1 9 rfl rfl)
theorem dJ10_inflate_36 : decode cJ10_inflate 36 = .ok (.aload_n 0, 1) := dk_42 (dk_at dksJ10_inflate_1 12 rfl rfl)
theorem dJ10_inflate_37 : decode cJ10_inflate 37 = .ok (.iconst 1, 1) := dk_4 (dk_at dksJ10_inflate_1 13 rfl rfl)
theorem dJ10_inflate_38 : decode cJ10_inflate 38 = .ok (.putfield 22, 3) := dk_181 0 22 (dk_at dksJ10_inflate_1 14 rfl rfl)
theorem dJ10_inflate_41 : decode cJ10_inflate 41 = .ok (.return_, 1) := dk_177 (dk_at dksJ10_inflate_1 17 rfl rfl)
abbrev cJ10_getValue : ByteArray := prog_22_method_64_code
def yJ10_getValue : MethodName := ⟨RJ10, "getValue", "()[B"⟩
theorem dJ10_getValue_0 : decode cJ10_getValue 0 = .ok (.aload_n 0, 1) := by decide +kernel
theorem dJ10_getValue_1 : decode cJ10_getValue 1 = .ok (.getfield 15, 3) := by decide +kernel
theorem dJ10_getValue_4 : decode cJ10_getValue 4 = .ok (.areturn, 1) := by decide +kernel
abbrev cJ10_length : ByteArray := prog_22_method_6_code
def yJ10_length : MethodName := ⟨RJ10, "length", "()I"⟩
theorem dJ10_length_0 : decode cJ10_length 0 = .ok (.aload_n 0, 1) := by decide +kernel
theorem dJ10_length_1 : decode cJ10_length 1 = .ok (.getfield 79, 3) := by decide +kernel
theorem dJ10_length_4 : decode cJ10_length 4 = .ok (.ireturn, 1) := by decide +kernel
theorem q163 : (Jvm.Cond.initialized "java/lang/AbstractStringBuilder") ∈ lw_all := lw_g (lw_at lw_m1 21 rfl) rfl
theorem q822 : (Jvm.Cond.instanceMethod ({ cls := "java/lang/AbstractStringBuilder", name := "<init>", desc := "(I)V" } : Jvm.MethodName)) ∈ lw_all := lw_g (lw_at lw_m3 200 rfl) rfl
theorem q823 : (Jvm.Cond.code ({ cls := "java/lang/AbstractStringBuilder", name := "<init>", desc := "(I)V" } : Jvm.MethodName) prog_22_method_2_code (2 : Nat) (Option.none : Option Jvm.ClassFile.FieldType)) ∈ lw_all := lw_g (lw_at lw_m3 201 rfl) rfl
theorem q824 : (Jvm.Cond.methodLink "java/lang/AbstractStringBuilder" (3 : Nat) ({ cls := "java/lang/Object", name := "<init>", desc := "()V" } : Jvm.MethodName)) ∈ lw_all := lw_g (lw_at lw_m3 202 rfl) rfl
theorem q825 : (Jvm.Cond.fieldLink "java/lang/AbstractStringBuilder" (18 : Nat) "java/lang/String" "COMPACT_STRINGS" "Z") ∈ lw_all := lw_g (lw_at lw_m3 203 rfl) rfl
theorem q826 : (Jvm.Cond.methodLink "java/lang/AbstractStringBuilder" (26 : Nat) ({ cls := "java/lang/StringUTF16", name := "newBytesFor", desc := "(I)[B" } : Jvm.MethodName)) ∈ lw_all := lw_g (lw_at lw_m3 204 rfl) rfl
theorem q833 : (Jvm.Cond.fieldLink "java/lang/AbstractStringBuilder" (15 : Nat) "java/lang/AbstractStringBuilder" "value" "[B") ∈ lw_all := lw_g (lw_at lw_m3 211 rfl) rfl
theorem q834 : (Jvm.Cond.fieldLink "java/lang/AbstractStringBuilder" (22 : Nat) "java/lang/AbstractStringBuilder" "coder" "B") ∈ lw_all := lw_g (lw_at lw_m3 212 rfl) rfl
theorem q836 : (Jvm.Cond.fieldLink "java/lang/AbstractStringBuilder" (79 : Nat) "java/lang/AbstractStringBuilder" "count" "I") ∈ lw_all := lw_g (lw_at lw_m3 214 rfl) rfl
theorem q838 : (Jvm.Cond.soleField "java/lang/AbstractStringBuilder" "value") ∈ lw_all := lw_g (lw_at lw_m3 216 rfl) rfl
theorem q840 : (Jvm.Cond.soleField "java/lang/AbstractStringBuilder" "coder") ∈ lw_all := lw_g (lw_at lw_m3 218 rfl) rfl
theorem q842 : (Jvm.Cond.soleField "java/lang/AbstractStringBuilder" "maybeLatin1") ∈ lw_all := lw_g (lw_at lw_m3 220 rfl) rfl
theorem q844 : (Jvm.Cond.soleField "java/lang/AbstractStringBuilder" "count") ∈ lw_all := lw_g (lw_at lw_m3 222 rfl) rfl
theorem q851 : (Jvm.Cond.instanceMethod ({ cls := "java/lang/AbstractStringBuilder", name := "append", desc := "(C)Ljava/lang/AbstractStringBuilder;" } : Jvm.MethodName)) ∈ lw_all := lw_g (lw_at lw_m3 229 rfl) rfl
theorem q852 : (Jvm.Cond.code ({ cls := "java/lang/AbstractStringBuilder", name := "append", desc := "(C)Ljava/lang/AbstractStringBuilder;" } : Jvm.MethodName) prog_22_method_31_code (2 : Nat) (Option.some (Jvm.ClassFile.FieldType.object "java/lang/AbstractStringBuilder"))) ∈ lw_all := lw_g (lw_at lw_m3 230 rfl) rfl
theorem q853 : (Jvm.Cond.methodLink "java/lang/AbstractStringBuilder" (100 : Nat) ({ cls := "java/lang/AbstractStringBuilder", name := "ensureCapacityInternal", desc := "(I)V" } : Jvm.MethodName)) ∈ lw_all := lw_g (lw_at lw_m3 231 rfl) rfl
theorem q854 : (Jvm.Cond.privateMethod ({ cls := "java/lang/AbstractStringBuilder", name := "ensureCapacityInternal", desc := "(I)V" } : Jvm.MethodName)) ∈ lw_tbl := lw_at lw_m3 232 rfl
theorem q855 : (Jvm.Cond.instanceMethod ({ cls := "java/lang/AbstractStringBuilder", name := "ensureCapacityInternal", desc := "(I)V" } : Jvm.MethodName)) ∈ lw_all := lw_g (lw_at lw_m3 233 rfl) rfl
theorem q856 : (Jvm.Cond.code ({ cls := "java/lang/AbstractStringBuilder", name := "ensureCapacityInternal", desc := "(I)V" } : Jvm.MethodName) prog_22_method_9_code (3 : Nat) (Option.none : Option Jvm.ClassFile.FieldType)) ∈ lw_all := lw_g (lw_at lw_m3 234 rfl) rfl
theorem q857 : (Jvm.Cond.methodLink "java/lang/AbstractStringBuilder" (104 : Nat) ({ cls := "java/lang/AbstractStringBuilder", name := "newCapacity", desc := "(I)I" } : Jvm.MethodName)) ∈ lw_all := lw_g (lw_at lw_m3 235 rfl) rfl
theorem q858 : (Jvm.Cond.privateMethod ({ cls := "java/lang/AbstractStringBuilder", name := "newCapacity", desc := "(I)I" } : Jvm.MethodName)) ∈ lw_tbl := lw_at lw_m3 236 rfl
theorem q859 : (Jvm.Cond.instanceMethod ({ cls := "java/lang/AbstractStringBuilder", name := "newCapacity", desc := "(I)I" } : Jvm.MethodName)) ∈ lw_all := lw_g (lw_at lw_m3 237 rfl) rfl
theorem q860 : (Jvm.Cond.code ({ cls := "java/lang/AbstractStringBuilder", name := "newCapacity", desc := "(I)I" } : Jvm.MethodName) prog_22_method_10_code (6 : Nat) (Option.some Jvm.ClassFile.FieldType.int)) ∈ lw_all := lw_g (lw_at lw_m3 238 rfl) rfl
theorem q861 : (Jvm.Cond.methodLink "java/lang/AbstractStringBuilder" (114 : Nat) ({ cls := "jdk/internal/util/ArraysSupport", name := "newLength", desc := "(III)I" } : Jvm.MethodName)) ∈ lw_all := lw_g (lw_at lw_m3 239 rfl) rfl
theorem q871 : (Jvm.Cond.constant "java/lang/AbstractStringBuilder" (39 : Nat) (2147483647 : Int32)) ∈ lw_all := lw_g (lw_at lw_m4 9 rfl) rfl
theorem q872 : (Jvm.Cond.methodLink "java/lang/AbstractStringBuilder" (108 : Nat) ({ cls := "java/util/Arrays", name := "copyOf", desc := "([BI)[B" } : Jvm.MethodName)) ∈ lw_all := lw_g (lw_at lw_m4 10 rfl) rfl
theorem q888 : (Jvm.Cond.methodLink "java/lang/AbstractStringBuilder" (83 : Nat) ({ cls := "java/lang/AbstractStringBuilder", name := "isLatin1", desc := "()Z" } : Jvm.MethodName)) ∈ lw_all := lw_g (lw_at lw_m4 26 rfl) rfl
theorem q889 : (Jvm.Cond.instanceMethod ({ cls := "java/lang/AbstractStringBuilder", name := "isLatin1", desc := "()Z" } : Jvm.MethodName)) ∈ lw_all := lw_g (lw_at lw_m4 27 rfl) rfl
theorem q890 : (Jvm.Cond.sameMethod "java/lang/AbstractStringBuilder" "java/lang/AbstractStringBuilder" "isLatin1" "()Z") ∈ lw_all := lw_g (lw_at lw_m4 28 rfl) rfl
theorem q892 : (Jvm.Cond.code ({ cls := "java/lang/AbstractStringBuilder", name := "isLatin1", desc := "()Z" } : Jvm.MethodName) prog_22_method_68_code (1 : Nat) (Option.some Jvm.ClassFile.FieldType.boolean)) ∈ lw_all := lw_g (lw_at lw_m4 30 rfl) rfl
theorem q893 : (Jvm.Cond.methodLink "java/lang/AbstractStringBuilder" (191 : Nat) ({ cls := "java/lang/StringLatin1", name := "canEncode", desc := "(C)Z" } : Jvm.MethodName)) ∈ lw_all := lw_g (lw_at lw_m4 31 rfl) rfl
theorem q896 : (Jvm.Cond.methodLink "java/lang/AbstractStringBuilder" (195 : Nat) ({ cls := "java/lang/AbstractStringBuilder", name := "inflate", desc := "()V" } : Jvm.MethodName)) ∈ lw_all := lw_g (lw_at lw_m4 34 rfl) rfl
theorem q897 : (Jvm.Cond.privateMethod ({ cls := "java/lang/AbstractStringBuilder", name := "inflate", desc := "()V" } : Jvm.MethodName)) ∈ lw_tbl := lw_at lw_m4 35 rfl
theorem q898 : (Jvm.Cond.instanceMethod ({ cls := "java/lang/AbstractStringBuilder", name := "inflate", desc := "()V" } : Jvm.MethodName)) ∈ lw_all := lw_g (lw_at lw_m4 36 rfl) rfl
theorem q899 : (Jvm.Cond.code ({ cls := "java/lang/AbstractStringBuilder", name := "inflate", desc := "()V" } : Jvm.MethodName) prog_22_method_11_code (2 : Nat) (Option.none : Option Jvm.ClassFile.FieldType)) ∈ lw_all := lw_g (lw_at lw_m4 37 rfl) rfl
theorem q900 : (Jvm.Cond.methodLink "java/lang/AbstractStringBuilder" (125 : Nat) ({ cls := "java/lang/StringLatin1", name := "inflate", desc := "([BI[BII)V" } : Jvm.MethodName)) ∈ lw_all := lw_g (lw_at lw_m4 38 rfl) rfl
theorem q918 : (Jvm.Cond.methodLink "java/lang/AbstractStringBuilder" (197 : Nat) ({ cls := "java/lang/StringUTF16", name := "putCharSB", desc := "([BII)V" } : Jvm.MethodName)) ∈ lw_all := lw_g (lw_at lw_m4 56 rfl) rfl
theorem q935 : (Jvm.Cond.instanceMethod ({ cls := "java/lang/AbstractStringBuilder", name := "getValue", desc := "()[B" } : Jvm.MethodName)) ∈ lw_all := lw_g (lw_at lw_m4 73 rfl) rfl
theorem q936 : (Jvm.Cond.sameMethod "java/lang/AbstractStringBuilder" "java/lang/AbstractStringBuilder" "getValue" "()[B") ∈ lw_all := lw_g (lw_at lw_m4 74 rfl) rfl
theorem q938 : (Jvm.Cond.code ({ cls := "java/lang/AbstractStringBuilder", name := "getValue", desc := "()[B" } : Jvm.MethodName) prog_22_method_64_code (1 : Nat) (Option.some (Jvm.ClassFile.FieldType.array Jvm.ClassFile.FieldType.byte))) ∈ lw_all := lw_g (lw_at lw_m4 76 rfl) rfl
theorem q940 : (Jvm.Cond.instanceMethod ({ cls := "java/lang/AbstractStringBuilder", name := "length", desc := "()I" } : Jvm.MethodName)) ∈ lw_all := lw_g (lw_at lw_m4 78 rfl) rfl
theorem q941 : (Jvm.Cond.sameMethod "java/lang/AbstractStringBuilder" "java/lang/AbstractStringBuilder" "length" "()I") ∈ lw_all := lw_g (lw_at lw_m4 79 rfl) rfl
theorem q946 : (Jvm.Cond.code ({ cls := "java/lang/AbstractStringBuilder", name := "length", desc := "()I" } : Jvm.MethodName) prog_22_method_6_code (1 : Nat) (Option.some Jvm.ClassFile.FieldType.int)) ∈ lw_all := lw_g (lw_at lw_m4 84 rfl) rfl
theorem q2351 : (Jvm.Cond.sameMethod "java/lang/AbstractStringBuilder" "java/lang/AbstractStringBuilder" "append" "(C)Ljava/lang/AbstractStringBuilder;") ∈ lw_all := lw_g (lw_at lw_m10 49 rfl) rfl
theorem q2352 : (Jvm.Cond.sameMethod "java/lang/AbstractStringBuilder" "java/lang/AbstractStringBuilder" "ensureCapacityInternal" "(I)V") ∈ lw_all := lw_g (lw_at lw_m10 50 rfl) rfl
theorem q2353 : (Jvm.Cond.sameMethod "java/lang/AbstractStringBuilder" "java/lang/AbstractStringBuilder" "newCapacity" "(I)I") ∈ lw_all := lw_g (lw_at lw_m10 51 rfl) rfl
theorem q2354 : (Jvm.Cond.sameMethod "java/lang/AbstractStringBuilder" "java/lang/AbstractStringBuilder" "inflate" "()V") ∈ lw_all := lw_g (lw_at lw_m10 52 rfl) rfl

/-! java/lang/StringBuilder -/
set_option maxRecDepth 100000
def RJ11 : String := "java/lang/StringBuilder"
def TJ11 : u_T := fun k => match k with
  | 0 => ("java/lang/AbstractStringBuilder", "value", "[B", false)
  | 1 => ("java/lang/AbstractStringBuilder", "coder", "B", false)
  | 2 => ("java/lang/AbstractStringBuilder", "maybeLatin1", "Z", false)
  | _ => ("java/lang/AbstractStringBuilder", "count", "I", false)
def tyJ11 : Nat → FieldType := fun k => match k with
  | 0 => .array .byte
  | 1 => .byte
  | 2 => .boolean
  | _ => .int
abbrev wsJ110 : List Cond := u_ws RJ11 TJ11 4
theorem nmJ11 : ∀ a, a < 4 → ∀ b, b < 4 → a ≠ b → (TJ11 a).2.1 ≠ (TJ11 b).2.1 := by decide +kernel
theorem tyJ11_ok : ∀ k, k < 4 → parseFieldDescriptor (TJ11 k).2.2.1 = some (tyJ11 k) := by decide +kernel
abbrev cJ11_init : ByteArray := prog_32_method_1_code
def yJ11_init : MethodName := ⟨RJ11, "<init>", "()V"⟩
def dkwJ11_init_0 : List UInt8 := [42, 16, 16, 183, 0, 1, 177]
abbrev dktJ11_init_0 : List UInt8 := dkwJ11_init_0 ++ []
theorem dksJ11_init_0 : cJ11_init.data.toList.drop 0 = dktJ11_init_0 := by decide +kernel
theorem dJ11_init_0 : decode cJ11_init 0 = .ok (.aload_n 0, 1) := dk_42 (dk_at dksJ11_init_0 0 rfl rfl)
theorem dJ11_init_1 : decode cJ11_init 1 = .ok (.bipush 16, 2) := dk_16 16 (dk_at dksJ11_init_0 1 rfl rfl)
theorem dJ11_init_3 : decode cJ11_init 3 = .ok (.invokespecial 1, 3) := dk_183 0 1 (dk_at dksJ11_init_0 3 rfl rfl)
theorem dJ11_init_6 : decode cJ11_init 6 = .ok (.return_, 1) := dk_177 (dk_at dksJ11_init_0 6 rfl rfl)
abbrev cJ11_append : ByteArray := prog_32_method_14_code
def yJ11_append : MethodName := ⟨RJ11, "append", "(C)Ljava/lang/StringBuilder;"⟩
def dkwJ11_append_0 : List UInt8 := [42, 27, 183, 0, 50, 87, 42, 176]
abbrev dktJ11_append_0 : List UInt8 := dkwJ11_append_0 ++ []
theorem dksJ11_append_0 : cJ11_append.data.toList.drop 0 = dktJ11_append_0 := by decide +kernel
theorem dJ11_append_0 : decode cJ11_append 0 = .ok (.aload_n 0, 1) := dk_42 (dk_at dksJ11_append_0 0 rfl rfl)
theorem dJ11_append_1 : decode cJ11_append 1 = .ok (.iload_n 1, 1) := dk_27 (dk_at dksJ11_append_0 1 rfl rfl)
theorem dJ11_append_2 : decode cJ11_append 2 = .ok (.invokespecial 50, 3) := dk_183 0 50 (dk_at dksJ11_append_0 2 rfl rfl)
theorem dJ11_append_5 : decode cJ11_append 5 = .ok (.pop, 1) := dk_87 (dk_at dksJ11_append_0 5 rfl rfl)
theorem dJ11_append_6 : decode cJ11_append 6 = .ok (.aload_n 0, 1) := dk_42 (dk_at dksJ11_append_0 6 rfl rfl)
theorem dJ11_append_7 : decode cJ11_append 7 = .ok (.areturn, 1) := dk_176 (dk_at dksJ11_append_0 7 rfl rfl)
abbrev cJ11_toString : ByteArray := prog_32_method_42_code
def yJ11_toString : MethodName := ⟨RJ11, "toString", "()Ljava/lang/String;"⟩
def dkwJ11_toString_0 : List UInt8 := [187, 0, 18, 89, 42, 183, 0, 137, 176]
abbrev dktJ11_toString_0 : List UInt8 := dkwJ11_toString_0 ++ []
theorem dksJ11_toString_0 : cJ11_toString.data.toList.drop 0 = dktJ11_toString_0 := by decide +kernel
theorem dJ11_toString_0 : decode cJ11_toString 0 = .ok (.new 18, 3) := dk_187 0 18 (dk_at dksJ11_toString_0 0 rfl rfl)
theorem dJ11_toString_3 : decode cJ11_toString 3 = .ok (.dup, 1) := dk_89 (dk_at dksJ11_toString_0 3 rfl rfl)
theorem dJ11_toString_4 : decode cJ11_toString 4 = .ok (.aload_n 0, 1) := dk_42 (dk_at dksJ11_toString_0 4 rfl rfl)
theorem dJ11_toString_5 : decode cJ11_toString 5 = .ok (.invokespecial 137, 3) := dk_183 0 137 (dk_at dksJ11_toString_0 5 rfl rfl)
theorem dJ11_toString_8 : decode cJ11_toString 8 = .ok (.areturn, 1) := dk_176 (dk_at dksJ11_toString_0 8 rfl rfl)
abbrev cJ11_length : ByteArray := prog_32_method_93_code
def yJ11_length : MethodName := ⟨RJ11, "length", "()I"⟩
theorem dJ11_length_0 : decode cJ11_length 0 = .ok (.aload_n 0, 1) := by decide +kernel
theorem dJ11_length_1 : decode cJ11_length 1 = .ok (.invokespecial 343, 3) := by decide +kernel
theorem dJ11_length_4 : decode cJ11_length 4 = .ok (.ireturn, 1) := by decide +kernel
theorem q164 : (Jvm.Cond.initialized "java/lang/StringBuilder") ∈ lw_all := lw_g (lw_at lw_m1 22 rfl) rfl
theorem q817 : (Jvm.Cond.instantiable "java/lang/StringBuilder" (4 : Nat)) ∈ lw_all := lw_g (lw_at lw_m3 195 rfl) rfl
theorem q819 : (Jvm.Cond.instanceMethod ({ cls := "java/lang/StringBuilder", name := "<init>", desc := "()V" } : Jvm.MethodName)) ∈ lw_all := lw_g (lw_at lw_m3 197 rfl) rfl
theorem q820 : (Jvm.Cond.code ({ cls := "java/lang/StringBuilder", name := "<init>", desc := "()V" } : Jvm.MethodName) prog_32_method_1_code (1 : Nat) (Option.none : Option Jvm.ClassFile.FieldType)) ∈ lw_all := lw_g (lw_at lw_m3 198 rfl) rfl
theorem q821 : (Jvm.Cond.methodLink "java/lang/StringBuilder" (1 : Nat) ({ cls := "java/lang/AbstractStringBuilder", name := "<init>", desc := "(I)V" } : Jvm.MethodName)) ∈ lw_all := lw_g (lw_at lw_m3 199 rfl) rfl
theorem q837 : (Jvm.Cond.lays "java/lang/StringBuilder" "java/lang/AbstractStringBuilder" "value" "[B") ∈ lw_all := lw_g (lw_at lw_m3 215 rfl) rfl
theorem q839 : (Jvm.Cond.lays "java/lang/StringBuilder" "java/lang/AbstractStringBuilder" "coder" "B") ∈ lw_all := lw_g (lw_at lw_m3 217 rfl) rfl
theorem q841 : (Jvm.Cond.lays "java/lang/StringBuilder" "java/lang/AbstractStringBuilder" "maybeLatin1" "Z") ∈ lw_all := lw_g (lw_at lw_m3 219 rfl) rfl
theorem q843 : (Jvm.Cond.lays "java/lang/StringBuilder" "java/lang/AbstractStringBuilder" "count" "I") ∈ lw_all := lw_g (lw_at lw_m3 221 rfl) rfl
theorem q845 : (Jvm.Cond.superclass "java/lang/StringBuilder" "java/lang/AbstractStringBuilder") ∈ lw_all := lw_g (lw_at lw_m3 223 rfl) rfl
theorem q847 : (Jvm.Cond.instanceMethod ({ cls := "java/lang/StringBuilder", name := "append", desc := "(C)Ljava/lang/StringBuilder;" } : Jvm.MethodName)) ∈ lw_all := lw_g (lw_at lw_m3 225 rfl) rfl
theorem q848 : (Jvm.Cond.selects "java/lang/StringBuilder" ({ cls := "java/lang/StringBuilder", name := "append", desc := "(C)Ljava/lang/StringBuilder;" } : Jvm.MethodName) ({ cls := "java/lang/StringBuilder", name := "append", desc := "(C)Ljava/lang/StringBuilder;" } : Jvm.MethodName)) ∈ lw_all := lw_g (lw_at lw_m3 226 rfl) rfl
theorem q849 : (Jvm.Cond.code ({ cls := "java/lang/StringBuilder", name := "append", desc := "(C)Ljava/lang/StringBuilder;" } : Jvm.MethodName) prog_32_method_14_code (2 : Nat) (Option.some (Jvm.ClassFile.FieldType.object "java/lang/StringBuilder"))) ∈ lw_all := lw_g (lw_at lw_m3 227 rfl) rfl
theorem q850 : (Jvm.Cond.methodLink "java/lang/StringBuilder" (50 : Nat) ({ cls := "java/lang/AbstractStringBuilder", name := "append", desc := "(C)Ljava/lang/AbstractStringBuilder;" } : Jvm.MethodName)) ∈ lw_all := lw_g (lw_at lw_m3 228 rfl) rfl
theorem q891 : (Jvm.Cond.selects "java/lang/StringBuilder" ({ cls := "java/lang/AbstractStringBuilder", name := "isLatin1", desc := "()Z" } : Jvm.MethodName) ({ cls := "java/lang/AbstractStringBuilder", name := "isLatin1", desc := "()Z" } : Jvm.MethodName)) ∈ lw_all := lw_g (lw_at lw_m4 29 rfl) rfl
theorem q922 : (Jvm.Cond.instanceMethod ({ cls := "java/lang/StringBuilder", name := "toString", desc := "()Ljava/lang/String;" } : Jvm.MethodName)) ∈ lw_all := lw_g (lw_at lw_m4 60 rfl) rfl
theorem q923 : (Jvm.Cond.selects "java/lang/StringBuilder" ({ cls := "java/lang/StringBuilder", name := "toString", desc := "()Ljava/lang/String;" } : Jvm.MethodName) ({ cls := "java/lang/StringBuilder", name := "toString", desc := "()Ljava/lang/String;" } : Jvm.MethodName)) ∈ lw_all := lw_g (lw_at lw_m4 61 rfl) rfl
theorem q924 : (Jvm.Cond.code ({ cls := "java/lang/StringBuilder", name := "toString", desc := "()Ljava/lang/String;" } : Jvm.MethodName) prog_32_method_42_code (1 : Nat) (Option.some (Jvm.ClassFile.FieldType.object "java/lang/String"))) ∈ lw_all := lw_g (lw_at lw_m4 62 rfl) rfl
theorem q925 : (Jvm.Cond.classLink "java/lang/StringBuilder" (18 : Nat) "java/lang/String") ∈ lw_all := lw_g (lw_at lw_m4 63 rfl) rfl
theorem q927 : (Jvm.Cond.methodLink "java/lang/StringBuilder" (137 : Nat) ({ cls := "java/lang/String", name := "<init>", desc := "(Ljava/lang/StringBuilder;)V" } : Jvm.MethodName)) ∈ lw_all := lw_g (lw_at lw_m4 65 rfl) rfl
theorem q937 : (Jvm.Cond.selects "java/lang/StringBuilder" ({ cls := "java/lang/AbstractStringBuilder", name := "getValue", desc := "()[B" } : Jvm.MethodName) ({ cls := "java/lang/AbstractStringBuilder", name := "getValue", desc := "()[B" } : Jvm.MethodName)) ∈ lw_all := lw_g (lw_at lw_m4 75 rfl) rfl
theorem q942 : (Jvm.Cond.selects "java/lang/StringBuilder" ({ cls := "java/lang/AbstractStringBuilder", name := "length", desc := "()I" } : Jvm.MethodName) ({ cls := "java/lang/StringBuilder", name := "length", desc := "()I" } : Jvm.MethodName)) ∈ lw_all := lw_g (lw_at lw_m4 80 rfl) rfl
theorem q943 : (Jvm.Cond.instanceMethod ({ cls := "java/lang/StringBuilder", name := "length", desc := "()I" } : Jvm.MethodName)) ∈ lw_all := lw_g (lw_at lw_m4 81 rfl) rfl
theorem q944 : (Jvm.Cond.code ({ cls := "java/lang/StringBuilder", name := "length", desc := "()I" } : Jvm.MethodName) prog_32_method_93_code (1 : Nat) (Option.some Jvm.ClassFile.FieldType.int)) ∈ lw_all := lw_g (lw_at lw_m4 82 rfl) rfl
theorem q945 : (Jvm.Cond.methodLink "java/lang/StringBuilder" (343 : Nat) ({ cls := "java/lang/AbstractStringBuilder", name := "length", desc := "()I" } : Jvm.MethodName)) ∈ lw_all := lw_g (lw_at lw_m4 83 rfl) rfl
theorem q1248 : (Jvm.Cond.selects "java/lang/StringBuilder" ({ cls := "java/lang/Object", name := "getClass", desc := "()Ljava/lang/Class;" } : Jvm.MethodName) ({ cls := "java/lang/Object", name := "getClass", desc := "()Ljava/lang/Class;" } : Jvm.MethodName)) ∈ lw_all := lw_g (lw_at lw_m5 146 rfl) rfl
theorem q2368 : (Jvm.Cond.castable "java/lang/StringBuilder" "java/lang/Object") ∈ lw_tbl := lw_at lw_m10 66 rfl
theorem in_J11 : ∀ w ∈ wsJ110, w ∈ lw_all := lw_in wsJ110 [837, 839, 841, 843] (by decide +kernel) (by decide +kernel)

/-! jdk/internal/util/ArraysSupport -/
set_option maxRecDepth 100000
def RJ12 : String := "jdk/internal/util/ArraysSupport"
abbrev cJ12_newLength : ByteArray := prog_50_method_27_code
def yJ12_newLength : MethodName := ⟨RJ12, "newLength", "(III)I"⟩
def dkwJ12_newLength_1 : List UInt8 := [184, 0, 201, 172]
abbrev dktJ12_newLength_1 : List UInt8 := dkwJ12_newLength_1 ++ []
def dkwJ12_newLength_0 : List UInt8 := [26, 27, 28, 184, 0, 194, 96, 62, 3, 29, 162, 0, 11, 29, 18, 200, 163, 0, 5, 29, 172, 26, 27]
abbrev dktJ12_newLength_0 : List UInt8 := dkwJ12_newLength_0 ++ dktJ12_newLength_1
theorem dksJ12_newLength_0 : cJ12_newLength.data.toList.drop 0 = dktJ12_newLength_0 := by decide +kernel
theorem dksJ12_newLength_1 : cJ12_newLength.data.toList.drop 23 = dktJ12_newLength_1 := dk_seg dksJ12_newLength_0 23 rfl rfl
theorem dJ12_newLength_0 : decode cJ12_newLength 0 = .ok (.iload_n 0, 1) := dk_26 (dk_at dksJ12_newLength_0 0 rfl rfl)
theorem dJ12_newLength_1 : decode cJ12_newLength 1 = .ok (.iload_n 1, 1) := dk_27 (dk_at dksJ12_newLength_0 1 rfl rfl)
theorem dJ12_newLength_2 : decode cJ12_newLength 2 = .ok (.iload_n 2, 1) := dk_28 (dk_at dksJ12_newLength_0 2 rfl rfl)
theorem dJ12_newLength_3 : decode cJ12_newLength 3 = .ok (.invokestatic 194, 3) := dk_184 0 194 (dk_at dksJ12_newLength_0 3 rfl rfl)
theorem dJ12_newLength_6 : decode cJ12_newLength 6 = .ok (.iadd, 1) := dk_96 (dk_at dksJ12_newLength_0 6 rfl rfl)
theorem dJ12_newLength_7 : decode cJ12_newLength 7 = .ok (.istore_n 3, 1) := dk_62 (dk_at dksJ12_newLength_0 7 rfl rfl)
theorem dJ12_newLength_8 : decode cJ12_newLength 8 = .ok (.iconst 0, 1) := dk_3 (dk_at dksJ12_newLength_0 8 rfl rfl)
theorem dJ12_newLength_9 : decode cJ12_newLength 9 = .ok (.iload_n 3, 1) := dk_29 (dk_at dksJ12_newLength_0 9 rfl rfl)
theorem dJ12_newLength_10 : decode cJ12_newLength 10 = .ok (.if_icmp .ge 11, 3) := dk_162 0 11 (dk_at dksJ12_newLength_0 10 rfl rfl)
theorem dJ12_newLength_13 : decode cJ12_newLength 13 = .ok (.iload_n 3, 1) := dk_29 (dk_at dksJ12_newLength_0 13 rfl rfl)
theorem dJ12_newLength_14 : decode cJ12_newLength 14 = .ok (.ldc 200, 2) := dk_18 200 (dk_at dksJ12_newLength_0 14 rfl rfl)
theorem dJ12_newLength_16 : decode cJ12_newLength 16 = .ok (.if_icmp .gt 5, 3) := dk_163 0 5 (dk_at dksJ12_newLength_0 16 rfl rfl)
theorem dJ12_newLength_19 : decode cJ12_newLength 19 = .ok (.iload_n 3, 1) := dk_29 (dk_at dksJ12_newLength_0 19 rfl rfl)
theorem dJ12_newLength_20 : decode cJ12_newLength 20 = .ok (.ireturn, 1) := dk_172 (dk_at dksJ12_newLength_0 20 rfl rfl)
theorem dJ12_newLength_21 : decode cJ12_newLength 21 = .ok (.iload_n 0, 1) := dk_26 (dk_at dksJ12_newLength_0 21 rfl rfl)
theorem dJ12_newLength_22 : decode cJ12_newLength 22 = .ok (.iload_n 1, 1) := dk_27 (dk_at dksJ12_newLength_0 22 rfl rfl)
theorem dJ12_newLength_23 : decode cJ12_newLength 23 = .ok (.invokestatic 201, 3) := dk_184 0 201 (dk_at dksJ12_newLength_1 0 rfl rfl)
theorem dJ12_newLength_26 : decode cJ12_newLength 26 = .ok (.ireturn, 1) := dk_172 (dk_at dksJ12_newLength_1 3 rfl rfl)
abbrev cJ12_hugeLength : ByteArray := prog_50_method_28_code
def yJ12_hugeLength : MethodName := ⟨RJ12, "hugeLength", "(II)I"⟩
def dkwJ12_hugeLength_2 : List UInt8 := [191, 28, 18, 200, 163, 0, 6, 18, 200, 172, 28, 172]
abbrev dktJ12_hugeLength_2 : List UInt8 := dkwJ12_hugeLength_2 ++ []
def dkwJ12_hugeLength_1 : List UInt8 := [26, 182, 0, 98, 18, 208, 182, 0, 94, 27, 182, 0, 98, 18, 210, 182, 0, 94, 182, 0, 101, 183, 0, 212]
abbrev dktJ12_hugeLength_1 : List UInt8 := dkwJ12_hugeLength_1 ++ dktJ12_hugeLength_2
def dkwJ12_hugeLength_0 : List UInt8 := [26, 27, 96, 61, 28, 156, 0, 44, 187, 0, 204, 89, 187, 0, 89, 89, 183, 0, 91, 18, 206, 182, 0, 94]
abbrev dktJ12_hugeLength_0 : List UInt8 := dkwJ12_hugeLength_0 ++ dktJ12_hugeLength_1
theorem dksJ12_hugeLength_0 : cJ12_hugeLength.data.toList.drop 0 = dktJ12_hugeLength_0 := by decide +kernel
theorem dksJ12_hugeLength_1 : cJ12_hugeLength.data.toList.drop 24 = dktJ12_hugeLength_1 := dk_seg dksJ12_hugeLength_0 24 rfl rfl
theorem dksJ12_hugeLength_2 : cJ12_hugeLength.data.toList.drop 48 = dktJ12_hugeLength_2 := dk_seg dksJ12_hugeLength_1 24 rfl rfl
theorem dJ12_hugeLength_0 : decode cJ12_hugeLength 0 = .ok (.iload_n 0, 1) := dk_26 (dk_at dksJ12_hugeLength_0 0 rfl rfl)
theorem dJ12_hugeLength_1 : decode cJ12_hugeLength 1 = .ok (.iload_n 1, 1) := dk_27 (dk_at dksJ12_hugeLength_0 1 rfl rfl)
theorem dJ12_hugeLength_2 : decode cJ12_hugeLength 2 = .ok (.iadd, 1) := dk_96 (dk_at dksJ12_hugeLength_0 2 rfl rfl)
theorem dJ12_hugeLength_3 : decode cJ12_hugeLength 3 = .ok (.istore_n 2, 1) := dk_61 (dk_at dksJ12_hugeLength_0 3 rfl rfl)
theorem dJ12_hugeLength_4 : decode cJ12_hugeLength 4 = .ok (.iload_n 2, 1) := dk_28 (dk_at dksJ12_hugeLength_0 4 rfl rfl)
theorem dJ12_hugeLength_5 : decode cJ12_hugeLength 5 = .ok (.ifCond .ge 44, 3) := dk_156 0 44 (dk_at dksJ12_hugeLength_0 5 rfl rfl)
theorem dJ12_hugeLength_8 : decode cJ12_hugeLength 8 = .ok (.new 204, 3) := dk_187 0 204 (dk_at dksJ12_hugeLength_0 8 rfl rfl)
theorem dJ12_hugeLength_11 : decode cJ12_hugeLength 11 = .ok (.dup, 1) := dk_89 (dk_at dksJ12_hugeLength_0 11 rfl rfl)
theorem dJ12_hugeLength_12 : decode cJ12_hugeLength 12 = .ok (.new 89, 3) := dk_187 0 89 (dk_at dksJ12_hugeLength_0 12 rfl rfl)
theorem dJ12_hugeLength_15 : decode cJ12_hugeLength 15 = .ok (.dup, 1) := dk_89 (dk_at dksJ12_hugeLength_0 15 rfl rfl)
theorem dJ12_hugeLength_16 : decode cJ12_hugeLength 16 = .ok (.invokespecial 91, 3) := dk_183 0 91 (dk_at dksJ12_hugeLength_0 16 rfl rfl)
theorem dJ12_hugeLength_19 : decode cJ12_hugeLength 19 = .ok (.ldc 206, 2) := dk_18 206 (dk_at dksJ12_hugeLength_0 19 rfl rfl)
theorem dJ12_hugeLength_21 : decode cJ12_hugeLength 21 = .ok (.invokevirtual 94, 3) := dk_182 0 94 (dk_at dksJ12_hugeLength_0 21 rfl rfl)
theorem dJ12_hugeLength_24 : decode cJ12_hugeLength 24 = .ok (.iload_n 0, 1) := dk_26 (dk_at dksJ12_hugeLength_1 0 rfl rfl)
theorem dJ12_hugeLength_25 : decode cJ12_hugeLength 25 = .ok (.invokevirtual 98, 3) := dk_182 0 98 (dk_at dksJ12_hugeLength_1 1 rfl rfl)
theorem dJ12_hugeLength_28 : decode cJ12_hugeLength 28 = .ok (.ldc 208, 2) := dk_18 208 (dk_at dksJ12_hugeLength_1 4 rfl rfl)
theorem dJ12_hugeLength_30 : decode cJ12_hugeLength 30 = .ok (.invokevirtual 94, 3) := dk_182 0 94 (dk_at dksJ12_hugeLength_1 6 rfl rfl)
theorem dJ12_hugeLength_33 : decode cJ12_hugeLength 33 = .ok (.iload_n 1, 1) := dk_27 (dk_at dksJ12_hugeLength_1 9 rfl rfl)
theorem dJ12_hugeLength_34 : decode cJ12_hugeLength 34 = .ok (.invokevirtual 98, 3) := dk_182 0 98 (dk_at dksJ12_hugeLength_1 10 rfl rfl)
theorem dJ12_hugeLength_37 : decode cJ12_hugeLength 37 = .ok (.ldc 210, 2) := dk_18 210 (dk_at dksJ12_hugeLength_1 13 rfl rfl)
theorem dJ12_hugeLength_39 : decode cJ12_hugeLength 39 = .ok (.invokevirtual 94, 3) := dk_182 0 94 (dk_at dksJ12_hugeLength_1 15 rfl rfl)
theorem dJ12_hugeLength_42 : decode cJ12_hugeLength 42 = .ok (.invokevirtual 101, 3) := dk_182 0 101 (dk_at dksJ12_hugeLength_1 18 rfl rfl)
theorem dJ12_hugeLength_45 : decode cJ12_hugeLength 45 = .ok (.invokespecial 212, 3) := dk_183 0 212 (dk_at dksJ12_hugeLength_1 21 rfl rfl)
theorem dJ12_hugeLength_48 : decode cJ12_hugeLength 48 = .ok (.athrow, 1) := dk_191 (dk_at dksJ12_hugeLength_2 0 rfl rfl)
theorem dJ12_hugeLength_49 : decode cJ12_hugeLength 49 = .ok (.iload_n 2, 1) := dk_28 (dk_at dksJ12_hugeLength_2 1 rfl rfl)
theorem dJ12_hugeLength_50 : decode cJ12_hugeLength 50 = .ok (.ldc 200, 2) := dk_18 200 (dk_at dksJ12_hugeLength_2 2 rfl rfl)
theorem dJ12_hugeLength_52 : decode cJ12_hugeLength 52 = .ok (.if_icmp .gt 6, 3) := dk_163 0 6 (dk_at dksJ12_hugeLength_2 4 rfl rfl)
theorem dJ12_hugeLength_55 : decode cJ12_hugeLength 55 = .ok (.ldc 200, 2) := dk_18 200 (dk_at dksJ12_hugeLength_2 7 rfl rfl)
theorem dJ12_hugeLength_57 : decode cJ12_hugeLength 57 = .ok (.ireturn, 1) := dk_172 (dk_at dksJ12_hugeLength_2 9 rfl rfl)
theorem dJ12_hugeLength_58 : decode cJ12_hugeLength 58 = .ok (.iload_n 2, 1) := dk_28 (dk_at dksJ12_hugeLength_2 10 rfl rfl)
theorem dJ12_hugeLength_59 : decode cJ12_hugeLength 59 = .ok (.ireturn, 1) := dk_172 (dk_at dksJ12_hugeLength_2 11 rfl rfl)
abbrev cJ12_vectorizedHashCode : ByteArray := prog_50_method_4_code
def yJ12_vectorizedHashCode : MethodName := ⟨RJ12, "vectorizedHashCode", "(Ljava/lang/Object;IIII)I"⟩
def dkwJ12_vectorizedHashCode_6 : List UInt8 := [183, 0, 91, 18, 92, 182, 0, 94, 21, 4, 182, 0, 98, 182, 0, 101, 183, 0, 105, 191, 172]
abbrev dktJ12_vectorizedHashCode_6 : List UInt8 := dkwJ12_vectorizedHashCode_6 ++ []
def dkwJ12_vectorizedHashCode_5 : List UInt8 := [167, 0, 44, 29, 42, 192, 0, 82, 27, 28, 184, 0, 84, 167, 0, 31, 187, 0, 87, 89, 187, 0, 89, 89]
abbrev dktJ12_vectorizedHashCode_5 : List UInt8 := dkwJ12_vectorizedHashCode_5 ++ dktJ12_vectorizedHashCode_6
def dkwJ12_vectorizedHashCode_4 : List UInt8 := [29, 42, 192, 0, 60, 27, 28, 184, 0, 75, 167, 0, 57, 29, 42, 192, 0, 77, 27, 28, 184, 0, 79]
abbrev dktJ12_vectorizedHashCode_4 : List UInt8 := dkwJ12_vectorizedHashCode_4 ++ dktJ12_vectorizedHashCode_5
def dkwJ12_vectorizedHashCode_3 : List UInt8 := [192, 0, 60, 27, 28, 184, 0, 66, 167, 0, 83, 29, 42, 192, 0, 69, 27, 28, 184, 0, 71, 167, 0, 70]
abbrev dktJ12_vectorizedHashCode_3 : List UInt8 := dkwJ12_vectorizedHashCode_3 ++ dktJ12_vectorizedHashCode_4
def dkwJ12_vectorizedHashCode_2 : List UInt8 := [29, 42, 192, 0, 60, 27, 28, 184, 0, 62, 167, 0, 103, 42, 193, 0, 60, 153, 0, 16, 29, 42]
abbrev dktJ12_vectorizedHashCode_2 : List UInt8 := dkwJ12_vectorizedHashCode_2 ++ dktJ12_vectorizedHashCode_3
def dkwJ12_vectorizedHashCode_1 : List UInt8 := [170, 0, 0, 0, 0, 127, 0, 0, 0, 4, 0, 0, 0, 10, 0, 0, 0, 42, 0, 0, 0, 55, 0, 0, 0, 127, 0, 0, 0, 127, 0, 0, 0, 88, 0, 0, 0, 101, 0, 0, 0, 114]
abbrev dktJ12_vectorizedHashCode_1 : List UInt8 := dkwJ12_vectorizedHashCode_1 ++ dktJ12_vectorizedHashCode_2
def dkwJ12_vectorizedHashCode_0 : List UInt8 := [21, 4]
abbrev dktJ12_vectorizedHashCode_0 : List UInt8 := dkwJ12_vectorizedHashCode_0 ++ dktJ12_vectorizedHashCode_1
theorem dksJ12_vectorizedHashCode_0 : cJ12_vectorizedHashCode.data.toList.drop 0 = dktJ12_vectorizedHashCode_0 := by decide +kernel
theorem dksJ12_vectorizedHashCode_1 : cJ12_vectorizedHashCode.data.toList.drop 2 = dktJ12_vectorizedHashCode_1 := dk_seg dksJ12_vectorizedHashCode_0 2 rfl rfl
theorem dksJ12_vectorizedHashCode_2 : cJ12_vectorizedHashCode.data.toList.drop 44 = dktJ12_vectorizedHashCode_2 := dk_seg dksJ12_vectorizedHashCode_1 42 rfl rfl
theorem dksJ12_vectorizedHashCode_3 : cJ12_vectorizedHashCode.data.toList.drop 66 = dktJ12_vectorizedHashCode_3 := dk_seg dksJ12_vectorizedHashCode_2 22 rfl rfl
theorem dksJ12_vectorizedHashCode_4 : cJ12_vectorizedHashCode.data.toList.drop 90 = dktJ12_vectorizedHashCode_4 := dk_seg dksJ12_vectorizedHashCode_3 24 rfl rfl
theorem dksJ12_vectorizedHashCode_5 : cJ12_vectorizedHashCode.data.toList.drop 113 = dktJ12_vectorizedHashCode_5 := dk_seg dksJ12_vectorizedHashCode_4 23 rfl rfl
theorem dksJ12_vectorizedHashCode_6 : cJ12_vectorizedHashCode.data.toList.drop 137 = dktJ12_vectorizedHashCode_6 := dk_seg dksJ12_vectorizedHashCode_5 24 rfl rfl
theorem dJ12_vectorizedHashCode_0 : decode cJ12_vectorizedHashCode 0 = .ok (.iload 4, 2) := dk_21 4 (dk_at dksJ12_vectorizedHashCode_0 0 rfl rfl)
theorem dJ12_vectorizedHashCode_2 : decode cJ12_vectorizedHashCode 2 = .ok (.tableswitch 127 4 10 #[42, 55, 127, 127, 88, 101, 114], 42) := by decide +kernel
theorem dJ12_vectorizedHashCode_44 : decode cJ12_vectorizedHashCode 44 = .ok (.iload_n 3, 1) := dk_29 (dk_at dksJ12_vectorizedHashCode_2 0 rfl rfl)
theorem dJ12_vectorizedHashCode_45 : decode cJ12_vectorizedHashCode 45 = .ok (.aload_n 0, 1) := dk_42 (dk_at dksJ12_vectorizedHashCode_2 1 rfl rfl)
theorem dJ12_vectorizedHashCode_46 : decode cJ12_vectorizedHashCode 46 = .ok (.checkcast 60, 3) := dk_192 0 60 (dk_at dksJ12_vectorizedHashCode_2 2 rfl rfl)
theorem dJ12_vectorizedHashCode_49 : decode cJ12_vectorizedHashCode 49 = .ok (.iload_n 1, 1) := dk_27 (dk_at dksJ12_vectorizedHashCode_2 5 rfl rfl)
theorem dJ12_vectorizedHashCode_50 : decode cJ12_vectorizedHashCode 50 = .ok (.iload_n 2, 1) := dk_28 (dk_at dksJ12_vectorizedHashCode_2 6 rfl rfl)
theorem dJ12_vectorizedHashCode_51 : decode cJ12_vectorizedHashCode 51 = .ok (.invokestatic 62, 3) := dk_184 0 62 (dk_at dksJ12_vectorizedHashCode_2 7 rfl rfl)
theorem dJ12_vectorizedHashCode_54 : decode cJ12_vectorizedHashCode 54 = .ok (.goto 103, 3) := dk_167 0 103 (dk_at dksJ12_vectorizedHashCode_2 10 rfl rfl)
theorem dJ12_vectorizedHashCode_57 : decode cJ12_vectorizedHashCode 57 = .ok (.aload_n 0, 1) := dk_42 (dk_at dksJ12_vectorizedHashCode_2 13 rfl rfl)
theorem dJ12_vectorizedHashCode_58 : decode cJ12_vectorizedHashCode 58 = .ok (.instanceof 60, 3) := dk_193 0 60 (dk_at dksJ12_vectorizedHashCode_2 14 rfl rfl)
theorem dJ12_vectorizedHashCode_61 : decode cJ12_vectorizedHashCode 61 = .ok (.ifCond .eq 16, 3) := dk_153 0 16 (dk_at dksJ12_vectorizedHashCode_2 17 rfl rfl)
theorem dJ12_vectorizedHashCode_64 : decode cJ12_vectorizedHashCode 64 = .ok (.iload_n 3, 1) := dk_29 (dk_at dksJ12_vectorizedHashCode_2 20 rfl rfl)
theorem dJ12_vectorizedHashCode_65 : decode cJ12_vectorizedHashCode 65 = .ok (.aload_n 0, 1) := dk_42 (dk_at dksJ12_vectorizedHashCode_2 21 rfl rfl)
theorem dJ12_vectorizedHashCode_66 : decode cJ12_vectorizedHashCode 66 = .ok (.checkcast 60, 3) := dk_192 0 60 (dk_at dksJ12_vectorizedHashCode_3 0 rfl rfl)
theorem dJ12_vectorizedHashCode_69 : decode cJ12_vectorizedHashCode 69 = .ok (.iload_n 1, 1) := dk_27 (dk_at dksJ12_vectorizedHashCode_3 3 rfl rfl)
theorem dJ12_vectorizedHashCode_70 : decode cJ12_vectorizedHashCode 70 = .ok (.iload_n 2, 1) := dk_28 (dk_at dksJ12_vectorizedHashCode_3 4 rfl rfl)
theorem dJ12_vectorizedHashCode_71 : decode cJ12_vectorizedHashCode 71 = .ok (.invokestatic 66, 3) := dk_184 0 66 (dk_at dksJ12_vectorizedHashCode_3 5 rfl rfl)
theorem dJ12_vectorizedHashCode_74 : decode cJ12_vectorizedHashCode 74 = .ok (.goto 83, 3) := dk_167 0 83 (dk_at dksJ12_vectorizedHashCode_3 8 rfl rfl)
theorem dJ12_vectorizedHashCode_77 : decode cJ12_vectorizedHashCode 77 = .ok (.iload_n 3, 1) := dk_29 (dk_at dksJ12_vectorizedHashCode_3 11 rfl rfl)
theorem dJ12_vectorizedHashCode_78 : decode cJ12_vectorizedHashCode 78 = .ok (.aload_n 0, 1) := dk_42 (dk_at dksJ12_vectorizedHashCode_3 12 rfl rfl)
theorem dJ12_vectorizedHashCode_79 : decode cJ12_vectorizedHashCode 79 = .ok (.checkcast 69, 3) := dk_192 0 69 (dk_at dksJ12_vectorizedHashCode_3 13 rfl rfl)
theorem dJ12_vectorizedHashCode_82 : decode cJ12_vectorizedHashCode 82 = .ok (.iload_n 1, 1) := dk_27 (dk_at dksJ12_vectorizedHashCode_3 16 rfl rfl)
theorem dJ12_vectorizedHashCode_83 : decode cJ12_vectorizedHashCode 83 = .ok (.iload_n 2, 1) := dk_28 (dk_at dksJ12_vectorizedHashCode_3 17 rfl rfl)
theorem dJ12_vectorizedHashCode_84 : decode cJ12_vectorizedHashCode 84 = .ok (.invokestatic 71, 3) := dk_184 0 71 (dk_at dksJ12_vectorizedHashCode_3 18 rfl rfl)
theorem dJ12_vectorizedHashCode_87 : decode cJ12_vectorizedHashCode 87 = .ok (.goto 70, 3) := dk_167 0 70 (dk_at dksJ12_vectorizedHashCode_3 21 rfl rfl)
theorem dJ12_vectorizedHashCode_90 : decode cJ12_vectorizedHashCode 90 = .ok (.iload_n 3, 1) := dk_29 (dk_at dksJ12_vectorizedHashCode_4 0 rfl rfl)
theorem dJ12_vectorizedHashCode_91 : decode cJ12_vectorizedHashCode 91 = .ok (.aload_n 0, 1) := dk_42 (dk_at dksJ12_vectorizedHashCode_4 1 rfl rfl)
theorem dJ12_vectorizedHashCode_92 : decode cJ12_vectorizedHashCode 92 = .ok (.checkcast 60, 3) := dk_192 0 60 (dk_at dksJ12_vectorizedHashCode_4 2 rfl rfl)
theorem dJ12_vectorizedHashCode_95 : decode cJ12_vectorizedHashCode 95 = .ok (.iload_n 1, 1) := dk_27 (dk_at dksJ12_vectorizedHashCode_4 5 rfl rfl)
theorem dJ12_vectorizedHashCode_96 : decode cJ12_vectorizedHashCode 96 = .ok (.iload_n 2, 1) := dk_28 (dk_at dksJ12_vectorizedHashCode_4 6 rfl rfl)
theorem dJ12_vectorizedHashCode_97 : decode cJ12_vectorizedHashCode 97 = .ok (.invokestatic 75, 3) := dk_184 0 75 (dk_at dksJ12_vectorizedHashCode_4 7 rfl rfl)
theorem dJ12_vectorizedHashCode_100 : decode cJ12_vectorizedHashCode 100 = .ok (.goto 57, 3) := dk_167 0 57 (dk_at dksJ12_vectorizedHashCode_4 10 rfl rfl)
theorem dJ12_vectorizedHashCode_103 : decode cJ12_vectorizedHashCode 103 = .ok (.iload_n 3, 1) := dk_29 (dk_at dksJ12_vectorizedHashCode_4 13 rfl rfl)
theorem dJ12_vectorizedHashCode_104 : decode cJ12_vectorizedHashCode 104 = .ok (.aload_n 0, 1) := dk_42 (dk_at dksJ12_vectorizedHashCode_4 14 rfl rfl)
theorem dJ12_vectorizedHashCode_105 : decode cJ12_vectorizedHashCode 105 = .ok (.checkcast 77, 3) := dk_192 0 77 (dk_at dksJ12_vectorizedHashCode_4 15 rfl rfl)
theorem dJ12_vectorizedHashCode_108 : decode cJ12_vectorizedHashCode 108 = .ok (.iload_n 1, 1) := dk_27 (dk_at dksJ12_vectorizedHashCode_4 18 rfl rfl)
theorem dJ12_vectorizedHashCode_109 : decode cJ12_vectorizedHashCode 109 = .ok (.iload_n 2, 1) := dk_28 (dk_at dksJ12_vectorizedHashCode_4 19 rfl rfl)
theorem dJ12_vectorizedHashCode_110 : decode cJ12_vectorizedHashCode 110 = .ok (.invokestatic 79, 3) := dk_184 0 79 (dk_at dksJ12_vectorizedHashCode_4 20 rfl rfl)
theorem dJ12_vectorizedHashCode_113 : decode cJ12_vectorizedHashCode 113 = .ok (.goto 44, 3) := dk_167 0 44 (dk_at dksJ12_vectorizedHashCode_5 0 rfl rfl)
theorem dJ12_vectorizedHashCode_116 : decode cJ12_vectorizedHashCode 116 = .ok (.iload_n 3, 1) := dk_29 (dk_at dksJ12_vectorizedHashCode_5 3 rfl rfl)
theorem dJ12_vectorizedHashCode_117 : decode cJ12_vectorizedHashCode 117 = .ok (.aload_n 0, 1) := dk_42 (dk_at dksJ12_vectorizedHashCode_5 4 rfl rfl)
theorem dJ12_vectorizedHashCode_118 : decode cJ12_vectorizedHashCode 118 = .ok (.checkcast 82, 3) := dk_192 0 82 (dk_at dksJ12_vectorizedHashCode_5 5 rfl rfl)
theorem dJ12_vectorizedHashCode_121 : decode cJ12_vectorizedHashCode 121 = .ok (.iload_n 1, 1) := dk_27 (dk_at dksJ12_vectorizedHashCode_5 8 rfl rfl)
theorem dJ12_vectorizedHashCode_122 : decode cJ12_vectorizedHashCode 122 = .ok (.iload_n 2, 1) := dk_28 (dk_at dksJ12_vectorizedHashCode_5 9 rfl rfl)
theorem dJ12_vectorizedHashCode_123 : decode cJ12_vectorizedHashCode 123 = .ok (.invokestatic 84, 3) := dk_184 0 84 (dk_at dksJ12_vectorizedHashCode_5 10 rfl rfl)
theorem dJ12_vectorizedHashCode_126 : decode cJ12_vectorizedHashCode 126 = .ok (.goto 31, 3) := dk_167 0 31 (dk_at dksJ12_vectorizedHashCode_5 13 rfl rfl)
theorem dJ12_vectorizedHashCode_129 : decode cJ12_vectorizedHashCode 129 = .ok (.new 87, 3) := dk_187 0 87 (dk_at dksJ12_vectorizedHashCode_5 16 rfl rfl)
theorem dJ12_vectorizedHashCode_132 : decode cJ12_vectorizedHashCode 132 = .ok (.dup, 1) := dk_89 (dk_at dksJ12_vectorizedHashCode_5 19 rfl rfl)
theorem dJ12_vectorizedHashCode_133 : decode cJ12_vectorizedHashCode 133 = .ok (.new 89, 3) := dk_187 0 89 (dk_at dksJ12_vectorizedHashCode_5 20 rfl rfl)
theorem dJ12_vectorizedHashCode_136 : decode cJ12_vectorizedHashCode 136 = .ok (.dup, 1) := dk_89 (dk_at dksJ12_vectorizedHashCode_5 23 rfl rfl)
theorem dJ12_vectorizedHashCode_137 : decode cJ12_vectorizedHashCode 137 = .ok (.invokespecial 91, 3) := dk_183 0 91 (dk_at dksJ12_vectorizedHashCode_6 0 rfl rfl)
theorem dJ12_vectorizedHashCode_140 : decode cJ12_vectorizedHashCode 140 = .ok (.ldc 92, 2) := dk_18 92 (dk_at dksJ12_vectorizedHashCode_6 3 rfl rfl)
theorem dJ12_vectorizedHashCode_142 : decode cJ12_vectorizedHashCode 142 = .ok (.invokevirtual 94, 3) := dk_182 0 94 (dk_at dksJ12_vectorizedHashCode_6 5 rfl rfl)
theorem dJ12_vectorizedHashCode_145 : decode cJ12_vectorizedHashCode 145 = .ok (.iload 4, 2) := dk_21 4 (dk_at dksJ12_vectorizedHashCode_6 8 rfl rfl)
theorem dJ12_vectorizedHashCode_147 : decode cJ12_vectorizedHashCode 147 = .ok (.invokevirtual 98, 3) := dk_182 0 98 (dk_at dksJ12_vectorizedHashCode_6 10 rfl rfl)
theorem dJ12_vectorizedHashCode_150 : decode cJ12_vectorizedHashCode 150 = .ok (.invokevirtual 101, 3) := dk_182 0 101 (dk_at dksJ12_vectorizedHashCode_6 13 rfl rfl)
theorem dJ12_vectorizedHashCode_153 : decode cJ12_vectorizedHashCode 153 = .ok (.invokespecial 105, 3) := dk_183 0 105 (dk_at dksJ12_vectorizedHashCode_6 16 rfl rfl)
theorem dJ12_vectorizedHashCode_156 : decode cJ12_vectorizedHashCode 156 = .ok (.athrow, 1) := dk_191 (dk_at dksJ12_vectorizedHashCode_6 19 rfl rfl)
theorem dJ12_vectorizedHashCode_157 : decode cJ12_vectorizedHashCode 157 = .ok (.ireturn, 1) := dk_172 (dk_at dksJ12_vectorizedHashCode_6 20 rfl rfl)
abbrev cJ12_signedHashCode : ByteArray := prog_50_method_5_code
def yJ12_signedHashCode : MethodName := ⟨RJ12, "signedHashCode", "(I[BII)I"⟩
def dkwJ12_signedHashCode_1 : List UInt8 := [17, 0, 255, 126, 96, 59, 132, 5, 1, 167, 255, 232, 26, 172]
abbrev dktJ12_signedHashCode_1 : List UInt8 := dkwJ12_signedHashCode_1 ++ []
def dkwJ12_signedHashCode_0 : List UInt8 := [28, 29, 96, 54, 4, 28, 54, 5, 21, 5, 21, 4, 162, 0, 23, 16, 31, 26, 104, 43, 21, 5, 51]
abbrev dktJ12_signedHashCode_0 : List UInt8 := dkwJ12_signedHashCode_0 ++ dktJ12_signedHashCode_1
theorem dksJ12_signedHashCode_0 : cJ12_signedHashCode.data.toList.drop 0 = dktJ12_signedHashCode_0 := by decide +kernel
theorem dksJ12_signedHashCode_1 : cJ12_signedHashCode.data.toList.drop 23 = dktJ12_signedHashCode_1 := dk_seg dksJ12_signedHashCode_0 23 rfl rfl
theorem dJ12_signedHashCode_0 : decode cJ12_signedHashCode 0 = .ok (.iload_n 2, 1) := dk_28 (dk_at dksJ12_signedHashCode_0 0 rfl rfl)
theorem dJ12_signedHashCode_1 : decode cJ12_signedHashCode 1 = .ok (.iload_n 3, 1) := dk_29 (dk_at dksJ12_signedHashCode_0 1 rfl rfl)
theorem dJ12_signedHashCode_2 : decode cJ12_signedHashCode 2 = .ok (.iadd, 1) := dk_96 (dk_at dksJ12_signedHashCode_0 2 rfl rfl)
theorem dJ12_signedHashCode_3 : decode cJ12_signedHashCode 3 = .ok (.istore 4, 2) := dk_54 4 (dk_at dksJ12_signedHashCode_0 3 rfl rfl)
theorem dJ12_signedHashCode_5 : decode cJ12_signedHashCode 5 = .ok (.iload_n 2, 1) := dk_28 (dk_at dksJ12_signedHashCode_0 5 rfl rfl)
theorem dJ12_signedHashCode_6 : decode cJ12_signedHashCode 6 = .ok (.istore 5, 2) := dk_54 5 (dk_at dksJ12_signedHashCode_0 6 rfl rfl)
theorem dJ12_signedHashCode_8 : decode cJ12_signedHashCode 8 = .ok (.iload 5, 2) := dk_21 5 (dk_at dksJ12_signedHashCode_0 8 rfl rfl)
theorem dJ12_signedHashCode_10 : decode cJ12_signedHashCode 10 = .ok (.iload 4, 2) := dk_21 4 (dk_at dksJ12_signedHashCode_0 10 rfl rfl)
theorem dJ12_signedHashCode_12 : decode cJ12_signedHashCode 12 = .ok (.if_icmp .ge 23, 3) := dk_162 0 23 (dk_at dksJ12_signedHashCode_0 12 rfl rfl)
theorem dJ12_signedHashCode_15 : decode cJ12_signedHashCode 15 = .ok (.bipush 31, 2) := dk_16 31 (dk_at dksJ12_signedHashCode_0 15 rfl rfl)
theorem dJ12_signedHashCode_17 : decode cJ12_signedHashCode 17 = .ok (.iload_n 0, 1) := dk_26 (dk_at dksJ12_signedHashCode_0 17 rfl rfl)
theorem dJ12_signedHashCode_18 : decode cJ12_signedHashCode 18 = .ok (.imul, 1) := dk_104 (dk_at dksJ12_signedHashCode_0 18 rfl rfl)
theorem dJ12_signedHashCode_19 : decode cJ12_signedHashCode 19 = .ok (.aload_n 1, 1) := dk_43 (dk_at dksJ12_signedHashCode_0 19 rfl rfl)
theorem dJ12_signedHashCode_20 : decode cJ12_signedHashCode 20 = .ok (.iload 5, 2) := dk_21 5 (dk_at dksJ12_signedHashCode_0 20 rfl rfl)
theorem dJ12_signedHashCode_22 : decode cJ12_signedHashCode 22 = .ok (.baload, 1) := dk_51 (dk_at dksJ12_signedHashCode_0 22 rfl rfl)
theorem dJ12_signedHashCode_23 : decode cJ12_signedHashCode 23 = .ok (.sipush 255, 3) := dk_17 0 255 (dk_at dksJ12_signedHashCode_1 0 rfl rfl)
theorem dJ12_signedHashCode_26 : decode cJ12_signedHashCode 26 = .ok (.iand, 1) := dk_126 (dk_at dksJ12_signedHashCode_1 3 rfl rfl)
theorem dJ12_signedHashCode_27 : decode cJ12_signedHashCode 27 = .ok (.iadd, 1) := dk_96 (dk_at dksJ12_signedHashCode_1 4 rfl rfl)
theorem dJ12_signedHashCode_28 : decode cJ12_signedHashCode 28 = .ok (.istore_n 0, 1) := dk_59 (dk_at dksJ12_signedHashCode_1 5 rfl rfl)
theorem dJ12_signedHashCode_29 : decode cJ12_signedHashCode 29 = .ok (.iinc 5 1, 3) := dk_132 5 1 (dk_at dksJ12_signedHashCode_1 6 rfl rfl)
theorem dJ12_signedHashCode_32 : decode cJ12_signedHashCode 32 = .ok (.goto (-24), 3) := dk_167 255 232 (dk_at dksJ12_signedHashCode_1 9 rfl rfl)
theorem dJ12_signedHashCode_35 : decode cJ12_signedHashCode 35 = .ok (.iload_n 0, 1) := dk_26 (dk_at dksJ12_signedHashCode_1 12 rfl rfl)
theorem dJ12_signedHashCode_36 : decode cJ12_signedHashCode 36 = .ok (.ireturn, 1) := dk_172 (dk_at dksJ12_signedHashCode_1 13 rfl rfl)
abbrev cJ12_utf16hashCode : ByteArray := prog_50_method_10_code
def yJ12_utf16hashCode : MethodName := ⟨RJ12, "utf16hashCode", "(I[BII)I"⟩
def dkwJ12_utf16hashCode_1 : List UInt8 := [21, 5, 185, 0, 110, 3, 0, 96, 59, 132, 5, 1, 167, 255, 229, 26, 172]
abbrev dktJ12_utf16hashCode_1 : List UInt8 := dkwJ12_utf16hashCode_1 ++ []
def dkwJ12_utf16hashCode_0 : List UInt8 := [28, 29, 96, 54, 4, 28, 54, 5, 21, 5, 21, 4, 162, 0, 26, 16, 31, 26, 104, 178, 0, 106, 43]
abbrev dktJ12_utf16hashCode_0 : List UInt8 := dkwJ12_utf16hashCode_0 ++ dktJ12_utf16hashCode_1
theorem dksJ12_utf16hashCode_0 : cJ12_utf16hashCode.data.toList.drop 0 = dktJ12_utf16hashCode_0 := by decide +kernel
theorem dksJ12_utf16hashCode_1 : cJ12_utf16hashCode.data.toList.drop 23 = dktJ12_utf16hashCode_1 := dk_seg dksJ12_utf16hashCode_0 23 rfl rfl
theorem dJ12_utf16hashCode_0 : decode cJ12_utf16hashCode 0 = .ok (.iload_n 2, 1) := dk_28 (dk_at dksJ12_utf16hashCode_0 0 rfl rfl)
theorem dJ12_utf16hashCode_1 : decode cJ12_utf16hashCode 1 = .ok (.iload_n 3, 1) := dk_29 (dk_at dksJ12_utf16hashCode_0 1 rfl rfl)
theorem dJ12_utf16hashCode_2 : decode cJ12_utf16hashCode 2 = .ok (.iadd, 1) := dk_96 (dk_at dksJ12_utf16hashCode_0 2 rfl rfl)
theorem dJ12_utf16hashCode_3 : decode cJ12_utf16hashCode 3 = .ok (.istore 4, 2) := dk_54 4 (dk_at dksJ12_utf16hashCode_0 3 rfl rfl)
theorem dJ12_utf16hashCode_5 : decode cJ12_utf16hashCode 5 = .ok (.iload_n 2, 1) := dk_28 (dk_at dksJ12_utf16hashCode_0 5 rfl rfl)
theorem dJ12_utf16hashCode_6 : decode cJ12_utf16hashCode 6 = .ok (.istore 5, 2) := dk_54 5 (dk_at dksJ12_utf16hashCode_0 6 rfl rfl)
theorem dJ12_utf16hashCode_8 : decode cJ12_utf16hashCode 8 = .ok (.iload 5, 2) := dk_21 5 (dk_at dksJ12_utf16hashCode_0 8 rfl rfl)
theorem dJ12_utf16hashCode_10 : decode cJ12_utf16hashCode 10 = .ok (.iload 4, 2) := dk_21 4 (dk_at dksJ12_utf16hashCode_0 10 rfl rfl)
theorem dJ12_utf16hashCode_12 : decode cJ12_utf16hashCode 12 = .ok (.if_icmp .ge 26, 3) := dk_162 0 26 (dk_at dksJ12_utf16hashCode_0 12 rfl rfl)
theorem dJ12_utf16hashCode_15 : decode cJ12_utf16hashCode 15 = .ok (.bipush 31, 2) := dk_16 31 (dk_at dksJ12_utf16hashCode_0 15 rfl rfl)
theorem dJ12_utf16hashCode_17 : decode cJ12_utf16hashCode 17 = .ok (.iload_n 0, 1) := dk_26 (dk_at dksJ12_utf16hashCode_0 17 rfl rfl)
theorem dJ12_utf16hashCode_18 : decode cJ12_utf16hashCode 18 = .ok (.imul, 1) := dk_104 (dk_at dksJ12_utf16hashCode_0 18 rfl rfl)
theorem dJ12_utf16hashCode_19 : decode cJ12_utf16hashCode 19 = .ok (.getstatic 106, 3) := dk_178 0 106 (dk_at dksJ12_utf16hashCode_0 19 rfl rfl)
theorem dJ12_utf16hashCode_22 : decode cJ12_utf16hashCode 22 = .ok (.aload_n 1, 1) := dk_43 (dk_at dksJ12_utf16hashCode_0 22 rfl rfl)
theorem dJ12_utf16hashCode_23 : decode cJ12_utf16hashCode 23 = .ok (.iload 5, 2) := dk_21 5 (dk_at dksJ12_utf16hashCode_1 0 rfl rfl)
theorem dJ12_utf16hashCode_25 : decode cJ12_utf16hashCode 25 = .ok (.invokeinterface 110 3, 5) := by decide +kernel
theorem dJ12_utf16hashCode_30 : decode cJ12_utf16hashCode 30 = .ok (.iadd, 1) := dk_96 (dk_at dksJ12_utf16hashCode_1 7 rfl rfl)
theorem dJ12_utf16hashCode_31 : decode cJ12_utf16hashCode 31 = .ok (.istore_n 0, 1) := dk_59 (dk_at dksJ12_utf16hashCode_1 8 rfl rfl)
theorem dJ12_utf16hashCode_32 : decode cJ12_utf16hashCode 32 = .ok (.iinc 5 1, 3) := dk_132 5 1 (dk_at dksJ12_utf16hashCode_1 9 rfl rfl)
theorem dJ12_utf16hashCode_35 : decode cJ12_utf16hashCode 35 = .ok (.goto (-27), 3) := dk_167 255 229 (dk_at dksJ12_utf16hashCode_1 12 rfl rfl)
theorem dJ12_utf16hashCode_38 : decode cJ12_utf16hashCode 38 = .ok (.iload_n 0, 1) := dk_26 (dk_at dksJ12_utf16hashCode_1 15 rfl rfl)
theorem dJ12_utf16hashCode_39 : decode cJ12_utf16hashCode 39 = .ok (.ireturn, 1) := dk_172 (dk_at dksJ12_utf16hashCode_1 16 rfl rfl)
abbrev cJ12_hashCode : ByteArray := prog_50_method_7_code
def yJ12_hashCode : MethodName := ⟨RJ12, "hashCode", "(I[CII)I"⟩
def dkwJ12_hashCode_1 : List UInt8 := [59, 132, 5, 1, 167, 255, 236, 26, 172]
abbrev dktJ12_hashCode_1 : List UInt8 := dkwJ12_hashCode_1 ++ []
def dkwJ12_hashCode_0 : List UInt8 := [28, 29, 96, 54, 4, 28, 54, 5, 21, 5, 21, 4, 162, 0, 19, 16, 31, 26, 104, 43, 21, 5, 52, 96]
abbrev dktJ12_hashCode_0 : List UInt8 := dkwJ12_hashCode_0 ++ dktJ12_hashCode_1
theorem dksJ12_hashCode_0 : cJ12_hashCode.data.toList.drop 0 = dktJ12_hashCode_0 := by decide +kernel
theorem dksJ12_hashCode_1 : cJ12_hashCode.data.toList.drop 24 = dktJ12_hashCode_1 := dk_seg dksJ12_hashCode_0 24 rfl rfl
theorem dJ12_hashCode_0 : decode cJ12_hashCode 0 = .ok (.iload_n 2, 1) := dk_28 (dk_at dksJ12_hashCode_0 0 rfl rfl)
theorem dJ12_hashCode_1 : decode cJ12_hashCode 1 = .ok (.iload_n 3, 1) := dk_29 (dk_at dksJ12_hashCode_0 1 rfl rfl)
theorem dJ12_hashCode_2 : decode cJ12_hashCode 2 = .ok (.iadd, 1) := dk_96 (dk_at dksJ12_hashCode_0 2 rfl rfl)
theorem dJ12_hashCode_3 : decode cJ12_hashCode 3 = .ok (.istore 4, 2) := dk_54 4 (dk_at dksJ12_hashCode_0 3 rfl rfl)
theorem dJ12_hashCode_5 : decode cJ12_hashCode 5 = .ok (.iload_n 2, 1) := dk_28 (dk_at dksJ12_hashCode_0 5 rfl rfl)
theorem dJ12_hashCode_6 : decode cJ12_hashCode 6 = .ok (.istore 5, 2) := dk_54 5 (dk_at dksJ12_hashCode_0 6 rfl rfl)
theorem dJ12_hashCode_8 : decode cJ12_hashCode 8 = .ok (.iload 5, 2) := dk_21 5 (dk_at dksJ12_hashCode_0 8 rfl rfl)
theorem dJ12_hashCode_10 : decode cJ12_hashCode 10 = .ok (.iload 4, 2) := dk_21 4 (dk_at dksJ12_hashCode_0 10 rfl rfl)
theorem dJ12_hashCode_12 : decode cJ12_hashCode 12 = .ok (.if_icmp .ge 19, 3) := dk_162 0 19 (dk_at dksJ12_hashCode_0 12 rfl rfl)
theorem dJ12_hashCode_15 : decode cJ12_hashCode 15 = .ok (.bipush 31, 2) := dk_16 31 (dk_at dksJ12_hashCode_0 15 rfl rfl)
theorem dJ12_hashCode_17 : decode cJ12_hashCode 17 = .ok (.iload_n 0, 1) := dk_26 (dk_at dksJ12_hashCode_0 17 rfl rfl)
theorem dJ12_hashCode_18 : decode cJ12_hashCode 18 = .ok (.imul, 1) := dk_104 (dk_at dksJ12_hashCode_0 18 rfl rfl)
theorem dJ12_hashCode_19 : decode cJ12_hashCode 19 = .ok (.aload_n 1, 1) := dk_43 (dk_at dksJ12_hashCode_0 19 rfl rfl)
theorem dJ12_hashCode_20 : decode cJ12_hashCode 20 = .ok (.iload 5, 2) := dk_21 5 (dk_at dksJ12_hashCode_0 20 rfl rfl)
theorem dJ12_hashCode_22 : decode cJ12_hashCode 22 = .ok (.caload, 1) := dk_52 (dk_at dksJ12_hashCode_0 22 rfl rfl)
theorem dJ12_hashCode_23 : decode cJ12_hashCode 23 = .ok (.iadd, 1) := dk_96 (dk_at dksJ12_hashCode_0 23 rfl rfl)
theorem dJ12_hashCode_24 : decode cJ12_hashCode 24 = .ok (.istore_n 0, 1) := dk_59 (dk_at dksJ12_hashCode_1 0 rfl rfl)
theorem dJ12_hashCode_25 : decode cJ12_hashCode 25 = .ok (.iinc 5 1, 3) := dk_132 5 1 (dk_at dksJ12_hashCode_1 1 rfl rfl)
theorem dJ12_hashCode_28 : decode cJ12_hashCode 28 = .ok (.goto (-20), 3) := dk_167 255 236 (dk_at dksJ12_hashCode_1 4 rfl rfl)
theorem dJ12_hashCode_31 : decode cJ12_hashCode 31 = .ok (.iload_n 0, 1) := dk_26 (dk_at dksJ12_hashCode_1 7 rfl rfl)
theorem dJ12_hashCode_32 : decode cJ12_hashCode 32 = .ok (.ireturn, 1) := dk_172 (dk_at dksJ12_hashCode_1 8 rfl rfl)
abbrev cJ12_hashCode_2 : ByteArray := prog_50_method_6_code
def yJ12_hashCode_2 : MethodName := ⟨RJ12, "hashCode", "(I[BII)I"⟩
def dkwJ12_hashCode_2_1 : List UInt8 := [59, 132, 5, 1, 167, 255, 236, 26, 172]
abbrev dktJ12_hashCode_2_1 : List UInt8 := dkwJ12_hashCode_2_1 ++ []
def dkwJ12_hashCode_2_0 : List UInt8 := [28, 29, 96, 54, 4, 28, 54, 5, 21, 5, 21, 4, 162, 0, 19, 16, 31, 26, 104, 43, 21, 5, 51, 96]
abbrev dktJ12_hashCode_2_0 : List UInt8 := dkwJ12_hashCode_2_0 ++ dktJ12_hashCode_2_1
theorem dksJ12_hashCode_2_0 : cJ12_hashCode_2.data.toList.drop 0 = dktJ12_hashCode_2_0 := by decide +kernel
theorem dksJ12_hashCode_2_1 : cJ12_hashCode_2.data.toList.drop 24 = dktJ12_hashCode_2_1 := dk_seg dksJ12_hashCode_2_0 24 rfl rfl
theorem dJ12_hashCode_2_0 : decode cJ12_hashCode_2 0 = .ok (.iload_n 2, 1) := dk_28 (dk_at dksJ12_hashCode_2_0 0 rfl rfl)
theorem dJ12_hashCode_2_1 : decode cJ12_hashCode_2 1 = .ok (.iload_n 3, 1) := dk_29 (dk_at dksJ12_hashCode_2_0 1 rfl rfl)
theorem dJ12_hashCode_2_2 : decode cJ12_hashCode_2 2 = .ok (.iadd, 1) := dk_96 (dk_at dksJ12_hashCode_2_0 2 rfl rfl)
theorem dJ12_hashCode_2_3 : decode cJ12_hashCode_2 3 = .ok (.istore 4, 2) := dk_54 4 (dk_at dksJ12_hashCode_2_0 3 rfl rfl)
theorem dJ12_hashCode_2_5 : decode cJ12_hashCode_2 5 = .ok (.iload_n 2, 1) := dk_28 (dk_at dksJ12_hashCode_2_0 5 rfl rfl)
theorem dJ12_hashCode_2_6 : decode cJ12_hashCode_2 6 = .ok (.istore 5, 2) := dk_54 5 (dk_at dksJ12_hashCode_2_0 6 rfl rfl)
theorem dJ12_hashCode_2_8 : decode cJ12_hashCode_2 8 = .ok (.iload 5, 2) := dk_21 5 (dk_at dksJ12_hashCode_2_0 8 rfl rfl)
theorem dJ12_hashCode_2_10 : decode cJ12_hashCode_2 10 = .ok (.iload 4, 2) := dk_21 4 (dk_at dksJ12_hashCode_2_0 10 rfl rfl)
theorem dJ12_hashCode_2_12 : decode cJ12_hashCode_2 12 = .ok (.if_icmp .ge 19, 3) := dk_162 0 19 (dk_at dksJ12_hashCode_2_0 12 rfl rfl)
theorem dJ12_hashCode_2_15 : decode cJ12_hashCode_2 15 = .ok (.bipush 31, 2) := dk_16 31 (dk_at dksJ12_hashCode_2_0 15 rfl rfl)
theorem dJ12_hashCode_2_17 : decode cJ12_hashCode_2 17 = .ok (.iload_n 0, 1) := dk_26 (dk_at dksJ12_hashCode_2_0 17 rfl rfl)
theorem dJ12_hashCode_2_18 : decode cJ12_hashCode_2 18 = .ok (.imul, 1) := dk_104 (dk_at dksJ12_hashCode_2_0 18 rfl rfl)
theorem dJ12_hashCode_2_19 : decode cJ12_hashCode_2 19 = .ok (.aload_n 1, 1) := dk_43 (dk_at dksJ12_hashCode_2_0 19 rfl rfl)
theorem dJ12_hashCode_2_20 : decode cJ12_hashCode_2 20 = .ok (.iload 5, 2) := dk_21 5 (dk_at dksJ12_hashCode_2_0 20 rfl rfl)
theorem dJ12_hashCode_2_22 : decode cJ12_hashCode_2 22 = .ok (.baload, 1) := dk_51 (dk_at dksJ12_hashCode_2_0 22 rfl rfl)
theorem dJ12_hashCode_2_23 : decode cJ12_hashCode_2 23 = .ok (.iadd, 1) := dk_96 (dk_at dksJ12_hashCode_2_0 23 rfl rfl)
theorem dJ12_hashCode_2_24 : decode cJ12_hashCode_2 24 = .ok (.istore_n 0, 1) := dk_59 (dk_at dksJ12_hashCode_2_1 0 rfl rfl)
theorem dJ12_hashCode_2_25 : decode cJ12_hashCode_2 25 = .ok (.iinc 5 1, 3) := dk_132 5 1 (dk_at dksJ12_hashCode_2_1 1 rfl rfl)
theorem dJ12_hashCode_2_28 : decode cJ12_hashCode_2 28 = .ok (.goto (-20), 3) := dk_167 255 236 (dk_at dksJ12_hashCode_2_1 4 rfl rfl)
theorem dJ12_hashCode_2_31 : decode cJ12_hashCode_2 31 = .ok (.iload_n 0, 1) := dk_26 (dk_at dksJ12_hashCode_2_1 7 rfl rfl)
theorem dJ12_hashCode_2_32 : decode cJ12_hashCode_2 32 = .ok (.ireturn, 1) := dk_172 (dk_at dksJ12_hashCode_2_1 8 rfl rfl)
abbrev cJ12_hashCode_3 : ByteArray := prog_50_method_8_code
def yJ12_hashCode_3 : MethodName := ⟨RJ12, "hashCode", "(I[SII)I"⟩
def dkwJ12_hashCode_3_1 : List UInt8 := [59, 132, 5, 1, 167, 255, 236, 26, 172]
abbrev dktJ12_hashCode_3_1 : List UInt8 := dkwJ12_hashCode_3_1 ++ []
def dkwJ12_hashCode_3_0 : List UInt8 := [28, 29, 96, 54, 4, 28, 54, 5, 21, 5, 21, 4, 162, 0, 19, 16, 31, 26, 104, 43, 21, 5, 53, 96]
abbrev dktJ12_hashCode_3_0 : List UInt8 := dkwJ12_hashCode_3_0 ++ dktJ12_hashCode_3_1
theorem dksJ12_hashCode_3_0 : cJ12_hashCode_3.data.toList.drop 0 = dktJ12_hashCode_3_0 := by decide +kernel
theorem dksJ12_hashCode_3_1 : cJ12_hashCode_3.data.toList.drop 24 = dktJ12_hashCode_3_1 := dk_seg dksJ12_hashCode_3_0 24 rfl rfl
theorem dJ12_hashCode_3_0 : decode cJ12_hashCode_3 0 = .ok (.iload_n 2, 1) := dk_28 (dk_at dksJ12_hashCode_3_0 0 rfl rfl)
theorem dJ12_hashCode_3_1 : decode cJ12_hashCode_3 1 = .ok (.iload_n 3, 1) := dk_29 (dk_at dksJ12_hashCode_3_0 1 rfl rfl)
theorem dJ12_hashCode_3_2 : decode cJ12_hashCode_3 2 = .ok (.iadd, 1) := dk_96 (dk_at dksJ12_hashCode_3_0 2 rfl rfl)
theorem dJ12_hashCode_3_3 : decode cJ12_hashCode_3 3 = .ok (.istore 4, 2) := dk_54 4 (dk_at dksJ12_hashCode_3_0 3 rfl rfl)
theorem dJ12_hashCode_3_5 : decode cJ12_hashCode_3 5 = .ok (.iload_n 2, 1) := dk_28 (dk_at dksJ12_hashCode_3_0 5 rfl rfl)
theorem dJ12_hashCode_3_6 : decode cJ12_hashCode_3 6 = .ok (.istore 5, 2) := dk_54 5 (dk_at dksJ12_hashCode_3_0 6 rfl rfl)
theorem dJ12_hashCode_3_8 : decode cJ12_hashCode_3 8 = .ok (.iload 5, 2) := dk_21 5 (dk_at dksJ12_hashCode_3_0 8 rfl rfl)
theorem dJ12_hashCode_3_10 : decode cJ12_hashCode_3 10 = .ok (.iload 4, 2) := dk_21 4 (dk_at dksJ12_hashCode_3_0 10 rfl rfl)
theorem dJ12_hashCode_3_12 : decode cJ12_hashCode_3 12 = .ok (.if_icmp .ge 19, 3) := dk_162 0 19 (dk_at dksJ12_hashCode_3_0 12 rfl rfl)
theorem dJ12_hashCode_3_15 : decode cJ12_hashCode_3 15 = .ok (.bipush 31, 2) := dk_16 31 (dk_at dksJ12_hashCode_3_0 15 rfl rfl)
theorem dJ12_hashCode_3_17 : decode cJ12_hashCode_3 17 = .ok (.iload_n 0, 1) := dk_26 (dk_at dksJ12_hashCode_3_0 17 rfl rfl)
theorem dJ12_hashCode_3_18 : decode cJ12_hashCode_3 18 = .ok (.imul, 1) := dk_104 (dk_at dksJ12_hashCode_3_0 18 rfl rfl)
theorem dJ12_hashCode_3_19 : decode cJ12_hashCode_3 19 = .ok (.aload_n 1, 1) := dk_43 (dk_at dksJ12_hashCode_3_0 19 rfl rfl)
theorem dJ12_hashCode_3_20 : decode cJ12_hashCode_3 20 = .ok (.iload 5, 2) := dk_21 5 (dk_at dksJ12_hashCode_3_0 20 rfl rfl)
theorem dJ12_hashCode_3_22 : decode cJ12_hashCode_3 22 = .ok (.saload, 1) := dk_53 (dk_at dksJ12_hashCode_3_0 22 rfl rfl)
theorem dJ12_hashCode_3_23 : decode cJ12_hashCode_3 23 = .ok (.iadd, 1) := dk_96 (dk_at dksJ12_hashCode_3_0 23 rfl rfl)
theorem dJ12_hashCode_3_24 : decode cJ12_hashCode_3 24 = .ok (.istore_n 0, 1) := dk_59 (dk_at dksJ12_hashCode_3_1 0 rfl rfl)
theorem dJ12_hashCode_3_25 : decode cJ12_hashCode_3 25 = .ok (.iinc 5 1, 3) := dk_132 5 1 (dk_at dksJ12_hashCode_3_1 1 rfl rfl)
theorem dJ12_hashCode_3_28 : decode cJ12_hashCode_3 28 = .ok (.goto (-20), 3) := dk_167 255 236 (dk_at dksJ12_hashCode_3_1 4 rfl rfl)
theorem dJ12_hashCode_3_31 : decode cJ12_hashCode_3 31 = .ok (.iload_n 0, 1) := dk_26 (dk_at dksJ12_hashCode_3_1 7 rfl rfl)
theorem dJ12_hashCode_3_32 : decode cJ12_hashCode_3 32 = .ok (.ireturn, 1) := dk_172 (dk_at dksJ12_hashCode_3_1 8 rfl rfl)
abbrev cJ12_hashCode_4 : ByteArray := prog_50_method_9_code
def yJ12_hashCode_4 : MethodName := ⟨RJ12, "hashCode", "(I[III)I"⟩
def dkwJ12_hashCode_4_1 : List UInt8 := [59, 132, 5, 1, 167, 255, 236, 26, 172]
abbrev dktJ12_hashCode_4_1 : List UInt8 := dkwJ12_hashCode_4_1 ++ []
def dkwJ12_hashCode_4_0 : List UInt8 := [28, 29, 96, 54, 4, 28, 54, 5, 21, 5, 21, 4, 162, 0, 19, 16, 31, 26, 104, 43, 21, 5, 46, 96]
abbrev dktJ12_hashCode_4_0 : List UInt8 := dkwJ12_hashCode_4_0 ++ dktJ12_hashCode_4_1
theorem dksJ12_hashCode_4_0 : cJ12_hashCode_4.data.toList.drop 0 = dktJ12_hashCode_4_0 := by decide +kernel
theorem dksJ12_hashCode_4_1 : cJ12_hashCode_4.data.toList.drop 24 = dktJ12_hashCode_4_1 := dk_seg dksJ12_hashCode_4_0 24 rfl rfl
theorem dJ12_hashCode_4_0 : decode cJ12_hashCode_4 0 = .ok (.iload_n 2, 1) := dk_28 (dk_at dksJ12_hashCode_4_0 0 rfl rfl)
theorem dJ12_hashCode_4_1 : decode cJ12_hashCode_4 1 = .ok (.iload_n 3, 1) := dk_29 (dk_at dksJ12_hashCode_4_0 1 rfl rfl)
theorem dJ12_hashCode_4_2 : decode cJ12_hashCode_4 2 = .ok (.iadd, 1) := dk_96 (dk_at dksJ12_hashCode_4_0 2 rfl rfl)
theorem dJ12_hashCode_4_3 : decode cJ12_hashCode_4 3 = .ok (.istore 4, 2) := dk_54 4 (dk_at dksJ12_hashCode_4_0 3 rfl rfl)
theorem dJ12_hashCode_4_5 : decode cJ12_hashCode_4 5 = .ok (.iload_n 2, 1) := dk_28 (dk_at dksJ12_hashCode_4_0 5 rfl rfl)
theorem dJ12_hashCode_4_6 : decode cJ12_hashCode_4 6 = .ok (.istore 5, 2) := dk_54 5 (dk_at dksJ12_hashCode_4_0 6 rfl rfl)
theorem dJ12_hashCode_4_8 : decode cJ12_hashCode_4 8 = .ok (.iload 5, 2) := dk_21 5 (dk_at dksJ12_hashCode_4_0 8 rfl rfl)
theorem dJ12_hashCode_4_10 : decode cJ12_hashCode_4 10 = .ok (.iload 4, 2) := dk_21 4 (dk_at dksJ12_hashCode_4_0 10 rfl rfl)
theorem dJ12_hashCode_4_12 : decode cJ12_hashCode_4 12 = .ok (.if_icmp .ge 19, 3) := dk_162 0 19 (dk_at dksJ12_hashCode_4_0 12 rfl rfl)
theorem dJ12_hashCode_4_15 : decode cJ12_hashCode_4 15 = .ok (.bipush 31, 2) := dk_16 31 (dk_at dksJ12_hashCode_4_0 15 rfl rfl)
theorem dJ12_hashCode_4_17 : decode cJ12_hashCode_4 17 = .ok (.iload_n 0, 1) := dk_26 (dk_at dksJ12_hashCode_4_0 17 rfl rfl)
theorem dJ12_hashCode_4_18 : decode cJ12_hashCode_4 18 = .ok (.imul, 1) := dk_104 (dk_at dksJ12_hashCode_4_0 18 rfl rfl)
theorem dJ12_hashCode_4_19 : decode cJ12_hashCode_4 19 = .ok (.aload_n 1, 1) := dk_43 (dk_at dksJ12_hashCode_4_0 19 rfl rfl)
theorem dJ12_hashCode_4_20 : decode cJ12_hashCode_4 20 = .ok (.iload 5, 2) := dk_21 5 (dk_at dksJ12_hashCode_4_0 20 rfl rfl)
theorem dJ12_hashCode_4_22 : decode cJ12_hashCode_4 22 = .ok (.iaload, 1) := dk_46 (dk_at dksJ12_hashCode_4_0 22 rfl rfl)
theorem dJ12_hashCode_4_23 : decode cJ12_hashCode_4 23 = .ok (.iadd, 1) := dk_96 (dk_at dksJ12_hashCode_4_0 23 rfl rfl)
theorem dJ12_hashCode_4_24 : decode cJ12_hashCode_4 24 = .ok (.istore_n 0, 1) := dk_59 (dk_at dksJ12_hashCode_4_1 0 rfl rfl)
theorem dJ12_hashCode_4_25 : decode cJ12_hashCode_4 25 = .ok (.iinc 5 1, 3) := dk_132 5 1 (dk_at dksJ12_hashCode_4_1 1 rfl rfl)
theorem dJ12_hashCode_4_28 : decode cJ12_hashCode_4 28 = .ok (.goto (-20), 3) := dk_167 255 236 (dk_at dksJ12_hashCode_4_1 4 rfl rfl)
theorem dJ12_hashCode_4_31 : decode cJ12_hashCode_4 31 = .ok (.iload_n 0, 1) := dk_26 (dk_at dksJ12_hashCode_4_1 7 rfl rfl)
theorem dJ12_hashCode_4_32 : decode cJ12_hashCode_4 32 = .ok (.ireturn, 1) := dk_172 (dk_at dksJ12_hashCode_4_1 8 rfl rfl)
theorem q165 : (Jvm.Cond.initialized "jdk/internal/util/ArraysSupport") ∈ lw_all := lw_g (lw_at lw_m1 23 rfl) rfl
theorem q862 : (Jvm.Cond.static ({ cls := "jdk/internal/util/ArraysSupport", name := "newLength", desc := "(III)I" } : Jvm.MethodName)) ∈ lw_all := lw_g (lw_at lw_m4 0 rfl) rfl
theorem q863 : (Jvm.Cond.code ({ cls := "jdk/internal/util/ArraysSupport", name := "newLength", desc := "(III)I" } : Jvm.MethodName) prog_50_method_27_code (4 : Nat) (Option.some Jvm.ClassFile.FieldType.int)) ∈ lw_all := lw_g (lw_at lw_m4 1 rfl) rfl
theorem q864 : (Jvm.Cond.methodLink "jdk/internal/util/ArraysSupport" (194 : Nat) ({ cls := "java/lang/Math", name := "max", desc := "(II)I" } : Jvm.MethodName)) ∈ lw_all := lw_g (lw_at lw_m4 2 rfl) rfl
theorem q867 : (Jvm.Cond.constant "jdk/internal/util/ArraysSupport" (200 : Nat) (2147483639 : Int32)) ∈ lw_all := lw_g (lw_at lw_m4 5 rfl) rfl
theorem q868 : (Jvm.Cond.methodLink "jdk/internal/util/ArraysSupport" (201 : Nat) ({ cls := "jdk/internal/util/ArraysSupport", name := "hugeLength", desc := "(II)I" } : Jvm.MethodName)) ∈ lw_all := lw_g (lw_at lw_m4 6 rfl) rfl
theorem q869 : (Jvm.Cond.static ({ cls := "jdk/internal/util/ArraysSupport", name := "hugeLength", desc := "(II)I" } : Jvm.MethodName)) ∈ lw_all := lw_g (lw_at lw_m4 7 rfl) rfl
theorem q870 : (Jvm.Cond.code ({ cls := "jdk/internal/util/ArraysSupport", name := "hugeLength", desc := "(II)I" } : Jvm.MethodName) prog_50_method_28_code (3 : Nat) (Option.some Jvm.ClassFile.FieldType.int)) ∈ lw_all := lw_g (lw_at lw_m4 8 rfl) rfl
theorem q1030 : (Jvm.Cond.static ({ cls := "jdk/internal/util/ArraysSupport", name := "vectorizedHashCode", desc := "(Ljava/lang/Object;IIII)I" } : Jvm.MethodName)) ∈ lw_all := lw_g (lw_at lw_m4 168 rfl) rfl
theorem q1031 : (Jvm.Cond.code ({ cls := "jdk/internal/util/ArraysSupport", name := "vectorizedHashCode", desc := "(Ljava/lang/Object;IIII)I" } : Jvm.MethodName) prog_50_method_4_code (5 : Nat) (Option.some Jvm.ClassFile.FieldType.int)) ∈ lw_all := lw_g (lw_at lw_m4 169 rfl) rfl
theorem q1032 : (Jvm.Cond.classLink "jdk/internal/util/ArraysSupport" (60 : Nat) "[B") ∈ lw_all := lw_g (lw_at lw_m4 170 rfl) rfl
theorem q1033 : (Jvm.Cond.methodLink "jdk/internal/util/ArraysSupport" (62 : Nat) ({ cls := "jdk/internal/util/ArraysSupport", name := "signedHashCode", desc := "(I[BII)I" } : Jvm.MethodName)) ∈ lw_all := lw_g (lw_at lw_m4 171 rfl) rfl
theorem q1034 : (Jvm.Cond.static ({ cls := "jdk/internal/util/ArraysSupport", name := "signedHashCode", desc := "(I[BII)I" } : Jvm.MethodName)) ∈ lw_all := lw_g (lw_at lw_m4 172 rfl) rfl
theorem q1035 : (Jvm.Cond.code ({ cls := "jdk/internal/util/ArraysSupport", name := "signedHashCode", desc := "(I[BII)I" } : Jvm.MethodName) prog_50_method_5_code (6 : Nat) (Option.some Jvm.ClassFile.FieldType.int)) ∈ lw_all := lw_g (lw_at lw_m4 173 rfl) rfl
theorem q1036 : (Jvm.Cond.methodLink "jdk/internal/util/ArraysSupport" (66 : Nat) ({ cls := "jdk/internal/util/ArraysSupport", name := "utf16hashCode", desc := "(I[BII)I" } : Jvm.MethodName)) ∈ lw_all := lw_g (lw_at lw_m4 174 rfl) rfl
theorem q1037 : (Jvm.Cond.static ({ cls := "jdk/internal/util/ArraysSupport", name := "utf16hashCode", desc := "(I[BII)I" } : Jvm.MethodName)) ∈ lw_all := lw_g (lw_at lw_m4 175 rfl) rfl
theorem q1038 : (Jvm.Cond.code ({ cls := "jdk/internal/util/ArraysSupport", name := "utf16hashCode", desc := "(I[BII)I" } : Jvm.MethodName) prog_50_method_10_code (6 : Nat) (Option.some Jvm.ClassFile.FieldType.int)) ∈ lw_all := lw_g (lw_at lw_m4 176 rfl) rfl
theorem q1039 : (Jvm.Cond.fieldLink "jdk/internal/util/ArraysSupport" (106 : Nat) "jdk/internal/util/ArraysSupport" "JLA" "Ljdk/internal/access/JavaLangAccess;") ∈ lw_all := lw_g (lw_at lw_m4 177 rfl) rfl
theorem q1040 : (Jvm.Cond.laysStatic "jdk/internal/util/ArraysSupport" "JLA" "Ljdk/internal/access/JavaLangAccess;") ∈ lw_tbl := lw_at lw_m4 178 rfl
theorem q1041 : (Jvm.Cond.interfaceEntry "jdk/internal/util/ArraysSupport" (110 : Nat)) ∈ lw_tbl := lw_at lw_m4 179 rfl
theorem q1042 : (Jvm.Cond.methodLink "jdk/internal/util/ArraysSupport" (110 : Nat) ({ cls := "jdk/internal/access/JavaLangAccess", name := "getUTF16Char", desc := "([BI)C" } : Jvm.MethodName)) ∈ lw_all := lw_g (lw_at lw_m4 180 rfl) rfl
theorem q1052 : (Jvm.Cond.classLink "jdk/internal/util/ArraysSupport" (69 : Nat) "[C") ∈ lw_all := lw_g (lw_at lw_m4 190 rfl) rfl
theorem q1053 : (Jvm.Cond.methodLink "jdk/internal/util/ArraysSupport" (71 : Nat) ({ cls := "jdk/internal/util/ArraysSupport", name := "hashCode", desc := "(I[CII)I" } : Jvm.MethodName)) ∈ lw_all := lw_g (lw_at lw_m4 191 rfl) rfl
theorem q1054 : (Jvm.Cond.static ({ cls := "jdk/internal/util/ArraysSupport", name := "hashCode", desc := "(I[CII)I" } : Jvm.MethodName)) ∈ lw_all := lw_g (lw_at lw_m4 192 rfl) rfl
theorem q1055 : (Jvm.Cond.code ({ cls := "jdk/internal/util/ArraysSupport", name := "hashCode", desc := "(I[CII)I" } : Jvm.MethodName) prog_50_method_7_code (6 : Nat) (Option.some Jvm.ClassFile.FieldType.int)) ∈ lw_all := lw_g (lw_at lw_m4 193 rfl) rfl
theorem q1056 : (Jvm.Cond.methodLink "jdk/internal/util/ArraysSupport" (75 : Nat) ({ cls := "jdk/internal/util/ArraysSupport", name := "hashCode", desc := "(I[BII)I" } : Jvm.MethodName)) ∈ lw_all := lw_g (lw_at lw_m4 194 rfl) rfl
theorem q1057 : (Jvm.Cond.static ({ cls := "jdk/internal/util/ArraysSupport", name := "hashCode", desc := "(I[BII)I" } : Jvm.MethodName)) ∈ lw_all := lw_g (lw_at lw_m4 195 rfl) rfl
theorem q1058 : (Jvm.Cond.code ({ cls := "jdk/internal/util/ArraysSupport", name := "hashCode", desc := "(I[BII)I" } : Jvm.MethodName) prog_50_method_6_code (6 : Nat) (Option.some Jvm.ClassFile.FieldType.int)) ∈ lw_all := lw_g (lw_at lw_m4 196 rfl) rfl
theorem q1059 : (Jvm.Cond.classLink "jdk/internal/util/ArraysSupport" (77 : Nat) "[S") ∈ lw_all := lw_g (lw_at lw_m4 197 rfl) rfl
theorem q1060 : (Jvm.Cond.methodLink "jdk/internal/util/ArraysSupport" (79 : Nat) ({ cls := "jdk/internal/util/ArraysSupport", name := "hashCode", desc := "(I[SII)I" } : Jvm.MethodName)) ∈ lw_all := lw_g (lw_at lw_m4 198 rfl) rfl
theorem q1061 : (Jvm.Cond.static ({ cls := "jdk/internal/util/ArraysSupport", name := "hashCode", desc := "(I[SII)I" } : Jvm.MethodName)) ∈ lw_all := lw_g (lw_at lw_m4 199 rfl) rfl
theorem q1062 : (Jvm.Cond.code ({ cls := "jdk/internal/util/ArraysSupport", name := "hashCode", desc := "(I[SII)I" } : Jvm.MethodName) prog_50_method_8_code (6 : Nat) (Option.some Jvm.ClassFile.FieldType.int)) ∈ lw_all := lw_g (lw_at lw_m4 200 rfl) rfl
theorem q1063 : (Jvm.Cond.classLink "jdk/internal/util/ArraysSupport" (82 : Nat) "[I") ∈ lw_all := lw_g (lw_at lw_m4 201 rfl) rfl
theorem q1064 : (Jvm.Cond.methodLink "jdk/internal/util/ArraysSupport" (84 : Nat) ({ cls := "jdk/internal/util/ArraysSupport", name := "hashCode", desc := "(I[III)I" } : Jvm.MethodName)) ∈ lw_all := lw_g (lw_at lw_m4 202 rfl) rfl
theorem q1065 : (Jvm.Cond.static ({ cls := "jdk/internal/util/ArraysSupport", name := "hashCode", desc := "(I[III)I" } : Jvm.MethodName)) ∈ lw_all := lw_g (lw_at lw_m4 203 rfl) rfl
theorem q1066 : (Jvm.Cond.code ({ cls := "jdk/internal/util/ArraysSupport", name := "hashCode", desc := "(I[III)I" } : Jvm.MethodName) prog_50_method_9_code (6 : Nat) (Option.some Jvm.ClassFile.FieldType.int)) ∈ lw_all := lw_g (lw_at lw_m4 204 rfl) rfl

/-! java/lang/Math -/
set_option maxRecDepth 100000
def RJ13 : String := "java/lang/Math"
abbrev cJ13_max : ByteArray := prog_29_method_65_code
def yJ13_max : MethodName := ⟨RJ13, "max", "(II)I"⟩
def dkwJ13_max_0 : List UInt8 := [26, 27, 161, 0, 7, 26, 167, 0, 4, 27, 172]
abbrev dktJ13_max_0 : List UInt8 := dkwJ13_max_0 ++ []
theorem dksJ13_max_0 : cJ13_max.data.toList.drop 0 = dktJ13_max_0 := by decide +kernel
theorem dJ13_max_0 : decode cJ13_max 0 = .ok (.iload_n 0, 1) := dk_26 (dk_at dksJ13_max_0 0 rfl rfl)
theorem dJ13_max_1 : decode cJ13_max 1 = .ok (.iload_n 1, 1) := dk_27 (dk_at dksJ13_max_0 1 rfl rfl)
theorem dJ13_max_2 : decode cJ13_max 2 = .ok (.if_icmp .lt 7, 3) := dk_161 0 7 (dk_at dksJ13_max_0 2 rfl rfl)
theorem dJ13_max_5 : decode cJ13_max 5 = .ok (.iload_n 0, 1) := dk_26 (dk_at dksJ13_max_0 5 rfl rfl)
theorem dJ13_max_6 : decode cJ13_max 6 = .ok (.goto 4, 3) := dk_167 0 4 (dk_at dksJ13_max_0 6 rfl rfl)
theorem dJ13_max_9 : decode cJ13_max 9 = .ok (.iload_n 1, 1) := dk_27 (dk_at dksJ13_max_0 9 rfl rfl)
theorem dJ13_max_10 : decode cJ13_max 10 = .ok (.ireturn, 1) := dk_172 (dk_at dksJ13_max_0 10 rfl rfl)
abbrev cJ13_min : ByteArray := prog_29_method_69_code
def yJ13_min : MethodName := ⟨RJ13, "min", "(II)I"⟩
def dkwJ13_min_0 : List UInt8 := [26, 27, 163, 0, 7, 26, 167, 0, 4, 27, 172]
abbrev dktJ13_min_0 : List UInt8 := dkwJ13_min_0 ++ []
theorem dksJ13_min_0 : cJ13_min.data.toList.drop 0 = dktJ13_min_0 := by decide +kernel
theorem dJ13_min_0 : decode cJ13_min 0 = .ok (.iload_n 0, 1) := dk_26 (dk_at dksJ13_min_0 0 rfl rfl)
theorem dJ13_min_1 : decode cJ13_min 1 = .ok (.iload_n 1, 1) := dk_27 (dk_at dksJ13_min_0 1 rfl rfl)
theorem dJ13_min_2 : decode cJ13_min 2 = .ok (.if_icmp .gt 7, 3) := dk_163 0 7 (dk_at dksJ13_min_0 2 rfl rfl)
theorem dJ13_min_5 : decode cJ13_min 5 = .ok (.iload_n 0, 1) := dk_26 (dk_at dksJ13_min_0 5 rfl rfl)
theorem dJ13_min_6 : decode cJ13_min 6 = .ok (.goto 4, 3) := dk_167 0 4 (dk_at dksJ13_min_0 6 rfl rfl)
theorem dJ13_min_9 : decode cJ13_min 9 = .ok (.iload_n 1, 1) := dk_27 (dk_at dksJ13_min_0 9 rfl rfl)
theorem dJ13_min_10 : decode cJ13_min 10 = .ok (.ireturn, 1) := dk_172 (dk_at dksJ13_min_0 10 rfl rfl)
abbrev cJ13_floorMod : ByteArray := prog_29_method_50_code
def yJ13_floorMod : MethodName := ⟨RJ13, "floorMod", "(II)I"⟩
def dkwJ13_floorMod_0 : List UInt8 := [26, 27, 112, 61, 26, 27, 130, 156, 0, 11, 28, 153, 0, 7, 28, 27, 96, 172, 28, 172]
abbrev dktJ13_floorMod_0 : List UInt8 := dkwJ13_floorMod_0 ++ []
theorem dksJ13_floorMod_0 : cJ13_floorMod.data.toList.drop 0 = dktJ13_floorMod_0 := by decide +kernel
theorem dJ13_floorMod_0 : decode cJ13_floorMod 0 = .ok (.iload_n 0, 1) := dk_26 (dk_at dksJ13_floorMod_0 0 rfl rfl)
theorem dJ13_floorMod_1 : decode cJ13_floorMod 1 = .ok (.iload_n 1, 1) := dk_27 (dk_at dksJ13_floorMod_0 1 rfl rfl)
theorem dJ13_floorMod_2 : decode cJ13_floorMod 2 = .ok (.irem, 1) := dk_112 (dk_at dksJ13_floorMod_0 2 rfl rfl)
theorem dJ13_floorMod_3 : decode cJ13_floorMod 3 = .ok (.istore_n 2, 1) := dk_61 (dk_at dksJ13_floorMod_0 3 rfl rfl)
theorem dJ13_floorMod_4 : decode cJ13_floorMod 4 = .ok (.iload_n 0, 1) := dk_26 (dk_at dksJ13_floorMod_0 4 rfl rfl)
theorem dJ13_floorMod_5 : decode cJ13_floorMod 5 = .ok (.iload_n 1, 1) := dk_27 (dk_at dksJ13_floorMod_0 5 rfl rfl)
theorem dJ13_floorMod_6 : decode cJ13_floorMod 6 = .ok (.ixor, 1) := dk_130 (dk_at dksJ13_floorMod_0 6 rfl rfl)
theorem dJ13_floorMod_7 : decode cJ13_floorMod 7 = .ok (.ifCond .ge 11, 3) := dk_156 0 11 (dk_at dksJ13_floorMod_0 7 rfl rfl)
theorem dJ13_floorMod_10 : decode cJ13_floorMod 10 = .ok (.iload_n 2, 1) := dk_28 (dk_at dksJ13_floorMod_0 10 rfl rfl)
theorem dJ13_floorMod_11 : decode cJ13_floorMod 11 = .ok (.ifCond .eq 7, 3) := dk_153 0 7 (dk_at dksJ13_floorMod_0 11 rfl rfl)
theorem dJ13_floorMod_14 : decode cJ13_floorMod 14 = .ok (.iload_n 2, 1) := dk_28 (dk_at dksJ13_floorMod_0 14 rfl rfl)
theorem dJ13_floorMod_15 : decode cJ13_floorMod 15 = .ok (.iload_n 1, 1) := dk_27 (dk_at dksJ13_floorMod_0 15 rfl rfl)
theorem dJ13_floorMod_16 : decode cJ13_floorMod 16 = .ok (.iadd, 1) := dk_96 (dk_at dksJ13_floorMod_0 16 rfl rfl)
theorem dJ13_floorMod_17 : decode cJ13_floorMod 17 = .ok (.ireturn, 1) := dk_172 (dk_at dksJ13_floorMod_0 17 rfl rfl)
theorem dJ13_floorMod_18 : decode cJ13_floorMod 18 = .ok (.iload_n 2, 1) := dk_28 (dk_at dksJ13_floorMod_0 18 rfl rfl)
theorem dJ13_floorMod_19 : decode cJ13_floorMod 19 = .ok (.ireturn, 1) := dk_172 (dk_at dksJ13_floorMod_0 19 rfl rfl)
theorem q166 : (Jvm.Cond.initialized "java/lang/Math") ∈ lw_all := lw_g (lw_at lw_m1 24 rfl) rfl
theorem q865 : (Jvm.Cond.static ({ cls := "java/lang/Math", name := "max", desc := "(II)I" } : Jvm.MethodName)) ∈ lw_all := lw_g (lw_at lw_m4 3 rfl) rfl
theorem q866 : (Jvm.Cond.code ({ cls := "java/lang/Math", name := "max", desc := "(II)I" } : Jvm.MethodName) prog_29_method_65_code (2 : Nat) (Option.some Jvm.ClassFile.FieldType.int)) ∈ lw_all := lw_g (lw_at lw_m4 4 rfl) rfl
theorem q883 : (Jvm.Cond.static ({ cls := "java/lang/Math", name := "min", desc := "(II)I" } : Jvm.MethodName)) ∈ lw_all := lw_g (lw_at lw_m4 21 rfl) rfl
theorem q884 : (Jvm.Cond.code ({ cls := "java/lang/Math", name := "min", desc := "(II)I" } : Jvm.MethodName) prog_29_method_69_code (2 : Nat) (Option.some Jvm.ClassFile.FieldType.int)) ∈ lw_all := lw_g (lw_at lw_m4 22 rfl) rfl
theorem q1406 : (Jvm.Cond.static ({ cls := "java/lang/Math", name := "floorMod", desc := "(II)I" } : Jvm.MethodName)) ∈ lw_all := lw_g (lw_at lw_m6 64 rfl) rfl
theorem q1407 : (Jvm.Cond.code ({ cls := "java/lang/Math", name := "floorMod", desc := "(II)I" } : Jvm.MethodName) prog_29_method_50_code (3 : Nat) (Option.some Jvm.ClassFile.FieldType.int)) ∈ lw_all := lw_g (lw_at lw_m6 65 rfl) rfl

/-! java/util/Arrays -/
set_option maxRecDepth 100000
def RJ14 : String := "java/util/Arrays"
abbrev cJ14_copyOf : ByteArray := prog_43_method_121_code
def yJ14_copyOf : MethodName := ⟨RJ14, "copyOf", "([BI)[B"⟩
def dkwJ14_copyOf_1 : List UInt8 := [27, 184, 1, 48, 184, 0, 150, 44, 176]
abbrev dktJ14_copyOf_1 : List UInt8 := dkwJ14_copyOf_1 ++ []
def dkwJ14_copyOf_0 : List UInt8 := [27, 42, 190, 160, 0, 11, 42, 182, 1, 54, 192, 1, 55, 176, 27, 188, 8, 77, 42, 3, 44, 3, 42, 190]
abbrev dktJ14_copyOf_0 : List UInt8 := dkwJ14_copyOf_0 ++ dktJ14_copyOf_1
theorem dksJ14_copyOf_0 : cJ14_copyOf.data.toList.drop 0 = dktJ14_copyOf_0 := by decide +kernel
theorem dksJ14_copyOf_1 : cJ14_copyOf.data.toList.drop 24 = dktJ14_copyOf_1 := dk_seg dksJ14_copyOf_0 24 rfl rfl
theorem dJ14_copyOf_0 : decode cJ14_copyOf 0 = .ok (.iload_n 1, 1) := dk_27 (dk_at dksJ14_copyOf_0 0 rfl rfl)
theorem dJ14_copyOf_1 : decode cJ14_copyOf 1 = .ok (.aload_n 0, 1) := dk_42 (dk_at dksJ14_copyOf_0 1 rfl rfl)
theorem dJ14_copyOf_2 : decode cJ14_copyOf 2 = .ok (.arraylength, 1) := dk_190 (dk_at dksJ14_copyOf_0 2 rfl rfl)
theorem dJ14_copyOf_3 : decode cJ14_copyOf 3 = .ok (.if_icmp .ne 11, 3) := dk_160 0 11 (dk_at dksJ14_copyOf_0 3 rfl rfl)
theorem dJ14_copyOf_6 : decode cJ14_copyOf 6 = .ok (.aload_n 0, 1) := dk_42 (dk_at dksJ14_copyOf_0 6 rfl rfl)
theorem dJ14_copyOf_7 : decode cJ14_copyOf 7 = .ok (.invokevirtual 310, 3) := dk_182 1 54 (dk_at dksJ14_copyOf_0 7 rfl rfl)
theorem dJ14_copyOf_10 : decode cJ14_copyOf 10 = .ok (.checkcast 311, 3) := dk_192 1 55 (dk_at dksJ14_copyOf_0 10 rfl rfl)
theorem dJ14_copyOf_13 : decode cJ14_copyOf 13 = .ok (.areturn, 1) := dk_176 (dk_at dksJ14_copyOf_0 13 rfl rfl)
theorem dJ14_copyOf_14 : decode cJ14_copyOf 14 = .ok (.iload_n 1, 1) := dk_27 (dk_at dksJ14_copyOf_0 14 rfl rfl)
theorem dJ14_copyOf_15 : decode cJ14_copyOf 15 = .ok (.newarray .byte, 2) := dk_188_8 (dk_at dksJ14_copyOf_0 15 rfl rfl)
theorem dJ14_copyOf_17 : decode cJ14_copyOf 17 = .ok (.astore_n 2, 1) := dk_77 (dk_at dksJ14_copyOf_0 17 rfl rfl)
theorem dJ14_copyOf_18 : decode cJ14_copyOf 18 = .ok (.aload_n 0, 1) := dk_42 (dk_at dksJ14_copyOf_0 18 rfl rfl)
theorem dJ14_copyOf_19 : decode cJ14_copyOf 19 = .ok (.iconst 0, 1) := dk_3 (dk_at dksJ14_copyOf_0 19 rfl rfl)
theorem dJ14_copyOf_20 : decode cJ14_copyOf 20 = .ok (.aload_n 2, 1) := dk_44 (dk_at dksJ14_copyOf_0 20 rfl rfl)
theorem dJ14_copyOf_21 : decode cJ14_copyOf 21 = .ok (.iconst 0, 1) := dk_3 (dk_at dksJ14_copyOf_0 21 rfl rfl)
theorem dJ14_copyOf_22 : decode cJ14_copyOf 22 = .ok (.aload_n 0, 1) := dk_42 (dk_at dksJ14_copyOf_0 22 rfl rfl)
theorem dJ14_copyOf_23 : decode cJ14_copyOf 23 = .ok (.arraylength, 1) := dk_190 (dk_at dksJ14_copyOf_0 23 rfl rfl)
theorem dJ14_copyOf_24 : decode cJ14_copyOf 24 = .ok (.iload_n 1, 1) := dk_27 (dk_at dksJ14_copyOf_1 0 rfl rfl)
theorem dJ14_copyOf_25 : decode cJ14_copyOf 25 = .ok (.invokestatic 304, 3) := dk_184 1 48 (dk_at dksJ14_copyOf_1 1 rfl rfl)
theorem dJ14_copyOf_28 : decode cJ14_copyOf 28 = .ok (.invokestatic 150, 3) := dk_184 0 150 (dk_at dksJ14_copyOf_1 4 rfl rfl)
theorem dJ14_copyOf_31 : decode cJ14_copyOf 31 = .ok (.aload_n 2, 1) := dk_44 (dk_at dksJ14_copyOf_1 7 rfl rfl)
theorem dJ14_copyOf_32 : decode cJ14_copyOf 32 = .ok (.areturn, 1) := dk_176 (dk_at dksJ14_copyOf_1 8 rfl rfl)
abbrev cJ14_copyOfRange : ByteArray := prog_43_method_132_code
def yJ14_copyOfRange : MethodName := ⟨RJ14, "copyOfRange", "([BII)[B"⟩
def dkwJ14_copyOfRange_1 : List UInt8 := [176]
abbrev dktJ14_copyOfRange_1 : List UInt8 := dkwJ14_copyOfRange_1 ++ []
def dkwJ14_copyOfRange_0 : List UInt8 := [27, 154, 0, 9, 28, 42, 190, 159, 0, 10, 42, 27, 28, 184, 1, 83, 176, 42, 182, 1, 54, 192, 1, 55]
abbrev dktJ14_copyOfRange_0 : List UInt8 := dkwJ14_copyOfRange_0 ++ dktJ14_copyOfRange_1
theorem dksJ14_copyOfRange_0 : cJ14_copyOfRange.data.toList.drop 0 = dktJ14_copyOfRange_0 := by decide +kernel
theorem dksJ14_copyOfRange_1 : cJ14_copyOfRange.data.toList.drop 24 = dktJ14_copyOfRange_1 := dk_seg dksJ14_copyOfRange_0 24 rfl rfl
theorem dJ14_copyOfRange_0 : decode cJ14_copyOfRange 0 = .ok (.iload_n 1, 1) := dk_27 (dk_at dksJ14_copyOfRange_0 0 rfl rfl)
theorem dJ14_copyOfRange_1 : decode cJ14_copyOfRange 1 = .ok (.ifCond .ne 9, 3) := dk_154 0 9 (dk_at dksJ14_copyOfRange_0 1 rfl rfl)
theorem dJ14_copyOfRange_4 : decode cJ14_copyOfRange 4 = .ok (.iload_n 2, 1) := dk_28 (dk_at dksJ14_copyOfRange_0 4 rfl rfl)
theorem dJ14_copyOfRange_5 : decode cJ14_copyOfRange 5 = .ok (.aload_n 0, 1) := dk_42 (dk_at dksJ14_copyOfRange_0 5 rfl rfl)
theorem dJ14_copyOfRange_6 : decode cJ14_copyOfRange 6 = .ok (.arraylength, 1) := dk_190 (dk_at dksJ14_copyOfRange_0 6 rfl rfl)
theorem dJ14_copyOfRange_7 : decode cJ14_copyOfRange 7 = .ok (.if_icmp .eq 10, 3) := dk_159 0 10 (dk_at dksJ14_copyOfRange_0 7 rfl rfl)
theorem dJ14_copyOfRange_10 : decode cJ14_copyOfRange 10 = .ok (.aload_n 0, 1) := dk_42 (dk_at dksJ14_copyOfRange_0 10 rfl rfl)
theorem dJ14_copyOfRange_11 : decode cJ14_copyOfRange 11 = .ok (.iload_n 1, 1) := dk_27 (dk_at dksJ14_copyOfRange_0 11 rfl rfl)
theorem dJ14_copyOfRange_12 : decode cJ14_copyOfRange 12 = .ok (.iload_n 2, 1) := dk_28 (dk_at dksJ14_copyOfRange_0 12 rfl rfl)
theorem dJ14_copyOfRange_13 : decode cJ14_copyOfRange 13 = .ok (.invokestatic 339, 3) := dk_184 1 83 (dk_at dksJ14_copyOfRange_0 13 rfl rfl)
theorem dJ14_copyOfRange_16 : decode cJ14_copyOfRange 16 = .ok (.areturn, 1) := dk_176 (dk_at dksJ14_copyOfRange_0 16 rfl rfl)
theorem dJ14_copyOfRange_17 : decode cJ14_copyOfRange 17 = .ok (.aload_n 0, 1) := dk_42 (dk_at dksJ14_copyOfRange_0 17 rfl rfl)
theorem dJ14_copyOfRange_18 : decode cJ14_copyOfRange 18 = .ok (.invokevirtual 310, 3) := dk_182 1 54 (dk_at dksJ14_copyOfRange_0 18 rfl rfl)
theorem dJ14_copyOfRange_21 : decode cJ14_copyOfRange 21 = .ok (.checkcast 311, 3) := dk_192 1 55 (dk_at dksJ14_copyOfRange_0 21 rfl rfl)
theorem dJ14_copyOfRange_24 : decode cJ14_copyOfRange 24 = .ok (.areturn, 1) := dk_176 (dk_at dksJ14_copyOfRange_1 0 rfl rfl)
abbrev cJ14_copyOfRangeByte : ByteArray := prog_43_method_133_code
def yJ14_copyOfRangeByte : MethodName := ⟨RJ14, "copyOfRangeByte", "([BII)[B"⟩
def dkwJ14_copyOfRangeByte_1 : List UInt8 := [184, 1, 48, 184, 0, 150, 25, 4, 176]
abbrev dktJ14_copyOfRangeByte_1 : List UInt8 := dkwJ14_copyOfRangeByte_1 ++ []
def dkwJ14_copyOfRangeByte_0 : List UInt8 := [27, 28, 184, 1, 87, 28, 27, 100, 62, 29, 188, 8, 58, 4, 42, 27, 25, 4, 3, 42, 190, 27, 100, 29]
abbrev dktJ14_copyOfRangeByte_0 : List UInt8 := dkwJ14_copyOfRangeByte_0 ++ dktJ14_copyOfRangeByte_1
theorem dksJ14_copyOfRangeByte_0 : cJ14_copyOfRangeByte.data.toList.drop 0 = dktJ14_copyOfRangeByte_0 := by decide +kernel
theorem dksJ14_copyOfRangeByte_1 : cJ14_copyOfRangeByte.data.toList.drop 24 = dktJ14_copyOfRangeByte_1 := dk_seg dksJ14_copyOfRangeByte_0 24 rfl rfl
theorem dJ14_copyOfRangeByte_0 : decode cJ14_copyOfRangeByte 0 = .ok (.iload_n 1, 1) := dk_27 (dk_at dksJ14_copyOfRangeByte_0 0 rfl rfl)
theorem dJ14_copyOfRangeByte_1 : decode cJ14_copyOfRangeByte 1 = .ok (.iload_n 2, 1) := dk_28 (dk_at dksJ14_copyOfRangeByte_0 1 rfl rfl)
theorem dJ14_copyOfRangeByte_2 : decode cJ14_copyOfRangeByte 2 = .ok (.invokestatic 343, 3) := dk_184 1 87 (dk_at dksJ14_copyOfRangeByte_0 2 rfl rfl)
theorem dJ14_copyOfRangeByte_5 : decode cJ14_copyOfRangeByte 5 = .ok (.iload_n 2, 1) := dk_28 (dk_at dksJ14_copyOfRangeByte_0 5 rfl rfl)
theorem dJ14_copyOfRangeByte_6 : decode cJ14_copyOfRangeByte 6 = .ok (.iload_n 1, 1) := dk_27 (dk_at dksJ14_copyOfRangeByte_0 6 rfl rfl)
theorem dJ14_copyOfRangeByte_7 : decode cJ14_copyOfRangeByte 7 = .ok (.isub, 1) := dk_100 (dk_at dksJ14_copyOfRangeByte_0 7 rfl rfl)
theorem dJ14_copyOfRangeByte_8 : decode cJ14_copyOfRangeByte 8 = .ok (.istore_n 3, 1) := dk_62 (dk_at dksJ14_copyOfRangeByte_0 8 rfl rfl)
theorem dJ14_copyOfRangeByte_9 : decode cJ14_copyOfRangeByte 9 = .ok (.iload_n 3, 1) := dk_29 (dk_at dksJ14_copyOfRangeByte_0 9 rfl rfl)
theorem dJ14_copyOfRangeByte_10 : decode cJ14_copyOfRangeByte 10 = .ok (.newarray .byte, 2) := dk_188_8 (dk_at dksJ14_copyOfRangeByte_0 10 rfl rfl)
theorem dJ14_copyOfRangeByte_12 : decode cJ14_copyOfRangeByte 12 = .ok (.astore 4, 2) := dk_58 4 (dk_at dksJ14_copyOfRangeByte_0 12 rfl rfl)
theorem dJ14_copyOfRangeByte_14 : decode cJ14_copyOfRangeByte 14 = .ok (.aload_n 0, 1) := dk_42 (dk_at dksJ14_copyOfRangeByte_0 14 rfl rfl)
theorem dJ14_copyOfRangeByte_15 : decode cJ14_copyOfRangeByte 15 = .ok (.iload_n 1, 1) := dk_27 (dk_at dksJ14_copyOfRangeByte_0 15 rfl rfl)
theorem dJ14_copyOfRangeByte_16 : decode cJ14_copyOfRangeByte 16 = .ok (.aload 4, 2) := dk_25 4 (dk_at dksJ14_copyOfRangeByte_0 16 rfl rfl)
theorem dJ14_copyOfRangeByte_18 : decode cJ14_copyOfRangeByte 18 = .ok (.iconst 0, 1) := dk_3 (dk_at dksJ14_copyOfRangeByte_0 18 rfl rfl)
theorem dJ14_copyOfRangeByte_19 : decode cJ14_copyOfRangeByte 19 = .ok (.aload_n 0, 1) := dk_42 (dk_at dksJ14_copyOfRangeByte_0 19 rfl rfl)
theorem dJ14_copyOfRangeByte_20 : decode cJ14_copyOfRangeByte 20 = .ok (.arraylength, 1) := dk_190 (dk_at dksJ14_copyOfRangeByte_0 20 rfl rfl)
theorem dJ14_copyOfRangeByte_21 : decode cJ14_copyOfRangeByte 21 = .ok (.iload_n 1, 1) := dk_27 (dk_at dksJ14_copyOfRangeByte_0 21 rfl rfl)
theorem dJ14_copyOfRangeByte_22 : decode cJ14_copyOfRangeByte 22 = .ok (.isub, 1) := dk_100 (dk_at dksJ14_copyOfRangeByte_0 22 rfl rfl)
theorem dJ14_copyOfRangeByte_23 : decode cJ14_copyOfRangeByte 23 = .ok (.iload_n 3, 1) := dk_29 (dk_at dksJ14_copyOfRangeByte_0 23 rfl rfl)
theorem dJ14_copyOfRangeByte_24 : decode cJ14_copyOfRangeByte 24 = .ok (.invokestatic 304, 3) := dk_184 1 48 (dk_at dksJ14_copyOfRangeByte_1 0 rfl rfl)
theorem dJ14_copyOfRangeByte_27 : decode cJ14_copyOfRangeByte 27 = .ok (.invokestatic 150, 3) := dk_184 0 150 (dk_at dksJ14_copyOfRangeByte_1 3 rfl rfl)
theorem dJ14_copyOfRangeByte_30 : decode cJ14_copyOfRangeByte 30 = .ok (.aload 4, 2) := dk_25 4 (dk_at dksJ14_copyOfRangeByte_1 6 rfl rfl)
theorem dJ14_copyOfRangeByte_32 : decode cJ14_copyOfRangeByte 32 = .ok (.areturn, 1) := dk_176 (dk_at dksJ14_copyOfRangeByte_1 8 rfl rfl)
abbrev cJ14_checkLength : ByteArray := prog_43_method_131_code
def yJ14_checkLength : MethodName := ⟨RJ14, "checkLength", "(II)V"⟩
def dkwJ14_checkLength_1 : List UInt8 := [182, 0, 50, 27, 182, 0, 54, 182, 0, 61, 183, 0, 65, 191, 177]
abbrev dktJ14_checkLength_1 : List UInt8 := dkwJ14_checkLength_1 ++ []
def dkwJ14_checkLength_0 : List UInt8 := [27, 26, 162, 0, 35, 187, 0, 43, 89, 187, 0, 45, 89, 183, 0, 47, 26, 182, 0, 54, 19, 1, 81]
abbrev dktJ14_checkLength_0 : List UInt8 := dkwJ14_checkLength_0 ++ dktJ14_checkLength_1
theorem dksJ14_checkLength_0 : cJ14_checkLength.data.toList.drop 0 = dktJ14_checkLength_0 := by decide +kernel
theorem dksJ14_checkLength_1 : cJ14_checkLength.data.toList.drop 23 = dktJ14_checkLength_1 := dk_seg dksJ14_checkLength_0 23 rfl rfl
theorem dJ14_checkLength_0 : decode cJ14_checkLength 0 = .ok (.iload_n 1, 1) := dk_27 (dk_at dksJ14_checkLength_0 0 rfl rfl)
theorem dJ14_checkLength_1 : decode cJ14_checkLength 1 = .ok (.iload_n 0, 1) := dk_26 (dk_at dksJ14_checkLength_0 1 rfl rfl)
theorem dJ14_checkLength_2 : decode cJ14_checkLength 2 = .ok (.if_icmp .ge 35, 3) := dk_162 0 35 (dk_at dksJ14_checkLength_0 2 rfl rfl)
theorem dJ14_checkLength_5 : decode cJ14_checkLength 5 = .ok (.new 43, 3) := dk_187 0 43 (dk_at dksJ14_checkLength_0 5 rfl rfl)
theorem dJ14_checkLength_8 : decode cJ14_checkLength 8 = .ok (.dup, 1) := dk_89 (dk_at dksJ14_checkLength_0 8 rfl rfl)
theorem dJ14_checkLength_9 : decode cJ14_checkLength 9 = .ok (.new 45, 3) := dk_187 0 45 (dk_at dksJ14_checkLength_0 9 rfl rfl)
theorem dJ14_checkLength_12 : decode cJ14_checkLength 12 = .ok (.dup, 1) := dk_89 (dk_at dksJ14_checkLength_0 12 rfl rfl)
theorem dJ14_checkLength_13 : decode cJ14_checkLength 13 = .ok (.invokespecial 47, 3) := dk_183 0 47 (dk_at dksJ14_checkLength_0 13 rfl rfl)
theorem dJ14_checkLength_16 : decode cJ14_checkLength 16 = .ok (.iload_n 0, 1) := dk_26 (dk_at dksJ14_checkLength_0 16 rfl rfl)
theorem dJ14_checkLength_17 : decode cJ14_checkLength 17 = .ok (.invokevirtual 54, 3) := dk_182 0 54 (dk_at dksJ14_checkLength_0 17 rfl rfl)
theorem dJ14_checkLength_20 : decode cJ14_checkLength 20 = .ok (.ldc_w 337, 3) := dk_19 1 81 (dk_at dksJ14_checkLength_0 20 rfl rfl)
theorem dJ14_checkLength_23 : decode cJ14_checkLength 23 = .ok (.invokevirtual 50, 3) := dk_182 0 50 (dk_at dksJ14_checkLength_1 0 rfl rfl)
theorem dJ14_checkLength_26 : decode cJ14_checkLength 26 = .ok (.iload_n 1, 1) := dk_27 (dk_at dksJ14_checkLength_1 3 rfl rfl)
theorem dJ14_checkLength_27 : decode cJ14_checkLength 27 = .ok (.invokevirtual 54, 3) := dk_182 0 54 (dk_at dksJ14_checkLength_1 4 rfl rfl)
theorem dJ14_checkLength_30 : decode cJ14_checkLength 30 = .ok (.invokevirtual 61, 3) := dk_182 0 61 (dk_at dksJ14_checkLength_1 7 rfl rfl)
theorem dJ14_checkLength_33 : decode cJ14_checkLength 33 = .ok (.invokespecial 65, 3) := dk_183 0 65 (dk_at dksJ14_checkLength_1 10 rfl rfl)
theorem dJ14_checkLength_36 : decode cJ14_checkLength 36 = .ok (.athrow, 1) := dk_191 (dk_at dksJ14_checkLength_1 13 rfl rfl)
theorem dJ14_checkLength_37 : decode cJ14_checkLength 37 = .ok (.return_, 1) := dk_177 (dk_at dksJ14_checkLength_1 14 rfl rfl)
abbrev cJ14_copyOf_2 : ByteArray := prog_43_method_119_code
def yJ14_copyOf_2 : MethodName := ⟨RJ14, "copyOf", "([Ljava/lang/Object;I)[Ljava/lang/Object;"⟩
def dkwJ14_copyOf_2_0 : List UInt8 := [42, 27, 42, 182, 0, 86, 184, 1, 44, 176]
abbrev dktJ14_copyOf_2_0 : List UInt8 := dkwJ14_copyOf_2_0 ++ []
theorem dksJ14_copyOf_2_0 : cJ14_copyOf_2.data.toList.drop 0 = dktJ14_copyOf_2_0 := by decide +kernel
theorem dJ14_copyOf_2_0 : decode cJ14_copyOf_2 0 = .ok (.aload_n 0, 1) := dk_42 (dk_at dksJ14_copyOf_2_0 0 rfl rfl)
theorem dJ14_copyOf_2_1 : decode cJ14_copyOf_2 1 = .ok (.iload_n 1, 1) := dk_27 (dk_at dksJ14_copyOf_2_0 1 rfl rfl)
theorem dJ14_copyOf_2_2 : decode cJ14_copyOf_2 2 = .ok (.aload_n 0, 1) := dk_42 (dk_at dksJ14_copyOf_2_0 2 rfl rfl)
theorem dJ14_copyOf_2_3 : decode cJ14_copyOf_2 3 = .ok (.invokevirtual 86, 3) := dk_182 0 86 (dk_at dksJ14_copyOf_2_0 3 rfl rfl)
theorem dJ14_copyOf_2_6 : decode cJ14_copyOf_2 6 = .ok (.invokestatic 300, 3) := dk_184 1 44 (dk_at dksJ14_copyOf_2_0 6 rfl rfl)
theorem dJ14_copyOf_2_9 : decode cJ14_copyOf_2 9 = .ok (.areturn, 1) := dk_176 (dk_at dksJ14_copyOf_2_0 9 rfl rfl)
abbrev cJ14_copyOf_3 : ByteArray := prog_43_method_120_code
def yJ14_copyOf_3 : MethodName := ⟨RJ14, "copyOf", "([Ljava/lang/Object;ILjava/lang/Class;)[Ljava/lang/Object;"⟩
def dkwJ14_copyOf_3_1 : List UInt8 := [78, 42, 3, 45, 3, 42, 190, 27, 184, 1, 48, 184, 0, 150, 45, 176]
abbrev dktJ14_copyOf_3_1 : List UInt8 := dkwJ14_copyOf_3_1 ++ []
def dkwJ14_copyOf_3_0 : List UInt8 := [44, 18, 110, 166, 0, 10, 27, 189, 0, 2, 167, 0, 14, 44, 182, 0, 90, 27, 184, 0, 95, 192, 0, 110]
abbrev dktJ14_copyOf_3_0 : List UInt8 := dkwJ14_copyOf_3_0 ++ dktJ14_copyOf_3_1
theorem dksJ14_copyOf_3_0 : cJ14_copyOf_3.data.toList.drop 0 = dktJ14_copyOf_3_0 := by decide +kernel
theorem dksJ14_copyOf_3_1 : cJ14_copyOf_3.data.toList.drop 24 = dktJ14_copyOf_3_1 := dk_seg dksJ14_copyOf_3_0 24 rfl rfl
theorem dJ14_copyOf_3_0 : decode cJ14_copyOf_3 0 = .ok (.aload_n 2, 1) := dk_44 (dk_at dksJ14_copyOf_3_0 0 rfl rfl)
theorem dJ14_copyOf_3_1 : decode cJ14_copyOf_3 1 = .ok (.ldc 110, 2) := dk_18 110 (dk_at dksJ14_copyOf_3_0 1 rfl rfl)
theorem dJ14_copyOf_3_3 : decode cJ14_copyOf_3 3 = .ok (.if_acmp .ne 10, 3) := dk_166 0 10 (dk_at dksJ14_copyOf_3_0 3 rfl rfl)
theorem dJ14_copyOf_3_6 : decode cJ14_copyOf_3 6 = .ok (.iload_n 1, 1) := dk_27 (dk_at dksJ14_copyOf_3_0 6 rfl rfl)
theorem dJ14_copyOf_3_7 : decode cJ14_copyOf_3 7 = .ok (.anewarray 2, 3) := dk_189 0 2 (dk_at dksJ14_copyOf_3_0 7 rfl rfl)
theorem dJ14_copyOf_3_10 : decode cJ14_copyOf_3 10 = .ok (.goto 14, 3) := dk_167 0 14 (dk_at dksJ14_copyOf_3_0 10 rfl rfl)
theorem dJ14_copyOf_3_13 : decode cJ14_copyOf_3 13 = .ok (.aload_n 2, 1) := dk_44 (dk_at dksJ14_copyOf_3_0 13 rfl rfl)
theorem dJ14_copyOf_3_14 : decode cJ14_copyOf_3 14 = .ok (.invokevirtual 90, 3) := dk_182 0 90 (dk_at dksJ14_copyOf_3_0 14 rfl rfl)
theorem dJ14_copyOf_3_17 : decode cJ14_copyOf_3 17 = .ok (.iload_n 1, 1) := dk_27 (dk_at dksJ14_copyOf_3_0 17 rfl rfl)
theorem dJ14_copyOf_3_18 : decode cJ14_copyOf_3 18 = .ok (.invokestatic 95, 3) := dk_184 0 95 (dk_at dksJ14_copyOf_3_0 18 rfl rfl)
theorem dJ14_copyOf_3_21 : decode cJ14_copyOf_3 21 = .ok (.checkcast 110, 3) := dk_192 0 110 (dk_at dksJ14_copyOf_3_0 21 rfl rfl)
theorem dJ14_copyOf_3_24 : decode cJ14_copyOf_3 24 = .ok (.astore_n 3, 1) := dk_78 (dk_at dksJ14_copyOf_3_1 0 rfl rfl)
theorem dJ14_copyOf_3_25 : decode cJ14_copyOf_3 25 = .ok (.aload_n 0, 1) := dk_42 (dk_at dksJ14_copyOf_3_1 1 rfl rfl)
theorem dJ14_copyOf_3_26 : decode cJ14_copyOf_3 26 = .ok (.iconst 0, 1) := dk_3 (dk_at dksJ14_copyOf_3_1 2 rfl rfl)
theorem dJ14_copyOf_3_27 : decode cJ14_copyOf_3 27 = .ok (.aload_n 3, 1) := dk_45 (dk_at dksJ14_copyOf_3_1 3 rfl rfl)
theorem dJ14_copyOf_3_28 : decode cJ14_copyOf_3 28 = .ok (.iconst 0, 1) := dk_3 (dk_at dksJ14_copyOf_3_1 4 rfl rfl)
theorem dJ14_copyOf_3_29 : decode cJ14_copyOf_3 29 = .ok (.aload_n 0, 1) := dk_42 (dk_at dksJ14_copyOf_3_1 5 rfl rfl)
theorem dJ14_copyOf_3_30 : decode cJ14_copyOf_3 30 = .ok (.arraylength, 1) := dk_190 (dk_at dksJ14_copyOf_3_1 6 rfl rfl)
theorem dJ14_copyOf_3_31 : decode cJ14_copyOf_3 31 = .ok (.iload_n 1, 1) := dk_27 (dk_at dksJ14_copyOf_3_1 7 rfl rfl)
theorem dJ14_copyOf_3_32 : decode cJ14_copyOf_3 32 = .ok (.invokestatic 304, 3) := dk_184 1 48 (dk_at dksJ14_copyOf_3_1 8 rfl rfl)
theorem dJ14_copyOf_3_35 : decode cJ14_copyOf_3 35 = .ok (.invokestatic 150, 3) := dk_184 0 150 (dk_at dksJ14_copyOf_3_1 11 rfl rfl)
theorem dJ14_copyOf_3_38 : decode cJ14_copyOf_3 38 = .ok (.aload_n 3, 1) := dk_45 (dk_at dksJ14_copyOf_3_1 14 rfl rfl)
theorem dJ14_copyOf_3_39 : decode cJ14_copyOf_3 39 = .ok (.areturn, 1) := dk_176 (dk_at dksJ14_copyOf_3_1 15 rfl rfl)
theorem q167 : (Jvm.Cond.initialized "java/util/Arrays") ∈ lw_all := lw_g (lw_at lw_m1 25 rfl) rfl
theorem q873 : (Jvm.Cond.static ({ cls := "java/util/Arrays", name := "copyOf", desc := "([BI)[B" } : Jvm.MethodName)) ∈ lw_all := lw_g (lw_at lw_m4 11 rfl) rfl
theorem q874 : (Jvm.Cond.code ({ cls := "java/util/Arrays", name := "copyOf", desc := "([BI)[B" } : Jvm.MethodName) prog_43_method_121_code (3 : Nat) (Option.some (Jvm.ClassFile.FieldType.array Jvm.ClassFile.FieldType.byte))) ∈ lw_all := lw_g (lw_at lw_m4 12 rfl) rfl
theorem q875 : (Jvm.Cond.methodLink "java/util/Arrays" (310 : Nat) ({ cls := "[B", name := "clone", desc := "()Ljava/lang/Object;" } : Jvm.MethodName)) ∈ lw_all := lw_g (lw_at lw_m4 13 rfl) rfl
theorem q881 : (Jvm.Cond.classLink "java/util/Arrays" (311 : Nat) "[B") ∈ lw_all := lw_g (lw_at lw_m4 19 rfl) rfl
theorem q882 : (Jvm.Cond.methodLink "java/util/Arrays" (304 : Nat) ({ cls := "java/lang/Math", name := "min", desc := "(II)I" } : Jvm.MethodName)) ∈ lw_all := lw_g (lw_at lw_m4 20 rfl) rfl
theorem q885 : (Jvm.Cond.methodLink "java/util/Arrays" (150 : Nat) ({ cls := "java/lang/System", name := "arraycopy", desc := "(Ljava/lang/Object;ILjava/lang/Object;II)V" } : Jvm.MethodName)) ∈ lw_all := lw_g (lw_at lw_m4 23 rfl) rfl
theorem q949 : (Jvm.Cond.static ({ cls := "java/util/Arrays", name := "copyOfRange", desc := "([BII)[B" } : Jvm.MethodName)) ∈ lw_all := lw_g (lw_at lw_m4 87 rfl) rfl
theorem q950 : (Jvm.Cond.code ({ cls := "java/util/Arrays", name := "copyOfRange", desc := "([BII)[B" } : Jvm.MethodName) prog_43_method_132_code (3 : Nat) (Option.some (Jvm.ClassFile.FieldType.array Jvm.ClassFile.FieldType.byte))) ∈ lw_all := lw_g (lw_at lw_m4 88 rfl) rfl
theorem q951 : (Jvm.Cond.methodLink "java/util/Arrays" (339 : Nat) ({ cls := "java/util/Arrays", name := "copyOfRangeByte", desc := "([BII)[B" } : Jvm.MethodName)) ∈ lw_all := lw_g (lw_at lw_m4 89 rfl) rfl
theorem q952 : (Jvm.Cond.static ({ cls := "java/util/Arrays", name := "copyOfRangeByte", desc := "([BII)[B" } : Jvm.MethodName)) ∈ lw_all := lw_g (lw_at lw_m4 90 rfl) rfl
theorem q953 : (Jvm.Cond.code ({ cls := "java/util/Arrays", name := "copyOfRangeByte", desc := "([BII)[B" } : Jvm.MethodName) prog_43_method_133_code (5 : Nat) (Option.some (Jvm.ClassFile.FieldType.array Jvm.ClassFile.FieldType.byte))) ∈ lw_all := lw_g (lw_at lw_m4 91 rfl) rfl
theorem q954 : (Jvm.Cond.methodLink "java/util/Arrays" (343 : Nat) ({ cls := "java/util/Arrays", name := "checkLength", desc := "(II)V" } : Jvm.MethodName)) ∈ lw_all := lw_g (lw_at lw_m4 92 rfl) rfl
theorem q955 : (Jvm.Cond.static ({ cls := "java/util/Arrays", name := "checkLength", desc := "(II)V" } : Jvm.MethodName)) ∈ lw_all := lw_g (lw_at lw_m4 93 rfl) rfl
theorem q956 : (Jvm.Cond.code ({ cls := "java/util/Arrays", name := "checkLength", desc := "(II)V" } : Jvm.MethodName) prog_43_method_131_code (2 : Nat) (Option.none : Option Jvm.ClassFile.FieldType)) ∈ lw_all := lw_g (lw_at lw_m4 94 rfl) rfl
theorem q1225 : (Jvm.Cond.static ({ cls := "java/util/Arrays", name := "copyOf", desc := "([Ljava/lang/Object;I)[Ljava/lang/Object;" } : Jvm.MethodName)) ∈ lw_all := lw_g (lw_at lw_m5 123 rfl) rfl
theorem q1226 : (Jvm.Cond.code ({ cls := "java/util/Arrays", name := "copyOf", desc := "([Ljava/lang/Object;I)[Ljava/lang/Object;" } : Jvm.MethodName) prog_43_method_119_code (2 : Nat) (Option.some (Jvm.ClassFile.FieldType.array (Jvm.ClassFile.FieldType.object "java/lang/Object")))) ∈ lw_all := lw_g (lw_at lw_m5 124 rfl) rfl
theorem q1227 : (Jvm.Cond.methodLink "java/util/Arrays" (86 : Nat) ({ cls := "java/lang/Object", name := "getClass", desc := "()Ljava/lang/Class;" } : Jvm.MethodName)) ∈ lw_all := lw_g (lw_at lw_m5 125 rfl) rfl
theorem q1252 : (Jvm.Cond.methodLink "java/util/Arrays" (300 : Nat) ({ cls := "java/util/Arrays", name := "copyOf", desc := "([Ljava/lang/Object;ILjava/lang/Class;)[Ljava/lang/Object;" } : Jvm.MethodName)) ∈ lw_all := lw_g (lw_at lw_m5 150 rfl) rfl
theorem q1253 : (Jvm.Cond.static ({ cls := "java/util/Arrays", name := "copyOf", desc := "([Ljava/lang/Object;ILjava/lang/Class;)[Ljava/lang/Object;" } : Jvm.MethodName)) ∈ lw_all := lw_g (lw_at lw_m5 151 rfl) rfl
theorem q1254 : (Jvm.Cond.code ({ cls := "java/util/Arrays", name := "copyOf", desc := "([Ljava/lang/Object;ILjava/lang/Class;)[Ljava/lang/Object;" } : Jvm.MethodName) prog_43_method_120_code (4 : Nat) (Option.some (Jvm.ClassFile.FieldType.array (Jvm.ClassFile.FieldType.object "java/lang/Object")))) ∈ lw_all := lw_g (lw_at lw_m5 152 rfl) rfl
theorem q1255 : (Jvm.Cond.classLink "java/util/Arrays" (110 : Nat) "[Ljava/lang/Object;") ∈ lw_all := lw_g (lw_at lw_m5 153 rfl) rfl
theorem q1257 : (Jvm.Cond.classLink "java/util/Arrays" (2 : Nat) "java/lang/Object") ∈ lw_all := lw_g (lw_at lw_m5 155 rfl) rfl

/-! java/util/Objects -/
set_option maxRecDepth 100000
def RJ15 : String := "java/util/Objects"
abbrev cJ15_checkIndex : ByteArray := prog_46_method_17_code
def yJ15_checkIndex : MethodName := ⟨RJ15, "checkIndex", "(II)I"⟩
def dkwJ15_checkIndex_0 : List UInt8 := [26, 27, 1, 184, 0, 105, 172]
abbrev dktJ15_checkIndex_0 : List UInt8 := dkwJ15_checkIndex_0 ++ []
theorem dksJ15_checkIndex_0 : cJ15_checkIndex.data.toList.drop 0 = dktJ15_checkIndex_0 := by decide +kernel
theorem dJ15_checkIndex_0 : decode cJ15_checkIndex 0 = .ok (.iload_n 0, 1) := dk_26 (dk_at dksJ15_checkIndex_0 0 rfl rfl)
theorem dJ15_checkIndex_1 : decode cJ15_checkIndex 1 = .ok (.iload_n 1, 1) := dk_27 (dk_at dksJ15_checkIndex_0 1 rfl rfl)
theorem dJ15_checkIndex_2 : decode cJ15_checkIndex 2 = .ok (.aconst_null, 1) := dk_1 (dk_at dksJ15_checkIndex_0 2 rfl rfl)
theorem dJ15_checkIndex_3 : decode cJ15_checkIndex 3 = .ok (.invokestatic 105, 3) := dk_184 0 105 (dk_at dksJ15_checkIndex_0 3 rfl rfl)
theorem dJ15_checkIndex_6 : decode cJ15_checkIndex 6 = .ok (.ireturn, 1) := dk_172 (dk_at dksJ15_checkIndex_0 6 rfl rfl)
theorem q178 : (Jvm.Cond.initialized "java/util/Objects") ∈ lw_all := lw_g (lw_at lw_m1 36 rfl) rfl
theorem q1312 : (Jvm.Cond.static ({ cls := "java/util/Objects", name := "checkIndex", desc := "(II)I" } : Jvm.MethodName)) ∈ lw_all := lw_g (lw_at lw_m5 210 rfl) rfl
theorem q1313 : (Jvm.Cond.code ({ cls := "java/util/Objects", name := "checkIndex", desc := "(II)I" } : Jvm.MethodName) prog_46_method_17_code (2 : Nat) (Option.some Jvm.ClassFile.FieldType.int)) ∈ lw_all := lw_g (lw_at lw_m5 211 rfl) rfl
theorem q1314 : (Jvm.Cond.methodLink "java/util/Objects" (105 : Nat) ({ cls := "jdk/internal/util/Preconditions", name := "checkIndex", desc := "(IILjava/util/function/BiFunction;)I" } : Jvm.MethodName)) ∈ lw_all := lw_g (lw_at lw_m5 212 rfl) rfl

/-! java/lang/Object -/
set_option maxRecDepth 100000
def RJ16 : String := "java/lang/Object"
abbrev cJ16_init : ByteArray := object_method_1_code
def yJ16_init : MethodName := ⟨RJ16, "<init>", "()V"⟩
theorem dJ16_init_0 : decode cJ16_init 0 = .ok (.return_, 1) := by decide +kernel
theorem q185 : (Jvm.Cond.instanceMethod ({ cls := "java/lang/Object", name := "<init>", desc := "()V" } : Jvm.MethodName)) ∈ lw_all := lw_g (lw_at lw_m1 43 rfl) rfl
theorem q186 : (Jvm.Cond.code ({ cls := "java/lang/Object", name := "<init>", desc := "()V" } : Jvm.MethodName) object_method_1_code (1 : Nat) (Option.none : Option Jvm.ClassFile.FieldType)) ∈ lw_all := lw_g (lw_at lw_m1 44 rfl) rfl
theorem q877 : (Jvm.Cond.native ({ cls := "java/lang/Object", name := "clone", desc := "()Ljava/lang/Object;" } : Jvm.MethodName)) ∈ lw_all := lw_g (lw_at lw_m4 15 rfl) rfl
theorem q878 : (Jvm.Cond.instanceMethod ({ cls := "java/lang/Object", name := "clone", desc := "()Ljava/lang/Object;" } : Jvm.MethodName)) ∈ lw_all := lw_g (lw_at lw_m4 16 rfl) rfl
theorem q1228 : (Jvm.Cond.instanceMethod ({ cls := "java/lang/Object", name := "getClass", desc := "()Ljava/lang/Class;" } : Jvm.MethodName)) ∈ lw_all := lw_g (lw_at lw_m5 126 rfl) rfl
theorem q1229 : (Jvm.Cond.sameMethod "java/lang/Object" "java/lang/Object" "getClass" "()Ljava/lang/Class;") ∈ lw_all := lw_g (lw_at lw_m5 127 rfl) rfl
theorem q1251 : (Jvm.Cond.native ({ cls := "java/lang/Object", name := "getClass", desc := "()Ljava/lang/Class;" } : Jvm.MethodName)) ∈ lw_all := lw_g (lw_at lw_m5 149 rfl) rfl
theorem q2355 : (Jvm.Cond.initialized "java/lang/Object") ∈ lw_all := lw_g (lw_at lw_m10 53 rfl) rfl
theorem q2380 : (Jvm.Cond.declares ({ cls := "java/lang/Object", name := "getClass", desc := "()Ljava/lang/Class;" } : Jvm.MethodName)) ∈ lw_tbl := lw_at lw_m10 78 rfl

/-! java/lang/System$2 -/
set_option maxRecDepth 100000
def RJ17 : String := "java/lang/System$2"
abbrev cJ17_getUTF16Char : ByteArray := prog_36_method_45_code
def yJ17_getUTF16Char : MethodName := ⟨RJ17, "getUTF16Char", "([BI)C"⟩
def dkwJ17_getUTF16Char_0 : List UInt8 := [43, 28, 184, 0, 185, 172]
abbrev dktJ17_getUTF16Char_0 : List UInt8 := dkwJ17_getUTF16Char_0 ++ []
theorem dksJ17_getUTF16Char_0 : cJ17_getUTF16Char.data.toList.drop 0 = dktJ17_getUTF16Char_0 := by decide +kernel
theorem dJ17_getUTF16Char_0 : decode cJ17_getUTF16Char 0 = .ok (.aload_n 1, 1) := dk_43 (dk_at dksJ17_getUTF16Char_0 0 rfl rfl)
theorem dJ17_getUTF16Char_1 : decode cJ17_getUTF16Char 1 = .ok (.iload_n 2, 1) := dk_28 (dk_at dksJ17_getUTF16Char_0 1 rfl rfl)
theorem dJ17_getUTF16Char_2 : decode cJ17_getUTF16Char 2 = .ok (.invokestatic 185, 3) := dk_184 0 185 (dk_at dksJ17_getUTF16Char_0 2 rfl rfl)
theorem dJ17_getUTF16Char_5 : decode cJ17_getUTF16Char 5 = .ok (.ireturn, 1) := dk_172 (dk_at dksJ17_getUTF16Char_0 5 rfl rfl)
theorem q1045 : (Jvm.Cond.castable "java/lang/System$2" "jdk/internal/access/JavaLangAccess") ∈ lw_tbl := lw_at lw_m4 183 rfl
theorem q1046 : (Jvm.Cond.selects "java/lang/System$2" ({ cls := "jdk/internal/access/JavaLangAccess", name := "getUTF16Char", desc := "([BI)C" } : Jvm.MethodName) ({ cls := "java/lang/System$2", name := "getUTF16Char", desc := "([BI)C" } : Jvm.MethodName)) ∈ lw_all := lw_g (lw_at lw_m4 184 rfl) rfl
theorem q1047 : (Jvm.Cond.unhidden "java/lang/System$2" "getUTF16Char" "([BI)C") ∈ lw_tbl := lw_at lw_m4 185 rfl
theorem q1048 : (Jvm.Cond.instanceMethod ({ cls := "java/lang/System$2", name := "getUTF16Char", desc := "([BI)C" } : Jvm.MethodName)) ∈ lw_all := lw_g (lw_at lw_m4 186 rfl) rfl
theorem q1049 : (Jvm.Cond.publicMethod ({ cls := "java/lang/System$2", name := "getUTF16Char", desc := "([BI)C" } : Jvm.MethodName)) ∈ lw_tbl := lw_at lw_m4 187 rfl
theorem q1050 : (Jvm.Cond.code ({ cls := "java/lang/System$2", name := "getUTF16Char", desc := "([BI)C" } : Jvm.MethodName) prog_36_method_45_code (3 : Nat) (Option.some Jvm.ClassFile.FieldType.char)) ∈ lw_all := lw_g (lw_at lw_m4 188 rfl) rfl
theorem q1051 : (Jvm.Cond.methodLink "java/lang/System$2" (185 : Nat) ({ cls := "java/lang/StringUTF16", name := "getChar", desc := "([BI)C" } : Jvm.MethodName)) ∈ lw_all := lw_g (lw_at lw_m4 189 rfl) rfl
theorem q1249 : (Jvm.Cond.selects "java/lang/System$2" ({ cls := "java/lang/Object", name := "getClass", desc := "()Ljava/lang/Class;" } : Jvm.MethodName) ({ cls := "java/lang/Object", name := "getClass", desc := "()Ljava/lang/Class;" } : Jvm.MethodName)) ∈ lw_all := lw_g (lw_at lw_m5 147 rfl) rfl
theorem q2369 : (Jvm.Cond.castable "java/lang/System$2" "java/lang/Object") ∈ lw_tbl := lw_at lw_m10 67 rfl
