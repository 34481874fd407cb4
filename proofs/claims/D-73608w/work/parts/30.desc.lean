/-! DESCRIPTION: the classes by number (tag = number + 1), field types, array tags. Written by gen_desc.py -/
set_option maxRecDepth 100000
def iy_TS : u_T := fun _ => ("DeltaIndex$Sweep", "", "", false)
def iy_cl : List vw_C := [(RX0, TX0, 14), (RX1, TX1, 8), (RX2, TX2, 8), (RX3, TX3, 8), (RX4, TX4, 13), (RX5, TX5, 12), (RX6, TX6, 16), (RX7, TX7, 4), (RX8, TX8, 2), (RX9, TX9, 55), (RX12, TX12, 1), (RX13, TX13, 1), (RX14, TX14, 3), (RX15, TX15, 5), (RX16, TX16, 2), (RX17, iy_TS, 0), (RX18, TX18, 5), (RJ5, TJ5, 3), (RJ6, TJ6, 4), (RJ11, TJ11, 4)]
def iy_ty : Nat → Nat → FieldType := fun c => match c with
  | 0 => tyX0
  | 1 => tyX1
  | 2 => tyX2
  | 3 => tyX3
  | 4 => tyX4
  | 5 => tyX5
  | 6 => tyX6
  | 7 => tyX7
  | 8 => tyX8
  | 9 => tyX9
  | 10 => tyX12
  | 11 => tyX13
  | 12 => tyX14
  | 13 => tyX15
  | 14 => tyX16
  | 15 => fun _ => .int
  | 16 => tyX18
  | 17 => tyJ5
  | 18 => tyJ6
  | 19 => tyJ11
  | _ => fun _ => .int
def iy_n : Nat → Nat := fun c => match c with
  | 0 => 14
  | 1 => 8
  | 2 => 8
  | 3 => 8
  | 4 => 13
  | 5 => 12
  | 6 => 16
  | 7 => 4
  | 8 => 2
  | 9 => 55
  | 10 => 1
  | 11 => 1
  | 12 => 3
  | 13 => 5
  | 14 => 2
  | 15 => 0
  | 16 => 5
  | 17 => 3
  | 18 => 4
  | 19 => 4
  | _ => 0
/-- of a constant text its first two fields are known -/
def iy_ro : Nat → Nat := fun c => if c = 18 then 2 else 0
def iy_els : List (Nat × FieldType) := [(101, .int), (102, .byte), (103, .short), (104, .char), (105, .boolean), (106, .long), (111, .object "DeltaIndex$Record"), (112, .object "DeltaIndex$Hand"), (113, .object "DeltaIndex$Store"), (114, .object "java/lang/String"), (115, .object "java/lang/Object")]
def iy_el (t : Nat) : Option FieldType := (iy_els.find? (fun q => q.1 == t)).map (fun q => q.2)
theorem iy_el_ge {t : Nat} {et : FieldType} (h : iy_el t = some et) : 101 ≤ t ∧ t < 512 := by
  unfold iy_el at h
  cases hf : iy_els.find? (fun q => q.1 == t) with
  | none => rw [hf] at h; cases h
  | some q =>
    have h1 := List.find?_some hf
    have h2 := List.mem_of_find?_eq_some hf
    have h3 : q.1 = t := by simpa using h1
    subst h3
    have h4 : ∀ q ∈ iy_els, 101 ≤ q.1 ∧ q.1 < 512 := by decide +kernel
    exact h4 q h2
theorem iy_cl_cases {P : Nat → vw_C → Prop} (h0 : P 0 (RX0, TX0, 14)) (h1 : P 1 (RX1, TX1, 8)) (h2 : P 2 (RX2, TX2, 8)) (h3 : P 3 (RX3, TX3, 8)) (h4 : P 4 (RX4, TX4, 13)) (h5 : P 5 (RX5, TX5, 12)) (h6 : P 6 (RX6, TX6, 16)) (h7 : P 7 (RX7, TX7, 4)) (h8 : P 8 (RX8, TX8, 2)) (h9 : P 9 (RX9, TX9, 55)) (h10 : P 10 (RX12, TX12, 1)) (h11 : P 11 (RX13, TX13, 1)) (h12 : P 12 (RX14, TX14, 3)) (h13 : P 13 (RX15, TX15, 5)) (h14 : P 14 (RX16, TX16, 2)) (h15 : P 15 (RX17, iy_TS, 0)) (h16 : P 16 (RX18, TX18, 5)) (h17 : P 17 (RJ5, TJ5, 3)) (h18 : P 18 (RJ6, TJ6, 4)) (h19 : P 19 (RJ11, TJ11, 4)) : ∀ (c : Nat) (r : vw_C), iy_cl[c]? = some r → P c r := by
  intro c r h
  match c, h with
  | 0, h => cases h; exact h0
  | 1, h => cases h; exact h1
  | 2, h => cases h; exact h2
  | 3, h => cases h; exact h3
  | 4, h => cases h; exact h4
  | 5, h => cases h; exact h5
  | 6, h => cases h; exact h6
  | 7, h => cases h; exact h7
  | 8, h => cases h; exact h8
  | 9, h => cases h; exact h9
  | 10, h => cases h; exact h10
  | 11, h => cases h; exact h11
  | 12, h => cases h; exact h12
  | 13, h => cases h; exact h13
  | 14, h => cases h; exact h14
  | 15, h => cases h; exact h15
  | 16, h => cases h; exact h16
  | 17, h => cases h; exact h17
  | 18, h => cases h; exact h18
  | 19, h => cases h; exact h19
  | c + 20, h => simp [iy_cl] at h
theorem iy_in : ∀ (c : Nat) (r : vw_C), iy_cl[c]? = some r → ∀ w ∈ u_ws r.1 r.2.1 r.2.2, w ∈ lw_all := iy_cl_cases in_X0 in_X1 in_X2 in_X3 in_X4 in_X5 in_X6 in_X7 in_X8 in_X9 in_X12 in_X13 in_X14 in_X15 in_X16 (fun w h => nomatch h) in_X18 in_J5 in_J6 in_J11
theorem iy_ty_ok : ∀ (c : Nat) (r : vw_C), iy_cl[c]? = some r → ∀ k, k < r.2.2 → parseFieldDescriptor (r.2.1 k).2.2.1 = some (iy_ty c k) := iy_cl_cases tyX0_ok tyX1_ok tyX2_ok tyX3_ok tyX4_ok tyX5_ok tyX6_ok tyX7_ok tyX8_ok tyX9_ok tyX12_ok tyX13_ok tyX14_ok tyX15_ok tyX16_ok (fun k h => absurd h (Nat.not_lt_zero k)) tyX18_ok tyJ5_ok tyJ6_ok tyJ11_ok
theorem iy_nm : ∀ (c : Nat) (r : vw_C), iy_cl[c]? = some r → ∀ a, a < r.2.2 → ∀ b, b < r.2.2 → a ≠ b → (r.2.1 a).2.1 ≠ (r.2.1 b).2.1 := iy_cl_cases nmX0 nmX1 nmX2 nmX3 nmX4 nmX5 nmX6 nmX7 nmX8 nmX9 nmX12 nmX13 nmX14 nmX15 nmX16 (fun a h => absurd h (Nat.not_lt_zero a)) nmX18 nmJ5 nmJ6 nmJ11
theorem iy_cl_n : ∀ (c : Nat) (r : vw_C), iy_cl[c]? = some r → r.2.2 = iy_n c := iy_cl_cases rfl rfl rfl rfl rfl rfl rfl rfl rfl rfl rfl rfl rfl rfl rfl rfl rfl rfl rfl rfl
/-- the texts that are loaded: class, place in its pool, text, number of the constant -/
def iy_strs : List (String × Nat × String × Nat) := [("DeltaIndex$Fault", 1, "", 0), ("DeltaIndex$Tell", 9, "put", 1), ("DeltaIndex$Tell", 15, "cut", 2), ("DeltaIndex$Tell", 17, "get", 3), ("DeltaIndex$Tokens", 11, "chain", 4), ("DeltaIndex$Tokens", 13, "most", 5), ("DeltaIndex$Tokens", 15, "least", 6), ("DeltaIndex$Tokens", 17, "put", 1), ("DeltaIndex$Tokens", 19, "cut", 2), ("DeltaIndex$Tokens", 21, "get", 3), ("DeltaIndex$Tokens", 23, "begin", 7), ("DeltaIndex$Tokens", 25, "step", 8), ("DeltaIndex$Tokens", 27, "close", 9), ("DeltaIndex$Tokens", 29, "sweep", 10), ("DeltaIndex$Tokens", 31, "do", 11), ("DeltaIndex$Tokens", 33, "end", 12), ("DeltaIndex$Tokens", 35, "i", 13), ("DeltaIndex$Tokens", 37, "j", 14), ("DeltaIndex$Tokens", 39, "keys", 15), ("DeltaIndex$Tokens", 41, "last", 16), ("DeltaIndex$Tokens", 43, "records", 17), ("DeltaIndex$Tokens", 45, "lost", 18), ("DeltaIndex$Parser", 115, "chain", 4), ("DeltaIndex$Parser", 123, "most", 5), ("DeltaIndex$Parser", 127, "least", 6), ("DeltaIndex$Parser", 153, "put", 1), ("DeltaIndex$Parser", 155, "cut", 2), ("DeltaIndex$Parser", 157, "begin", 7), ("DeltaIndex$Parser", 159, "get", 3), ("DeltaIndex$Parser", 161, "step", 8), ("DeltaIndex$Parser", 163, "close", 9), ("DeltaIndex$Parser", 165, "sweep", 10), ("DeltaIndex$Parser", 167, "do", 11), ("DeltaIndex$Parser", 210, "end", 12)]
def iy_txts : List (List Int32) := [[], [112, 117, 116], [99, 117, 116], [103, 101, 116], [99, 104, 97, 105, 110], [109, 111, 115, 116], [108, 101, 97, 115, 116], [98, 101, 103, 105, 110], [115, 116, 101, 112], [99, 108, 111, 115, 101], [115, 119, 101, 101, 112], [100, 111], [101, 110, 100], [105], [106], [107, 101, 121, 115], [108, 97, 115, 116], [114, 101, 99, 111, 114, 100, 115], [108, 111, 115, 116]]
/-- statics that are read: class, name, descriptor; none: the int 1, else the constant of that number -/
def iy_sts : List (String × String × String × Option Nat) := [("java/lang/String", "COMPACT_STRINGS", "Z", none), ("java/util/ArrayList", "DEFAULTCAPACITY_EMPTY_ELEMENTDATA", "[Ljava/lang/Object;", some 40), ("java/lang/Throwable", "UNASSIGNED_STACK", "[Ljava/lang/StackTraceElement;", some 41), ("java/lang/Throwable", "SUPPRESSED_SENTINEL", "Ljava/util/List;", some 42), ("jdk/internal/util/Preconditions", "SIOOBE_FORMATTER", "Ljava/util/function/BiFunction;", some 44)]
