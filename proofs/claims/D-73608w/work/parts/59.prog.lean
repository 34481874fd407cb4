/-! THE PROGRAM IS SOUND. Written by gen_code.py -/
set_option maxRecDepth 100000
theorem pn_J0 : plainName RJ0 = true := by decide +kernel
theorem pn_J1 : plainName RJ1 = true := by decide +kernel
theorem pn_J10 : plainName RJ10 = true := by decide +kernel
theorem pn_J11 : plainName RJ11 = true := by decide +kernel
theorem pn_J12 : plainName RJ12 = true := by decide +kernel
theorem pn_J14 : plainName RJ14 = true := by decide +kernel
theorem pn_J15 : plainName RJ15 = true := by decide +kernel
theorem pn_J17 : plainName RJ17 = true := by decide +kernel
theorem pn_J2 : plainName RJ2 = true := by decide +kernel
theorem pn_J3 : plainName RJ3 = true := by decide +kernel
theorem pn_J4 : plainName RJ4 = true := by decide +kernel
theorem pn_J5 : plainName RJ5 = true := by decide +kernel
theorem pn_J6 : plainName RJ6 = true := by decide +kernel
theorem pn_J7 : plainName RJ7 = true := by decide +kernel
theorem pn_J8 : plainName RJ8 = true := by decide +kernel
theorem pn_J9 : plainName RJ9 = true := by decide +kernel
theorem pn_X0 : plainName RX0 = true := by decide +kernel
theorem pn_X1 : plainName RX1 = true := by decide +kernel
theorem pn_X10 : plainName RX10 = true := by decide +kernel
theorem pn_X11 : plainName RX11 = true := by decide +kernel
theorem pn_X12 : plainName RX12 = true := by decide +kernel
theorem pn_X13 : plainName RX13 = true := by decide +kernel
theorem pn_X14 : plainName RX14 = true := by decide +kernel
theorem pn_X15 : plainName RX15 = true := by decide +kernel
theorem pn_X16 : plainName RX16 = true := by decide +kernel
theorem pn_X17 : plainName RX17 = true := by decide +kernel
theorem pn_X18 : plainName RX18 = true := by decide +kernel
theorem pn_X2 : plainName RX2 = true := by decide +kernel
theorem pn_X3 : plainName RX3 = true := by decide +kernel
theorem pn_X4 : plainName RX4 = true := by decide +kernel
theorem pn_X5 : plainName RX5 = true := by decide +kernel
theorem pn_X6 : plainName RX6 = true := by decide +kernel
theorem pn_X7 : plainName RX7 = true := by decide +kernel
theorem pn_X8 : plainName RX8 = true := by decide +kernel
theorem pn_X9 : plainName RX9 = true := by decide +kernel
theorem mkJ0_init : iy_mok iy_mi 0 (iy_P 0) := Or.inr ⟨RJ0, _, _, cJ0_init, (none, []), pcJ0_init, plainFor_of_name pn_J0, rfl, Or.inl ⟨rfl, rfl⟩, rfl, alJ0_init⟩
theorem mkJ0_init_2 : iy_mok iy_mi 1 (iy_P 1) := Or.inr ⟨RJ0, _, _, cJ0_init_2, (none, []), pcJ0_init_2, plainFor_of_name pn_J0, rfl, Or.inl ⟨rfl, rfl⟩, rfl, alJ0_init_2⟩
theorem mkJ1_init : iy_mok iy_mi 2 (iy_P 2) := Or.inr ⟨RJ1, _, _, cJ1_init, (none, []), pcJ1_init, plainFor_of_name pn_J1, rfl, Or.inl ⟨rfl, rfl⟩, rfl, alJ1_init⟩
theorem mkJ10_init : iy_mok iy_mi 3 (iy_P 3) := Or.inr ⟨RJ10, _, _, cJ10_init, (none, []), pcJ10_init, plainFor_of_name pn_J10, rfl, Or.inl ⟨rfl, rfl⟩, rfl, alJ10_init⟩
theorem mkJ10_append : iy_mok iy_mi 4 (iy_P 4) := Or.inr ⟨RJ10, _, _, cJ10_append, (some (FieldType.object "java/lang/AbstractStringBuilder"), []), pcJ10_append, plainFor_of_name pn_J10, rfl, Or.inl ⟨rfl, rfl⟩, rfl, alJ10_append⟩
theorem mkJ10_ensureCapacityInternal : iy_mok iy_mi 5 (iy_P 5) := Or.inr ⟨RJ10, _, _, cJ10_ensureCapacityInternal, (none, []), pcJ10_ensureCapacityInternal, plainFor_of_name pn_J10, rfl, Or.inl ⟨rfl, rfl⟩, rfl, alJ10_ensureCapacityInternal⟩
theorem mkJ10_newCapacity : iy_mok iy_mi 6 (iy_P 6) := Or.inr ⟨RJ10, _, _, cJ10_newCapacity, (some FieldType.int, []), pcJ10_newCapacity, plainFor_of_name pn_J10, rfl, Or.inl ⟨rfl, rfl⟩, rfl, alJ10_newCapacity⟩
theorem mkJ10_isLatin1 : iy_mok iy_mi 7 (iy_P 7) := Or.inr ⟨RJ10, _, _, cJ10_isLatin1, (some FieldType.boolean, []), pcJ10_isLatin1, plainFor_of_name pn_J10, rfl, Or.inl ⟨rfl, rfl⟩, rfl, alJ10_isLatin1⟩
theorem mkJ10_inflate : iy_mok iy_mi 8 (iy_P 8) := Or.inr ⟨RJ10, _, _, cJ10_inflate, (none, []), pcJ10_inflate, plainFor_of_name pn_J10, rfl, Or.inl ⟨rfl, rfl⟩, rfl, alJ10_inflate⟩
theorem mkJ10_getValue : iy_mok iy_mi 9 (iy_P 9) := Or.inr ⟨RJ10, _, _, cJ10_getValue, (some (FieldType.array FieldType.byte), []), pcJ10_getValue, plainFor_of_name pn_J10, rfl, Or.inl ⟨rfl, rfl⟩, rfl, alJ10_getValue⟩
theorem mkJ10_length : iy_mok iy_mi 10 (iy_P 10) := Or.inr ⟨RJ10, _, _, cJ10_length, (some FieldType.int, []), pcJ10_length, plainFor_of_name pn_J10, rfl, Or.inl ⟨rfl, rfl⟩, rfl, alJ10_length⟩
theorem mkJ11_init : iy_mok iy_mi 11 (iy_P 11) := Or.inr ⟨RJ11, _, _, cJ11_init, (none, []), pcJ11_init, plainFor_of_name pn_J11, rfl, Or.inl ⟨rfl, rfl⟩, rfl, alJ11_init⟩
theorem mkJ11_append : iy_mok iy_mi 12 (iy_P 12) := Or.inr ⟨RJ11, _, _, cJ11_append, (some (FieldType.object "java/lang/StringBuilder"), []), pcJ11_append, plainFor_of_name pn_J11, rfl, Or.inl ⟨rfl, rfl⟩, rfl, alJ11_append⟩
theorem mkJ11_toString : iy_mok iy_mi 13 (iy_P 13) := Or.inr ⟨RJ11, _, _, cJ11_toString, (some (FieldType.object "java/lang/String"), []), pcJ11_toString, plainFor_of_name pn_J11, rfl, Or.inl ⟨rfl, rfl⟩, rfl, alJ11_toString⟩
theorem mkJ11_length : iy_mok iy_mi 14 (iy_P 14) := Or.inr ⟨RJ11, _, _, cJ11_length, (some FieldType.int, []), pcJ11_length, plainFor_of_name pn_J11, rfl, Or.inl ⟨rfl, rfl⟩, rfl, alJ11_length⟩
theorem mkJ12_newLength : iy_mok iy_mi 15 (iy_P 15) := Or.inr ⟨RJ12, _, _, cJ12_newLength, (some FieldType.int, []), pcJ12_newLength, plainFor_of_name pn_J12, rfl, Or.inl ⟨rfl, rfl⟩, rfl, alJ12_newLength⟩
theorem mkJ12_hugeLength : iy_mok iy_mi 16 (iy_P 16) := Or.inr ⟨RJ12, _, _, cJ12_hugeLength, (some FieldType.int, []), pcJ12_hugeLength, plainFor_of_name pn_J12, rfl, Or.inl ⟨rfl, rfl⟩, rfl, alJ12_hugeLength⟩
theorem mkJ12_vectorizedHashCode : iy_mok iy_mi 17 (iy_P 17) := Or.inr ⟨RJ12, _, _, cJ12_vectorizedHashCode, (some FieldType.int, []), pcJ12_vectorizedHashCode, plainFor_of_name pn_J12, rfl, Or.inl ⟨rfl, rfl⟩, rfl, alJ12_vectorizedHashCode⟩
theorem mkJ12_signedHashCode : iy_mok iy_mi 18 (iy_P 18) := Or.inr ⟨RJ12, _, _, cJ12_signedHashCode, (some FieldType.int, []), pcJ12_signedHashCode, plainFor_of_name pn_J12, rfl, Or.inl ⟨rfl, rfl⟩, rfl, alJ12_signedHashCode⟩
theorem mkJ12_utf16hashCode : iy_mok iy_mi 19 (iy_P 19) := Or.inr ⟨RJ12, _, _, cJ12_utf16hashCode, (some FieldType.int, []), pcJ12_utf16hashCode, plainFor_of_name pn_J12, rfl, Or.inl ⟨rfl, rfl⟩, rfl, alJ12_utf16hashCode⟩
theorem mkJ12_hashCode : iy_mok iy_mi 20 (iy_P 20) := Or.inr ⟨RJ12, _, _, cJ12_hashCode, (some FieldType.int, []), pcJ12_hashCode, plainFor_of_name pn_J12, rfl, Or.inl ⟨rfl, rfl⟩, rfl, alJ12_hashCode⟩
theorem mkJ12_hashCode_2 : iy_mok iy_mi 21 (iy_P 21) := Or.inr ⟨RJ12, _, _, cJ12_hashCode_2, (some FieldType.int, []), pcJ12_hashCode_2, plainFor_of_name pn_J12, rfl, Or.inl ⟨rfl, rfl⟩, rfl, alJ12_hashCode_2⟩
theorem mkJ12_hashCode_3 : iy_mok iy_mi 22 (iy_P 22) := Or.inr ⟨RJ12, _, _, cJ12_hashCode_3, (some FieldType.int, []), pcJ12_hashCode_3, plainFor_of_name pn_J12, rfl, Or.inl ⟨rfl, rfl⟩, rfl, alJ12_hashCode_3⟩
theorem mkJ12_hashCode_4 : iy_mok iy_mi 23 (iy_P 23) := Or.inr ⟨RJ12, _, _, cJ12_hashCode_4, (some FieldType.int, []), pcJ12_hashCode_4, plainFor_of_name pn_J12, rfl, Or.inl ⟨rfl, rfl⟩, rfl, alJ12_hashCode_4⟩
theorem mkJ13_max : iy_mok iy_mi 24 (iy_P 24) := Or.inr ⟨RJ13, _, _, cJ13_max, (some FieldType.int, []), pcJ13_max, (by decide +kernel), rfl, Or.inl ⟨rfl, rfl⟩, rfl, alJ13_max⟩
theorem mkJ13_min : iy_mok iy_mi 25 (iy_P 25) := Or.inr ⟨RJ13, _, _, cJ13_min, (some FieldType.int, []), pcJ13_min, (by decide +kernel), rfl, Or.inl ⟨rfl, rfl⟩, rfl, alJ13_min⟩
theorem mkJ13_floorMod : iy_mok iy_mi 26 (iy_P 26) := Or.inr ⟨RJ13, _, _, cJ13_floorMod, (some FieldType.int, []), pcJ13_floorMod, (by decide +kernel), rfl, Or.inl ⟨rfl, rfl⟩, rfl, alJ13_floorMod⟩
theorem mkJ14_copyOf : iy_mok iy_mi 27 (iy_P 27) := Or.inr ⟨RJ14, _, _, cJ14_copyOf, (some (FieldType.array FieldType.byte), []), pcJ14_copyOf, plainFor_of_name pn_J14, rfl, Or.inl ⟨rfl, rfl⟩, rfl, alJ14_copyOf⟩
theorem mkJ14_copyOfRange : iy_mok iy_mi 28 (iy_P 28) := Or.inr ⟨RJ14, _, _, cJ14_copyOfRange, (some (FieldType.array FieldType.byte), []), pcJ14_copyOfRange, plainFor_of_name pn_J14, rfl, Or.inl ⟨rfl, rfl⟩, rfl, alJ14_copyOfRange⟩
theorem mkJ14_copyOfRangeByte : iy_mok iy_mi 29 (iy_P 29) := Or.inr ⟨RJ14, _, _, cJ14_copyOfRangeByte, (some (FieldType.array FieldType.byte), []), pcJ14_copyOfRangeByte, plainFor_of_name pn_J14, rfl, Or.inl ⟨rfl, rfl⟩, rfl, alJ14_copyOfRangeByte⟩
theorem mkJ14_checkLength : iy_mok iy_mi 30 (iy_P 30) := Or.inr ⟨RJ14, _, _, cJ14_checkLength, (none, []), pcJ14_checkLength, plainFor_of_name pn_J14, rfl, Or.inl ⟨rfl, rfl⟩, rfl, alJ14_checkLength⟩
theorem mkJ14_copyOf_2 : iy_mok iy_mi 31 (iy_P 31) := Or.inr ⟨RJ14, _, _, cJ14_copyOf_2, (some (FieldType.array (FieldType.object "java/lang/Object")), []), pcJ14_copyOf_2, plainFor_of_name pn_J14, rfl, Or.inl ⟨rfl, rfl⟩, rfl, alJ14_copyOf_2⟩
theorem mkJ14_copyOf_3 : iy_mok iy_mi 32 (iy_P 32) := Or.inr ⟨RJ14, _, _, cJ14_copyOf_3, (some (FieldType.array (FieldType.object "java/lang/Object")), []), pcJ14_copyOf_3, plainFor_of_name pn_J14, rfl, Or.inl ⟨rfl, rfl⟩, rfl, alJ14_copyOf_3⟩
theorem mkJ15_checkIndex : iy_mok iy_mi 33 (iy_P 33) := Or.inr ⟨RJ15, _, _, cJ15_checkIndex, (some FieldType.int, []), pcJ15_checkIndex, plainFor_of_name pn_J15, rfl, Or.inl ⟨rfl, rfl⟩, rfl, alJ15_checkIndex⟩
theorem mkJ17_getUTF16Char : iy_mok iy_mi 35 (iy_P 35) := Or.inr ⟨RJ17, _, _, cJ17_getUTF16Char, (some FieldType.char, []), pcJ17_getUTF16Char, plainFor_of_name pn_J17, rfl, Or.inl ⟨rfl, rfl⟩, rfl, alJ17_getUTF16Char⟩
theorem mkJ2_init : iy_mok iy_mi 36 (iy_P 36) := Or.inr ⟨RJ2, _, _, cJ2_init, (none, []), pcJ2_init, plainFor_of_name pn_J2, rfl, Or.inl ⟨rfl, rfl⟩, rfl, alJ2_init⟩
theorem mkJ3_init : iy_mok iy_mi 37 (iy_P 37) := Or.inr ⟨RJ3, _, _, cJ3_init, (none, []), pcJ3_init, plainFor_of_name pn_J3, rfl, Or.inl ⟨rfl, rfl⟩, rfl, alJ3_init⟩
theorem mkJ4_init : iy_mok iy_mi 38 (iy_P 38) := Or.inr ⟨RJ4, _, _, cJ4_init, (none, []), pcJ4_init, plainFor_of_name pn_J4, rfl, Or.inl ⟨rfl, rfl⟩, rfl, alJ4_init⟩
theorem mkJ5_init : iy_mok iy_mi 39 (iy_P 39) := Or.inr ⟨RJ5, _, _, cJ5_init, (none, []), pcJ5_init, plainFor_of_name pn_J5, rfl, Or.inl ⟨rfl, rfl⟩, rfl, alJ5_init⟩
theorem mkJ5_add : iy_mok iy_mi 40 (iy_P 40) := Or.inr ⟨RJ5, _, _, cJ5_add, (some FieldType.boolean, []), pcJ5_add, plainFor_of_name pn_J5, rfl, Or.inl ⟨rfl, rfl⟩, rfl, alJ5_add⟩
theorem mkJ5_add_2 : iy_mok iy_mi 41 (iy_P 41) := Or.inr ⟨RJ5, _, _, cJ5_add_2, (none, []), pcJ5_add_2, plainFor_of_name pn_J5, rfl, Or.inl ⟨rfl, rfl⟩, rfl, alJ5_add_2⟩
theorem mkJ5_grow : iy_mok iy_mi 42 (iy_P 42) := Or.inr ⟨RJ5, _, _, cJ5_grow, (some (FieldType.array (FieldType.object "java/lang/Object")), []), pcJ5_grow, plainFor_of_name pn_J5, rfl, Or.inl ⟨rfl, rfl⟩, rfl, alJ5_grow⟩
theorem mkJ5_grow_2 : iy_mok iy_mi 43 (iy_P 43) := Or.inr ⟨RJ5, _, _, cJ5_grow_2, (some (FieldType.array (FieldType.object "java/lang/Object")), []), pcJ5_grow_2, plainFor_of_name pn_J5, rfl, Or.inl ⟨rfl, rfl⟩, rfl, alJ5_grow_2⟩
theorem mkJ5_size : iy_mok iy_mi 44 (iy_P 44) := Or.inr ⟨RJ5, _, _, cJ5_size, (some FieldType.int, []), pcJ5_size, plainFor_of_name pn_J5, rfl, Or.inl ⟨rfl, rfl⟩, rfl, alJ5_size⟩
theorem mkJ5_get : iy_mok iy_mi 45 (iy_P 45) := Or.inr ⟨RJ5, _, _, cJ5_get, (some (FieldType.object "java/lang/Object"), []), pcJ5_get, plainFor_of_name pn_J5, rfl, Or.inl ⟨rfl, rfl⟩, rfl, alJ5_get⟩
theorem mkJ5_elementData : iy_mok iy_mi 46 (iy_P 46) := Or.inr ⟨RJ5, _, _, cJ5_elementData, (some (FieldType.object "java/lang/Object"), []), pcJ5_elementData, plainFor_of_name pn_J5, rfl, Or.inl ⟨rfl, rfl⟩, rfl, alJ5_elementData⟩
theorem mkJ6_length : iy_mok iy_mi 47 (iy_P 47) := Or.inr ⟨RJ6, _, _, cJ6_length, (some FieldType.int, []), pcJ6_length, plainFor_of_name pn_J6, rfl, Or.inl ⟨rfl, rfl⟩, rfl, alJ6_length⟩
theorem mkJ6_coder : iy_mok iy_mi 48 (iy_P 48) := Or.inr ⟨RJ6, _, _, cJ6_coder, (some FieldType.byte, []), pcJ6_coder, plainFor_of_name pn_J6, rfl, Or.inl ⟨rfl, rfl⟩, rfl, alJ6_coder⟩
theorem mkJ6_charAt : iy_mok iy_mi 49 (iy_P 49) := Or.inr ⟨RJ6, _, _, cJ6_charAt, (some FieldType.char, []), pcJ6_charAt, plainFor_of_name pn_J6, rfl, Or.inl ⟨rfl, rfl⟩, rfl, alJ6_charAt⟩
theorem mkJ6_isLatin1 : iy_mok iy_mi 50 (iy_P 50) := Or.inr ⟨RJ6, _, _, cJ6_isLatin1, (some FieldType.boolean, []), pcJ6_isLatin1, plainFor_of_name pn_J6, rfl, Or.inl ⟨rfl, rfl⟩, rfl, alJ6_isLatin1⟩
theorem mkJ6_checkIndex : iy_mok iy_mi 51 (iy_P 51) := Or.inr ⟨RJ6, _, _, cJ6_checkIndex, (none, []), pcJ6_checkIndex, plainFor_of_name pn_J6, rfl, Or.inl ⟨rfl, rfl⟩, rfl, alJ6_checkIndex⟩
theorem mkJ6_checkBoundsOffCount : iy_mok iy_mi 52 (iy_P 52) := Or.inr ⟨RJ6, _, _, cJ6_checkBoundsOffCount, (some FieldType.int, []), pcJ6_checkBoundsOffCount, plainFor_of_name pn_J6, rfl, Or.inl ⟨rfl, rfl⟩, rfl, alJ6_checkBoundsOffCount⟩
theorem mkJ6_init : iy_mok iy_mi 53 (iy_P 53) := Or.inr ⟨RJ6, _, _, cJ6_init, (none, []), pcJ6_init, plainFor_of_name pn_J6, rfl, Or.inl ⟨rfl, rfl⟩, rfl, alJ6_init⟩
theorem mkJ6_init_2 : iy_mok iy_mi 54 (iy_P 54) := Or.inr ⟨RJ6, _, _, cJ6_init_2, (none, []), pcJ6_init_2, plainFor_of_name pn_J6, rfl, Or.inl ⟨rfl, rfl⟩, rfl, alJ6_init_2⟩
theorem mkJ6_equals : iy_mok iy_mi 55 (iy_P 55) := Or.inr ⟨RJ6, _, _, cJ6_equals, (some FieldType.boolean, []), pcJ6_equals, plainFor_of_name pn_J6, rfl, Or.inl ⟨rfl, rfl⟩, rfl, alJ6_equals⟩
theorem mkJ6_hashCode : iy_mok iy_mi 56 (iy_P 56) := Or.inr ⟨RJ6, _, _, cJ6_hashCode, (some FieldType.int, []), pcJ6_hashCode, plainFor_of_name pn_J6, rfl, Or.inl ⟨rfl, rfl⟩, rfl, alJ6_hashCode⟩
theorem mkJ7_charAt : iy_mok iy_mi 57 (iy_P 57) := Or.inr ⟨RJ7, _, _, cJ7_charAt, (some FieldType.char, []), pcJ7_charAt, plainFor_of_name pn_J7, rfl, Or.inl ⟨rfl, rfl⟩, rfl, alJ7_charAt⟩
theorem mkJ7_canEncode : iy_mok iy_mi 58 (iy_P 58) := Or.inr ⟨RJ7, _, _, cJ7_canEncode, (some FieldType.boolean, []), pcJ7_canEncode, plainFor_of_name pn_J7, rfl, Or.inl ⟨rfl, rfl⟩, rfl, alJ7_canEncode⟩
theorem mkJ7_inflate : iy_mok iy_mi 59 (iy_P 59) := Or.inr ⟨RJ7, _, _, cJ7_inflate, (none, []), pcJ7_inflate, plainFor_of_name pn_J7, rfl, Or.inl ⟨rfl, rfl⟩, rfl, alJ7_inflate⟩
theorem mkJ7_equals : iy_mok iy_mi 60 (iy_P 60) := Or.inr ⟨RJ7, _, _, cJ7_equals, (some FieldType.boolean, []), pcJ7_equals, plainFor_of_name pn_J7, rfl, Or.inl ⟨rfl, rfl⟩, rfl, alJ7_equals⟩
theorem mkJ7_hashCode : iy_mok iy_mi 61 (iy_P 61) := Or.inr ⟨RJ7, _, _, cJ7_hashCode, (some FieldType.int, []), pcJ7_hashCode, plainFor_of_name pn_J7, rfl, Or.inl ⟨rfl, rfl⟩, rfl, alJ7_hashCode⟩
theorem mkJ8_checkIndex : iy_mok iy_mi 62 (iy_P 62) := Or.inr ⟨RJ8, _, _, cJ8_checkIndex, (some FieldType.int, []), pcJ8_checkIndex, plainFor_of_name pn_J8, rfl, Or.inl ⟨rfl, rfl⟩, rfl, alJ8_checkIndex⟩
theorem mkJ8_checkFromIndexSize : iy_mok iy_mi 63 (iy_P 63) := Or.inr ⟨RJ8, _, _, cJ8_checkFromIndexSize, (some FieldType.int, []), pcJ8_checkFromIndexSize, plainFor_of_name pn_J8, rfl, Or.inl ⟨rfl, rfl⟩, rfl, alJ8_checkFromIndexSize⟩
theorem mkJ9_charAt : iy_mok iy_mi 64 (iy_P 64) := Or.inr ⟨RJ9, _, _, cJ9_charAt, (some FieldType.char, []), pcJ9_charAt, plainFor_of_name pn_J9, rfl, Or.inl ⟨rfl, rfl⟩, rfl, alJ9_charAt⟩
theorem mkJ9_checkIndex : iy_mok iy_mi 65 (iy_P 65) := Or.inr ⟨RJ9, _, _, cJ9_checkIndex, (none, []), pcJ9_checkIndex, plainFor_of_name pn_J9, rfl, Or.inl ⟨rfl, rfl⟩, rfl, alJ9_checkIndex⟩
theorem mkJ9_length : iy_mok iy_mi 66 (iy_P 66) := Or.inr ⟨RJ9, _, _, cJ9_length, (some FieldType.int, []), pcJ9_length, plainFor_of_name pn_J9, rfl, Or.inl ⟨rfl, rfl⟩, rfl, alJ9_length⟩
theorem mkJ9_getChar : iy_mok iy_mi 67 (iy_P 67) := Or.inr ⟨RJ9, _, _, cJ9_getChar, (some FieldType.char, []), pcJ9_getChar, plainFor_of_name pn_J9, rfl, Or.inl ⟨rfl, rfl⟩, rfl, alJ9_getChar⟩
theorem mkJ9_newBytesFor : iy_mok iy_mi 68 (iy_P 68) := Or.inr ⟨RJ9, _, _, cJ9_newBytesFor, (some (FieldType.array FieldType.byte), []), pcJ9_newBytesFor, plainFor_of_name pn_J9, rfl, Or.inl ⟨rfl, rfl⟩, rfl, alJ9_newBytesFor⟩
theorem mkJ9_newBytesLength : iy_mok iy_mi 69 (iy_P 69) := Or.inr ⟨RJ9, _, _, cJ9_newBytesLength, (some FieldType.int, []), pcJ9_newBytesLength, plainFor_of_name pn_J9, rfl, Or.inl ⟨rfl, rfl⟩, rfl, alJ9_newBytesLength⟩
theorem mkJ9_inflate : iy_mok iy_mi 70 (iy_P 70) := Or.inr ⟨RJ9, _, _, cJ9_inflate, (none, []), pcJ9_inflate, plainFor_of_name pn_J9, rfl, Or.inl ⟨rfl, rfl⟩, rfl, alJ9_inflate⟩
theorem mkJ9_checkBoundsOffCount : iy_mok iy_mi 71 (iy_P 71) := Or.inr ⟨RJ9, _, _, cJ9_checkBoundsOffCount, (none, []), pcJ9_checkBoundsOffCount, plainFor_of_name pn_J9, rfl, Or.inl ⟨rfl, rfl⟩, rfl, alJ9_checkBoundsOffCount⟩
theorem mkJ9_putChar : iy_mok iy_mi 72 (iy_P 72) := Or.inr ⟨RJ9, _, _, cJ9_putChar, (none, []), pcJ9_putChar, plainFor_of_name pn_J9, rfl, Or.inl ⟨rfl, rfl⟩, rfl, alJ9_putChar⟩
theorem mkJ9_putCharSB : iy_mok iy_mi 73 (iy_P 73) := Or.inr ⟨RJ9, _, _, cJ9_putCharSB, (none, []), pcJ9_putCharSB, plainFor_of_name pn_J9, rfl, Or.inl ⟨rfl, rfl⟩, rfl, alJ9_putCharSB⟩
theorem mkJ9_compress : iy_mok iy_mi 74 (iy_P 74) := Or.inr ⟨RJ9, _, _, cJ9_compress, (some (FieldType.array FieldType.byte), []), pcJ9_compress, plainFor_of_name pn_J9, rfl, Or.inl ⟨rfl, rfl⟩, rfl, alJ9_compress⟩
theorem mkJ9_compress_2 : iy_mok iy_mi 75 (iy_P 75) := Or.inr ⟨RJ9, _, _, cJ9_compress_2, (some FieldType.int, []), pcJ9_compress_2, plainFor_of_name pn_J9, rfl, Or.inl ⟨rfl, rfl⟩, rfl, alJ9_compress_2⟩
theorem mkJ9_coderFromArrayLen : iy_mok iy_mi 76 (iy_P 76) := Or.inr ⟨RJ9, _, _, cJ9_coderFromArrayLen, (some FieldType.byte, []), pcJ9_coderFromArrayLen, plainFor_of_name pn_J9, rfl, Or.inl ⟨rfl, rfl⟩, rfl, alJ9_coderFromArrayLen⟩
theorem mkJ9_hashCode : iy_mok iy_mi 77 (iy_P 77) := Or.inr ⟨RJ9, _, _, cJ9_hashCode, (some FieldType.int, []), pcJ9_hashCode, plainFor_of_name pn_J9, rfl, Or.inl ⟨rfl, rfl⟩, rfl, alJ9_hashCode⟩
theorem mkX0_init : iy_mok iy_mi 79 (iy_P 79) := Or.inr ⟨RX0, _, _, cX0_init, (none, []), pcX0_init, plainFor_of_name pn_X0, rfl, Or.inl ⟨rfl, rfl⟩, rfl, alX0_init⟩
theorem mkX0_feed : iy_mok iy_mi 80 (iy_P 80) := Or.inr ⟨RX0, _, _, cX0_feed, (some FieldType.int, []), pcX0_feed, plainFor_of_name pn_X0, rfl, Or.inl ⟨rfl, rfl⟩, rfl, alX0_feed⟩
theorem mkX0_typed : iy_mok iy_mi 81 (iy_P 81) := Or.inr ⟨RX0, _, _, cX0_typed, (none, []), pcX0_typed, plainFor_of_name pn_X0, rfl, Or.inl ⟨rfl, rfl⟩, rfl, alX0_typed⟩
theorem mkX0_back : iy_mok iy_mi 82 (iy_P 82) := Or.inr ⟨RX0, _, _, cX0_back, (some FieldType.int, []), pcX0_back, plainFor_of_name pn_X0, rfl, Or.inl ⟨rfl, rfl⟩, rfl, alX0_back⟩
theorem mkX0_read : iy_mok iy_mi 83 (iy_P 83) := Or.inr ⟨RX0, _, _, cX0_read, (some FieldType.int, [((7 : Nat), (18 : Nat), (21 : Nat), (7 : Nat))]), pcX0_read, plainFor_of_name pn_X0, rfl, Or.inr rfl, rfl, alX0_read⟩
theorem mkX0_goesThrough : iy_mok iy_mi 84 (iy_P 84) := Or.inr ⟨RX0, _, _, cX0_goesThrough, (none, []), pcX0_goesThrough, plainFor_of_name pn_X0, rfl, Or.inl ⟨rfl, rfl⟩, rfl, alX0_goesThrough⟩
theorem mkX0_place : iy_mok iy_mi 85 (iy_P 85) := Or.inr ⟨RX0, _, _, cX0_place, (some FieldType.int, []), pcX0_place, plainFor_of_name pn_X0, rfl, Or.inl ⟨rfl, rfl⟩, rfl, alX0_place⟩
theorem mkX0_begin : iy_mok iy_mi 86 (iy_P 86) := Or.inr ⟨RX0, _, _, cX0_begin, (some FieldType.boolean, []), pcX0_begin, plainFor_of_name pn_X0, rfl, Or.inl ⟨rfl, rfl⟩, rfl, alX0_begin⟩
theorem mkX0_isHand : iy_mok iy_mi 87 (iy_P 87) := Or.inr ⟨RX0, _, _, cX0_isHand, (some FieldType.boolean, []), pcX0_isHand, plainFor_of_name pn_X0, rfl, Or.inl ⟨rfl, rfl⟩, rfl, alX0_isHand⟩
theorem mkX0_isIn : iy_mok iy_mi 88 (iy_P 88) := Or.inr ⟨RX0, _, _, cX0_isIn, (some FieldType.boolean, []), pcX0_isIn, plainFor_of_name pn_X0, rfl, Or.inl ⟨rfl, rfl⟩, rfl, alX0_isIn⟩
theorem mkX0_isKey : iy_mok iy_mi 89 (iy_P 89) := Or.inr ⟨RX0, _, _, cX0_isKey, (some FieldType.boolean, []), pcX0_isKey, plainFor_of_name pn_X0, rfl, Or.inl ⟨rfl, rfl⟩, rfl, alX0_isKey⟩
theorem mkX0_step : iy_mok iy_mi 90 (iy_P 90) := Or.inr ⟨RX0, _, _, cX0_step, (some FieldType.int, []), pcX0_step, plainFor_of_name pn_X0, rfl, Or.inl ⟨rfl, rfl⟩, rfl, alX0_step⟩
theorem mkX0_close : iy_mok iy_mi 91 (iy_P 91) := Or.inr ⟨RX0, _, _, cX0_close, (some FieldType.int, []), pcX0_close, plainFor_of_name pn_X0, rfl, Or.inl ⟨rfl, rfl⟩, rfl, alX0_close⟩
theorem mkX0_sweep : iy_mok iy_mi 92 (iy_P 92) := Or.inr ⟨RX0, _, _, cX0_sweep, (some FieldType.int, []), pcX0_sweep, plainFor_of_name pn_X0, rfl, Or.inl ⟨rfl, rfl⟩, rfl, alX0_sweep⟩
theorem mkX0_has : iy_mok iy_mi 93 (iy_P 93) := Or.inr ⟨RX0, _, _, cX0_has, (some FieldType.int, []), pcX0_has, plainFor_of_name pn_X0, rfl, Or.inl ⟨rfl, rfl⟩, rfl, alX0_has⟩
theorem mkX0_placeOf : iy_mok iy_mi 94 (iy_P 94) := Or.inr ⟨RX0, _, _, cX0_placeOf, (some FieldType.int, []), pcX0_placeOf, plainFor_of_name pn_X0, rfl, Or.inl ⟨rfl, rfl⟩, rfl, alX0_placeOf⟩
theorem mkX0_value : iy_mok iy_mi 95 (iy_P 95) := Or.inr ⟨RX0, _, _, cX0_value, (some FieldType.int, []), pcX0_value, plainFor_of_name pn_X0, rfl, Or.inl ⟨rfl, rfl⟩, rfl, alX0_value⟩
theorem mkX0_many : iy_mok iy_mi 96 (iy_P 96) := Or.inr ⟨RX0, _, _, cX0_many, (some FieldType.int, []), pcX0_many, plainFor_of_name pn_X0, rfl, Or.inl ⟨rfl, rfl⟩, rfl, alX0_many⟩
theorem mkX0_sum : iy_mok iy_mi 97 (iy_P 97) := Or.inr ⟨RX0, _, _, cX0_sum, (some FieldType.int, []), pcX0_sum, plainFor_of_name pn_X0, rfl, Or.inl ⟨rfl, rfl⟩, rfl, alX0_sum⟩
theorem mkX0_nth : iy_mok iy_mi 98 (iy_P 98) := Or.inr ⟨RX0, _, _, cX0_nth, (some FieldType.int, []), pcX0_nth, plainFor_of_name pn_X0, rfl, Or.inl ⟨rfl, rfl⟩, rfl, alX0_nth⟩
theorem mkX0_page : iy_mok iy_mi 99 (iy_P 99) := Or.inr ⟨RX0, _, _, cX0_page, (some FieldType.int, []), pcX0_page, plainFor_of_name pn_X0, rfl, Or.inl ⟨rfl, rfl⟩, rfl, alX0_page⟩
theorem mkX0_isPage : iy_mok iy_mi 100 (iy_P 100) := Or.inr ⟨RX0, _, _, cX0_isPage, (some FieldType.boolean, []), pcX0_isPage, plainFor_of_name pn_X0, rfl, Or.inl ⟨rfl, rfl⟩, rfl, alX0_isPage⟩
theorem mkX0_bound : iy_mok iy_mi 101 (iy_P 101) := Or.inr ⟨RX0, _, _, cX0_bound, (some FieldType.int, []), pcX0_bound, plainFor_of_name pn_X0, rfl, Or.inl ⟨rfl, rfl⟩, rfl, alX0_bound⟩
theorem mkX0_record : iy_mok iy_mi 102 (iy_P 102) := Or.inr ⟨RX0, _, _, cX0_record, (some FieldType.int, []), pcX0_record, plainFor_of_name pn_X0, rfl, Or.inl ⟨rfl, rfl⟩, rfl, alX0_record⟩
theorem mkX0_isRecord : iy_mok iy_mi 103 (iy_P 103) := Or.inr ⟨RX0, _, _, cX0_isRecord, (some FieldType.boolean, []), pcX0_isRecord, plainFor_of_name pn_X0, rfl, Or.inl ⟨rfl, rfl⟩, rfl, alX0_isRecord⟩
theorem mkX0_base : iy_mok iy_mi 104 (iy_P 104) := Or.inr ⟨RX0, _, _, cX0_base, (some FieldType.int, []), pcX0_base, plainFor_of_name pn_X0, rfl, Or.inl ⟨rfl, rfl⟩, rfl, alX0_base⟩
theorem mkX0_hand : iy_mok iy_mi 105 (iy_P 105) := Or.inr ⟨RX0, _, _, cX0_hand, (some FieldType.int, []), pcX0_hand, plainFor_of_name pn_X0, rfl, Or.inl ⟨rfl, rfl⟩, rfl, alX0_hand⟩
theorem mkX0_result : iy_mok iy_mi 106 (iy_P 106) := Or.inr ⟨RX0, _, _, cX0_result, (some FieldType.int, []), pcX0_result, plainFor_of_name pn_X0, rfl, Or.inl ⟨rfl, rfl⟩, rfl, alX0_result⟩
theorem mkX0_halves : iy_mok iy_mi 107 (iy_P 107) := Or.inr ⟨RX0, _, _, cX0_halves, (some FieldType.int, []), pcX0_halves, plainFor_of_name pn_X0, rfl, Or.inl ⟨rfl, rfl⟩, rfl, alX0_halves⟩
theorem mkX0_replay : iy_mok iy_mi 108 (iy_P 108) := Or.inr ⟨RX0, _, _, cX0_replay, (some FieldType.int, []), pcX0_replay, plainFor_of_name pn_X0, rfl, Or.inl ⟨rfl, rfl⟩, rfl, alX0_replay⟩
theorem mkX0_replays : iy_mok iy_mi 109 (iy_P 109) := Or.inr ⟨RX0, _, _, cX0_replays, (none, []), pcX0_replays, plainFor_of_name pn_X0, rfl, Or.inl ⟨rfl, rfl⟩, rfl, alX0_replays⟩
theorem mkX0_isAsFirst : iy_mok iy_mi 110 (iy_P 110) := Or.inr ⟨RX0, _, _, cX0_isAsFirst, (some FieldType.boolean, []), pcX0_isAsFirst, plainFor_of_name pn_X0, rfl, Or.inl ⟨rfl, rfl⟩, rfl, alX0_isAsFirst⟩
theorem mkX0_lostIn : iy_mok iy_mi 111 (iy_P 111) := Or.inr ⟨RX0, _, _, cX0_lostIn, (some FieldType.int, []), pcX0_lostIn, plainFor_of_name pn_X0, rfl, Or.inl ⟨rfl, rfl⟩, rfl, alX0_lostIn⟩
theorem mkX0_hold : iy_mok iy_mi 112 (iy_P 112) := Or.inr ⟨RX0, _, _, cX0_hold, (some FieldType.boolean, []), pcX0_hold, plainFor_of_name pn_X0, rfl, Or.inl ⟨rfl, rfl⟩, rfl, alX0_hold⟩
theorem mkX0_restore : iy_mok iy_mi 113 (iy_P 113) := Or.inr ⟨RX0, _, _, cX0_restore, (some FieldType.boolean, []), pcX0_restore, plainFor_of_name pn_X0, rfl, Or.inl ⟨rfl, rfl⟩, rfl, alX0_restore⟩
theorem mkX0_count : iy_mok iy_mi 114 (iy_P 114) := Or.inr ⟨RX0, _, _, cX0_count, (some FieldType.int, []), pcX0_count, plainFor_of_name pn_X0, rfl, Or.inl ⟨rfl, rfl⟩, rfl, alX0_count⟩
theorem mkX0_retired : iy_mok iy_mi 115 (iy_P 115) := Or.inr ⟨RX0, _, _, cX0_retired, (some FieldType.int, []), pcX0_retired, plainFor_of_name pn_X0, rfl, Or.inl ⟨rfl, rfl⟩, rfl, alX0_retired⟩
theorem mkX0_busy : iy_mok iy_mi 116 (iy_P 116) := Or.inr ⟨RX0, _, _, cX0_busy, (some FieldType.int, []), pcX0_busy, plainFor_of_name pn_X0, rfl, Or.inl ⟨rfl, rfl⟩, rfl, alX0_busy⟩
theorem mkX1_init : iy_mok iy_mi 117 (iy_P 117) := Or.inr ⟨RX1, _, _, cX1_init, (none, []), pcX1_init, plainFor_of_name pn_X1, rfl, Or.inl ⟨rfl, rfl⟩, rfl, alX1_init⟩
theorem mkX1_of : iy_mok iy_mi 118 (iy_P 118) := Or.inr ⟨RX1, _, _, cX1_of, (some (FieldType.object "DeltaIndex$Fault"), []), pcX1_of, plainFor_of_name pn_X1, rfl, Or.inl ⟨rfl, rfl⟩, rfl, alX1_of⟩
theorem mkX10_act : iy_mok iy_mi 119 (iy_P 119) := Or.inr ⟨RX10, _, _, cX10_act, (some FieldType.int, []), pcX10_act, plainFor_of_name pn_X10, rfl, Or.inl ⟨rfl, rfl⟩, rfl, alX10_act⟩
theorem mkX10_counts : iy_mok iy_mi 120 (iy_P 120) := Or.inr ⟨RX10, _, _, cX10_counts, (some FieldType.int, []), pcX10_counts, plainFor_of_name pn_X10, rfl, Or.inl ⟨rfl, rfl⟩, rfl, alX10_counts⟩
theorem mkX10_keyOf : iy_mok iy_mi 121 (iy_P 121) := Or.inr ⟨RX10, _, _, cX10_keyOf, (some FieldType.int, []), pcX10_keyOf, plainFor_of_name pn_X10, rfl, Or.inl ⟨rfl, rfl⟩, rfl, alX10_keyOf⟩
theorem mkX11_init : iy_mok iy_mi 122 (iy_P 122) := Or.inr ⟨RX11, _, _, cX11_init, (none, []), pcX11_init, plainFor_of_name pn_X11, rfl, Or.inl ⟨rfl, rfl⟩, rfl, alX11_init⟩
theorem mkX12_init : iy_mok iy_mi 123 (iy_P 123) := Or.inr ⟨RX12, _, _, cX12_init, (none, []), pcX12_init, plainFor_of_name pn_X12, rfl, Or.inl ⟨rfl, rfl⟩, rfl, alX12_init⟩
theorem mkX12_of : iy_mok iy_mi 124 (iy_P 124) := Or.inr ⟨RX12, _, _, cX12_of, (some FieldType.int, []), pcX12_of, plainFor_of_name pn_X12, rfl, Or.inl ⟨rfl, rfl⟩, rfl, alX12_of⟩
theorem mkX13_init : iy_mok iy_mi 125 (iy_P 125) := Or.inr ⟨RX13, _, _, cX13_init, (none, []), pcX13_init, plainFor_of_name pn_X13, rfl, Or.inl ⟨rfl, rfl⟩, rfl, alX13_init⟩
theorem mkX13_of : iy_mok iy_mi 126 (iy_P 126) := Or.inr ⟨RX13, _, _, cX13_of, (some FieldType.int, []), pcX13_of, plainFor_of_name pn_X13, rfl, Or.inl ⟨rfl, rfl⟩, rfl, alX13_of⟩
theorem mkX14_init : iy_mok iy_mi 127 (iy_P 127) := Or.inr ⟨RX14, _, _, cX14_init, (none, []), pcX14_init, plainFor_of_name pn_X14, rfl, Or.inl ⟨rfl, rfl⟩, rfl, alX14_init⟩
theorem mkX14_of : iy_mok iy_mi 128 (iy_P 128) := Or.inr ⟨RX14, _, _, cX14_of, (some FieldType.int, []), pcX14_of, plainFor_of_name pn_X14, rfl, Or.inl ⟨rfl, rfl⟩, rfl, alX14_of⟩
theorem mkX15_init : iy_mok iy_mi 129 (iy_P 129) := Or.inr ⟨RX15, _, _, cX15_init, (none, []), pcX15_init, plainFor_of_name pn_X15, rfl, Or.inl ⟨rfl, rfl⟩, rfl, alX15_init⟩
theorem mkX15_does : iy_mok iy_mi 130 (iy_P 130) := Or.inr ⟨RX15, _, _, cX15_does, (none, []), pcX15_does, plainFor_of_name pn_X15, rfl, Or.inl ⟨rfl, rfl⟩, rfl, alX15_does⟩
theorem mkX16_init : iy_mok iy_mi 131 (iy_P 131) := Or.inr ⟨RX16, _, _, cX16_init, (none, []), pcX16_init, plainFor_of_name pn_X16, rfl, Or.inl ⟨rfl, rfl⟩, rfl, alX16_init⟩
theorem mkX16_does : iy_mok iy_mi 132 (iy_P 132) := Or.inr ⟨RX16, _, _, cX16_does, (none, []), pcX16_does, plainFor_of_name pn_X16, rfl, Or.inl ⟨rfl, rfl⟩, rfl, alX16_does⟩
theorem mkX17_init : iy_mok iy_mi 133 (iy_P 133) := Or.inr ⟨RX17, _, _, cX17_init, (none, []), pcX17_init, plainFor_of_name pn_X17, rfl, Or.inl ⟨rfl, rfl⟩, rfl, alX17_init⟩
theorem mkX17_does : iy_mok iy_mi 134 (iy_P 134) := Or.inr ⟨RX17, _, _, cX17_does, (none, []), pcX17_does, plainFor_of_name pn_X17, rfl, Or.inl ⟨rfl, rfl⟩, rfl, alX17_does⟩
theorem mkX18_init : iy_mok iy_mi 135 (iy_P 135) := Or.inr ⟨RX18, _, _, cX18_init, (none, []), pcX18_init, plainFor_of_name pn_X18, rfl, Or.inl ⟨rfl, rfl⟩, rfl, alX18_init⟩
theorem mkX18_isOver : iy_mok iy_mi 136 (iy_P 136) := Or.inr ⟨RX18, _, _, cX18_isOver, (some FieldType.boolean, []), pcX18_isOver, plainFor_of_name pn_X18, rfl, Or.inl ⟨rfl, rfl⟩, rfl, alX18_isOver⟩
theorem mkX18_round : iy_mok iy_mi 137 (iy_P 137) := Or.inr ⟨RX18, _, _, cX18_round, (some FieldType.int, []), pcX18_round, plainFor_of_name pn_X18, rfl, Or.inl ⟨rfl, rfl⟩, rfl, alX18_round⟩
theorem mkX2_init : iy_mok iy_mi 138 (iy_P 138) := Or.inr ⟨RX2, _, _, cX2_init, (none, []), pcX2_init, plainFor_of_name pn_X2, rfl, Or.inl ⟨rfl, rfl⟩, rfl, alX2_init⟩
theorem mkX2_read : iy_mok iy_mi 139 (iy_P 139) := Or.inr ⟨RX2, _, _, cX2_read, (none, []), pcX2_read, plainFor_of_name pn_X2, rfl, Or.inl ⟨rfl, rfl⟩, rfl, alX2_read⟩
theorem mkX2_isLetter : iy_mok iy_mi 140 (iy_P 140) := Or.inr ⟨RX2, _, _, cX2_isLetter, (some FieldType.boolean, []), pcX2_isLetter, plainFor_of_name pn_X2, rfl, Or.inl ⟨rfl, rfl⟩, rfl, alX2_isLetter⟩
theorem mkX2_at : iy_mok iy_mi 141 (iy_P 141) := Or.inr ⟨RX2, _, _, cX2_at, (some FieldType.int, []), pcX2_at, plainFor_of_name pn_X2, rfl, Or.inl ⟨rfl, rfl⟩, rfl, alX2_at⟩
theorem mkX2_word : iy_mok iy_mi 142 (iy_P 142) := Or.inr ⟨RX2, _, _, cX2_word, (some FieldType.int, []), pcX2_word, plainFor_of_name pn_X2, rfl, Or.inl ⟨rfl, rfl⟩, rfl, alX2_word⟩
theorem mkX2_isDigit : iy_mok iy_mi 143 (iy_P 143) := Or.inr ⟨RX2, _, _, cX2_isDigit, (some FieldType.boolean, []), pcX2_isDigit, plainFor_of_name pn_X2, rfl, Or.inl ⟨rfl, rfl⟩, rfl, alX2_isDigit⟩
theorem mkX2_sign : iy_mok iy_mi 144 (iy_P 144) := Or.inr ⟨RX2, _, _, cX2_sign, (some FieldType.int, []), pcX2_sign, plainFor_of_name pn_X2, rfl, Or.inl ⟨rfl, rfl⟩, rfl, alX2_sign⟩
theorem mkX2_add : iy_mok iy_mi 145 (iy_P 145) := Or.inr ⟨RX2, _, _, cX2_add, (none, []), pcX2_add, plainFor_of_name pn_X2, rfl, Or.inl ⟨rfl, rfl⟩, rfl, alX2_add⟩
theorem mkX2_text : iy_mok iy_mi 146 (iy_P 146) := Or.inr ⟨RX2, _, _, cX2_text, (some (FieldType.object "java/lang/String"), []), pcX2_text, plainFor_of_name pn_X2, rfl, Or.inl ⟨rfl, rfl⟩, rfl, alX2_text⟩
theorem mkX2_number : iy_mok iy_mi 147 (iy_P 147) := Or.inr ⟨RX2, _, _, cX2_number, (some FieldType.int, []), pcX2_number, plainFor_of_name pn_X2, rfl, Or.inl ⟨rfl, rfl⟩, rfl, alX2_number⟩
theorem mkX3_init : iy_mok iy_mi 148 (iy_P 148) := Or.inr ⟨RX3, _, _, cX3_init, (none, []), pcX3_init, plainFor_of_name pn_X3, rfl, Or.inl ⟨rfl, rfl⟩, rfl, alX3_init⟩
theorem mkX3_read : iy_mok iy_mi 149 (iy_P 149) := Or.inr ⟨RX3, _, _, cX3_read, (some (FieldType.object "DeltaIndex$Text"), []), pcX3_read, plainFor_of_name pn_X3, rfl, Or.inl ⟨rfl, rfl⟩, rfl, alX3_read⟩
theorem mkX3_setting : iy_mok iy_mi 150 (iy_P 150) := Or.inr ⟨RX3, _, _, cX3_setting, (some FieldType.int, []), pcX3_setting, plainFor_of_name pn_X3, rfl, Or.inl ⟨rfl, rfl⟩, rfl, alX3_setting⟩
theorem mkX3_isTold : iy_mok iy_mi 151 (iy_P 151) := Or.inr ⟨RX3, _, _, cX3_isTold, (some FieldType.boolean, []), pcX3_isTold, plainFor_of_name pn_X3, rfl, Or.inl ⟨rfl, rfl⟩, rfl, alX3_isTold⟩
theorem mkX3_sort : iy_mok iy_mi 152 (iy_P 152) := Or.inr ⟨RX3, _, _, cX3_sort, (some FieldType.int, []), pcX3_sort, plainFor_of_name pn_X3, rfl, Or.inl ⟨rfl, rfl⟩, rfl, alX3_sort⟩
theorem mkX3_wrong : iy_mok iy_mi 153 (iy_P 153) := Or.inr ⟨RX3, _, _, cX3_wrong, (some (FieldType.object "DeltaIndex$Fault"), []), pcX3_wrong, plainFor_of_name pn_X3, rfl, Or.inl ⟨rfl, rfl⟩, rfl, alX3_wrong⟩
theorem mkX3_wrongAt : iy_mok iy_mi 154 (iy_P 154) := Or.inr ⟨RX3, _, _, cX3_wrongAt, (some (FieldType.object "DeltaIndex$Fault"), []), pcX3_wrongAt, plainFor_of_name pn_X3, rfl, Or.inl ⟨rfl, rfl⟩, rfl, alX3_wrongAt⟩
theorem mkX3_pass : iy_mok iy_mi 155 (iy_P 155) := Or.inr ⟨RX3, _, _, cX3_pass, (none, []), pcX3_pass, plainFor_of_name pn_X3, rfl, Or.inl ⟨rfl, rfl⟩, rfl, alX3_pass⟩
theorem mkX3_number : iy_mok iy_mi 156 (iy_P 156) := Or.inr ⟨RX3, _, _, cX3_number, (some FieldType.int, []), pcX3_number, plainFor_of_name pn_X3, rfl, Or.inl ⟨rfl, rfl⟩, rfl, alX3_number⟩
theorem mkX3_take : iy_mok iy_mi 157 (iy_P 157) := Or.inr ⟨RX3, _, _, cX3_take, (some FieldType.int, []), pcX3_take, plainFor_of_name pn_X3, rfl, Or.inl ⟨rfl, rfl⟩, rfl, alX3_take⟩
theorem mkX3_tell : iy_mok iy_mi 158 (iy_P 158) := Or.inr ⟨RX3, _, _, cX3_tell, (none, []), pcX3_tell, plainFor_of_name pn_X3, rfl, Or.inl ⟨rfl, rfl⟩, rfl, alX3_tell⟩
theorem mkX3_sign : iy_mok iy_mi 159 (iy_P 159) := Or.inr ⟨RX3, _, _, cX3_sign, (none, []), pcX3_sign, plainFor_of_name pn_X3, rfl, Or.inl ⟨rfl, rfl⟩, rfl, alX3_sign⟩
theorem mkX3_isSign : iy_mok iy_mi 160 (iy_P 160) := Or.inr ⟨RX3, _, _, cX3_isSign, (some FieldType.boolean, []), pcX3_isSign, plainFor_of_name pn_X3, rfl, Or.inl ⟨rfl, rfl⟩, rfl, alX3_isSign⟩
theorem mkX3_told : iy_mok iy_mi 161 (iy_P 161) := Or.inr ⟨RX3, _, _, cX3_told, (some (FieldType.object "DeltaIndex$Tell"), []), pcX3_told, plainFor_of_name pn_X3, rfl, Or.inl ⟨rfl, rfl⟩, rfl, alX3_told⟩
theorem mkX3_act : iy_mok iy_mi 162 (iy_P 162) := Or.inr ⟨RX3, _, _, cX3_act, (some (FieldType.object "DeltaIndex$Tell"), []), pcX3_act, plainFor_of_name pn_X3, rfl, Or.inl ⟨rfl, rfl⟩, rfl, alX3_act⟩
theorem mkX3_sum : iy_mok iy_mi 163 (iy_P 163) := Or.inr ⟨RX3, _, _, cX3_sum, (some (FieldType.object "DeltaIndex$Sum"), []), pcX3_sum, plainFor_of_name pn_X3, rfl, Or.inl ⟨rfl, rfl⟩, rfl, alX3_sum⟩
theorem mkX3_part : iy_mok iy_mi 164 (iy_P 164) := Or.inr ⟨RX3, _, _, cX3_part, (some (FieldType.object "DeltaIndex$Sum"), []), pcX3_part, plainFor_of_name pn_X3, rfl, Or.inl ⟨rfl, rfl⟩, rfl, alX3_part⟩
theorem mkX3_unit : iy_mok iy_mi 165 (iy_P 165) := Or.inr ⟨RX3, _, _, cX3_unit, (some (FieldType.object "DeltaIndex$Sum"), []), pcX3_unit, plainFor_of_name pn_X3, rfl, Or.inl ⟨rfl, rfl⟩, rfl, alX3_unit⟩
theorem mkX3_begin : iy_mok iy_mi 166 (iy_P 166) := Or.inr ⟨RX3, _, _, cX3_begin, (some (FieldType.object "DeltaIndex$Tell"), []), pcX3_begin, plainFor_of_name pn_X3, rfl, Or.inl ⟨rfl, rfl⟩, rfl, alX3_begin⟩
theorem mkX3_get : iy_mok iy_mi 167 (iy_P 167) := Or.inr ⟨RX3, _, _, cX3_get, (some (FieldType.object "DeltaIndex$Tell"), []), pcX3_get, plainFor_of_name pn_X3, rfl, Or.inl ⟨rfl, rfl⟩, rfl, alX3_get⟩
theorem mkX3_go : iy_mok iy_mi 168 (iy_P 168) := Or.inr ⟨RX3, _, _, cX3_go, (some (FieldType.object "DeltaIndex$Tell"), []), pcX3_go, plainFor_of_name pn_X3, rfl, Or.inl ⟨rfl, rfl⟩, rfl, alX3_go⟩
theorem mkX3_sweep : iy_mok iy_mi 169 (iy_P 169) := Or.inr ⟨RX3, _, _, cX3_sweep, (some (FieldType.object "DeltaIndex$Tell"), []), pcX3_sweep, plainFor_of_name pn_X3, rfl, Or.inl ⟨rfl, rfl⟩, rfl, alX3_sweep⟩
theorem mkX3_rounds : iy_mok iy_mi 170 (iy_P 170) := Or.inr ⟨RX3, _, _, cX3_rounds, (some (FieldType.object "DeltaIndex$Tell"), []), pcX3_rounds, plainFor_of_name pn_X3, rfl, Or.inl ⟨rfl, rfl⟩, rfl, alX3_rounds⟩
theorem mkX4_init : iy_mok iy_mi 171 (iy_P 171) := Or.inr ⟨RX4, _, _, cX4_init, (none, []), pcX4_init, plainFor_of_name pn_X4, rfl, Or.inl ⟨rfl, rfl⟩, rfl, alX4_init⟩
theorem mkX4_begins : iy_mok iy_mi 172 (iy_P 172) := Or.inr ⟨RX4, _, _, cX4_begins, (none, []), pcX4_begins, plainFor_of_name pn_X4, rfl, Or.inl ⟨rfl, rfl⟩, rfl, alX4_begins⟩
theorem mkX4_makes : iy_mok iy_mi 173 (iy_P 173) := Or.inr ⟨RX4, _, _, cX4_makes, (some FieldType.int, []), pcX4_makes, plainFor_of_name pn_X4, rfl, Or.inl ⟨rfl, rfl⟩, rfl, alX4_makes⟩
theorem mkX4_keys : iy_mok iy_mi 174 (iy_P 174) := Or.inr ⟨RX4, _, _, cX4_keys, (some FieldType.int, []), pcX4_keys, plainFor_of_name pn_X4, rfl, Or.inl ⟨rfl, rfl⟩, rfl, alX4_keys⟩
theorem mkX4_lays : iy_mok iy_mi 175 (iy_P 175) := Or.inr ⟨RX4, _, _, cX4_lays, (none, []), pcX4_lays, plainFor_of_name pn_X4, rfl, Or.inl ⟨rfl, rfl⟩, rfl, alX4_lays⟩
theorem mkX4_baseOf : iy_mok iy_mi 176 (iy_P 176) := Or.inr ⟨RX4, _, _, cX4_baseOf, (some (FieldType.object "DeltaIndex$Record"), []), pcX4_baseOf, plainFor_of_name pn_X4, rfl, Or.inl ⟨rfl, rfl⟩, rfl, alX4_baseOf⟩
theorem mkX4_lostOfAll : iy_mok iy_mi 177 (iy_P 177) := Or.inr ⟨RX4, _, _, cX4_lostOfAll, (some FieldType.int, []), pcX4_lostOfAll, plainFor_of_name pn_X4, rfl, Or.inl ⟨rfl, rfl⟩, rfl, alX4_lostOfAll⟩
theorem mkX4_takesUp : iy_mok iy_mi 178 (iy_P 178) := Or.inr ⟨RX4, _, _, cX4_takesUp, (some FieldType.boolean, []), pcX4_takesUp, plainFor_of_name pn_X4, rfl, Or.inl ⟨rfl, rfl⟩, rfl, alX4_takesUp⟩
theorem mkX4_closes : iy_mok iy_mi 179 (iy_P 179) := Or.inr ⟨RX4, _, _, cX4_closes, (some FieldType.int, []), pcX4_closes, plainFor_of_name pn_X4, rfl, Or.inl ⟨rfl, rfl⟩, rfl, alX4_closes⟩
theorem mkX4_steps : iy_mok iy_mi 180 (iy_P 180) := Or.inr ⟨RX4, _, _, cX4_steps, (some FieldType.int, []), pcX4_steps, plainFor_of_name pn_X4, rfl, Or.inl ⟨rfl, rfl⟩, rfl, alX4_steps⟩
theorem mkX4_finds : iy_mok iy_mi 181 (iy_P 181) := Or.inr ⟨RX4, _, _, cX4_finds, (some FieldType.int, []), pcX4_finds, plainFor_of_name pn_X4, rfl, Or.inl ⟨rfl, rfl⟩, rfl, alX4_finds⟩
theorem mkX4_bounds : iy_mok iy_mi 182 (iy_P 182) := Or.inr ⟨RX4, _, _, cX4_bounds, (some (FieldType.object "DeltaIndex$Record"), []), pcX4_bounds, plainFor_of_name pn_X4, rfl, Or.inl ⟨rfl, rfl⟩, rfl, alX4_bounds⟩
theorem mkX4_reads : iy_mok iy_mi 183 (iy_P 183) := Or.inr ⟨RX4, _, _, cX4_reads, (some FieldType.int, []), pcX4_reads, plainFor_of_name pn_X4, rfl, Or.inl ⟨rfl, rfl⟩, rfl, alX4_reads⟩
theorem mkX4_isGone : iy_mok iy_mi 184 (iy_P 184) := Or.inr ⟨RX4, _, _, cX4_isGone, (some FieldType.boolean, []), pcX4_isGone, plainFor_of_name pn_X4, rfl, Or.inl ⟨rfl, rfl⟩, rfl, alX4_isGone⟩
theorem mkX4_isNoted : iy_mok iy_mi 185 (iy_P 185) := Or.inr ⟨RX4, _, _, cX4_isNoted, (some FieldType.boolean, []), pcX4_isNoted, plainFor_of_name pn_X4, rfl, Or.inl ⟨rfl, rfl⟩, rfl, alX4_isNoted⟩
theorem mkX4_noting : iy_mok iy_mi 186 (iy_P 186) := Or.inr ⟨RX4, _, _, cX4_noting, (some FieldType.int, []), pcX4_noting, plainFor_of_name pn_X4, rfl, Or.inl ⟨rfl, rfl⟩, rfl, alX4_noting⟩
theorem mkX4_length : iy_mok iy_mi 187 (iy_P 187) := Or.inr ⟨RX4, _, _, cX4_length, (some FieldType.int, []), pcX4_length, plainFor_of_name pn_X4, rfl, Or.inl ⟨rfl, rfl⟩, rfl, alX4_length⟩
theorem mkX4_prepends : iy_mok iy_mi 188 (iy_P 188) := Or.inr ⟨RX4, _, _, cX4_prepends, (some FieldType.int, []), pcX4_prepends, plainFor_of_name pn_X4, rfl, Or.inl ⟨rfl, rfl⟩, rfl, alX4_prepends⟩
theorem mkX4_gathers : iy_mok iy_mi 189 (iy_P 189) := Or.inr ⟨RX4, _, _, cX4_gathers, (some FieldType.int, []), pcX4_gathers, plainFor_of_name pn_X4, rfl, Or.inl ⟨rfl, rfl⟩, rfl, alX4_gathers⟩
theorem mkX4_swaps : iy_mok iy_mi 190 (iy_P 190) := Or.inr ⟨RX4, _, _, cX4_swaps, (some FieldType.int, []), pcX4_swaps, plainFor_of_name pn_X4, rfl, Or.inl ⟨rfl, rfl⟩, rfl, alX4_swaps⟩
theorem mkX4_retires : iy_mok iy_mi 191 (iy_P 191) := Or.inr ⟨RX4, _, _, cX4_retires, (none, []), pcX4_retires, plainFor_of_name pn_X4, rfl, Or.inl ⟨rfl, rfl⟩, rfl, alX4_retires⟩
theorem mkX4_splits : iy_mok iy_mi 192 (iy_P 192) := Or.inr ⟨RX4, _, _, cX4_splits, (some FieldType.int, []), pcX4_splits, plainFor_of_name pn_X4, rfl, Or.inl ⟨rfl, rfl⟩, rfl, alX4_splits⟩
theorem mkX4_notes : iy_mok iy_mi 193 (iy_P 193) := Or.inr ⟨RX4, _, _, cX4_notes, (some FieldType.int, []), pcX4_notes, plainFor_of_name pn_X4, rfl, Or.inl ⟨rfl, rfl⟩, rfl, alX4_notes⟩
theorem mkX4_enters : iy_mok iy_mi 194 (iy_P 194) := Or.inr ⟨RX4, _, _, cX4_enters, (some FieldType.int, []), pcX4_enters, plainFor_of_name pn_X4, rfl, Or.inl ⟨rfl, rfl⟩, rfl, alX4_enters⟩
theorem mkX4_noted : iy_mok iy_mi 195 (iy_P 195) := Or.inr ⟨RX4, _, _, cX4_noted, (some FieldType.int, []), pcX4_noted, plainFor_of_name pn_X4, rfl, Or.inl ⟨rfl, rfl⟩, rfl, alX4_noted⟩
theorem mkX4_removes : iy_mok iy_mi 196 (iy_P 196) := Or.inr ⟨RX4, _, _, cX4_removes, (some FieldType.int, []), pcX4_removes, plainFor_of_name pn_X4, rfl, Or.inl ⟨rfl, rfl⟩, rfl, alX4_removes⟩
theorem mkX4_boundOf : iy_mok iy_mi 197 (iy_P 197) := Or.inr ⟨RX4, _, _, cX4_boundOf, (some FieldType.int, []), pcX4_boundOf, plainFor_of_name pn_X4, rfl, Or.inl ⟨rfl, rfl⟩, rfl, alX4_boundOf⟩
theorem mkX4_looksLeft : iy_mok iy_mi 198 (iy_P 198) := Or.inr ⟨RX4, _, _, cX4_looksLeft, (some FieldType.int, []), pcX4_looksLeft, plainFor_of_name pn_X4, rfl, Or.inl ⟨rfl, rfl⟩, rfl, alX4_looksLeft⟩
theorem mkX4_joins : iy_mok iy_mi 199 (iy_P 199) := Or.inr ⟨RX4, _, _, cX4_joins, (some FieldType.int, []), pcX4_joins, plainFor_of_name pn_X4, rfl, Or.inl ⟨rfl, rfl⟩, rfl, alX4_joins⟩
theorem mkX4_looks : iy_mok iy_mi 200 (iy_P 200) := Or.inr ⟨RX4, _, _, cX4_looks, (some FieldType.int, []), pcX4_looks, plainFor_of_name pn_X4, rfl, Or.inl ⟨rfl, rfl⟩, rfl, alX4_looks⟩
theorem mkX4_strikes : iy_mok iy_mi 201 (iy_P 201) := Or.inr ⟨RX4, _, _, cX4_strikes, (some FieldType.int, []), pcX4_strikes, plainFor_of_name pn_X4, rfl, Or.inl ⟨rfl, rfl⟩, rfl, alX4_strikes⟩
theorem mkX4_sweeps : iy_mok iy_mi 202 (iy_P 202) := Or.inr ⟨RX4, _, _, cX4_sweeps, (some FieldType.int, []), pcX4_sweeps, plainFor_of_name pn_X4, rfl, Or.inl ⟨rfl, rfl⟩, rfl, alX4_sweeps⟩
theorem mkX4_all : iy_mok iy_mi 203 (iy_P 203) := Or.inr ⟨RX4, _, _, cX4_all, (some FieldType.int, []), pcX4_all, plainFor_of_name pn_X4, rfl, Or.inl ⟨rfl, rfl⟩, rfl, alX4_all⟩
theorem mkX4_splitsLeft : iy_mok iy_mi 204 (iy_P 204) := Or.inr ⟨RX4, _, _, cX4_splitsLeft, (some FieldType.int, []), pcX4_splitsLeft, plainFor_of_name pn_X4, rfl, Or.inl ⟨rfl, rfl⟩, rfl, alX4_splitsLeft⟩
theorem mkX4_goneLeft : iy_mok iy_mi 205 (iy_P 205) := Or.inr ⟨RX4, _, _, cX4_goneLeft, (some FieldType.int, []), pcX4_goneLeft, plainFor_of_name pn_X4, rfl, Or.inl ⟨rfl, rfl⟩, rfl, alX4_goneLeft⟩
theorem mkX4_becomes : iy_mok iy_mi 206 (iy_P 206) := Or.inr ⟨RX4, _, _, cX4_becomes, (none, []), pcX4_becomes, plainFor_of_name pn_X4, rfl, Or.inl ⟨rfl, rfl⟩, rfl, alX4_becomes⟩
theorem mkX5_init : iy_mok iy_mi 207 (iy_P 207) := Or.inr ⟨RX5, _, _, cX5_init, (none, []), pcX5_init, plainFor_of_name pn_X5, rfl, Or.inl ⟨rfl, rfl⟩, rfl, alX5_init⟩
theorem mkX5_begins : iy_mok iy_mi 208 (iy_P 208) := Or.inr ⟨RX5, _, _, cX5_begins, (none, []), pcX5_begins, plainFor_of_name pn_X5, rfl, Or.inl ⟨rfl, rfl⟩, rfl, alX5_begins⟩
theorem mkX5_sets : iy_mok iy_mi 209 (iy_P 209) := Or.inr ⟨RX5, _, _, cX5_sets, (none, []), pcX5_sets, plainFor_of_name pn_X5, rfl, Or.inl ⟨rfl, rfl⟩, rfl, alX5_sets⟩
theorem mkX5_at : iy_mok iy_mi 210 (iy_P 210) := Or.inr ⟨RX5, _, _, cX5_at, (some FieldType.int, []), pcX5_at, plainFor_of_name pn_X5, rfl, Or.inl ⟨rfl, rfl⟩, rfl, alX5_at⟩
theorem mkX5_takes : iy_mok iy_mi 211 (iy_P 211) := Or.inr ⟨RX5, _, _, cX5_takes, (none, []), pcX5_takes, plainFor_of_name pn_X5, rfl, Or.inl ⟨rfl, rfl⟩, rfl, alX5_takes⟩
theorem mkX5_changes : iy_mok iy_mi 212 (iy_P 212) := Or.inr ⟨RX5, _, _, cX5_changes, (none, []), pcX5_changes, plainFor_of_name pn_X5, rfl, Or.inl ⟨rfl, rfl⟩, rfl, alX5_changes⟩
theorem mkX5_drops : iy_mok iy_mi 213 (iy_P 213) := Or.inr ⟨RX5, _, _, cX5_drops, (none, []), pcX5_drops, plainFor_of_name pn_X5, rfl, Or.inl ⟨rfl, rfl⟩, rfl, alX5_drops⟩
theorem mkX5_ends : iy_mok iy_mi 214 (iy_P 214) := Or.inr ⟨RX5, _, _, cX5_ends, (none, []), pcX5_ends, plainFor_of_name pn_X5, rfl, Or.inl ⟨rfl, rfl⟩, rfl, alX5_ends⟩
theorem mkX5_joins : iy_mok iy_mi 215 (iy_P 215) := Or.inr ⟨RX5, _, _, cX5_joins, (none, []), pcX5_joins, plainFor_of_name pn_X5, rfl, Or.inl ⟨rfl, rfl⟩, rfl, alX5_joins⟩
theorem mkX5_upTo : iy_mok iy_mi 216 (iy_P 216) := Or.inr ⟨RX5, _, _, cX5_upTo, (some FieldType.int, []), pcX5_upTo, plainFor_of_name pn_X5, rfl, Or.inl ⟨rfl, rfl⟩, rfl, alX5_upTo⟩
theorem mkX5_becomes : iy_mok iy_mi 217 (iy_P 217) := Or.inr ⟨RX5, _, _, cX5_becomes, (none, []), pcX5_becomes, plainFor_of_name pn_X5, rfl, Or.inl ⟨rfl, rfl⟩, rfl, alX5_becomes⟩
theorem mkX6_init : iy_mok iy_mi 218 (iy_P 218) := Or.inr ⟨RX6, _, _, cX6_init, (none, []), pcX6_init, plainFor_of_name pn_X6, rfl, Or.inl ⟨rfl, rfl⟩, rfl, alX6_init⟩
theorem mkX6_begins : iy_mok iy_mi 219 (iy_P 219) := Or.inr ⟨RX6, _, _, cX6_begins, (none, []), pcX6_begins, plainFor_of_name pn_X6, rfl, Or.inl ⟨rfl, rfl⟩, rfl, alX6_begins⟩
theorem mkX6_tells : iy_mok iy_mi 220 (iy_P 220) := Or.inr ⟨RX6, _, _, cX6_tells, (some FieldType.int, []), pcX6_tells, plainFor_of_name pn_X6, rfl, Or.inl ⟨rfl, rfl⟩, rfl, alX6_tells⟩
theorem mkX6_rests : iy_mok iy_mi 221 (iy_P 221) := Or.inr ⟨RX6, _, _, cX6_rests, (some FieldType.int, []), pcX6_rests, plainFor_of_name pn_X6, rfl, Or.inl ⟨rfl, rfl⟩, rfl, alX6_rests⟩
theorem mkX6_lost : iy_mok iy_mi 222 (iy_P 222) := Or.inr ⟨RX6, _, _, cX6_lost, (some FieldType.int, []), pcX6_lost, plainFor_of_name pn_X6, rfl, Or.inl ⟨rfl, rfl⟩, rfl, alX6_lost⟩
theorem mkX6_goesOn : iy_mok iy_mi 223 (iy_P 223) := Or.inr ⟨RX6, _, _, cX6_goesOn, (some FieldType.int, []), pcX6_goesOn, plainFor_of_name pn_X6, rfl, Or.inl ⟨rfl, rfl⟩, rfl, alX6_goesOn⟩
theorem mkX6_becomes : iy_mok iy_mi 224 (iy_P 224) := Or.inr ⟨RX6, _, _, cX6_becomes, (none, []), pcX6_becomes, plainFor_of_name pn_X6, rfl, Or.inl ⟨rfl, rfl⟩, rfl, alX6_becomes⟩
theorem mkX7_init : iy_mok iy_mi 225 (iy_P 225) := Or.inr ⟨RX7, _, _, cX7_init, (none, []), pcX7_init, plainFor_of_name pn_X7, rfl, Or.inl ⟨rfl, rfl⟩, rfl, alX7_init⟩
theorem mkX8_init : iy_mok iy_mi 226 (iy_P 226) := Or.inr ⟨RX8, _, _, cX8_init, (none, []), pcX8_init, plainFor_of_name pn_X8, rfl, Or.inl ⟨rfl, rfl⟩, rfl, alX8_init⟩
theorem mkX8_all : iy_mok iy_mi 227 (iy_P 227) := Or.inr ⟨RX8, _, _, cX8_all, (none, []), pcX8_all, plainFor_of_name pn_X8, rfl, Or.inl ⟨rfl, rfl⟩, rfl, alX8_all⟩
theorem mkX8_counts : iy_mok iy_mi 228 (iy_P 228) := Or.inr ⟨RX8, _, _, cX8_counts, (some FieldType.int, []), pcX8_counts, plainFor_of_name pn_X8, rfl, Or.inl ⟨rfl, rfl⟩, rfl, alX8_counts⟩
theorem mkX8_does : iy_mok iy_mi 229 (iy_P 229) := Or.inr ⟨RX8, _, _, cX8_does, (none, []), pcX8_does, plainFor_of_name pn_X8, rfl, Or.inl ⟨rfl, rfl⟩, rfl, alX8_does⟩
theorem mkX9_init : iy_mok iy_mi 230 (iy_P 230) := Or.inr ⟨RX9, _, _, cX9_init, (none, []), pcX9_init, plainFor_of_name pn_X9, rfl, Or.inl ⟨rfl, rfl⟩, rfl, alX9_init⟩
theorem mkX9_letters : iy_mok iy_mi 231 (iy_P 231) := Or.inr ⟨RX9, _, _, cX9_letters, (some FieldType.long, []), pcX9_letters, plainFor_of_name pn_X9, rfl, Or.inl ⟨rfl, rfl⟩, rfl, alX9_letters⟩
theorem mkX9_appends : iy_mok iy_mi 232 (iy_P 232) := Or.inr ⟨RX9, _, _, cX9_appends, (some FieldType.long, []), pcX9_appends, plainFor_of_name pn_X9, rfl, Or.inl ⟨rfl, rfl⟩, rfl, alX9_appends⟩
theorem mkX9_begins : iy_mok iy_mi 233 (iy_P 233) := Or.inr ⟨RX9, _, _, cX9_begins, (none, []), pcX9_begins, plainFor_of_name pn_X9, rfl, Or.inl ⟨rfl, rfl⟩, rfl, alX9_begins⟩
theorem mkX9_hand0 : iy_mok iy_mi 234 (iy_P 234) := Or.inr ⟨RX9, _, _, cX9_hand0, (some FieldType.int, []), pcX9_hand0, plainFor_of_name pn_X9, rfl, Or.inl ⟨rfl, rfl⟩, rfl, alX9_hand0⟩
theorem mkX9_newBase : iy_mok iy_mi 235 (iy_P 235) := Or.inr ⟨RX9, _, _, cX9_newBase, (some FieldType.int, []), pcX9_newBase, plainFor_of_name pn_X9, rfl, Or.inl ⟨rfl, rfl⟩, rfl, alX9_newBase⟩
theorem mkX9_newRecord : iy_mok iy_mi 236 (iy_P 236) := Or.inr ⟨RX9, _, _, cX9_newRecord, (some FieldType.int, []), pcX9_newRecord, plainFor_of_name pn_X9, rfl, Or.inl ⟨rfl, rfl⟩, rfl, alX9_newRecord⟩
theorem mkX9_record0 : iy_mok iy_mi 237 (iy_P 237) := Or.inr ⟨RX9, _, _, cX9_record0, (some FieldType.int, []), pcX9_record0, plainFor_of_name pn_X9, rfl, Or.inl ⟨rfl, rfl⟩, rfl, alX9_record0⟩
theorem mkX9_adds : iy_mok iy_mi 238 (iy_P 238) := Or.inr ⟨RX9, _, _, cX9_adds, (none, []), pcX9_adds, plainFor_of_name pn_X9, rfl, Or.inl ⟨rfl, rfl⟩, rfl, alX9_adds⟩
theorem mkX9_ofRecord : iy_mok iy_mi 239 (iy_P 239) := Or.inr ⟨RX9, _, _, cX9_ofRecord, (some FieldType.int, []), pcX9_ofRecord, plainFor_of_name pn_X9, rfl, Or.inl ⟨rfl, rfl⟩, rfl, alX9_ofRecord⟩
theorem mkX9_feed : iy_mok iy_mi 240 (iy_P 240) := Or.inr ⟨RX9, _, _, cX9_feed, (some FieldType.int, []), pcX9_feed, plainFor_of_name pn_X9, rfl, Or.inl ⟨rfl, rfl⟩, rfl, alX9_feed⟩
theorem mkX9_lays : iy_mok iy_mi 241 (iy_P 241) := Or.inr ⟨RX9, _, _, cX9_lays, (none, []), pcX9_lays, plainFor_of_name pn_X9, rfl, Or.inl ⟨rfl, rfl⟩, rfl, alX9_lays⟩
theorem mkX9_back : iy_mok iy_mi 242 (iy_P 242) := Or.inr ⟨RX9, _, _, cX9_back, (some FieldType.int, []), pcX9_back, plainFor_of_name pn_X9, rfl, Or.inl ⟨rfl, rfl⟩, rfl, alX9_back⟩
theorem mkX9_read : iy_mok iy_mi 243 (iy_P 243) := Or.inr ⟨RX9, _, _, cX9_read, (some FieldType.int, []), pcX9_read, plainFor_of_name pn_X9, rfl, Or.inl ⟨rfl, rfl⟩, rfl, alX9_read⟩
theorem mkX9_cutsUp : iy_mok iy_mi 244 (iy_P 244) := Or.inr ⟨RX9, _, _, cX9_cutsUp, (none, []), pcX9_cutsUp, plainFor_of_name pn_X9, rfl, Or.inl ⟨rfl, rfl⟩, rfl, alX9_cutsUp⟩
theorem mkX9_byteAt : iy_mok iy_mi 245 (iy_P 245) := Or.inr ⟨RX9, _, _, cX9_byteAt, (some FieldType.int, []), pcX9_byteAt, plainFor_of_name pn_X9, rfl, Or.inl ⟨rfl, rfl⟩, rfl, alX9_byteAt⟩
theorem mkX9_token : iy_mok iy_mi 246 (iy_P 246) := Or.inr ⟨RX9, _, _, cX9_token, (none, []), pcX9_token, plainFor_of_name pn_X9, rfl, Or.inl ⟨rfl, rfl⟩, rfl, alX9_token⟩
theorem mkX9_isLetter : iy_mok iy_mi 247 (iy_P 247) := Or.inr ⟨RX9, _, _, cX9_isLetter, (some FieldType.boolean, []), pcX9_isLetter, plainFor_of_name pn_X9, rfl, Or.inl ⟨rfl, rfl⟩, rfl, alX9_isLetter⟩
theorem mkX9_isDigit : iy_mok iy_mi 248 (iy_P 248) := Or.inr ⟨RX9, _, _, cX9_isDigit, (some FieldType.boolean, []), pcX9_isDigit, plainFor_of_name pn_X9, rfl, Or.inl ⟨rfl, rfl⟩, rfl, alX9_isDigit⟩
theorem mkX9_sign : iy_mok iy_mi 249 (iy_P 249) := Or.inr ⟨RX9, _, _, cX9_sign, (some FieldType.int, []), pcX9_sign, plainFor_of_name pn_X9, rfl, Or.inl ⟨rfl, rfl⟩, rfl, alX9_sign⟩
theorem mkX9_toldOr : iy_mok iy_mi 250 (iy_P 250) := Or.inr ⟨RX9, _, _, cX9_toldOr, (some FieldType.int, []), pcX9_toldOr, plainFor_of_name pn_X9, rfl, Or.inl ⟨rfl, rfl⟩, rfl, alX9_toldOr⟩
theorem mkX9_is : iy_mok iy_mi 251 (iy_P 251) := Or.inr ⟨RX9, _, _, cX9_is, (some FieldType.boolean, []), pcX9_is, plainFor_of_name pn_X9, rfl, Or.inl ⟨rfl, rfl⟩, rfl, alX9_is⟩
theorem mkX9_goesOn : iy_mok iy_mi 252 (iy_P 252) := Or.inr ⟨RX9, _, _, cX9_goesOn, (none, []), pcX9_goesOn, plainFor_of_name pn_X9, rfl, Or.inl ⟨rfl, rfl⟩, rfl, alX9_goesOn⟩
theorem mkX9_fail : iy_mok iy_mi 253 (iy_P 253) := Or.inr ⟨RX9, _, _, cX9_fail, (none, []), pcX9_fail, plainFor_of_name pn_X9, rfl, Or.inl ⟨rfl, rfl⟩, rfl, alX9_fail⟩
theorem mkX9_bounded : iy_mok iy_mi 254 (iy_P 254) := Or.inr ⟨RX9, _, _, cX9_bounded, (some FieldType.int, []), pcX9_bounded, plainFor_of_name pn_X9, rfl, Or.inl ⟨rfl, rfl⟩, rfl, alX9_bounded⟩
theorem mkX9_wrong : iy_mok iy_mi 255 (iy_P 255) := Or.inr ⟨RX9, _, _, cX9_wrong, (none, []), pcX9_wrong, plainFor_of_name pn_X9, rfl, Or.inl ⟨rfl, rfl⟩, rfl, alX9_wrong⟩
theorem mkX9_must : iy_mok iy_mi 256 (iy_P 256) := Or.inr ⟨RX9, _, _, cX9_must, (none, []), pcX9_must, plainFor_of_name pn_X9, rfl, Or.inl ⟨rfl, rfl⟩, rfl, alX9_must⟩
theorem mkX9_tellOne : iy_mok iy_mi 257 (iy_P 257) := Or.inr ⟨RX9, _, _, cX9_tellOne, (none, []), pcX9_tellOne, plainFor_of_name pn_X9, rfl, Or.inl ⟨rfl, rfl⟩, rfl, alX9_tellOne⟩
theorem mkX9_handTold : iy_mok iy_mi 258 (iy_P 258) := Or.inr ⟨RX9, _, _, cX9_handTold, (some FieldType.int, []), pcX9_handTold, plainFor_of_name pn_X9, rfl, Or.inl ⟨rfl, rfl⟩, rfl, alX9_handTold⟩
theorem mkX9_actTold : iy_mok iy_mi 259 (iy_P 259) := Or.inr ⟨RX9, _, _, cX9_actTold, (none, []), pcX9_actTold, plainFor_of_name pn_X9, rfl, Or.inl ⟨rfl, rfl⟩, rfl, alX9_actTold⟩
theorem mkX9_termsTold : iy_mok iy_mi 260 (iy_P 260) := Or.inr ⟨RX9, _, _, cX9_termsTold, (none, []), pcX9_termsTold, plainFor_of_name pn_X9, rfl, Or.inl ⟨rfl, rfl⟩, rfl, alX9_termsTold⟩
theorem mkX9_expression : iy_mok iy_mi 261 (iy_P 261) := Or.inr ⟨RX9, _, _, cX9_expression, (none, []), pcX9_expression, plainFor_of_name pn_X9, rfl, Or.inl ⟨rfl, rfl⟩, rfl, alX9_expression⟩
theorem mkX9_unit : iy_mok iy_mi 262 (iy_P 262) := Or.inr ⟨RX9, _, _, cX9_unit, (none, []), pcX9_unit, plainFor_of_name pn_X9, rfl, Or.inl ⟨rfl, rfl⟩, rfl, alX9_unit⟩
theorem mkX9_emit : iy_mok iy_mi 263 (iy_P 263) := Or.inr ⟨RX9, _, _, cX9_emit, (none, []), pcX9_emit, plainFor_of_name pn_X9, rfl, Or.inl ⟨rfl, rfl⟩, rfl, alX9_emit⟩
theorem mkX9_comesOut : iy_mok iy_mi 264 (iy_P 264) := Or.inr ⟨RX9, _, _, cX9_comesOut, (none, []), pcX9_comesOut, plainFor_of_name pn_X9, rfl, Or.inl ⟨rfl, rfl⟩, rfl, alX9_comesOut⟩
theorem mkX9_runs : iy_mok iy_mi 265 (iy_P 265) := Or.inr ⟨RX9, _, _, cX9_runs, (none, []), pcX9_runs, plainFor_of_name pn_X9, rfl, Or.inl ⟨rfl, rfl⟩, rfl, alX9_runs⟩
theorem mkX9_actDone : iy_mok iy_mi 266 (iy_P 266) := Or.inr ⟨RX9, _, _, cX9_actDone, (some FieldType.int, []), pcX9_actDone, plainFor_of_name pn_X9, rfl, Or.inl ⟨rfl, rfl⟩, rfl, alX9_actDone⟩
theorem mkX9_fillsAll : iy_mok iy_mi 267 (iy_P 267) := Or.inr ⟨RX9, _, _, cX9_fillsAll, (none, []), pcX9_fillsAll, plainFor_of_name pn_X9, rfl, Or.inl ⟨rfl, rfl⟩, rfl, alX9_fillsAll⟩
theorem mkX9_fillsHas : iy_mok iy_mi 268 (iy_P 268) := Or.inr ⟨RX9, _, _, cX9_fillsHas, (none, []), pcX9_fillsHas, plainFor_of_name pn_X9, rfl, Or.inl ⟨rfl, rfl⟩, rfl, alX9_fillsHas⟩
theorem mkX9_fillsChain : iy_mok iy_mi 269 (iy_P 269) := Or.inr ⟨RX9, _, _, cX9_fillsChain, (none, []), pcX9_fillsChain, plainFor_of_name pn_X9, rfl, Or.inl ⟨rfl, rfl⟩, rfl, alX9_fillsChain⟩
theorem mkX9_topOf : iy_mok iy_mi 270 (iy_P 270) := Or.inr ⟨RX9, _, _, cX9_topOf, (some FieldType.int, []), pcX9_topOf, plainFor_of_name pn_X9, rfl, Or.inl ⟨rfl, rfl⟩, rfl, alX9_topOf⟩
theorem mkX9_applies : iy_mok iy_mi 271 (iy_P 271) := Or.inr ⟨RX9, _, _, cX9_applies, (none, []), pcX9_applies, plainFor_of_name pn_X9, rfl, Or.inl ⟨rfl, rfl⟩, rfl, alX9_applies⟩
theorem mkX9_takesIn : iy_mok iy_mi 272 (iy_P 272) := Or.inr ⟨RX9, _, _, cX9_takesIn, (none, []), pcX9_takesIn, plainFor_of_name pn_X9, rfl, Or.inl ⟨rfl, rfl⟩, rfl, alX9_takesIn⟩
theorem mkX9_baseAt : iy_mok iy_mi 273 (iy_P 273) := Or.inr ⟨RX9, _, _, cX9_baseAt, (some FieldType.int, []), pcX9_baseAt, plainFor_of_name pn_X9, rfl, Or.inl ⟨rfl, rfl⟩, rfl, alX9_baseAt⟩
theorem mkX9_setsIn : iy_mok iy_mi 274 (iy_P 274) := Or.inr ⟨RX9, _, _, cX9_setsIn, (none, []), pcX9_setsIn, plainFor_of_name pn_X9, rfl, Or.inl ⟨rfl, rfl⟩, rfl, alX9_setsIn⟩
theorem mkX9_whereOf : iy_mok iy_mi 275 (iy_P 275) := Or.inr ⟨RX9, _, _, cX9_whereOf, (some FieldType.int, []), pcX9_whereOf, plainFor_of_name pn_X9, rfl, Or.inl ⟨rfl, rfl⟩, rfl, alX9_whereOf⟩
theorem mkX9_isThere : iy_mok iy_mi 276 (iy_P 276) := Or.inr ⟨RX9, _, _, cX9_isThere, (some FieldType.boolean, []), pcX9_isThere, plainFor_of_name pn_X9, rfl, Or.inl ⟨rfl, rfl⟩, rfl, alX9_isThere⟩
theorem mkX9_takesOut : iy_mok iy_mi 277 (iy_P 277) := Or.inr ⟨RX9, _, _, cX9_takesOut, (none, []), pcX9_takesOut, plainFor_of_name pn_X9, rfl, Or.inl ⟨rfl, rfl⟩, rfl, alX9_takesOut⟩
theorem mkX9_termOf : iy_mok iy_mi 278 (iy_P 278) := Or.inr ⟨RX9, _, _, cX9_termOf, (some FieldType.int, []), pcX9_termOf, plainFor_of_name pn_X9, rfl, Or.inl ⟨rfl, rfl⟩, rfl, alX9_termOf⟩
theorem mkX9_keyOf : iy_mok iy_mi 279 (iy_P 279) := Or.inr ⟨RX9, _, _, cX9_keyOf, (some FieldType.int, []), pcX9_keyOf, plainFor_of_name pn_X9, rfl, Or.inl ⟨rfl, rfl⟩, rfl, alX9_keyOf⟩
theorem mkX9_starts : iy_mok iy_mi 280 (iy_P 280) := Or.inr ⟨RX9, _, _, cX9_starts, (some FieldType.boolean, []), pcX9_starts, plainFor_of_name pn_X9, rfl, Or.inl ⟨rfl, rfl⟩, rfl, alX9_starts⟩
theorem mkX9_closes : iy_mok iy_mi 281 (iy_P 281) := Or.inr ⟨RX9, _, _, cX9_closes, (some FieldType.int, []), pcX9_closes, plainFor_of_name pn_X9, rfl, Or.inl ⟨rfl, rfl⟩, rfl, alX9_closes⟩
theorem mkX9_steps : iy_mok iy_mi 282 (iy_P 282) := Or.inr ⟨RX9, _, _, cX9_steps, (none, []), pcX9_steps, plainFor_of_name pn_X9, rfl, Or.inl ⟨rfl, rfl⟩, rfl, alX9_steps⟩
theorem mkX9_finds : iy_mok iy_mi 283 (iy_P 283) := Or.inr ⟨RX9, _, _, cX9_finds, (none, []), pcX9_finds, plainFor_of_name pn_X9, rfl, Or.inl ⟨rfl, rfl⟩, rfl, alX9_finds⟩
theorem mkX9_fillsBounds : iy_mok iy_mi 284 (iy_P 284) := Or.inr ⟨RX9, _, _, cX9_fillsBounds, (none, []), pcX9_fillsBounds, plainFor_of_name pn_X9, rfl, Or.inl ⟨rfl, rfl⟩, rfl, alX9_fillsBounds⟩
theorem mkX9_stands : iy_mok iy_mi 285 (iy_P 285) := Or.inr ⟨RX9, _, _, cX9_stands, (none, []), pcX9_stands, plainFor_of_name pn_X9, rfl, Or.inl ⟨rfl, rfl⟩, rfl, alX9_stands⟩
theorem mkX9_reads : iy_mok iy_mi 286 (iy_P 286) := Or.inr ⟨RX9, _, _, cX9_reads, (none, []), pcX9_reads, plainFor_of_name pn_X9, rfl, Or.inl ⟨rfl, rfl⟩, rfl, alX9_reads⟩
theorem mkX9_isGone : iy_mok iy_mi 287 (iy_P 287) := Or.inr ⟨RX9, _, _, cX9_isGone, (some FieldType.boolean, []), pcX9_isGone, plainFor_of_name pn_X9, rfl, Or.inl ⟨rfl, rfl⟩, rfl, alX9_isGone⟩
theorem mkX9_leaves : iy_mok iy_mi 288 (iy_P 288) := Or.inr ⟨RX9, _, _, cX9_leaves, (none, []), pcX9_leaves, plainFor_of_name pn_X9, rfl, Or.inl ⟨rfl, rfl⟩, rfl, alX9_leaves⟩
theorem mkX9_pageBy : iy_mok iy_mi 289 (iy_P 289) := Or.inr ⟨RX9, _, _, cX9_pageBy, (some FieldType.int, []), pcX9_pageBy, plainFor_of_name pn_X9, rfl, Or.inl ⟨rfl, rfl⟩, rfl, alX9_pageBy⟩
theorem mkX9_notes : iy_mok iy_mi 290 (iy_P 290) := Or.inr ⟨RX9, _, _, cX9_notes, (none, []), pcX9_notes, plainFor_of_name pn_X9, rfl, Or.inl ⟨rfl, rfl⟩, rfl, alX9_notes⟩
theorem mkX9_rests : iy_mok iy_mi 291 (iy_P 291) := Or.inr ⟨RX9, _, _, cX9_rests, (none, []), pcX9_rests, plainFor_of_name pn_X9, rfl, Or.inl ⟨rfl, rfl⟩, rfl, alX9_rests⟩
theorem mkX9_isFull : iy_mok iy_mi 292 (iy_P 292) := Or.inr ⟨RX9, _, _, cX9_isFull, (some FieldType.boolean, []), pcX9_isFull, plainFor_of_name pn_X9, rfl, Or.inl ⟨rfl, rfl⟩, rfl, alX9_isFull⟩
theorem mkX9_sees : iy_mok iy_mi 293 (iy_P 293) := Or.inr ⟨RX9, _, _, cX9_sees, (none, []), pcX9_sees, plainFor_of_name pn_X9, rfl, Or.inl ⟨rfl, rfl⟩, rfl, alX9_sees⟩
theorem mkX9_prepends : iy_mok iy_mi 294 (iy_P 294) := Or.inr ⟨RX9, _, _, cX9_prepends, (none, []), pcX9_prepends, plainFor_of_name pn_X9, rfl, Or.inl ⟨rfl, rfl⟩, rfl, alX9_prepends⟩
theorem mkX9_isSeen : iy_mok iy_mi 295 (iy_P 295) := Or.inr ⟨RX9, _, _, cX9_isSeen, (some FieldType.boolean, []), pcX9_isSeen, plainFor_of_name pn_X9, rfl, Or.inl ⟨rfl, rfl⟩, rfl, alX9_isSeen⟩
theorem mkX9_loses : iy_mok iy_mi 296 (iy_P 296) := Or.inr ⟨RX9, _, _, cX9_loses, (none, []), pcX9_loses, plainFor_of_name pn_X9, rfl, Or.inl ⟨rfl, rfl⟩, rfl, alX9_loses⟩
theorem mkX9_laysTop : iy_mok iy_mi 297 (iy_P 297) := Or.inr ⟨RX9, _, _, cX9_laysTop, (none, []), pcX9_laysTop, plainFor_of_name pn_X9, rfl, Or.inl ⟨rfl, rfl⟩, rfl, alX9_laysTop⟩
theorem mkX9_lengthOf : iy_mok iy_mi 298 (iy_P 298) := Or.inr ⟨RX9, _, _, cX9_lengthOf, (some FieldType.int, []), pcX9_lengthOf, plainFor_of_name pn_X9, rfl, Or.inl ⟨rfl, rfl⟩, rfl, alX9_lengthOf⟩
theorem mkX9_gathers : iy_mok iy_mi 299 (iy_P 299) := Or.inr ⟨RX9, _, _, cX9_gathers, (none, []), pcX9_gathers, plainFor_of_name pn_X9, rfl, Or.inl ⟨rfl, rfl⟩, rfl, alX9_gathers⟩
theorem mkX9_goOn : iy_mok iy_mi 300 (iy_P 300) := Or.inr ⟨RX9, _, _, cX9_goOn, (none, []), pcX9_goOn, plainFor_of_name pn_X9, rfl, Or.inl ⟨rfl, rfl⟩, rfl, alX9_goOn⟩
theorem mkX9_swaps : iy_mok iy_mi 301 (iy_P 301) := Or.inr ⟨RX9, _, _, cX9_swaps, (none, []), pcX9_swaps, plainFor_of_name pn_X9, rfl, Or.inl ⟨rfl, rfl⟩, rfl, alX9_swaps⟩
theorem mkX9_retires : iy_mok iy_mi 302 (iy_P 302) := Or.inr ⟨RX9, _, _, cX9_retires, (none, []), pcX9_retires, plainFor_of_name pn_X9, rfl, Or.inl ⟨rfl, rfl⟩, rfl, alX9_retires⟩
theorem mkX9_splits : iy_mok iy_mi 303 (iy_P 303) := Or.inr ⟨RX9, _, _, cX9_splits, (none, []), pcX9_splits, plainFor_of_name pn_X9, rfl, Or.inl ⟨rfl, rfl⟩, rfl, alX9_splits⟩
theorem mkX9_looksUp : iy_mok iy_mi 304 (iy_P 304) := Or.inr ⟨RX9, _, _, cX9_looksUp, (none, []), pcX9_looksUp, plainFor_of_name pn_X9, rfl, Or.inl ⟨rfl, rfl⟩, rfl, alX9_looksUp⟩
theorem mkX9_enters : iy_mok iy_mi 305 (iy_P 305) := Or.inr ⟨RX9, _, _, cX9_enters, (none, []), pcX9_enters, plainFor_of_name pn_X9, rfl, Or.inl ⟨rfl, rfl⟩, rfl, alX9_enters⟩
theorem mkX9_changes : iy_mok iy_mi 306 (iy_P 306) := Or.inr ⟨RX9, _, _, cX9_changes, (none, []), pcX9_changes, plainFor_of_name pn_X9, rfl, Or.inl ⟨rfl, rfl⟩, rfl, alX9_changes⟩
theorem mkX9_removes : iy_mok iy_mi 307 (iy_P 307) := Or.inr ⟨RX9, _, _, cX9_removes, (none, []), pcX9_removes, plainFor_of_name pn_X9, rfl, Or.inl ⟨rfl, rfl⟩, rfl, alX9_removes⟩
theorem mkX9_boundOf : iy_mok iy_mi 308 (iy_P 308) := Or.inr ⟨RX9, _, _, cX9_boundOf, (some FieldType.int, []), pcX9_boundOf, plainFor_of_name pn_X9, rfl, Or.inl ⟨rfl, rfl⟩, rfl, alX9_boundOf⟩
theorem mkX9_goesLeft : iy_mok iy_mi 309 (iy_P 309) := Or.inr ⟨RX9, _, _, cX9_goesLeft, (none, []), pcX9_goesLeft, plainFor_of_name pn_X9, rfl, Or.inl ⟨rfl, rfl⟩, rfl, alX9_goesLeft⟩
theorem mkX9_merges : iy_mok iy_mi 310 (iy_P 310) := Or.inr ⟨RX9, _, _, cX9_merges, (none, []), pcX9_merges, plainFor_of_name pn_X9, rfl, Or.inl ⟨rfl, rfl⟩, rfl, alX9_merges⟩
theorem mkX9_baseOf : iy_mok iy_mi 311 (iy_P 311) := Or.inr ⟨RX9, _, _, cX9_baseOf, (some FieldType.int, []), pcX9_baseOf, plainFor_of_name pn_X9, rfl, Or.inl ⟨rfl, rfl⟩, rfl, alX9_baseOf⟩
theorem mkX9_looksOn : iy_mok iy_mi 312 (iy_P 312) := Or.inr ⟨RX9, _, _, cX9_looksOn, (none, []), pcX9_looksOn, plainFor_of_name pn_X9, rfl, Or.inl ⟨rfl, rfl⟩, rfl, alX9_looksOn⟩
theorem mkX9_strikes : iy_mok iy_mi 313 (iy_P 313) := Or.inr ⟨RX9, _, _, cX9_strikes, (none, []), pcX9_strikes, plainFor_of_name pn_X9, rfl, Or.inl ⟨rfl, rfl⟩, rfl, alX9_strikes⟩
theorem mkX9_sweeps : iy_mok iy_mi 314 (iy_P 314) := Or.inr ⟨RX9, _, _, cX9_sweeps, (some FieldType.int, []), pcX9_sweeps, plainFor_of_name pn_X9, rfl, Or.inl ⟨rfl, rfl⟩, rfl, alX9_sweeps⟩
theorem mkX9_place : iy_mok iy_mi 315 (iy_P 315) := Or.inr ⟨RX9, _, _, cX9_place, (some FieldType.int, []), pcX9_place, plainFor_of_name pn_X9, rfl, Or.inl ⟨rfl, rfl⟩, rfl, alX9_place⟩
theorem mkX9_begin : iy_mok iy_mi 316 (iy_P 316) := Or.inr ⟨RX9, _, _, cX9_begin, (some FieldType.boolean, []), pcX9_begin, plainFor_of_name pn_X9, rfl, Or.inl ⟨rfl, rfl⟩, rfl, alX9_begin⟩
theorem mkX9_isHand : iy_mok iy_mi 317 (iy_P 317) := Or.inr ⟨RX9, _, _, cX9_isHand, (some FieldType.boolean, []), pcX9_isHand, plainFor_of_name pn_X9, rfl, Or.inl ⟨rfl, rfl⟩, rfl, alX9_isHand⟩
theorem mkX9_in : iy_mok iy_mi 318 (iy_P 318) := Or.inr ⟨RX9, _, _, cX9_in, (some FieldType.boolean, []), pcX9_in, plainFor_of_name pn_X9, rfl, Or.inl ⟨rfl, rfl⟩, rfl, alX9_in⟩
theorem mkX9_isKey : iy_mok iy_mi 319 (iy_P 319) := Or.inr ⟨RX9, _, _, cX9_isKey, (some FieldType.boolean, []), pcX9_isKey, plainFor_of_name pn_X9, rfl, Or.inl ⟨rfl, rfl⟩, rfl, alX9_isKey⟩
theorem mkX9_step : iy_mok iy_mi 320 (iy_P 320) := Or.inr ⟨RX9, _, _, cX9_step, (some FieldType.int, []), pcX9_step, plainFor_of_name pn_X9, rfl, Or.inl ⟨rfl, rfl⟩, rfl, alX9_step⟩
theorem mkX9_close : iy_mok iy_mi 321 (iy_P 321) := Or.inr ⟨RX9, _, _, cX9_close, (some FieldType.int, []), pcX9_close, plainFor_of_name pn_X9, rfl, Or.inl ⟨rfl, rfl⟩, rfl, alX9_close⟩
theorem mkX9_sweep : iy_mok iy_mi 322 (iy_P 322) := Or.inr ⟨RX9, _, _, cX9_sweep, (some FieldType.int, []), pcX9_sweep, plainFor_of_name pn_X9, rfl, Or.inl ⟨rfl, rfl⟩, rfl, alX9_sweep⟩
theorem mkX9_has : iy_mok iy_mi 323 (iy_P 323) := Or.inr ⟨RX9, _, _, cX9_has, (some FieldType.int, []), pcX9_has, plainFor_of_name pn_X9, rfl, Or.inl ⟨rfl, rfl⟩, rfl, alX9_has⟩
theorem mkX9_allAt : iy_mok iy_mi 324 (iy_P 324) := Or.inr ⟨RX9, _, _, cX9_allAt, (some FieldType.int, []), pcX9_allAt, plainFor_of_name pn_X9, rfl, Or.inl ⟨rfl, rfl⟩, rfl, alX9_allAt⟩
theorem mkX9_value : iy_mok iy_mi 325 (iy_P 325) := Or.inr ⟨RX9, _, _, cX9_value, (some FieldType.int, []), pcX9_value, plainFor_of_name pn_X9, rfl, Or.inl ⟨rfl, rfl⟩, rfl, alX9_value⟩
theorem mkX9_many : iy_mok iy_mi 326 (iy_P 326) := Or.inr ⟨RX9, _, _, cX9_many, (some FieldType.int, []), pcX9_many, plainFor_of_name pn_X9, rfl, Or.inl ⟨rfl, rfl⟩, rfl, alX9_many⟩
theorem mkX9_sum : iy_mok iy_mi 327 (iy_P 327) := Or.inr ⟨RX9, _, _, cX9_sum, (some FieldType.int, []), pcX9_sum, plainFor_of_name pn_X9, rfl, Or.inl ⟨rfl, rfl⟩, rfl, alX9_sum⟩
theorem mkX9_nth : iy_mok iy_mi 328 (iy_P 328) := Or.inr ⟨RX9, _, _, cX9_nth, (some FieldType.int, []), pcX9_nth, plainFor_of_name pn_X9, rfl, Or.inl ⟨rfl, rfl⟩, rfl, alX9_nth⟩
theorem mkX9_page : iy_mok iy_mi 329 (iy_P 329) := Or.inr ⟨RX9, _, _, cX9_page, (some FieldType.int, []), pcX9_page, plainFor_of_name pn_X9, rfl, Or.inl ⟨rfl, rfl⟩, rfl, alX9_page⟩
theorem mkX9_bound : iy_mok iy_mi 330 (iy_P 330) := Or.inr ⟨RX9, _, _, cX9_bound, (some FieldType.int, []), pcX9_bound, plainFor_of_name pn_X9, rfl, Or.inl ⟨rfl, rfl⟩, rfl, alX9_bound⟩
theorem mkX9_record : iy_mok iy_mi 331 (iy_P 331) := Or.inr ⟨RX9, _, _, cX9_record, (some FieldType.int, []), pcX9_record, plainFor_of_name pn_X9, rfl, Or.inl ⟨rfl, rfl⟩, rfl, alX9_record⟩
theorem mkX9_isRecord : iy_mok iy_mi 332 (iy_P 332) := Or.inr ⟨RX9, _, _, cX9_isRecord, (some FieldType.boolean, []), pcX9_isRecord, plainFor_of_name pn_X9, rfl, Or.inl ⟨rfl, rfl⟩, rfl, alX9_isRecord⟩
theorem mkX9_base : iy_mok iy_mi 333 (iy_P 333) := Or.inr ⟨RX9, _, _, cX9_base, (some FieldType.int, []), pcX9_base, plainFor_of_name pn_X9, rfl, Or.inl ⟨rfl, rfl⟩, rfl, alX9_base⟩
theorem mkX9_hand : iy_mok iy_mi 334 (iy_P 334) := Or.inr ⟨RX9, _, _, cX9_hand, (some FieldType.int, []), pcX9_hand, plainFor_of_name pn_X9, rfl, Or.inl ⟨rfl, rfl⟩, rfl, alX9_hand⟩
theorem mkX9_result : iy_mok iy_mi 335 (iy_P 335) := Or.inr ⟨RX9, _, _, cX9_result, (some FieldType.int, []), pcX9_result, plainFor_of_name pn_X9, rfl, Or.inl ⟨rfl, rfl⟩, rfl, alX9_result⟩
theorem mkX9_halves : iy_mok iy_mi 336 (iy_P 336) := Or.inr ⟨RX9, _, _, cX9_halves, (some FieldType.int, []), pcX9_halves, plainFor_of_name pn_X9, rfl, Or.inl ⟨rfl, rfl⟩, rfl, alX9_halves⟩
theorem mkX9_halfSplits : iy_mok iy_mi 337 (iy_P 337) := Or.inr ⟨RX9, _, _, cX9_halfSplits, (some FieldType.int, []), pcX9_halfSplits, plainFor_of_name pn_X9, rfl, Or.inl ⟨rfl, rfl⟩, rfl, alX9_halfSplits⟩
theorem mkX9_halfGone : iy_mok iy_mi 338 (iy_P 338) := Or.inr ⟨RX9, _, _, cX9_halfGone, (some FieldType.int, []), pcX9_halfGone, plainFor_of_name pn_X9, rfl, Or.inl ⟨rfl, rfl⟩, rfl, alX9_halfGone⟩
theorem mkX9_replay : iy_mok iy_mi 339 (iy_P 339) := Or.inr ⟨RX9, _, _, cX9_replay, (some FieldType.int, []), pcX9_replay, plainFor_of_name pn_X9, rfl, Or.inl ⟨rfl, rfl⟩, rfl, alX9_replay⟩
theorem mkX9_keeps : iy_mok iy_mi 340 (iy_P 340) := Or.inr ⟨RX9, _, _, cX9_keeps, (none, []), pcX9_keeps, plainFor_of_name pn_X9, rfl, Or.inl ⟨rfl, rfl⟩, rfl, alX9_keeps⟩
theorem mkX9_rowDone : iy_mok iy_mi 341 (iy_P 341) := Or.inr ⟨RX9, _, _, cX9_rowDone, (none, []), pcX9_rowDone, plainFor_of_name pn_X9, rfl, Or.inl ⟨rfl, rfl⟩, rfl, alX9_rowDone⟩
theorem mkX9_keepsFirst : iy_mok iy_mi 342 (iy_P 342) := Or.inr ⟨RX9, _, _, cX9_keepsFirst, (none, []), pcX9_keepsFirst, plainFor_of_name pn_X9, rfl, Or.inl ⟨rfl, rfl⟩, rfl, alX9_keepsFirst⟩
theorem mkX9_isAsFirst : iy_mok iy_mi 343 (iy_P 343) := Or.inr ⟨RX9, _, _, cX9_isAsFirst, (some FieldType.boolean, []), pcX9_isAsFirst, plainFor_of_name pn_X9, rfl, Or.inl ⟨rfl, rfl⟩, rfl, alX9_isAsFirst⟩
theorem mkX9_givesBack : iy_mok iy_mi 344 (iy_P 344) := Or.inr ⟨RX9, _, _, cX9_givesBack, (none, []), pcX9_givesBack, plainFor_of_name pn_X9, rfl, Or.inl ⟨rfl, rfl⟩, rfl, alX9_givesBack⟩
theorem mkX9_hold : iy_mok iy_mi 345 (iy_P 345) := Or.inr ⟨RX9, _, _, cX9_hold, (some FieldType.boolean, []), pcX9_hold, plainFor_of_name pn_X9, rfl, Or.inl ⟨rfl, rfl⟩, rfl, alX9_hold⟩
theorem mkX9_restore : iy_mok iy_mi 346 (iy_P 346) := Or.inr ⟨RX9, _, _, cX9_restore, (some FieldType.boolean, []), pcX9_restore, plainFor_of_name pn_X9, rfl, Or.inl ⟨rfl, rfl⟩, rfl, alX9_restore⟩
theorem mkX9_count : iy_mok iy_mi 347 (iy_P 347) := Or.inr ⟨RX9, _, _, cX9_count, (some FieldType.int, []), pcX9_count, plainFor_of_name pn_X9, rfl, Or.inl ⟨rfl, rfl⟩, rfl, alX9_count⟩
theorem mkX9_sumOf : iy_mok iy_mi 348 (iy_P 348) := Or.inr ⟨RX9, _, _, cX9_sumOf, (some FieldType.int, []), pcX9_sumOf, plainFor_of_name pn_X9, rfl, Or.inl ⟨rfl, rfl⟩, rfl, alX9_sumOf⟩
theorem mk_s {n : Nat} (h : ∀ y, y < n → iy_mok iy_mi y (iy_P y)) (h1 : iy_mok iy_mi n (iy_P n)) : ∀ y, y < n + 1 → iy_mok iy_mi y (iy_P y) := fun y hy => (Nat.lt_succ_iff_lt_or_eq.mp hy).elim (h y) (fun e => by rw [e]; exact h1)
theorem mk_u0 : ∀ y, y < 40 → iy_mok iy_mi y (iy_P y) := mk_s (mk_s (mk_s (mk_s (mk_s (mk_s (mk_s (mk_s (mk_s (mk_s (mk_s (mk_s (mk_s (mk_s (mk_s (mk_s (mk_s (mk_s (mk_s (mk_s (mk_s (mk_s (mk_s (mk_s (mk_s (mk_s (mk_s (mk_s (mk_s (mk_s (mk_s (mk_s (mk_s (mk_s (mk_s (mk_s (mk_s (mk_s (mk_s (mk_s ((fun _ h => absurd h (Nat.not_lt_zero _))) (mkJ0_init)) (mkJ0_init_2)) (mkJ1_init)) (mkJ10_init)) (mkJ10_append)) (mkJ10_ensureCapacityInternal)) (mkJ10_newCapacity)) (mkJ10_isLatin1)) (mkJ10_inflate)) (mkJ10_getValue)) (mkJ10_length)) (mkJ11_init)) (mkJ11_append)) (mkJ11_toString)) (mkJ11_length)) (mkJ12_newLength)) (mkJ12_hugeLength)) (mkJ12_vectorizedHashCode)) (mkJ12_signedHashCode)) (mkJ12_utf16hashCode)) (mkJ12_hashCode)) (mkJ12_hashCode_2)) (mkJ12_hashCode_3)) (mkJ12_hashCode_4)) (mkJ13_max)) (mkJ13_min)) (mkJ13_floorMod)) (mkJ14_copyOf)) (mkJ14_copyOfRange)) (mkJ14_copyOfRangeByte)) (mkJ14_checkLength)) (mkJ14_copyOf_2)) (mkJ14_copyOf_3)) (mkJ15_checkIndex)) (Or.inl rfl)) (mkJ17_getUTF16Char)) (mkJ2_init)) (mkJ3_init)) (mkJ4_init)) (mkJ5_init)
theorem mk_u1 : ∀ y, y < 80 → iy_mok iy_mi y (iy_P y) := mk_s (mk_s (mk_s (mk_s (mk_s (mk_s (mk_s (mk_s (mk_s (mk_s (mk_s (mk_s (mk_s (mk_s (mk_s (mk_s (mk_s (mk_s (mk_s (mk_s (mk_s (mk_s (mk_s (mk_s (mk_s (mk_s (mk_s (mk_s (mk_s (mk_s (mk_s (mk_s (mk_s (mk_s (mk_s (mk_s (mk_s (mk_s (mk_s (mk_s (mk_u0) (mkJ5_add)) (mkJ5_add_2)) (mkJ5_grow)) (mkJ5_grow_2)) (mkJ5_size)) (mkJ5_get)) (mkJ5_elementData)) (mkJ6_length)) (mkJ6_coder)) (mkJ6_charAt)) (mkJ6_isLatin1)) (mkJ6_checkIndex)) (mkJ6_checkBoundsOffCount)) (mkJ6_init)) (mkJ6_init_2)) (mkJ6_equals)) (mkJ6_hashCode)) (mkJ7_charAt)) (mkJ7_canEncode)) (mkJ7_inflate)) (mkJ7_equals)) (mkJ7_hashCode)) (mkJ8_checkIndex)) (mkJ8_checkFromIndexSize)) (mkJ9_charAt)) (mkJ9_checkIndex)) (mkJ9_length)) (mkJ9_getChar)) (mkJ9_newBytesFor)) (mkJ9_newBytesLength)) (mkJ9_inflate)) (mkJ9_checkBoundsOffCount)) (mkJ9_putChar)) (mkJ9_putCharSB)) (mkJ9_compress)) (mkJ9_compress_2)) (mkJ9_coderFromArrayLen)) (mkJ9_hashCode)) (Or.inl rfl)) (mkX0_init)
theorem mk_u2 : ∀ y, y < 120 → iy_mok iy_mi y (iy_P y) := mk_s (mk_s (mk_s (mk_s (mk_s (mk_s (mk_s (mk_s (mk_s (mk_s (mk_s (mk_s (mk_s (mk_s (mk_s (mk_s (mk_s (mk_s (mk_s (mk_s (mk_s (mk_s (mk_s (mk_s (mk_s (mk_s (mk_s (mk_s (mk_s (mk_s (mk_s (mk_s (mk_s (mk_s (mk_s (mk_s (mk_s (mk_s (mk_s (mk_s (mk_u1) (mkX0_feed)) (mkX0_typed)) (mkX0_back)) (mkX0_read)) (mkX0_goesThrough)) (mkX0_place)) (mkX0_begin)) (mkX0_isHand)) (mkX0_isIn)) (mkX0_isKey)) (mkX0_step)) (mkX0_close)) (mkX0_sweep)) (mkX0_has)) (mkX0_placeOf)) (mkX0_value)) (mkX0_many)) (mkX0_sum)) (mkX0_nth)) (mkX0_page)) (mkX0_isPage)) (mkX0_bound)) (mkX0_record)) (mkX0_isRecord)) (mkX0_base)) (mkX0_hand)) (mkX0_result)) (mkX0_halves)) (mkX0_replay)) (mkX0_replays)) (mkX0_isAsFirst)) (mkX0_lostIn)) (mkX0_hold)) (mkX0_restore)) (mkX0_count)) (mkX0_retired)) (mkX0_busy)) (mkX1_init)) (mkX1_of)) (mkX10_act)
theorem mk_u3 : ∀ y, y < 160 → iy_mok iy_mi y (iy_P y) := mk_s (mk_s (mk_s (mk_s (mk_s (mk_s (mk_s (mk_s (mk_s (mk_s (mk_s (mk_s (mk_s (mk_s (mk_s (mk_s (mk_s (mk_s (mk_s (mk_s (mk_s (mk_s (mk_s (mk_s (mk_s (mk_s (mk_s (mk_s (mk_s (mk_s (mk_s (mk_s (mk_s (mk_s (mk_s (mk_s (mk_s (mk_s (mk_s (mk_s (mk_u2) (mkX10_counts)) (mkX10_keyOf)) (mkX11_init)) (mkX12_init)) (mkX12_of)) (mkX13_init)) (mkX13_of)) (mkX14_init)) (mkX14_of)) (mkX15_init)) (mkX15_does)) (mkX16_init)) (mkX16_does)) (mkX17_init)) (mkX17_does)) (mkX18_init)) (mkX18_isOver)) (mkX18_round)) (mkX2_init)) (mkX2_read)) (mkX2_isLetter)) (mkX2_at)) (mkX2_word)) (mkX2_isDigit)) (mkX2_sign)) (mkX2_add)) (mkX2_text)) (mkX2_number)) (mkX3_init)) (mkX3_read)) (mkX3_setting)) (mkX3_isTold)) (mkX3_sort)) (mkX3_wrong)) (mkX3_wrongAt)) (mkX3_pass)) (mkX3_number)) (mkX3_take)) (mkX3_tell)) (mkX3_sign)
theorem mk_u4 : ∀ y, y < 200 → iy_mok iy_mi y (iy_P y) := mk_s (mk_s (mk_s (mk_s (mk_s (mk_s (mk_s (mk_s (mk_s (mk_s (mk_s (mk_s (mk_s (mk_s (mk_s (mk_s (mk_s (mk_s (mk_s (mk_s (mk_s (mk_s (mk_s (mk_s (mk_s (mk_s (mk_s (mk_s (mk_s (mk_s (mk_s (mk_s (mk_s (mk_s (mk_s (mk_s (mk_s (mk_s (mk_s (mk_s (mk_u3) (mkX3_isSign)) (mkX3_told)) (mkX3_act)) (mkX3_sum)) (mkX3_part)) (mkX3_unit)) (mkX3_begin)) (mkX3_get)) (mkX3_go)) (mkX3_sweep)) (mkX3_rounds)) (mkX4_init)) (mkX4_begins)) (mkX4_makes)) (mkX4_keys)) (mkX4_lays)) (mkX4_baseOf)) (mkX4_lostOfAll)) (mkX4_takesUp)) (mkX4_closes)) (mkX4_steps)) (mkX4_finds)) (mkX4_bounds)) (mkX4_reads)) (mkX4_isGone)) (mkX4_isNoted)) (mkX4_noting)) (mkX4_length)) (mkX4_prepends)) (mkX4_gathers)) (mkX4_swaps)) (mkX4_retires)) (mkX4_splits)) (mkX4_notes)) (mkX4_enters)) (mkX4_noted)) (mkX4_removes)) (mkX4_boundOf)) (mkX4_looksLeft)) (mkX4_joins)
theorem mk_u5 : ∀ y, y < 240 → iy_mok iy_mi y (iy_P y) := mk_s (mk_s (mk_s (mk_s (mk_s (mk_s (mk_s (mk_s (mk_s (mk_s (mk_s (mk_s (mk_s (mk_s (mk_s (mk_s (mk_s (mk_s (mk_s (mk_s (mk_s (mk_s (mk_s (mk_s (mk_s (mk_s (mk_s (mk_s (mk_s (mk_s (mk_s (mk_s (mk_s (mk_s (mk_s (mk_s (mk_s (mk_s (mk_s (mk_s (mk_u4) (mkX4_looks)) (mkX4_strikes)) (mkX4_sweeps)) (mkX4_all)) (mkX4_splitsLeft)) (mkX4_goneLeft)) (mkX4_becomes)) (mkX5_init)) (mkX5_begins)) (mkX5_sets)) (mkX5_at)) (mkX5_takes)) (mkX5_changes)) (mkX5_drops)) (mkX5_ends)) (mkX5_joins)) (mkX5_upTo)) (mkX5_becomes)) (mkX6_init)) (mkX6_begins)) (mkX6_tells)) (mkX6_rests)) (mkX6_lost)) (mkX6_goesOn)) (mkX6_becomes)) (mkX7_init)) (mkX8_init)) (mkX8_all)) (mkX8_counts)) (mkX8_does)) (mkX9_init)) (mkX9_letters)) (mkX9_appends)) (mkX9_begins)) (mkX9_hand0)) (mkX9_newBase)) (mkX9_newRecord)) (mkX9_record0)) (mkX9_adds)) (mkX9_ofRecord)
theorem mk_u6 : ∀ y, y < 280 → iy_mok iy_mi y (iy_P y) := mk_s (mk_s (mk_s (mk_s (mk_s (mk_s (mk_s (mk_s (mk_s (mk_s (mk_s (mk_s (mk_s (mk_s (mk_s (mk_s (mk_s (mk_s (mk_s (mk_s (mk_s (mk_s (mk_s (mk_s (mk_s (mk_s (mk_s (mk_s (mk_s (mk_s (mk_s (mk_s (mk_s (mk_s (mk_s (mk_s (mk_s (mk_s (mk_s (mk_s (mk_u5) (mkX9_feed)) (mkX9_lays)) (mkX9_back)) (mkX9_read)) (mkX9_cutsUp)) (mkX9_byteAt)) (mkX9_token)) (mkX9_isLetter)) (mkX9_isDigit)) (mkX9_sign)) (mkX9_toldOr)) (mkX9_is)) (mkX9_goesOn)) (mkX9_fail)) (mkX9_bounded)) (mkX9_wrong)) (mkX9_must)) (mkX9_tellOne)) (mkX9_handTold)) (mkX9_actTold)) (mkX9_termsTold)) (mkX9_expression)) (mkX9_unit)) (mkX9_emit)) (mkX9_comesOut)) (mkX9_runs)) (mkX9_actDone)) (mkX9_fillsAll)) (mkX9_fillsHas)) (mkX9_fillsChain)) (mkX9_topOf)) (mkX9_applies)) (mkX9_takesIn)) (mkX9_baseAt)) (mkX9_setsIn)) (mkX9_whereOf)) (mkX9_isThere)) (mkX9_takesOut)) (mkX9_termOf)) (mkX9_keyOf)
theorem mk_u7 : ∀ y, y < 320 → iy_mok iy_mi y (iy_P y) := mk_s (mk_s (mk_s (mk_s (mk_s (mk_s (mk_s (mk_s (mk_s (mk_s (mk_s (mk_s (mk_s (mk_s (mk_s (mk_s (mk_s (mk_s (mk_s (mk_s (mk_s (mk_s (mk_s (mk_s (mk_s (mk_s (mk_s (mk_s (mk_s (mk_s (mk_s (mk_s (mk_s (mk_s (mk_s (mk_s (mk_s (mk_s (mk_s (mk_s (mk_u6) (mkX9_starts)) (mkX9_closes)) (mkX9_steps)) (mkX9_finds)) (mkX9_fillsBounds)) (mkX9_stands)) (mkX9_reads)) (mkX9_isGone)) (mkX9_leaves)) (mkX9_pageBy)) (mkX9_notes)) (mkX9_rests)) (mkX9_isFull)) (mkX9_sees)) (mkX9_prepends)) (mkX9_isSeen)) (mkX9_loses)) (mkX9_laysTop)) (mkX9_lengthOf)) (mkX9_gathers)) (mkX9_goOn)) (mkX9_swaps)) (mkX9_retires)) (mkX9_splits)) (mkX9_looksUp)) (mkX9_enters)) (mkX9_changes)) (mkX9_removes)) (mkX9_boundOf)) (mkX9_goesLeft)) (mkX9_merges)) (mkX9_baseOf)) (mkX9_looksOn)) (mkX9_strikes)) (mkX9_sweeps)) (mkX9_place)) (mkX9_begin)) (mkX9_isHand)) (mkX9_in)) (mkX9_isKey)
theorem mk_u8 : ∀ y, y < 349 → iy_mok iy_mi y (iy_P y) := mk_s (mk_s (mk_s (mk_s (mk_s (mk_s (mk_s (mk_s (mk_s (mk_s (mk_s (mk_s (mk_s (mk_s (mk_s (mk_s (mk_s (mk_s (mk_s (mk_s (mk_s (mk_s (mk_s (mk_s (mk_s (mk_s (mk_s (mk_s (mk_s (mk_u7) (mkX9_step)) (mkX9_close)) (mkX9_sweep)) (mkX9_has)) (mkX9_allAt)) (mkX9_value)) (mkX9_many)) (mkX9_sum)) (mkX9_nth)) (mkX9_page)) (mkX9_bound)) (mkX9_record)) (mkX9_isRecord)) (mkX9_base)) (mkX9_hand)) (mkX9_result)) (mkX9_halves)) (mkX9_halfSplits)) (mkX9_halfGone)) (mkX9_replay)) (mkX9_keeps)) (mkX9_rowDone)) (mkX9_keepsFirst)) (mkX9_isAsFirst)) (mkX9_givesBack)) (mkX9_hold)) (mkX9_restore)) (mkX9_count)) (mkX9_sumOf)
theorem iy_ok_P : ∀ y, iy_mok iy_mi y (iy_P y) := by
  intro y
  by_cases h : y < 349
  · exact mk_u8 y h
  · refine Or.inl ?_
    have hb : Nat.ble 349 y = true := Nat.ble_eq.mpr (by omega)
    unfold iy_P
    rw [hb]
    rfl
/-- a run of the interpreter is a run of the machine -/
theorem iy_prog (N d : Nat) : (∀ y as h r, ix_run iy_P N d y as h = some r → ix_M h r) ∧ ∀ (l : Launch) (G : iy_G) (B0 : Nat) y as h res h2, ix_run iy_P N d y as h = some (res, h2) → iy_met l G B0 d (iy_mi y).1 (iy_mi y).2 as h res h2 := iy_run iy_ok_P d
def ix_bd {α β : Type} (x : α) (f : α → β) : β := f x
