/-! SOUND STEPS. Written by gen_code.py -/
set_option maxRecDepth 100000
set_option maxHeartbeats 4000000 in
theorem alJ0_init : iy_all (iy_calls iy_mi) RJ0 "<init>" cJ0_init 1 (none, []) pcJ0_init pcJ0_init stJ0_init := by
  refine ⟨⟨mo_ald, ok_aldn dJ0_init_0 rfl rfl⟩, ?_⟩
  refine ⟨⟨mo_oin, ok_oin q212 q185 q186 dJ0_init_1 rfl⟩, ?_⟩
  refine ⟨⟨mo_ald, ok_aldn dJ0_init_4 rfl rfl⟩, ?_⟩
  refine ⟨⟨mo_ald, ok_aldn dJ0_init_5 rfl rfl⟩, ?_⟩
  refine ⟨⟨mo_pR, ok_pR rfl fd_J0_7 rfl (Or.inl rfl) dJ0_init_6 rfl⟩, ?_⟩
  refine ⟨⟨mo_ald, ok_aldn dJ0_init_9 rfl rfl⟩, ?_⟩
  refine ⟨⟨mo_cst, ok_gsR (C := "java/lang/Throwable") (List.mem_of_getElem? (i := 2) rfl) q213 rfl dJ0_init_10 rfl⟩, ?_⟩
  refine ⟨⟨mo_pR, ok_pR rfl fd_J0_17 rfl (Or.inl rfl) dJ0_init_13 rfl⟩, ?_⟩
  refine ⟨⟨mo_ald, ok_aldn dJ0_init_16 rfl rfl⟩, ?_⟩
  refine ⟨⟨mo_cst, ok_gsR (C := "java/lang/Throwable") (List.mem_of_getElem? (i := 3) rfl) q215 rfl dJ0_init_17 rfl⟩, ?_⟩
  refine ⟨⟨mo_pR, ok_pR rfl fd_J0_24 rfl (Or.inl rfl) dJ0_init_20 rfl⟩, ?_⟩
  refine ⟨⟨mo_ald, ok_aldn dJ0_init_23 rfl rfl⟩, ?_⟩
  refine ⟨⟨mo_no, ok_no⟩, ?_⟩
  refine ⟨⟨mo_pop, ok_pop dJ0_init_27 rfl⟩, ?_⟩
  refine ⟨⟨mo_ret, ok_ret rfl dJ0_init_28⟩, ?_⟩
  exact trivial
set_option maxHeartbeats 4000000 in
theorem alJ0_init_2 : iy_all (iy_calls iy_mi) RJ0 "<init>" cJ0_init_2 5 (none, []) pcJ0_init_2 pcJ0_init_2 stJ0_init_2 := by
  refine ⟨⟨mo_ald, ok_aldn dJ0_init_2_0 rfl rfl⟩, ?_⟩
  refine ⟨⟨mo_oin, ok_oin q212 q185 q186 dJ0_init_2_1 rfl⟩, ?_⟩
  refine ⟨⟨mo_ald, ok_aldn dJ0_init_2_4 rfl rfl⟩, ?_⟩
  refine ⟨⟨mo_ald, ok_aldn dJ0_init_2_5 rfl rfl⟩, ?_⟩
  refine ⟨⟨mo_pR, ok_pR rfl fd_J0_7 rfl (Or.inl rfl) dJ0_init_2_6 rfl⟩, ?_⟩
  refine ⟨⟨mo_ald, ok_aldn dJ0_init_2_9 rfl rfl⟩, ?_⟩
  refine ⟨⟨mo_cst, ok_gsR (C := "java/lang/Throwable") (List.mem_of_getElem? (i := 2) rfl) q213 rfl dJ0_init_2_10 rfl⟩, ?_⟩
  refine ⟨⟨mo_pR, ok_pR rfl fd_J0_17 rfl (Or.inl rfl) dJ0_init_2_13 rfl⟩, ?_⟩
  refine ⟨⟨mo_ald, ok_aldn dJ0_init_2_16 rfl rfl⟩, ?_⟩
  refine ⟨⟨mo_cst, ok_gsR (C := "java/lang/Throwable") (List.mem_of_getElem? (i := 3) rfl) q215 rfl dJ0_init_2_17 rfl⟩, ?_⟩
  refine ⟨⟨mo_pR, ok_pR rfl fd_J0_24 rfl (Or.inl rfl) dJ0_init_2_20 rfl⟩, ?_⟩
  refine ⟨⟨mo_ild, ok_ild dJ0_init_2_23 rfl⟩, ?_⟩
  refine ⟨⟨mo_ieq, ok_ieq dJ0_init_2_25 rfl rfl⟩, ?_⟩
  refine ⟨⟨mo_ald, ok_aldn dJ0_init_2_28 rfl rfl⟩, ?_⟩
  refine ⟨⟨mo_no, ok_no⟩, ?_⟩
  refine ⟨⟨mo_pop, ok_pop dJ0_init_2_32 rfl⟩, ?_⟩
  refine ⟨⟨mo_goto, ok_goto dJ0_init_2_33 rfl⟩, ?_⟩
  refine ⟨⟨mo_ald, ok_aldn dJ0_init_2_36 rfl rfl⟩, ?_⟩
  refine ⟨⟨mo_push, ok_null dJ0_init_2_37 rfl⟩, ?_⟩
  refine ⟨⟨mo_pR, ok_pR rfl fd_J0_17 rfl (Or.inl rfl) dJ0_init_2_38 rfl⟩, ?_⟩
  refine ⟨⟨mo_keep, ok_keep rfl⟩, ?_⟩
  refine ⟨⟨mo_ald, ok_aldn dJ0_init_2_41 rfl rfl⟩, ?_⟩
  refine ⟨⟨mo_ald, ok_aldn dJ0_init_2_42 rfl rfl⟩, ?_⟩
  refine ⟨⟨mo_pR, ok_pR rfl fd_J0_31 rfl (Or.inl rfl) dJ0_init_2_43 rfl⟩, ?_⟩
  refine ⟨⟨mo_ald, ok_aldn dJ0_init_2_46 rfl rfl⟩, ?_⟩
  refine ⟨⟨mo_ald, ok_aldn dJ0_init_2_47 rfl rfl⟩, ?_⟩
  refine ⟨⟨mo_pR, ok_pR rfl fd_J0_7 rfl (Or.inl rfl) dJ0_init_2_48 rfl⟩, ?_⟩
  refine ⟨⟨mo_ild, ok_ildn dJ0_init_2_51 rfl rfl⟩, ?_⟩
  refine ⟨⟨mo_ine, ok_ine dJ0_init_2_52 rfl rfl⟩, ?_⟩
  refine ⟨⟨mo_ald, ok_aldn dJ0_init_2_55 rfl rfl⟩, ?_⟩
  refine ⟨⟨mo_push, ok_null dJ0_init_2_56 rfl⟩, ?_⟩
  refine ⟨⟨mo_pR, ok_pR rfl fd_J0_24 rfl (Or.inl rfl) dJ0_init_2_57 rfl⟩, ?_⟩
  refine ⟨⟨mo_keep, ok_keep rfl⟩, ?_⟩
  refine ⟨⟨mo_ret, ok_ret rfl dJ0_init_2_60⟩, ?_⟩
  exact trivial
set_option maxHeartbeats 4000000 in
theorem alJ1_init : iy_all (iy_calls iy_mi) RJ1 "<init>" cJ1_init 5 (none, []) pcJ1_init pcJ1_init stJ1_init := by
  refine ⟨⟨mo_ald, ok_aldn dJ1_init_0 rfl rfl⟩, ?_⟩
  refine ⟨⟨mo_ald, ok_aldn dJ1_init_1 rfl rfl⟩, ?_⟩
  refine ⟨⟨mo_ald, ok_aldn dJ1_init_2 rfl rfl⟩, ?_⟩
  refine ⟨⟨mo_ild, ok_ildn dJ1_init_3 rfl rfl⟩, ?_⟩
  refine ⟨⟨mo_ild, ok_ild dJ1_init_4 rfl⟩, ?_⟩
  refine ⟨⟨mo_cvV, ok_ci mi_J0_init_2 lk_J1_16 q237 rfl dJ1_init_6 rfl⟩, ?_⟩
  refine ⟨⟨mo_ret, ok_ret rfl dJ1_init_9⟩, ?_⟩
  exact trivial
set_option maxHeartbeats 4000000 in
theorem alJ10_init : iy_all (iy_calls iy_mi) RJ10 "<init>" cJ10_init 2 (none, []) pcJ10_init pcJ10_init stJ10_init := by
  refine ⟨⟨mo_ald, ok_aldn dJ10_init_0 rfl rfl⟩, ?_⟩
  refine ⟨⟨mo_oin, ok_oin q824 q185 q186 dJ10_init_1 rfl⟩, ?_⟩
  refine ⟨⟨mo_push, ok_gsI (C := "java/lang/String") (List.mem_of_getElem? (i := 0) rfl) q825 rfl dJ10_init_4 rfl⟩, ?_⟩
  refine ⟨⟨mo_ieq, ok_ieq dJ10_init_7 rfl rfl⟩, ?_⟩
  refine ⟨⟨mo_ald, ok_aldn dJ10_init_10 rfl rfl⟩, ?_⟩
  refine ⟨⟨mo_ild, ok_ildn dJ10_init_11 rfl rfl⟩, ?_⟩
  refine ⟨⟨mo_newA, ok_newA rfl rfl q260 dJ10_init_12 rfl rfl⟩, ?_⟩
  refine ⟨⟨mo_pR, ok_pR rfl fd_J10_15 rfl (Or.inl rfl) dJ10_init_14 rfl⟩, ?_⟩
  refine ⟨⟨mo_ald, ok_aldn dJ10_init_17 rfl rfl⟩, ?_⟩
  refine ⟨⟨mo_push, ok_iconst dJ10_init_18 iv_i0 rfl⟩, ?_⟩
  refine ⟨⟨mo_pI, ok_pI rfl fd_J10_22 rfl (Or.inl rfl) dJ10_init_19 rfl⟩, ?_⟩
  refine ⟨⟨mo_goto, ok_goto dJ10_init_22 rfl⟩, ?_⟩
  refine ⟨⟨mo_ald, ok_aldn dJ10_init_25 rfl rfl⟩, ?_⟩
  refine ⟨⟨mo_ild, ok_ildn dJ10_init_26 rfl rfl⟩, ?_⟩
  refine ⟨⟨mo_csR, ok_csR mi_J9_newBytesFor lk_J10_26 q827 dJ10_init_27 rfl⟩, ?_⟩
  refine ⟨⟨mo_pR, ok_pR rfl fd_J10_15 rfl (Or.inl rfl) dJ10_init_30 rfl⟩, ?_⟩
  refine ⟨⟨mo_ald, ok_aldn dJ10_init_33 rfl rfl⟩, ?_⟩
  refine ⟨⟨mo_push, ok_iconst dJ10_init_34 iv_i1 rfl⟩, ?_⟩
  refine ⟨⟨mo_pI, ok_pI rfl fd_J10_22 rfl (Or.inl rfl) dJ10_init_35 rfl⟩, ?_⟩
  refine ⟨⟨mo_keep, ok_keep rfl⟩, ?_⟩
  refine ⟨⟨mo_ret, ok_ret rfl dJ10_init_38⟩, ?_⟩
  exact trivial
set_option maxHeartbeats 4000000 in
theorem alJ10_append : iy_all (iy_calls iy_mi) RJ10 "append" cJ10_append 2 (some (FieldType.object "java/lang/AbstractStringBuilder"), []) pcJ10_append pcJ10_append stJ10_append := by
  refine ⟨⟨mo_ald, ok_aldn dJ10_append_0 rfl rfl⟩, ?_⟩
  refine ⟨⟨mo_ald, ok_aldn dJ10_append_1 rfl rfl⟩, ?_⟩
  refine ⟨⟨mo_gI, ok_gI rfl fd_J10_79 rfl dJ10_append_2 rfl⟩, ?_⟩
  refine ⟨⟨mo_push, ok_iconst dJ10_append_5 iv_i1 rfl⟩, ?_⟩
  refine ⟨⟨mo_bin, ok_iadd dJ10_append_6 rfl⟩, ?_⟩
  refine ⟨⟨mo_cvV, ok_cqV mi_J10_ensureCapacityInternal q853 q163 q856 ⟨nmh_J10.1, nmh_J10.2, pmd_yJ10_ensureCapacityInternal⟩ (Nat.le_of_ble_eq_true rfl) q855 q2352 (Z := ⟨"java/lang/AbstractStringBuilder", "isLatin1", "()Z"⟩) q891 rfl q854 rfl (Nat.le_of_ble_eq_true rfl) (iy_ro_le _) rfl dJ10_append_7 rfl⟩, ?_⟩
  refine ⟨⟨mo_ald, ok_aldn dJ10_append_10 rfl rfl⟩, ?_⟩
  refine ⟨⟨mo_cvI, ok_cuI mi_J10_isLatin1 q888 q163 q892 ⟨nmh_J10.1, nmh_J10.2, pmd_yJ10_isLatin1⟩ (Nat.le_of_ble_eq_true rfl) q889 q890 rfl q891 rfl (Nat.le_of_ble_eq_true rfl) (iy_ro_le _) rfl dJ10_append_11 rfl⟩, ?_⟩
  refine ⟨⟨mo_ieq, ok_ieq dJ10_append_14 rfl rfl⟩, ?_⟩
  refine ⟨⟨mo_ild, ok_ildn dJ10_append_17 rfl rfl⟩, ?_⟩
  refine ⟨⟨mo_csI, ok_csI mi_J7_canEncode lk_J10_191 q894 dJ10_append_18 rfl⟩, ?_⟩
  refine ⟨⟨mo_ieq, ok_ieq dJ10_append_21 rfl rfl⟩, ?_⟩
  refine ⟨⟨mo_ald, ok_aldn dJ10_append_24 rfl rfl⟩, ?_⟩
  refine ⟨⟨mo_gR, ok_gR rfl fd_J10_15 rfl dJ10_append_25 rfl⟩, ?_⟩
  refine ⟨⟨mo_ald, ok_aldn dJ10_append_28 rfl rfl⟩, ?_⟩
  refine ⟨⟨mo_dup, ok_dup dJ10_append_29 rfl⟩, ?_⟩
  refine ⟨⟨mo_gI, ok_gI rfl fd_J10_79 rfl dJ10_append_30 rfl⟩, ?_⟩
  refine ⟨⟨mo_dupx1, ok_dupx1 dJ10_append_33 rfl⟩, ?_⟩
  refine ⟨⟨mo_push, ok_iconst dJ10_append_34 iv_i1 rfl⟩, ?_⟩
  refine ⟨⟨mo_bin, ok_iadd dJ10_append_35 rfl⟩, ?_⟩
  refine ⟨⟨mo_pI, ok_pI rfl fd_J10_79 rfl (Or.inl rfl) dJ10_append_36 rfl⟩, ?_⟩
  refine ⟨⟨mo_ild, ok_ildn dJ10_append_39 rfl rfl⟩, ?_⟩
  refine ⟨⟨mo_un, ok_i2b dJ10_append_40 rfl⟩, ?_⟩
  refine ⟨⟨mo_asI, ok_bast dJ10_append_41 rfl⟩, ?_⟩
  refine ⟨⟨mo_goto, ok_goto dJ10_append_42 rfl⟩, ?_⟩
  refine ⟨⟨mo_keep, ok_keep rfl⟩, ?_⟩
  refine ⟨⟨mo_ald, ok_aldn dJ10_append_45 rfl rfl⟩, ?_⟩
  refine ⟨⟨mo_cvI, ok_cuI mi_J10_isLatin1 q888 q163 q892 ⟨nmh_J10.1, nmh_J10.2, pmd_yJ10_isLatin1⟩ (Nat.le_of_ble_eq_true rfl) q889 q890 rfl q891 rfl (Nat.le_of_ble_eq_true rfl) (iy_ro_le _) rfl dJ10_append_46 rfl⟩, ?_⟩
  refine ⟨⟨mo_ieq, ok_ieq dJ10_append_49 rfl rfl⟩, ?_⟩
  refine ⟨⟨mo_ald, ok_aldn dJ10_append_52 rfl rfl⟩, ?_⟩
  refine ⟨⟨mo_cvV, ok_cqV mi_J10_inflate q896 q163 q899 ⟨nmh_J10.1, nmh_J10.2, pmd_yJ10_inflate⟩ (Nat.le_of_ble_eq_true rfl) q898 q2354 (Z := ⟨"java/lang/AbstractStringBuilder", "isLatin1", "()Z"⟩) q891 rfl q897 rfl (Nat.le_of_ble_eq_true rfl) (iy_ro_le _) rfl dJ10_append_53 rfl⟩, ?_⟩
  refine ⟨⟨mo_keep, ok_keep rfl⟩, ?_⟩
  refine ⟨⟨mo_ald, ok_aldn dJ10_append_56 rfl rfl⟩, ?_⟩
  refine ⟨⟨mo_gR, ok_gR rfl fd_J10_15 rfl dJ10_append_57 rfl⟩, ?_⟩
  refine ⟨⟨mo_ald, ok_aldn dJ10_append_60 rfl rfl⟩, ?_⟩
  refine ⟨⟨mo_dup, ok_dup dJ10_append_61 rfl⟩, ?_⟩
  refine ⟨⟨mo_gI, ok_gI rfl fd_J10_79 rfl dJ10_append_62 rfl⟩, ?_⟩
  refine ⟨⟨mo_dupx1, ok_dupx1 dJ10_append_65 rfl⟩, ?_⟩
  refine ⟨⟨mo_push, ok_iconst dJ10_append_66 iv_i1 rfl⟩, ?_⟩
  refine ⟨⟨mo_bin, ok_iadd dJ10_append_67 rfl⟩, ?_⟩
  refine ⟨⟨mo_pI, ok_pI rfl fd_J10_79 rfl (Or.inl rfl) dJ10_append_68 rfl⟩, ?_⟩
  refine ⟨⟨mo_ild, ok_ildn dJ10_append_71 rfl rfl⟩, ?_⟩
  refine ⟨⟨mo_csV, ok_csV mi_J9_putCharSB lk_J10_197 q919 dJ10_append_72 rfl⟩, ?_⟩
  refine ⟨⟨mo_keep, ok_keep rfl⟩, ?_⟩
  refine ⟨⟨mo_ald, ok_aldn dJ10_append_75 rfl rfl⟩, ?_⟩
  refine ⟨⟨mo_aret, ok_aret rfl rfl dJ10_append_76⟩, ?_⟩
  exact trivial
set_option maxHeartbeats 4000000 in
theorem alJ10_ensureCapacityInternal : iy_all (iy_calls iy_mi) RJ10 "ensureCapacityInternal" cJ10_ensureCapacityInternal 3 (none, []) pcJ10_ensureCapacityInternal pcJ10_ensureCapacityInternal stJ10_ensureCapacityInternal := by
  refine ⟨⟨mo_ald, ok_aldn dJ10_ensureCapacityInternal_0 rfl rfl⟩, ?_⟩
  refine ⟨⟨mo_gR, ok_gR rfl fd_J10_15 rfl dJ10_ensureCapacityInternal_1 rfl⟩, ?_⟩
  refine ⟨⟨mo_len, ok_len rfl dJ10_ensureCapacityInternal_4 rfl⟩, ?_⟩
  refine ⟨⟨mo_ald, ok_aldn dJ10_ensureCapacityInternal_5 rfl rfl⟩, ?_⟩
  refine ⟨⟨mo_gI, ok_gI rfl fd_J10_22 rfl dJ10_ensureCapacityInternal_6 rfl⟩, ?_⟩
  refine ⟨⟨mo_bin, ok_ishr dJ10_ensureCapacityInternal_9 rfl⟩, ?_⟩
  refine ⟨⟨mo_ist, ok_istn dJ10_ensureCapacityInternal_10 rfl (Nat.le_of_ble_eq_true rfl) rfl⟩, ?_⟩
  refine ⟨⟨mo_ild, ok_ildn dJ10_ensureCapacityInternal_11 rfl rfl⟩, ?_⟩
  refine ⟨⟨mo_ild, ok_ildn dJ10_ensureCapacityInternal_12 rfl rfl⟩, ?_⟩
  refine ⟨⟨mo_bin, ok_isub dJ10_ensureCapacityInternal_13 rfl⟩, ?_⟩
  refine ⟨⟨mo_ile, ok_ile dJ10_ensureCapacityInternal_14 rfl rfl⟩, ?_⟩
  refine ⟨⟨mo_ald, ok_aldn dJ10_ensureCapacityInternal_17 rfl rfl⟩, ?_⟩
  refine ⟨⟨mo_ald, ok_aldn dJ10_ensureCapacityInternal_18 rfl rfl⟩, ?_⟩
  refine ⟨⟨mo_gR, ok_gR rfl fd_J10_15 rfl dJ10_ensureCapacityInternal_19 rfl⟩, ?_⟩
  refine ⟨⟨mo_ald, ok_aldn dJ10_ensureCapacityInternal_22 rfl rfl⟩, ?_⟩
  refine ⟨⟨mo_ild, ok_ildn dJ10_ensureCapacityInternal_23 rfl rfl⟩, ?_⟩
  refine ⟨⟨mo_cvI, ok_cqI mi_J10_newCapacity q857 q163 q860 ⟨nmh_J10.1, nmh_J10.2, pmd_yJ10_newCapacity⟩ (Nat.le_of_ble_eq_true rfl) q859 q2353 (Z := ⟨"java/lang/AbstractStringBuilder", "isLatin1", "()Z"⟩) q891 rfl q858 rfl (Nat.le_of_ble_eq_true rfl) (iy_ro_le _) rfl dJ10_ensureCapacityInternal_24 rfl⟩, ?_⟩
  refine ⟨⟨mo_ald, ok_aldn dJ10_ensureCapacityInternal_27 rfl rfl⟩, ?_⟩
  refine ⟨⟨mo_gI, ok_gI rfl fd_J10_22 rfl dJ10_ensureCapacityInternal_28 rfl⟩, ?_⟩
  refine ⟨⟨mo_bin, ok_ishl dJ10_ensureCapacityInternal_31 rfl⟩, ?_⟩
  refine ⟨⟨mo_csR, ok_csR mi_J14_copyOf lk_J10_108 q873 dJ10_ensureCapacityInternal_32 rfl⟩, ?_⟩
  refine ⟨⟨mo_pR, ok_pR rfl fd_J10_15 rfl (Or.inl rfl) dJ10_ensureCapacityInternal_35 rfl⟩, ?_⟩
  refine ⟨⟨mo_keep, ok_keep rfl⟩, ?_⟩
  refine ⟨⟨mo_ret, ok_ret rfl dJ10_ensureCapacityInternal_38⟩, ?_⟩
  exact trivial
set_option maxHeartbeats 4000000 in
theorem alJ10_newCapacity : iy_all (iy_calls iy_mi) RJ10 "newCapacity" cJ10_newCapacity 6 (some FieldType.int, []) pcJ10_newCapacity pcJ10_newCapacity stJ10_newCapacity := by
  refine ⟨⟨mo_ald, ok_aldn dJ10_newCapacity_0 rfl rfl⟩, ?_⟩
  refine ⟨⟨mo_gR, ok_gR rfl fd_J10_15 rfl dJ10_newCapacity_1 rfl⟩, ?_⟩
  refine ⟨⟨mo_len, ok_len rfl dJ10_newCapacity_4 rfl⟩, ?_⟩
  refine ⟨⟨mo_ist, ok_istn dJ10_newCapacity_5 rfl (Nat.le_of_ble_eq_true rfl) rfl⟩, ?_⟩
  refine ⟨⟨mo_ild, ok_ildn dJ10_newCapacity_6 rfl rfl⟩, ?_⟩
  refine ⟨⟨mo_ald, ok_aldn dJ10_newCapacity_7 rfl rfl⟩, ?_⟩
  refine ⟨⟨mo_gI, ok_gI rfl fd_J10_22 rfl dJ10_newCapacity_8 rfl⟩, ?_⟩
  refine ⟨⟨mo_bin, ok_ishl dJ10_newCapacity_11 rfl⟩, ?_⟩
  refine ⟨⟨mo_ist, ok_istn dJ10_newCapacity_12 rfl (Nat.le_of_ble_eq_true rfl) rfl⟩, ?_⟩
  refine ⟨⟨mo_ild, ok_ildn dJ10_newCapacity_13 rfl rfl⟩, ?_⟩
  refine ⟨⟨mo_ild, ok_ildn dJ10_newCapacity_14 rfl rfl⟩, ?_⟩
  refine ⟨⟨mo_bin, ok_isub dJ10_newCapacity_15 rfl⟩, ?_⟩
  refine ⟨⟨mo_ist, ok_ist dJ10_newCapacity_16 (Nat.le_of_ble_eq_true rfl) rfl⟩, ?_⟩
  refine ⟨⟨mo_ild, ok_ildn dJ10_newCapacity_18 rfl rfl⟩, ?_⟩
  refine ⟨⟨mo_ild, ok_ild dJ10_newCapacity_19 rfl⟩, ?_⟩
  refine ⟨⟨mo_ild, ok_ildn dJ10_newCapacity_21 rfl rfl⟩, ?_⟩
  refine ⟨⟨mo_push, ok_iconst dJ10_newCapacity_22 iv_i2 rfl⟩, ?_⟩
  refine ⟨⟨mo_ald, ok_aldn dJ10_newCapacity_23 rfl rfl⟩, ?_⟩
  refine ⟨⟨mo_gI, ok_gI rfl fd_J10_22 rfl dJ10_newCapacity_24 rfl⟩, ?_⟩
  refine ⟨⟨mo_bin, ok_ishl dJ10_newCapacity_27 rfl⟩, ?_⟩
  refine ⟨⟨mo_bin, ok_iadd dJ10_newCapacity_28 rfl⟩, ?_⟩
  refine ⟨⟨mo_csI, ok_csI mi_J12_newLength lk_J10_114 q862 dJ10_newCapacity_29 rfl⟩, ?_⟩
  refine ⟨⟨mo_ist, ok_ist dJ10_newCapacity_32 (Nat.le_of_ble_eq_true rfl) rfl⟩, ?_⟩
  refine ⟨⟨mo_ild, ok_ild dJ10_newCapacity_34 rfl⟩, ?_⟩
  refine ⟨⟨mo_push, ok_ldc dJ10_newCapacity_36 q871 rfl⟩, ?_⟩
  refine ⟨⟨mo_cne, ok_cne dJ10_newCapacity_38 rfl rfl⟩, ?_⟩
  refine ⟨⟨mo_no, ok_no⟩, ?_⟩
  refine ⟨⟨mo_no, ok_no⟩, ?_⟩
  refine ⟨⟨mo_no, ok_no⟩, ?_⟩
  refine ⟨⟨mo_no, ok_no⟩, ?_⟩
  refine ⟨⟨mo_no, ok_no⟩, ?_⟩
  refine ⟨⟨mo_ild, ok_ild dJ10_newCapacity_51 rfl⟩, ?_⟩
  refine ⟨⟨mo_ald, ok_aldn dJ10_newCapacity_53 rfl rfl⟩, ?_⟩
  refine ⟨⟨mo_gI, ok_gI rfl fd_J10_22 rfl dJ10_newCapacity_54 rfl⟩, ?_⟩
  refine ⟨⟨mo_bin, ok_ishr dJ10_newCapacity_57 rfl⟩, ?_⟩
  refine ⟨⟨mo_iret, ok_iret rfl rfl dJ10_newCapacity_58⟩, ?_⟩
  exact trivial
set_option maxHeartbeats 4000000 in
theorem alJ10_isLatin1 : iy_all (iy_calls iy_mi) RJ10 "isLatin1" cJ10_isLatin1 1 (some FieldType.boolean, []) pcJ10_isLatin1 pcJ10_isLatin1 stJ10_isLatin1 := by
  refine ⟨⟨mo_push, ok_gsI (C := "java/lang/String") (List.mem_of_getElem? (i := 0) rfl) q825 rfl dJ10_isLatin1_0 rfl⟩, ?_⟩
  refine ⟨⟨mo_ieq, ok_ieq dJ10_isLatin1_3 rfl rfl⟩, ?_⟩
  refine ⟨⟨mo_ald, ok_aldn dJ10_isLatin1_6 rfl rfl⟩, ?_⟩
  refine ⟨⟨mo_gI, ok_gI rfl fd_J10_22 rfl dJ10_isLatin1_7 rfl⟩, ?_⟩
  refine ⟨⟨mo_ine, ok_ine dJ10_isLatin1_10 rfl rfl⟩, ?_⟩
  refine ⟨⟨mo_push, ok_iconst dJ10_isLatin1_13 iv_i1 rfl⟩, ?_⟩
  refine ⟨⟨mo_goto, ok_goto dJ10_isLatin1_14 rfl⟩, ?_⟩
  refine ⟨⟨mo_keep, ok_keep rfl⟩, ?_⟩
  refine ⟨⟨mo_push, ok_iconst dJ10_isLatin1_17 iv_i0 rfl⟩, ?_⟩
  refine ⟨⟨mo_keep, ok_keep rfl⟩, ?_⟩
  refine ⟨⟨mo_iret, ok_iret rfl rfl dJ10_isLatin1_18⟩, ?_⟩
  exact trivial
set_option maxHeartbeats 4000000 in
theorem alJ10_inflate : iy_all (iy_calls iy_mi) RJ10 "inflate" cJ10_inflate 2 (none, []) pcJ10_inflate pcJ10_inflate stJ10_inflate := by
  refine ⟨⟨mo_ald, ok_aldn dJ10_inflate_0 rfl rfl⟩, ?_⟩
  refine ⟨⟨mo_cvI, ok_cuI mi_J10_isLatin1 q888 q163 q892 ⟨nmh_J10.1, nmh_J10.2, pmd_yJ10_isLatin1⟩ (Nat.le_of_ble_eq_true rfl) q889 q890 rfl q891 rfl (Nat.le_of_ble_eq_true rfl) (iy_ro_le _) rfl dJ10_inflate_1 rfl⟩, ?_⟩
  refine ⟨⟨mo_ine, ok_ine dJ10_inflate_4 rfl rfl⟩, ?_⟩
  refine ⟨⟨mo_ret, ok_ret rfl dJ10_inflate_7⟩, ?_⟩
  refine ⟨⟨mo_ald, ok_aldn dJ10_inflate_8 rfl rfl⟩, ?_⟩
  refine ⟨⟨mo_gR, ok_gR rfl fd_J10_15 rfl dJ10_inflate_9 rfl⟩, ?_⟩
  refine ⟨⟨mo_len, ok_len rfl dJ10_inflate_12 rfl⟩, ?_⟩
  refine ⟨⟨mo_csR, ok_csR mi_J9_newBytesFor lk_J10_26 q827 dJ10_inflate_13 rfl⟩, ?_⟩
  refine ⟨⟨mo_ast, ok_astn dJ10_inflate_16 rfl (Nat.le_of_ble_eq_true rfl) rfl⟩, ?_⟩
  refine ⟨⟨mo_ald, ok_aldn dJ10_inflate_17 rfl rfl⟩, ?_⟩
  refine ⟨⟨mo_gR, ok_gR rfl fd_J10_15 rfl dJ10_inflate_18 rfl⟩, ?_⟩
  refine ⟨⟨mo_push, ok_iconst dJ10_inflate_21 iv_i0 rfl⟩, ?_⟩
  refine ⟨⟨mo_ald, ok_aldn dJ10_inflate_22 rfl rfl⟩, ?_⟩
  refine ⟨⟨mo_push, ok_iconst dJ10_inflate_23 iv_i0 rfl⟩, ?_⟩
  refine ⟨⟨mo_ald, ok_aldn dJ10_inflate_24 rfl rfl⟩, ?_⟩
  refine ⟨⟨mo_gI, ok_gI rfl fd_J10_79 rfl dJ10_inflate_25 rfl⟩, ?_⟩
  refine ⟨⟨mo_csV, ok_csV mi_J7_inflate lk_J10_125 q901 dJ10_inflate_28 rfl⟩, ?_⟩
  refine ⟨⟨mo_ald, ok_aldn dJ10_inflate_31 rfl rfl⟩, ?_⟩
  refine ⟨⟨mo_ald, ok_aldn dJ10_inflate_32 rfl rfl⟩, ?_⟩
  refine ⟨⟨mo_pR, ok_pR rfl fd_J10_15 rfl (Or.inl rfl) dJ10_inflate_33 rfl⟩, ?_⟩
  refine ⟨⟨mo_ald, ok_aldn dJ10_inflate_36 rfl rfl⟩, ?_⟩
  refine ⟨⟨mo_push, ok_iconst dJ10_inflate_37 iv_i1 rfl⟩, ?_⟩
  refine ⟨⟨mo_pI, ok_pI rfl fd_J10_22 rfl (Or.inl rfl) dJ10_inflate_38 rfl⟩, ?_⟩
  refine ⟨⟨mo_ret, ok_ret rfl dJ10_inflate_41⟩, ?_⟩
  exact trivial
set_option maxHeartbeats 4000000 in
theorem alJ10_getValue : iy_all (iy_calls iy_mi) RJ10 "getValue" cJ10_getValue 1 (some (FieldType.array FieldType.byte), []) pcJ10_getValue pcJ10_getValue stJ10_getValue := by
  refine ⟨⟨mo_ald, ok_aldn dJ10_getValue_0 rfl rfl⟩, ?_⟩
  refine ⟨⟨mo_gR, ok_gR rfl fd_J10_15 rfl dJ10_getValue_1 rfl⟩, ?_⟩
  refine ⟨⟨mo_aret, ok_aret rfl rfl dJ10_getValue_4⟩, ?_⟩
  exact trivial
set_option maxHeartbeats 4000000 in
theorem alJ10_length : iy_all (iy_calls iy_mi) RJ10 "length" cJ10_length 1 (some FieldType.int, []) pcJ10_length pcJ10_length stJ10_length := by
  refine ⟨⟨mo_ald, ok_aldn dJ10_length_0 rfl rfl⟩, ?_⟩
  refine ⟨⟨mo_gI, ok_gI rfl fd_J10_79 rfl dJ10_length_1 rfl⟩, ?_⟩
  refine ⟨⟨mo_iret, ok_iret rfl rfl dJ10_length_4⟩, ?_⟩
  exact trivial
set_option maxHeartbeats 4000000 in
theorem alJ11_init : iy_all (iy_calls iy_mi) RJ11 "<init>" cJ11_init 1 (none, []) pcJ11_init pcJ11_init stJ11_init := by
  refine ⟨⟨mo_ald, ok_aldn dJ11_init_0 rfl rfl⟩, ?_⟩
  refine ⟨⟨mo_push, ok_bipush dJ11_init_1 iv_b16 rfl⟩, ?_⟩
  refine ⟨⟨mo_cvV, ok_ci mi_J10_init lk_J11_1 q822 rfl dJ11_init_3 rfl⟩, ?_⟩
  refine ⟨⟨mo_ret, ok_ret rfl dJ11_init_6⟩, ?_⟩
  exact trivial
set_option maxHeartbeats 4000000 in
theorem alJ11_append : iy_all (iy_calls iy_mi) RJ11 "append" cJ11_append 2 (some (FieldType.object "java/lang/StringBuilder"), []) pcJ11_append pcJ11_append stJ11_append := by
  refine ⟨⟨mo_ald, ok_aldn dJ11_append_0 rfl rfl⟩, ?_⟩
  refine ⟨⟨mo_ild, ok_ildn dJ11_append_1 rfl rfl⟩, ?_⟩
  refine ⟨⟨mo_cvR, ok_cpR mi_J10_append lk_J11_50 q851 q2351 q845 (by decide +kernel) rfl (Nat.le_of_ble_eq_true rfl) (iy_ro_le _) rfl dJ11_append_2 rfl⟩, ?_⟩
  refine ⟨⟨mo_pop, ok_pop dJ11_append_5 rfl⟩, ?_⟩
  refine ⟨⟨mo_ald, ok_aldn dJ11_append_6 rfl rfl⟩, ?_⟩
  refine ⟨⟨mo_aret, ok_aret rfl rfl dJ11_append_7⟩, ?_⟩
  exact trivial
set_option maxHeartbeats 4000000 in
theorem alJ11_toString : iy_all (iy_calls iy_mi) RJ11 "toString" cJ11_toString 1 (some (FieldType.object "java/lang/String"), []) pcJ11_toString pcJ11_toString stJ11_toString := by
  refine ⟨⟨mo_new, ok_new (r := (RJ6, TJ6, 4)) rfl rfl (Nat.le_of_ble_eq_true rfl) rfl rfl q925 q926 q159 dJ11_toString_0 rfl⟩, ?_⟩
  refine ⟨⟨mo_dup, ok_dup dJ11_toString_3 rfl⟩, ?_⟩
  refine ⟨⟨mo_ald, ok_aldn dJ11_toString_4 rfl rfl⟩, ?_⟩
  refine ⟨⟨mo_cvV, ok_ci mi_J6_init lk_J11_137 q928 rfl dJ11_toString_5 rfl⟩, ?_⟩
  refine ⟨⟨mo_aret, ok_aret rfl rfl dJ11_toString_8⟩, ?_⟩
  exact trivial
set_option maxHeartbeats 4000000 in
theorem alJ11_length : iy_all (iy_calls iy_mi) RJ11 "length" cJ11_length 1 (some FieldType.int, []) pcJ11_length pcJ11_length stJ11_length := by
  refine ⟨⟨mo_ald, ok_aldn dJ11_length_0 rfl rfl⟩, ?_⟩
  refine ⟨⟨mo_cvI, ok_cpI mi_J10_length lk_J11_343 q940 q941 q845 (by decide +kernel) rfl (Nat.le_of_ble_eq_true rfl) (iy_ro_le _) rfl dJ11_length_1 rfl⟩, ?_⟩
  refine ⟨⟨mo_iret, ok_iret rfl rfl dJ11_length_4⟩, ?_⟩
  exact trivial
set_option maxHeartbeats 4000000 in
theorem alJ12_newLength : iy_all (iy_calls iy_mi) RJ12 "newLength" cJ12_newLength 4 (some FieldType.int, []) pcJ12_newLength pcJ12_newLength stJ12_newLength := by
  refine ⟨⟨mo_ild, ok_ildn dJ12_newLength_0 rfl rfl⟩, ?_⟩
  refine ⟨⟨mo_ild, ok_ildn dJ12_newLength_1 rfl rfl⟩, ?_⟩
  refine ⟨⟨mo_ild, ok_ildn dJ12_newLength_2 rfl rfl⟩, ?_⟩
  refine ⟨⟨mo_csI, ok_csI mi_J13_max lk_J12_194 q865 dJ12_newLength_3 rfl⟩, ?_⟩
  refine ⟨⟨mo_bin, ok_iadd dJ12_newLength_6 rfl⟩, ?_⟩
  refine ⟨⟨mo_ist, ok_istn dJ12_newLength_7 rfl (Nat.le_of_ble_eq_true rfl) rfl⟩, ?_⟩
  refine ⟨⟨mo_push, ok_iconst dJ12_newLength_8 iv_i0 rfl⟩, ?_⟩
  refine ⟨⟨mo_ild, ok_ildn dJ12_newLength_9 rfl rfl⟩, ?_⟩
  refine ⟨⟨mo_cge, ok_cge dJ12_newLength_10 rfl rfl⟩, ?_⟩
  refine ⟨⟨mo_ild, ok_ildn dJ12_newLength_13 rfl rfl⟩, ?_⟩
  refine ⟨⟨mo_push, ok_ldc dJ12_newLength_14 q867 rfl⟩, ?_⟩
  refine ⟨⟨mo_cgt, ok_cgt dJ12_newLength_16 rfl rfl⟩, ?_⟩
  refine ⟨⟨mo_ild, ok_ildn dJ12_newLength_19 rfl rfl⟩, ?_⟩
  refine ⟨⟨mo_iret, ok_iret rfl rfl dJ12_newLength_20⟩, ?_⟩
  refine ⟨⟨mo_keep, ok_keep rfl⟩, ?_⟩
  refine ⟨⟨mo_ild, ok_ildn dJ12_newLength_21 rfl rfl⟩, ?_⟩
  refine ⟨⟨mo_ild, ok_ildn dJ12_newLength_22 rfl rfl⟩, ?_⟩
  refine ⟨⟨mo_csI, ok_csI mi_J12_hugeLength lk_J12_201 q869 dJ12_newLength_23 rfl⟩, ?_⟩
  refine ⟨⟨mo_iret, ok_iret rfl rfl dJ12_newLength_26⟩, ?_⟩
  exact trivial
set_option maxHeartbeats 4000000 in
theorem alJ12_hugeLength : iy_all (iy_calls iy_mi) RJ12 "hugeLength" cJ12_hugeLength 3 (some FieldType.int, []) pcJ12_hugeLength pcJ12_hugeLength stJ12_hugeLength := by
  refine ⟨⟨mo_ild, ok_ildn dJ12_hugeLength_0 rfl rfl⟩, ?_⟩
  refine ⟨⟨mo_ild, ok_ildn dJ12_hugeLength_1 rfl rfl⟩, ?_⟩
  refine ⟨⟨mo_bin, ok_iadd dJ12_hugeLength_2 rfl⟩, ?_⟩
  refine ⟨⟨mo_ist, ok_istn dJ12_hugeLength_3 rfl (Nat.le_of_ble_eq_true rfl) rfl⟩, ?_⟩
  refine ⟨⟨mo_ild, ok_ildn dJ12_hugeLength_4 rfl rfl⟩, ?_⟩
  refine ⟨⟨mo_ige, ok_ige dJ12_hugeLength_5 rfl rfl⟩, ?_⟩
  refine ⟨⟨mo_no, ok_no⟩, ?_⟩
  refine ⟨⟨mo_no, ok_no⟩, ?_⟩
  refine ⟨⟨mo_no, ok_no⟩, ?_⟩
  refine ⟨⟨mo_no, ok_no⟩, ?_⟩
  refine ⟨⟨mo_no, ok_no⟩, ?_⟩
  refine ⟨⟨mo_no, ok_no⟩, ?_⟩
  refine ⟨⟨mo_no, ok_no⟩, ?_⟩
  refine ⟨⟨mo_no, ok_no⟩, ?_⟩
  refine ⟨⟨mo_no, ok_no⟩, ?_⟩
  refine ⟨⟨mo_no, ok_no⟩, ?_⟩
  refine ⟨⟨mo_no, ok_no⟩, ?_⟩
  refine ⟨⟨mo_no, ok_no⟩, ?_⟩
  refine ⟨⟨mo_no, ok_no⟩, ?_⟩
  refine ⟨⟨mo_no, ok_no⟩, ?_⟩
  refine ⟨⟨mo_no, ok_no⟩, ?_⟩
  refine ⟨⟨mo_no, ok_no⟩, ?_⟩
  refine ⟨⟨mo_no, ok_no⟩, ?_⟩
  refine ⟨⟨mo_no, ok_no⟩, ?_⟩
  refine ⟨⟨mo_ild, ok_ildn dJ12_hugeLength_49 rfl rfl⟩, ?_⟩
  refine ⟨⟨mo_push, ok_ldc dJ12_hugeLength_50 q867 rfl⟩, ?_⟩
  refine ⟨⟨mo_cgt, ok_cgt dJ12_hugeLength_52 rfl rfl⟩, ?_⟩
  refine ⟨⟨mo_push, ok_ldc dJ12_hugeLength_55 q867 rfl⟩, ?_⟩
  refine ⟨⟨mo_iret, ok_iret rfl rfl dJ12_hugeLength_57⟩, ?_⟩
  refine ⟨⟨mo_ild, ok_ildn dJ12_hugeLength_58 rfl rfl⟩, ?_⟩
  refine ⟨⟨mo_iret, ok_iret rfl rfl dJ12_hugeLength_59⟩, ?_⟩
  exact trivial
set_option maxHeartbeats 4000000 in
theorem alJ12_vectorizedHashCode : iy_all (iy_calls iy_mi) RJ12 "vectorizedHashCode" cJ12_vectorizedHashCode 5 (some FieldType.int, []) pcJ12_vectorizedHashCode pcJ12_vectorizedHashCode stJ12_vectorizedHashCode := by
  refine ⟨⟨mo_ild, ok_ild dJ12_vectorizedHashCode_0 rfl⟩, ?_⟩
  refine ⟨⟨mo_sw, ok_tsw dJ12_vectorizedHashCode_2 rfl rfl (by decide +kernel)⟩, ?_⟩
  refine ⟨⟨mo_ild, ok_ildn dJ12_vectorizedHashCode_44 rfl rfl⟩, ?_⟩
  refine ⟨⟨mo_ald, ok_aldn dJ12_vectorizedHashCode_45 rfl rfl⟩, ?_⟩
  refine ⟨⟨mo_cast, ok_castB q1032 dJ12_vectorizedHashCode_46 rfl⟩, ?_⟩
  refine ⟨⟨mo_ild, ok_ildn dJ12_vectorizedHashCode_49 rfl rfl⟩, ?_⟩
  refine ⟨⟨mo_ild, ok_ildn dJ12_vectorizedHashCode_50 rfl rfl⟩, ?_⟩
  refine ⟨⟨mo_csI, ok_csI mi_J12_signedHashCode lk_J12_62 q1034 dJ12_vectorizedHashCode_51 rfl⟩, ?_⟩
  refine ⟨⟨mo_goto, ok_goto dJ12_vectorizedHashCode_54 rfl⟩, ?_⟩
  refine ⟨⟨mo_ald, ok_aldn dJ12_vectorizedHashCode_57 rfl rfl⟩, ?_⟩
  refine ⟨⟨mo_no, ok_no⟩, ?_⟩
  refine ⟨⟨mo_ieq, ok_ieq dJ12_vectorizedHashCode_61 rfl rfl⟩, ?_⟩
  refine ⟨⟨mo_ild, ok_ildn dJ12_vectorizedHashCode_64 rfl rfl⟩, ?_⟩
  refine ⟨⟨mo_ald, ok_aldn dJ12_vectorizedHashCode_65 rfl rfl⟩, ?_⟩
  refine ⟨⟨mo_cast, ok_castB q1032 dJ12_vectorizedHashCode_66 rfl⟩, ?_⟩
  refine ⟨⟨mo_ild, ok_ildn dJ12_vectorizedHashCode_69 rfl rfl⟩, ?_⟩
  refine ⟨⟨mo_ild, ok_ildn dJ12_vectorizedHashCode_70 rfl rfl⟩, ?_⟩
  refine ⟨⟨mo_csI, ok_csI mi_J12_utf16hashCode lk_J12_66 q1037 dJ12_vectorizedHashCode_71 rfl⟩, ?_⟩
  refine ⟨⟨mo_goto, ok_goto dJ12_vectorizedHashCode_74 rfl⟩, ?_⟩
  refine ⟨⟨mo_ild, ok_ildn dJ12_vectorizedHashCode_77 rfl rfl⟩, ?_⟩
  refine ⟨⟨mo_ald, ok_aldn dJ12_vectorizedHashCode_78 rfl rfl⟩, ?_⟩
  refine ⟨⟨mo_no, ok_no⟩, ?_⟩
  refine ⟨⟨mo_ild, ok_ildn dJ12_vectorizedHashCode_82 rfl rfl⟩, ?_⟩
  refine ⟨⟨mo_ild, ok_ildn dJ12_vectorizedHashCode_83 rfl rfl⟩, ?_⟩
  refine ⟨⟨mo_csI, ok_csI mi_J12_hashCode lk_J12_71 q1054 dJ12_vectorizedHashCode_84 rfl⟩, ?_⟩
  refine ⟨⟨mo_goto, ok_goto dJ12_vectorizedHashCode_87 rfl⟩, ?_⟩
  refine ⟨⟨mo_ild, ok_ildn dJ12_vectorizedHashCode_90 rfl rfl⟩, ?_⟩
  refine ⟨⟨mo_ald, ok_aldn dJ12_vectorizedHashCode_91 rfl rfl⟩, ?_⟩
  refine ⟨⟨mo_cast, ok_castB q1032 dJ12_vectorizedHashCode_92 rfl⟩, ?_⟩
  refine ⟨⟨mo_ild, ok_ildn dJ12_vectorizedHashCode_95 rfl rfl⟩, ?_⟩
  refine ⟨⟨mo_ild, ok_ildn dJ12_vectorizedHashCode_96 rfl rfl⟩, ?_⟩
  refine ⟨⟨mo_csI, ok_csI mi_J12_hashCode_2 lk_J12_75 q1057 dJ12_vectorizedHashCode_97 rfl⟩, ?_⟩
  refine ⟨⟨mo_goto, ok_goto dJ12_vectorizedHashCode_100 rfl⟩, ?_⟩
  refine ⟨⟨mo_ild, ok_ildn dJ12_vectorizedHashCode_103 rfl rfl⟩, ?_⟩
  refine ⟨⟨mo_ald, ok_aldn dJ12_vectorizedHashCode_104 rfl rfl⟩, ?_⟩
  refine ⟨⟨mo_no, ok_no⟩, ?_⟩
  refine ⟨⟨mo_ild, ok_ildn dJ12_vectorizedHashCode_108 rfl rfl⟩, ?_⟩
  refine ⟨⟨mo_ild, ok_ildn dJ12_vectorizedHashCode_109 rfl rfl⟩, ?_⟩
  refine ⟨⟨mo_csI, ok_csI mi_J12_hashCode_3 lk_J12_79 q1061 dJ12_vectorizedHashCode_110 rfl⟩, ?_⟩
  refine ⟨⟨mo_goto, ok_goto dJ12_vectorizedHashCode_113 rfl⟩, ?_⟩
  refine ⟨⟨mo_ild, ok_ildn dJ12_vectorizedHashCode_116 rfl rfl⟩, ?_⟩
  refine ⟨⟨mo_ald, ok_aldn dJ12_vectorizedHashCode_117 rfl rfl⟩, ?_⟩
  refine ⟨⟨mo_no, ok_no⟩, ?_⟩
  refine ⟨⟨mo_ild, ok_ildn dJ12_vectorizedHashCode_121 rfl rfl⟩, ?_⟩
  refine ⟨⟨mo_ild, ok_ildn dJ12_vectorizedHashCode_122 rfl rfl⟩, ?_⟩
  refine ⟨⟨mo_csI, ok_csI mi_J12_hashCode_4 lk_J12_84 q1065 dJ12_vectorizedHashCode_123 rfl⟩, ?_⟩
  refine ⟨⟨mo_goto, ok_goto dJ12_vectorizedHashCode_126 rfl⟩, ?_⟩
  refine ⟨⟨mo_keep, ok_keep rfl⟩, ?_⟩
  refine ⟨⟨mo_no, ok_no⟩, ?_⟩
  refine ⟨⟨mo_no, ok_no⟩, ?_⟩
  refine ⟨⟨mo_no, ok_no⟩, ?_⟩
  refine ⟨⟨mo_no, ok_no⟩, ?_⟩
  refine ⟨⟨mo_no, ok_no⟩, ?_⟩
  refine ⟨⟨mo_no, ok_no⟩, ?_⟩
  refine ⟨⟨mo_no, ok_no⟩, ?_⟩
  refine ⟨⟨mo_no, ok_no⟩, ?_⟩
  refine ⟨⟨mo_no, ok_no⟩, ?_⟩
  refine ⟨⟨mo_no, ok_no⟩, ?_⟩
  refine ⟨⟨mo_no, ok_no⟩, ?_⟩
  refine ⟨⟨mo_no, ok_no⟩, ?_⟩
  refine ⟨⟨mo_keep, ok_keep rfl⟩, ?_⟩
  refine ⟨⟨mo_iret, ok_iret rfl rfl dJ12_vectorizedHashCode_157⟩, ?_⟩
  exact trivial
set_option maxHeartbeats 4000000 in
theorem alJ12_signedHashCode : iy_all (iy_calls iy_mi) RJ12 "signedHashCode" cJ12_signedHashCode 6 (some FieldType.int, []) pcJ12_signedHashCode pcJ12_signedHashCode stJ12_signedHashCode := by
  refine ⟨⟨mo_ild, ok_ildn dJ12_signedHashCode_0 rfl rfl⟩, ?_⟩
  refine ⟨⟨mo_ild, ok_ildn dJ12_signedHashCode_1 rfl rfl⟩, ?_⟩
  refine ⟨⟨mo_bin, ok_iadd dJ12_signedHashCode_2 rfl⟩, ?_⟩
  refine ⟨⟨mo_ist, ok_ist dJ12_signedHashCode_3 (Nat.le_of_ble_eq_true rfl) rfl⟩, ?_⟩
  refine ⟨⟨mo_ild, ok_ildn dJ12_signedHashCode_5 rfl rfl⟩, ?_⟩
  refine ⟨⟨mo_ist, ok_ist dJ12_signedHashCode_6 (Nat.le_of_ble_eq_true rfl) rfl⟩, ?_⟩
  refine ⟨⟨mo_keep, ok_keep rfl⟩, ?_⟩
  refine ⟨⟨mo_ild, ok_ild dJ12_signedHashCode_8 rfl⟩, ?_⟩
  refine ⟨⟨mo_ild, ok_ild dJ12_signedHashCode_10 rfl⟩, ?_⟩
  refine ⟨⟨mo_cge, ok_cge dJ12_signedHashCode_12 rfl rfl⟩, ?_⟩
  refine ⟨⟨mo_push, ok_bipush dJ12_signedHashCode_15 iv_b31 rfl⟩, ?_⟩
  refine ⟨⟨mo_ild, ok_ildn dJ12_signedHashCode_17 rfl rfl⟩, ?_⟩
  refine ⟨⟨mo_bin, ok_imul dJ12_signedHashCode_18 rfl⟩, ?_⟩
  refine ⟨⟨mo_ald, ok_aldn dJ12_signedHashCode_19 rfl rfl⟩, ?_⟩
  refine ⟨⟨mo_ild, ok_ild dJ12_signedHashCode_20 rfl⟩, ?_⟩
  refine ⟨⟨mo_alI, ok_bald dJ12_signedHashCode_22 rfl⟩, ?_⟩
  refine ⟨⟨mo_push, ok_sipush dJ12_signedHashCode_23 iv_s255 rfl⟩, ?_⟩
  refine ⟨⟨mo_bin, ok_iand dJ12_signedHashCode_26 rfl⟩, ?_⟩
  refine ⟨⟨mo_bin, ok_iadd dJ12_signedHashCode_27 rfl⟩, ?_⟩
  refine ⟨⟨mo_ist, ok_istn dJ12_signedHashCode_28 rfl (Nat.le_of_ble_eq_true rfl) rfl⟩, ?_⟩
  refine ⟨⟨mo_inc, ok_inc dJ12_signedHashCode_29 iv_i1 (Nat.le_of_ble_eq_true rfl) rfl⟩, ?_⟩
  refine ⟨⟨mo_back, ok_back dJ12_signedHashCode_32 rfl⟩, ?_⟩
  refine ⟨⟨mo_ild, ok_ildn dJ12_signedHashCode_35 rfl rfl⟩, ?_⟩
  refine ⟨⟨mo_iret, ok_iret rfl rfl dJ12_signedHashCode_36⟩, ?_⟩
  exact trivial
set_option maxHeartbeats 4000000 in
theorem alJ12_utf16hashCode : iy_all (iy_calls iy_mi) RJ12 "utf16hashCode" cJ12_utf16hashCode 6 (some FieldType.int, []) pcJ12_utf16hashCode pcJ12_utf16hashCode stJ12_utf16hashCode := by
  refine ⟨⟨mo_ild, ok_ildn dJ12_utf16hashCode_0 rfl rfl⟩, ?_⟩
  refine ⟨⟨mo_ild, ok_ildn dJ12_utf16hashCode_1 rfl rfl⟩, ?_⟩
  refine ⟨⟨mo_bin, ok_iadd dJ12_utf16hashCode_2 rfl⟩, ?_⟩
  refine ⟨⟨mo_ist, ok_ist dJ12_utf16hashCode_3 (Nat.le_of_ble_eq_true rfl) rfl⟩, ?_⟩
  refine ⟨⟨mo_ild, ok_ildn dJ12_utf16hashCode_5 rfl rfl⟩, ?_⟩
  refine ⟨⟨mo_ist, ok_ist dJ12_utf16hashCode_6 (Nat.le_of_ble_eq_true rfl) rfl⟩, ?_⟩
  refine ⟨⟨mo_keep, ok_keep rfl⟩, ?_⟩
  refine ⟨⟨mo_ild, ok_ild dJ12_utf16hashCode_8 rfl⟩, ?_⟩
  refine ⟨⟨mo_ild, ok_ild dJ12_utf16hashCode_10 rfl⟩, ?_⟩
  refine ⟨⟨mo_cge, ok_cge dJ12_utf16hashCode_12 rfl rfl⟩, ?_⟩
  refine ⟨⟨mo_push, ok_bipush dJ12_utf16hashCode_15 iv_b31 rfl⟩, ?_⟩
  refine ⟨⟨mo_ild, ok_ildn dJ12_utf16hashCode_17 rfl rfl⟩, ?_⟩
  refine ⟨⟨mo_bin, ok_imul dJ12_utf16hashCode_18 rfl⟩, ?_⟩
  refine ⟨⟨mo_no, ok_no⟩, ?_⟩
  refine ⟨⟨mo_ald, ok_aldn dJ12_utf16hashCode_22 rfl rfl⟩, ?_⟩
  refine ⟨⟨mo_ild, ok_ild dJ12_utf16hashCode_23 rfl⟩, ?_⟩
  refine ⟨⟨mo_no, ok_no⟩, ?_⟩
  refine ⟨⟨mo_bin, ok_iadd dJ12_utf16hashCode_30 rfl⟩, ?_⟩
  refine ⟨⟨mo_ist, ok_istn dJ12_utf16hashCode_31 rfl (Nat.le_of_ble_eq_true rfl) rfl⟩, ?_⟩
  refine ⟨⟨mo_inc, ok_inc dJ12_utf16hashCode_32 iv_i1 (Nat.le_of_ble_eq_true rfl) rfl⟩, ?_⟩
  refine ⟨⟨mo_back, ok_back dJ12_utf16hashCode_35 rfl⟩, ?_⟩
  refine ⟨⟨mo_ild, ok_ildn dJ12_utf16hashCode_38 rfl rfl⟩, ?_⟩
  refine ⟨⟨mo_iret, ok_iret rfl rfl dJ12_utf16hashCode_39⟩, ?_⟩
  exact trivial
set_option maxHeartbeats 4000000 in
theorem alJ12_hashCode : iy_all (iy_calls iy_mi) RJ12 "hashCode" cJ12_hashCode 6 (some FieldType.int, []) pcJ12_hashCode pcJ12_hashCode stJ12_hashCode := by
  refine ⟨⟨mo_ild, ok_ildn dJ12_hashCode_0 rfl rfl⟩, ?_⟩
  refine ⟨⟨mo_ild, ok_ildn dJ12_hashCode_1 rfl rfl⟩, ?_⟩
  refine ⟨⟨mo_bin, ok_iadd dJ12_hashCode_2 rfl⟩, ?_⟩
  refine ⟨⟨mo_ist, ok_ist dJ12_hashCode_3 (Nat.le_of_ble_eq_true rfl) rfl⟩, ?_⟩
  refine ⟨⟨mo_ild, ok_ildn dJ12_hashCode_5 rfl rfl⟩, ?_⟩
  refine ⟨⟨mo_ist, ok_ist dJ12_hashCode_6 (Nat.le_of_ble_eq_true rfl) rfl⟩, ?_⟩
  refine ⟨⟨mo_keep, ok_keep rfl⟩, ?_⟩
  refine ⟨⟨mo_ild, ok_ild dJ12_hashCode_8 rfl⟩, ?_⟩
  refine ⟨⟨mo_ild, ok_ild dJ12_hashCode_10 rfl⟩, ?_⟩
  refine ⟨⟨mo_cge, ok_cge dJ12_hashCode_12 rfl rfl⟩, ?_⟩
  refine ⟨⟨mo_push, ok_bipush dJ12_hashCode_15 iv_b31 rfl⟩, ?_⟩
  refine ⟨⟨mo_ild, ok_ildn dJ12_hashCode_17 rfl rfl⟩, ?_⟩
  refine ⟨⟨mo_bin, ok_imul dJ12_hashCode_18 rfl⟩, ?_⟩
  refine ⟨⟨mo_ald, ok_aldn dJ12_hashCode_19 rfl rfl⟩, ?_⟩
  refine ⟨⟨mo_ild, ok_ild dJ12_hashCode_20 rfl⟩, ?_⟩
  refine ⟨⟨mo_alI, ok_cald dJ12_hashCode_22 rfl⟩, ?_⟩
  refine ⟨⟨mo_bin, ok_iadd dJ12_hashCode_23 rfl⟩, ?_⟩
  refine ⟨⟨mo_ist, ok_istn dJ12_hashCode_24 rfl (Nat.le_of_ble_eq_true rfl) rfl⟩, ?_⟩
  refine ⟨⟨mo_inc, ok_inc dJ12_hashCode_25 iv_i1 (Nat.le_of_ble_eq_true rfl) rfl⟩, ?_⟩
  refine ⟨⟨mo_back, ok_back dJ12_hashCode_28 rfl⟩, ?_⟩
  refine ⟨⟨mo_ild, ok_ildn dJ12_hashCode_31 rfl rfl⟩, ?_⟩
  refine ⟨⟨mo_iret, ok_iret rfl rfl dJ12_hashCode_32⟩, ?_⟩
  exact trivial
set_option maxHeartbeats 4000000 in
theorem alJ12_hashCode_2 : iy_all (iy_calls iy_mi) RJ12 "hashCode" cJ12_hashCode_2 6 (some FieldType.int, []) pcJ12_hashCode_2 pcJ12_hashCode_2 stJ12_hashCode_2 := by
  refine ⟨⟨mo_ild, ok_ildn dJ12_hashCode_2_0 rfl rfl⟩, ?_⟩
  refine ⟨⟨mo_ild, ok_ildn dJ12_hashCode_2_1 rfl rfl⟩, ?_⟩
  refine ⟨⟨mo_bin, ok_iadd dJ12_hashCode_2_2 rfl⟩, ?_⟩
  refine ⟨⟨mo_ist, ok_ist dJ12_hashCode_2_3 (Nat.le_of_ble_eq_true rfl) rfl⟩, ?_⟩
  refine ⟨⟨mo_ild, ok_ildn dJ12_hashCode_2_5 rfl rfl⟩, ?_⟩
  refine ⟨⟨mo_ist, ok_ist dJ12_hashCode_2_6 (Nat.le_of_ble_eq_true rfl) rfl⟩, ?_⟩
  refine ⟨⟨mo_keep, ok_keep rfl⟩, ?_⟩
  refine ⟨⟨mo_ild, ok_ild dJ12_hashCode_2_8 rfl⟩, ?_⟩
  refine ⟨⟨mo_ild, ok_ild dJ12_hashCode_2_10 rfl⟩, ?_⟩
  refine ⟨⟨mo_cge, ok_cge dJ12_hashCode_2_12 rfl rfl⟩, ?_⟩
  refine ⟨⟨mo_push, ok_bipush dJ12_hashCode_2_15 iv_b31 rfl⟩, ?_⟩
  refine ⟨⟨mo_ild, ok_ildn dJ12_hashCode_2_17 rfl rfl⟩, ?_⟩
  refine ⟨⟨mo_bin, ok_imul dJ12_hashCode_2_18 rfl⟩, ?_⟩
  refine ⟨⟨mo_ald, ok_aldn dJ12_hashCode_2_19 rfl rfl⟩, ?_⟩
  refine ⟨⟨mo_ild, ok_ild dJ12_hashCode_2_20 rfl⟩, ?_⟩
  refine ⟨⟨mo_alI, ok_bald dJ12_hashCode_2_22 rfl⟩, ?_⟩
  refine ⟨⟨mo_bin, ok_iadd dJ12_hashCode_2_23 rfl⟩, ?_⟩
  refine ⟨⟨mo_ist, ok_istn dJ12_hashCode_2_24 rfl (Nat.le_of_ble_eq_true rfl) rfl⟩, ?_⟩
  refine ⟨⟨mo_inc, ok_inc dJ12_hashCode_2_25 iv_i1 (Nat.le_of_ble_eq_true rfl) rfl⟩, ?_⟩
  refine ⟨⟨mo_back, ok_back dJ12_hashCode_2_28 rfl⟩, ?_⟩
  refine ⟨⟨mo_ild, ok_ildn dJ12_hashCode_2_31 rfl rfl⟩, ?_⟩
  refine ⟨⟨mo_iret, ok_iret rfl rfl dJ12_hashCode_2_32⟩, ?_⟩
  exact trivial
set_option maxHeartbeats 4000000 in
theorem alJ12_hashCode_3 : iy_all (iy_calls iy_mi) RJ12 "hashCode" cJ12_hashCode_3 6 (some FieldType.int, []) pcJ12_hashCode_3 pcJ12_hashCode_3 stJ12_hashCode_3 := by
  refine ⟨⟨mo_ild, ok_ildn dJ12_hashCode_3_0 rfl rfl⟩, ?_⟩
  refine ⟨⟨mo_ild, ok_ildn dJ12_hashCode_3_1 rfl rfl⟩, ?_⟩
  refine ⟨⟨mo_bin, ok_iadd dJ12_hashCode_3_2 rfl⟩, ?_⟩
  refine ⟨⟨mo_ist, ok_ist dJ12_hashCode_3_3 (Nat.le_of_ble_eq_true rfl) rfl⟩, ?_⟩
  refine ⟨⟨mo_ild, ok_ildn dJ12_hashCode_3_5 rfl rfl⟩, ?_⟩
  refine ⟨⟨mo_ist, ok_ist dJ12_hashCode_3_6 (Nat.le_of_ble_eq_true rfl) rfl⟩, ?_⟩
  refine ⟨⟨mo_keep, ok_keep rfl⟩, ?_⟩
  refine ⟨⟨mo_ild, ok_ild dJ12_hashCode_3_8 rfl⟩, ?_⟩
  refine ⟨⟨mo_ild, ok_ild dJ12_hashCode_3_10 rfl⟩, ?_⟩
  refine ⟨⟨mo_cge, ok_cge dJ12_hashCode_3_12 rfl rfl⟩, ?_⟩
  refine ⟨⟨mo_push, ok_bipush dJ12_hashCode_3_15 iv_b31 rfl⟩, ?_⟩
  refine ⟨⟨mo_ild, ok_ildn dJ12_hashCode_3_17 rfl rfl⟩, ?_⟩
  refine ⟨⟨mo_bin, ok_imul dJ12_hashCode_3_18 rfl⟩, ?_⟩
  refine ⟨⟨mo_ald, ok_aldn dJ12_hashCode_3_19 rfl rfl⟩, ?_⟩
  refine ⟨⟨mo_ild, ok_ild dJ12_hashCode_3_20 rfl⟩, ?_⟩
  refine ⟨⟨mo_alI, ok_sald dJ12_hashCode_3_22 rfl⟩, ?_⟩
  refine ⟨⟨mo_bin, ok_iadd dJ12_hashCode_3_23 rfl⟩, ?_⟩
  refine ⟨⟨mo_ist, ok_istn dJ12_hashCode_3_24 rfl (Nat.le_of_ble_eq_true rfl) rfl⟩, ?_⟩
  refine ⟨⟨mo_inc, ok_inc dJ12_hashCode_3_25 iv_i1 (Nat.le_of_ble_eq_true rfl) rfl⟩, ?_⟩
  refine ⟨⟨mo_back, ok_back dJ12_hashCode_3_28 rfl⟩, ?_⟩
  refine ⟨⟨mo_ild, ok_ildn dJ12_hashCode_3_31 rfl rfl⟩, ?_⟩
  refine ⟨⟨mo_iret, ok_iret rfl rfl dJ12_hashCode_3_32⟩, ?_⟩
  exact trivial
set_option maxHeartbeats 4000000 in
theorem alJ12_hashCode_4 : iy_all (iy_calls iy_mi) RJ12 "hashCode" cJ12_hashCode_4 6 (some FieldType.int, []) pcJ12_hashCode_4 pcJ12_hashCode_4 stJ12_hashCode_4 := by
  refine ⟨⟨mo_ild, ok_ildn dJ12_hashCode_4_0 rfl rfl⟩, ?_⟩
  refine ⟨⟨mo_ild, ok_ildn dJ12_hashCode_4_1 rfl rfl⟩, ?_⟩
  refine ⟨⟨mo_bin, ok_iadd dJ12_hashCode_4_2 rfl⟩, ?_⟩
  refine ⟨⟨mo_ist, ok_ist dJ12_hashCode_4_3 (Nat.le_of_ble_eq_true rfl) rfl⟩, ?_⟩
  refine ⟨⟨mo_ild, ok_ildn dJ12_hashCode_4_5 rfl rfl⟩, ?_⟩
  refine ⟨⟨mo_ist, ok_ist dJ12_hashCode_4_6 (Nat.le_of_ble_eq_true rfl) rfl⟩, ?_⟩
  refine ⟨⟨mo_keep, ok_keep rfl⟩, ?_⟩
  refine ⟨⟨mo_ild, ok_ild dJ12_hashCode_4_8 rfl⟩, ?_⟩
  refine ⟨⟨mo_ild, ok_ild dJ12_hashCode_4_10 rfl⟩, ?_⟩
  refine ⟨⟨mo_cge, ok_cge dJ12_hashCode_4_12 rfl rfl⟩, ?_⟩
  refine ⟨⟨mo_push, ok_bipush dJ12_hashCode_4_15 iv_b31 rfl⟩, ?_⟩
  refine ⟨⟨mo_ild, ok_ildn dJ12_hashCode_4_17 rfl rfl⟩, ?_⟩
  refine ⟨⟨mo_bin, ok_imul dJ12_hashCode_4_18 rfl⟩, ?_⟩
  refine ⟨⟨mo_ald, ok_aldn dJ12_hashCode_4_19 rfl rfl⟩, ?_⟩
  refine ⟨⟨mo_ild, ok_ild dJ12_hashCode_4_20 rfl⟩, ?_⟩
  refine ⟨⟨mo_alI, ok_iald dJ12_hashCode_4_22 rfl⟩, ?_⟩
  refine ⟨⟨mo_bin, ok_iadd dJ12_hashCode_4_23 rfl⟩, ?_⟩
  refine ⟨⟨mo_ist, ok_istn dJ12_hashCode_4_24 rfl (Nat.le_of_ble_eq_true rfl) rfl⟩, ?_⟩
  refine ⟨⟨mo_inc, ok_inc dJ12_hashCode_4_25 iv_i1 (Nat.le_of_ble_eq_true rfl) rfl⟩, ?_⟩
  refine ⟨⟨mo_back, ok_back dJ12_hashCode_4_28 rfl⟩, ?_⟩
  refine ⟨⟨mo_ild, ok_ildn dJ12_hashCode_4_31 rfl rfl⟩, ?_⟩
  refine ⟨⟨mo_iret, ok_iret rfl rfl dJ12_hashCode_4_32⟩, ?_⟩
  exact trivial
set_option maxHeartbeats 4000000 in
theorem alJ13_max : iy_all (iy_calls iy_mi) RJ13 "max" cJ13_max 2 (some FieldType.int, []) pcJ13_max pcJ13_max stJ13_max := by
  refine ⟨⟨mo_ild, ok_ildn dJ13_max_0 rfl rfl⟩, ?_⟩
  refine ⟨⟨mo_ild, ok_ildn dJ13_max_1 rfl rfl⟩, ?_⟩
  refine ⟨⟨mo_clt, ok_clt dJ13_max_2 rfl rfl⟩, ?_⟩
  refine ⟨⟨mo_ild, ok_ildn dJ13_max_5 rfl rfl⟩, ?_⟩
  refine ⟨⟨mo_goto, ok_goto dJ13_max_6 rfl⟩, ?_⟩
  refine ⟨⟨mo_ild, ok_ildn dJ13_max_9 rfl rfl⟩, ?_⟩
  refine ⟨⟨mo_keep, ok_keep rfl⟩, ?_⟩
  refine ⟨⟨mo_iret, ok_iret rfl rfl dJ13_max_10⟩, ?_⟩
  exact trivial
set_option maxHeartbeats 4000000 in
theorem alJ13_min : iy_all (iy_calls iy_mi) RJ13 "min" cJ13_min 2 (some FieldType.int, []) pcJ13_min pcJ13_min stJ13_min := by
  refine ⟨⟨mo_ild, ok_ildn dJ13_min_0 rfl rfl⟩, ?_⟩
  refine ⟨⟨mo_ild, ok_ildn dJ13_min_1 rfl rfl⟩, ?_⟩
  refine ⟨⟨mo_cgt, ok_cgt dJ13_min_2 rfl rfl⟩, ?_⟩
  refine ⟨⟨mo_ild, ok_ildn dJ13_min_5 rfl rfl⟩, ?_⟩
  refine ⟨⟨mo_goto, ok_goto dJ13_min_6 rfl⟩, ?_⟩
  refine ⟨⟨mo_ild, ok_ildn dJ13_min_9 rfl rfl⟩, ?_⟩
  refine ⟨⟨mo_keep, ok_keep rfl⟩, ?_⟩
  refine ⟨⟨mo_iret, ok_iret rfl rfl dJ13_min_10⟩, ?_⟩
  exact trivial
set_option maxHeartbeats 4000000 in
theorem alJ13_floorMod : iy_all (iy_calls iy_mi) RJ13 "floorMod" cJ13_floorMod 3 (some FieldType.int, []) pcJ13_floorMod pcJ13_floorMod stJ13_floorMod := by
  refine ⟨⟨mo_ild, ok_ildn dJ13_floorMod_0 rfl rfl⟩, ?_⟩
  refine ⟨⟨mo_ild, ok_ildn dJ13_floorMod_1 rfl rfl⟩, ?_⟩
  refine ⟨⟨mo_div, ok_irem dJ13_floorMod_2 rfl⟩, ?_⟩
  refine ⟨⟨mo_ist, ok_istn dJ13_floorMod_3 rfl (Nat.le_of_ble_eq_true rfl) rfl⟩, ?_⟩
  refine ⟨⟨mo_ild, ok_ildn dJ13_floorMod_4 rfl rfl⟩, ?_⟩
  refine ⟨⟨mo_ild, ok_ildn dJ13_floorMod_5 rfl rfl⟩, ?_⟩
  refine ⟨⟨mo_bin, ok_ixor dJ13_floorMod_6 rfl⟩, ?_⟩
  refine ⟨⟨mo_ige, ok_ige dJ13_floorMod_7 rfl rfl⟩, ?_⟩
  refine ⟨⟨mo_ild, ok_ildn dJ13_floorMod_10 rfl rfl⟩, ?_⟩
  refine ⟨⟨mo_ieq, ok_ieq dJ13_floorMod_11 rfl rfl⟩, ?_⟩
  refine ⟨⟨mo_ild, ok_ildn dJ13_floorMod_14 rfl rfl⟩, ?_⟩
  refine ⟨⟨mo_ild, ok_ildn dJ13_floorMod_15 rfl rfl⟩, ?_⟩
  refine ⟨⟨mo_bin, ok_iadd dJ13_floorMod_16 rfl⟩, ?_⟩
  refine ⟨⟨mo_iret, ok_iret rfl rfl dJ13_floorMod_17⟩, ?_⟩
  refine ⟨⟨mo_keep, ok_keep rfl⟩, ?_⟩
  refine ⟨⟨mo_ild, ok_ildn dJ13_floorMod_18 rfl rfl⟩, ?_⟩
  refine ⟨⟨mo_iret, ok_iret rfl rfl dJ13_floorMod_19⟩, ?_⟩
  exact trivial
set_option maxHeartbeats 4000000 in
theorem alJ14_copyOf : iy_all (iy_calls iy_mi) RJ14 "copyOf" cJ14_copyOf 3 (some (FieldType.array FieldType.byte), []) pcJ14_copyOf pcJ14_copyOf stJ14_copyOf := by
  refine ⟨⟨mo_ild, ok_ildn dJ14_copyOf_0 rfl rfl⟩, ?_⟩
  refine ⟨⟨mo_ald, ok_aldn dJ14_copyOf_1 rfl rfl⟩, ?_⟩
  refine ⟨⟨mo_len, ok_len rfl dJ14_copyOf_2 rfl⟩, ?_⟩
  refine ⟨⟨mo_cne, ok_cne dJ14_copyOf_3 rfl rfl⟩, ?_⟩
  refine ⟨⟨mo_ald, ok_aldn dJ14_copyOf_6 rfl rfl⟩, ?_⟩
  refine ⟨⟨mo_no, ok_no⟩, ?_⟩
  refine ⟨⟨mo_cast, ok_castB q881 dJ14_copyOf_10 rfl⟩, ?_⟩
  refine ⟨⟨mo_aret, ok_aret rfl rfl dJ14_copyOf_13⟩, ?_⟩
  refine ⟨⟨mo_ild, ok_ildn dJ14_copyOf_14 rfl rfl⟩, ?_⟩
  refine ⟨⟨mo_newA, ok_newA rfl rfl q260 dJ14_copyOf_15 rfl rfl⟩, ?_⟩
  refine ⟨⟨mo_ast, ok_astn dJ14_copyOf_17 rfl (Nat.le_of_ble_eq_true rfl) rfl⟩, ?_⟩
  refine ⟨⟨mo_ald, ok_aldn dJ14_copyOf_18 rfl rfl⟩, ?_⟩
  refine ⟨⟨mo_push, ok_iconst dJ14_copyOf_19 iv_i0 rfl⟩, ?_⟩
  refine ⟨⟨mo_ald, ok_aldn dJ14_copyOf_20 rfl rfl⟩, ?_⟩
  refine ⟨⟨mo_push, ok_iconst dJ14_copyOf_21 iv_i0 rfl⟩, ?_⟩
  refine ⟨⟨mo_ald, ok_aldn dJ14_copyOf_22 rfl rfl⟩, ?_⟩
  refine ⟨⟨mo_len, ok_len rfl dJ14_copyOf_23 rfl⟩, ?_⟩
  refine ⟨⟨mo_ild, ok_ildn dJ14_copyOf_24 rfl rfl⟩, ?_⟩
  refine ⟨⟨mo_csI, ok_csI mi_J13_min lk_J14_304 q883 dJ14_copyOf_25 rfl⟩, ?_⟩
  refine ⟨⟨mo_cpyI, ok_cpyI rfl rfl cpw_J14_150 dJ14_copyOf_28 rfl⟩, ?_⟩
  refine ⟨⟨mo_ald, ok_aldn dJ14_copyOf_31 rfl rfl⟩, ?_⟩
  refine ⟨⟨mo_aret, ok_aret rfl rfl dJ14_copyOf_32⟩, ?_⟩
  exact trivial
set_option maxHeartbeats 4000000 in
theorem alJ14_copyOfRange : iy_all (iy_calls iy_mi) RJ14 "copyOfRange" cJ14_copyOfRange 3 (some (FieldType.array FieldType.byte), []) pcJ14_copyOfRange pcJ14_copyOfRange stJ14_copyOfRange := by
  refine ⟨⟨mo_ild, ok_ildn dJ14_copyOfRange_0 rfl rfl⟩, ?_⟩
  refine ⟨⟨mo_ine, ok_ine dJ14_copyOfRange_1 rfl rfl⟩, ?_⟩
  refine ⟨⟨mo_ild, ok_ildn dJ14_copyOfRange_4 rfl rfl⟩, ?_⟩
  refine ⟨⟨mo_ald, ok_aldn dJ14_copyOfRange_5 rfl rfl⟩, ?_⟩
  refine ⟨⟨mo_len, ok_len rfl dJ14_copyOfRange_6 rfl⟩, ?_⟩
  refine ⟨⟨mo_ceq, ok_ceq dJ14_copyOfRange_7 rfl rfl⟩, ?_⟩
  refine ⟨⟨mo_keep, ok_keep rfl⟩, ?_⟩
  refine ⟨⟨mo_ald, ok_aldn dJ14_copyOfRange_10 rfl rfl⟩, ?_⟩
  refine ⟨⟨mo_ild, ok_ildn dJ14_copyOfRange_11 rfl rfl⟩, ?_⟩
  refine ⟨⟨mo_ild, ok_ildn dJ14_copyOfRange_12 rfl rfl⟩, ?_⟩
  refine ⟨⟨mo_csR, ok_csR mi_J14_copyOfRangeByte lk_J14_339 q952 dJ14_copyOfRange_13 rfl⟩, ?_⟩
  refine ⟨⟨mo_aret, ok_aret rfl rfl dJ14_copyOfRange_16⟩, ?_⟩
  refine ⟨⟨mo_ald, ok_aldn dJ14_copyOfRange_17 rfl rfl⟩, ?_⟩
  refine ⟨⟨mo_no, ok_no⟩, ?_⟩
  refine ⟨⟨mo_cast, ok_castB q881 dJ14_copyOfRange_21 rfl⟩, ?_⟩
  refine ⟨⟨mo_aret, ok_aret rfl rfl dJ14_copyOfRange_24⟩, ?_⟩
  exact trivial
set_option maxHeartbeats 4000000 in
theorem alJ14_copyOfRangeByte : iy_all (iy_calls iy_mi) RJ14 "copyOfRangeByte" cJ14_copyOfRangeByte 5 (some (FieldType.array FieldType.byte), []) pcJ14_copyOfRangeByte pcJ14_copyOfRangeByte stJ14_copyOfRangeByte := by
  refine ⟨⟨mo_ild, ok_ildn dJ14_copyOfRangeByte_0 rfl rfl⟩, ?_⟩
  refine ⟨⟨mo_ild, ok_ildn dJ14_copyOfRangeByte_1 rfl rfl⟩, ?_⟩
  refine ⟨⟨mo_csV, ok_csV mi_J14_checkLength lk_J14_343 q955 dJ14_copyOfRangeByte_2 rfl⟩, ?_⟩
  refine ⟨⟨mo_ild, ok_ildn dJ14_copyOfRangeByte_5 rfl rfl⟩, ?_⟩
  refine ⟨⟨mo_ild, ok_ildn dJ14_copyOfRangeByte_6 rfl rfl⟩, ?_⟩
  refine ⟨⟨mo_bin, ok_isub dJ14_copyOfRangeByte_7 rfl⟩, ?_⟩
  refine ⟨⟨mo_ist, ok_istn dJ14_copyOfRangeByte_8 rfl (Nat.le_of_ble_eq_true rfl) rfl⟩, ?_⟩
  refine ⟨⟨mo_ild, ok_ildn dJ14_copyOfRangeByte_9 rfl rfl⟩, ?_⟩
  refine ⟨⟨mo_newA, ok_newA rfl rfl q260 dJ14_copyOfRangeByte_10 rfl rfl⟩, ?_⟩
  refine ⟨⟨mo_ast, ok_ast dJ14_copyOfRangeByte_12 (Nat.le_of_ble_eq_true rfl) rfl⟩, ?_⟩
  refine ⟨⟨mo_ald, ok_aldn dJ14_copyOfRangeByte_14 rfl rfl⟩, ?_⟩
  refine ⟨⟨mo_ild, ok_ildn dJ14_copyOfRangeByte_15 rfl rfl⟩, ?_⟩
  refine ⟨⟨mo_ald, ok_ald dJ14_copyOfRangeByte_16 rfl⟩, ?_⟩
  refine ⟨⟨mo_push, ok_iconst dJ14_copyOfRangeByte_18 iv_i0 rfl⟩, ?_⟩
  refine ⟨⟨mo_ald, ok_aldn dJ14_copyOfRangeByte_19 rfl rfl⟩, ?_⟩
  refine ⟨⟨mo_len, ok_len rfl dJ14_copyOfRangeByte_20 rfl⟩, ?_⟩
  refine ⟨⟨mo_ild, ok_ildn dJ14_copyOfRangeByte_21 rfl rfl⟩, ?_⟩
  refine ⟨⟨mo_bin, ok_isub dJ14_copyOfRangeByte_22 rfl⟩, ?_⟩
  refine ⟨⟨mo_ild, ok_ildn dJ14_copyOfRangeByte_23 rfl rfl⟩, ?_⟩
  refine ⟨⟨mo_csI, ok_csI mi_J13_min lk_J14_304 q883 dJ14_copyOfRangeByte_24 rfl⟩, ?_⟩
  refine ⟨⟨mo_cpyI, ok_cpyI rfl rfl cpw_J14_150 dJ14_copyOfRangeByte_27 rfl⟩, ?_⟩
  refine ⟨⟨mo_ald, ok_ald dJ14_copyOfRangeByte_30 rfl⟩, ?_⟩
  refine ⟨⟨mo_aret, ok_aret rfl rfl dJ14_copyOfRangeByte_32⟩, ?_⟩
  exact trivial
set_option maxHeartbeats 4000000 in
theorem alJ14_checkLength : iy_all (iy_calls iy_mi) RJ14 "checkLength" cJ14_checkLength 2 (none, []) pcJ14_checkLength pcJ14_checkLength stJ14_checkLength := by
  refine ⟨⟨mo_ild, ok_ildn dJ14_checkLength_0 rfl rfl⟩, ?_⟩
  refine ⟨⟨mo_ild, ok_ildn dJ14_checkLength_1 rfl rfl⟩, ?_⟩
  refine ⟨⟨mo_cge, ok_cge dJ14_checkLength_2 rfl rfl⟩, ?_⟩
  refine ⟨⟨mo_no, ok_no⟩, ?_⟩
  refine ⟨⟨mo_no, ok_no⟩, ?_⟩
  refine ⟨⟨mo_no, ok_no⟩, ?_⟩
  refine ⟨⟨mo_no, ok_no⟩, ?_⟩
  refine ⟨⟨mo_no, ok_no⟩, ?_⟩
  refine ⟨⟨mo_no, ok_no⟩, ?_⟩
  refine ⟨⟨mo_no, ok_no⟩, ?_⟩
  refine ⟨⟨mo_no, ok_no⟩, ?_⟩
  refine ⟨⟨mo_no, ok_no⟩, ?_⟩
  refine ⟨⟨mo_no, ok_no⟩, ?_⟩
  refine ⟨⟨mo_no, ok_no⟩, ?_⟩
  refine ⟨⟨mo_no, ok_no⟩, ?_⟩
  refine ⟨⟨mo_no, ok_no⟩, ?_⟩
  refine ⟨⟨mo_no, ok_no⟩, ?_⟩
  refine ⟨⟨mo_ret, ok_ret rfl dJ14_checkLength_37⟩, ?_⟩
  exact trivial
set_option maxHeartbeats 4000000 in
theorem alJ14_copyOf_2 : iy_all (iy_calls iy_mi) RJ14 "copyOf" cJ14_copyOf_2 2 (some (FieldType.array (FieldType.object "java/lang/Object")), []) pcJ14_copyOf_2 pcJ14_copyOf_2 stJ14_copyOf_2 := by
  refine ⟨⟨mo_ald, ok_aldn dJ14_copyOf_2_0 rfl rfl⟩, ?_⟩
  refine ⟨⟨mo_ild, ok_ildn dJ14_copyOf_2_1 rfl rfl⟩, ?_⟩
  refine ⟨⟨mo_ald, ok_aldn dJ14_copyOf_2_2 rfl rfl⟩, ?_⟩
  refine ⟨⟨mo_gcl, ok_gcl rfl q1227 q2380 q2379 q1228 q1251 dJ14_copyOf_2_3 rfl⟩, ?_⟩
  refine ⟨⟨mo_csR, ok_csR mi_J14_copyOf_3 lk_J14_300 q1253 dJ14_copyOf_2_6 rfl⟩, ?_⟩
  refine ⟨⟨mo_aret, ok_aret rfl rfl dJ14_copyOf_2_9⟩, ?_⟩
  exact trivial
set_option maxHeartbeats 4000000 in
theorem alJ14_copyOf_3 : iy_all (iy_calls iy_mi) RJ14 "copyOf" cJ14_copyOf_3 4 (some (FieldType.array (FieldType.object "java/lang/Object")), []) pcJ14_copyOf_3 pcJ14_copyOf_3 stJ14_copyOf_3 := by
  refine ⟨⟨mo_ald, ok_aldn dJ14_copyOf_3_0 rfl rfl⟩, ?_⟩
  refine ⟨⟨mo_cst, ok_ldcM q1255 dJ14_copyOf_3_1 rfl⟩, ?_⟩
  refine ⟨⟨mo_ane, ok_ane dJ14_copyOf_3_3 rfl rfl⟩, ?_⟩
  refine ⟨⟨mo_ild, ok_ildn dJ14_copyOf_3_6 rfl rfl⟩, ?_⟩
  refine ⟨⟨mo_newA, ok_newR rfl q1257 q1256 dJ14_copyOf_3_7 rfl⟩, ?_⟩
  refine ⟨⟨mo_goto, ok_goto dJ14_copyOf_3_10 rfl⟩, ?_⟩
  refine ⟨⟨mo_ald, ok_aldn dJ14_copyOf_3_13 rfl rfl⟩, ?_⟩
  refine ⟨⟨mo_no, ok_no⟩, ?_⟩
  refine ⟨⟨mo_no, ok_no⟩, ?_⟩
  refine ⟨⟨mo_no, ok_no⟩, ?_⟩
  refine ⟨⟨mo_no, ok_no⟩, ?_⟩
  refine ⟨⟨mo_keep, ok_keep rfl⟩, ?_⟩
  refine ⟨⟨mo_ast, ok_astn dJ14_copyOf_3_24 rfl (Nat.le_of_ble_eq_true rfl) rfl⟩, ?_⟩
  refine ⟨⟨mo_ald, ok_aldn dJ14_copyOf_3_25 rfl rfl⟩, ?_⟩
  refine ⟨⟨mo_push, ok_iconst dJ14_copyOf_3_26 iv_i0 rfl⟩, ?_⟩
  refine ⟨⟨mo_ald, ok_aldn dJ14_copyOf_3_27 rfl rfl⟩, ?_⟩
  refine ⟨⟨mo_push, ok_iconst dJ14_copyOf_3_28 iv_i0 rfl⟩, ?_⟩
  refine ⟨⟨mo_ald, ok_aldn dJ14_copyOf_3_29 rfl rfl⟩, ?_⟩
  refine ⟨⟨mo_len, ok_len rfl dJ14_copyOf_3_30 rfl⟩, ?_⟩
  refine ⟨⟨mo_ild, ok_ildn dJ14_copyOf_3_31 rfl rfl⟩, ?_⟩
  refine ⟨⟨mo_csI, ok_csI mi_J13_min lk_J14_304 q883 dJ14_copyOf_3_32 rfl⟩, ?_⟩
  refine ⟨⟨mo_cpyR, ok_cpyR rfl can_java_lang_Object_14_15_16_9 cpw_J14_150 dJ14_copyOf_3_35 rfl⟩, ?_⟩
  refine ⟨⟨mo_ald, ok_aldn dJ14_copyOf_3_38 rfl rfl⟩, ?_⟩
  refine ⟨⟨mo_aret, ok_aret rfl rfl dJ14_copyOf_3_39⟩, ?_⟩
  exact trivial
set_option maxHeartbeats 4000000 in
theorem alJ15_checkIndex : iy_all (iy_calls iy_mi) RJ15 "checkIndex" cJ15_checkIndex 2 (some FieldType.int, []) pcJ15_checkIndex pcJ15_checkIndex stJ15_checkIndex := by
  refine ⟨⟨mo_ild, ok_ildn dJ15_checkIndex_0 rfl rfl⟩, ?_⟩
  refine ⟨⟨mo_ild, ok_ildn dJ15_checkIndex_1 rfl rfl⟩, ?_⟩
  refine ⟨⟨mo_push, ok_null dJ15_checkIndex_2 rfl⟩, ?_⟩
  refine ⟨⟨mo_csI, ok_csI mi_J8_checkIndex lk_J15_105 q752 dJ15_checkIndex_3 rfl⟩, ?_⟩
  refine ⟨⟨mo_iret, ok_iret rfl rfl dJ15_checkIndex_6⟩, ?_⟩
  exact trivial
set_option maxHeartbeats 4000000 in
theorem alJ16_init : iy_all (iy_calls iy_mi) RJ16 "<init>" cJ16_init 1 (none, []) pcJ16_init pcJ16_init stJ16_init := by
  refine ⟨⟨mo_ret, ok_ret rfl dJ16_init_0⟩, ?_⟩
  exact trivial
set_option maxHeartbeats 4000000 in
theorem alJ17_getUTF16Char : iy_all (iy_calls iy_mi) RJ17 "getUTF16Char" cJ17_getUTF16Char 3 (some FieldType.char, []) pcJ17_getUTF16Char pcJ17_getUTF16Char stJ17_getUTF16Char := by
  refine ⟨⟨mo_ald, ok_aldn dJ17_getUTF16Char_0 rfl rfl⟩, ?_⟩
  refine ⟨⟨mo_ild, ok_ildn dJ17_getUTF16Char_1 rfl rfl⟩, ?_⟩
  refine ⟨⟨mo_csI, ok_csI mi_J9_getChar lk_J17_185 q765 dJ17_getUTF16Char_2 rfl⟩, ?_⟩
  refine ⟨⟨mo_iret, ok_iret rfl rfl dJ17_getUTF16Char_5⟩, ?_⟩
  exact trivial
set_option maxHeartbeats 4000000 in
theorem alJ2_init : iy_all (iy_calls iy_mi) RJ2 "<init>" cJ2_init 5 (none, []) pcJ2_init pcJ2_init stJ2_init := by
  refine ⟨⟨mo_ald, ok_aldn dJ2_init_0 rfl rfl⟩, ?_⟩
  refine ⟨⟨mo_ald, ok_aldn dJ2_init_1 rfl rfl⟩, ?_⟩
  refine ⟨⟨mo_ald, ok_aldn dJ2_init_2 rfl rfl⟩, ?_⟩
  refine ⟨⟨mo_ild, ok_ildn dJ2_init_3 rfl rfl⟩, ?_⟩
  refine ⟨⟨mo_ild, ok_ild dJ2_init_4 rfl⟩, ?_⟩
  refine ⟨⟨mo_cvV, ok_ci mi_J1_init lk_J2_16 q234 rfl dJ2_init_6 rfl⟩, ?_⟩
  refine ⟨⟨mo_ret, ok_ret rfl dJ2_init_9⟩, ?_⟩
  exact trivial
set_option maxHeartbeats 4000000 in
theorem alJ3_init : iy_all (iy_calls iy_mi) RJ3 "<init>" cJ3_init 1 (none, []) pcJ3_init pcJ3_init stJ3_init := by
  refine ⟨⟨mo_ald, ok_aldn dJ3_init_0 rfl rfl⟩, ?_⟩
  refine ⟨⟨mo_oin, ok_oin q577 q185 q186 dJ3_init_1 rfl⟩, ?_⟩
  refine ⟨⟨mo_ret, ok_ret rfl dJ3_init_4⟩, ?_⟩
  exact trivial
set_option maxHeartbeats 4000000 in
theorem alJ4_init : iy_all (iy_calls iy_mi) RJ4 "<init>" cJ4_init 1 (none, []) pcJ4_init pcJ4_init stJ4_init := by
  refine ⟨⟨mo_ald, ok_aldn dJ4_init_0 rfl rfl⟩, ?_⟩
  refine ⟨⟨mo_cvV, ok_ci mi_J3_init lk_J4_1 q575 rfl dJ4_init_1 rfl⟩, ?_⟩
  refine ⟨⟨mo_ald, ok_aldn dJ4_init_4 rfl rfl⟩, ?_⟩
  refine ⟨⟨mo_push, ok_iconst dJ4_init_5 iv_i0 rfl⟩, ?_⟩
  refine ⟨⟨mo_pI, ok_pI rfl fd_J4_7 rfl (Or.inl rfl) dJ4_init_6 rfl⟩, ?_⟩
  refine ⟨⟨mo_ret, ok_ret rfl dJ4_init_9⟩, ?_⟩
  exact trivial
set_option maxHeartbeats 4000000 in
theorem alJ5_init : iy_all (iy_calls iy_mi) RJ5 "<init>" cJ5_init 1 (none, []) pcJ5_init pcJ5_init stJ5_init := by
  refine ⟨⟨mo_ald, ok_aldn dJ5_init_0 rfl rfl⟩, ?_⟩
  refine ⟨⟨mo_cvV, ok_ci mi_J4_init lk_J5_1 q572 rfl dJ5_init_1 rfl⟩, ?_⟩
  refine ⟨⟨mo_ald, ok_aldn dJ5_init_4 rfl rfl⟩, ?_⟩
  refine ⟨⟨mo_cst, ok_gsR (C := "java/util/ArrayList") (List.mem_of_getElem? (i := 1) rfl) q578 rfl dJ5_init_5 rfl⟩, ?_⟩
  refine ⟨⟨mo_pR, ok_pR rfl fd_J5_9 rfl (Or.inl rfl) dJ5_init_8 rfl⟩, ?_⟩
  refine ⟨⟨mo_ret, ok_ret rfl dJ5_init_11⟩, ?_⟩
  exact trivial
set_option maxHeartbeats 4000000 in
theorem alJ5_add : iy_all (iy_calls iy_mi) RJ5 "add" cJ5_add 2 (some FieldType.boolean, []) pcJ5_add pcJ5_add stJ5_add := by
  refine ⟨⟨mo_ald, ok_aldn dJ5_add_0 rfl rfl⟩, ?_⟩
  refine ⟨⟨mo_dup, ok_dup dJ5_add_1 rfl⟩, ?_⟩
  refine ⟨⟨mo_gI, ok_gI rfl fd_J5_63 rfl dJ5_add_2 rfl⟩, ?_⟩
  refine ⟨⟨mo_push, ok_iconst dJ5_add_5 iv_i1 rfl⟩, ?_⟩
  refine ⟨⟨mo_bin, ok_iadd dJ5_add_6 rfl⟩, ?_⟩
  refine ⟨⟨mo_pI, ok_pI rfl fd_J5_63 rfl (Or.inl rfl) dJ5_add_7 rfl⟩, ?_⟩
  refine ⟨⟨mo_ald, ok_aldn dJ5_add_10 rfl rfl⟩, ?_⟩
  refine ⟨⟨mo_ald, ok_aldn dJ5_add_11 rfl rfl⟩, ?_⟩
  refine ⟨⟨mo_ald, ok_aldn dJ5_add_12 rfl rfl⟩, ?_⟩
  refine ⟨⟨mo_gR, ok_gR rfl fd_J5_9 rfl dJ5_add_13 rfl⟩, ?_⟩
  refine ⟨⟨mo_ald, ok_aldn dJ5_add_16 rfl rfl⟩, ?_⟩
  refine ⟨⟨mo_gI, ok_gI rfl fd_J5_48 rfl dJ5_add_17 rfl⟩, ?_⟩
  refine ⟨⟨mo_cvV, ok_cvV mi_J5_add_2 lk_J5_131 q1213 qs30 rfl (Nat.le_of_ble_eq_true rfl) (iy_ro_le _) rfl rfl dJ5_add_20 rfl⟩, ?_⟩
  refine ⟨⟨mo_push, ok_iconst dJ5_add_23 iv_i1 rfl⟩, ?_⟩
  refine ⟨⟨mo_iret, ok_iret rfl rfl dJ5_add_24⟩, ?_⟩
  exact trivial
set_option maxHeartbeats 4000000 in
theorem alJ5_add_2 : iy_all (iy_calls iy_mi) RJ5 "add" cJ5_add_2 4 (none, []) pcJ5_add_2 pcJ5_add_2 stJ5_add_2 := by
  refine ⟨⟨mo_ild, ok_ildn dJ5_add_2_0 rfl rfl⟩, ?_⟩
  refine ⟨⟨mo_ald, ok_aldn dJ5_add_2_1 rfl rfl⟩, ?_⟩
  refine ⟨⟨mo_len, ok_len rfl dJ5_add_2_2 rfl⟩, ?_⟩
  refine ⟨⟨mo_cne, ok_cne dJ5_add_2_3 rfl rfl⟩, ?_⟩
  refine ⟨⟨mo_ald, ok_aldn dJ5_add_2_6 rfl rfl⟩, ?_⟩
  refine ⟨⟨mo_cvR, ok_cvR mi_J5_grow lk_J5_129 q1217 qs31 rfl (Nat.le_of_ble_eq_true rfl) (iy_ro_le _) rfl rfl dJ5_add_2_7 rfl⟩, ?_⟩
  refine ⟨⟨mo_ast, ok_astn dJ5_add_2_10 rfl (Nat.le_of_ble_eq_true rfl) rfl⟩, ?_⟩
  refine ⟨⟨mo_keep, ok_keep rfl⟩, ?_⟩
  refine ⟨⟨mo_ald, ok_aldn dJ5_add_2_11 rfl rfl⟩, ?_⟩
  refine ⟨⟨mo_ild, ok_ildn dJ5_add_2_12 rfl rfl⟩, ?_⟩
  refine ⟨⟨mo_ald, ok_aldn dJ5_add_2_13 rfl rfl⟩, ?_⟩
  refine ⟨⟨mo_asR, ok_asR rfl can_java_lang_Object_14_15_16_9 dJ5_add_2_14 rfl⟩, ?_⟩
  refine ⟨⟨mo_ald, ok_aldn dJ5_add_2_15 rfl rfl⟩, ?_⟩
  refine ⟨⟨mo_ild, ok_ildn dJ5_add_2_16 rfl rfl⟩, ?_⟩
  refine ⟨⟨mo_push, ok_iconst dJ5_add_2_17 iv_i1 rfl⟩, ?_⟩
  refine ⟨⟨mo_bin, ok_iadd dJ5_add_2_18 rfl⟩, ?_⟩
  refine ⟨⟨mo_pI, ok_pI rfl fd_J5_48 rfl (Or.inl rfl) dJ5_add_2_19 rfl⟩, ?_⟩
  refine ⟨⟨mo_ret, ok_ret rfl dJ5_add_2_22⟩, ?_⟩
  exact trivial
set_option maxHeartbeats 4000000 in
theorem alJ5_grow : iy_all (iy_calls iy_mi) RJ5 "grow" cJ5_grow 1 (some (FieldType.array (FieldType.object "java/lang/Object")), []) pcJ5_grow pcJ5_grow stJ5_grow := by
  refine ⟨⟨mo_ald, ok_aldn dJ5_grow_0 rfl rfl⟩, ?_⟩
  refine ⟨⟨mo_ald, ok_aldn dJ5_grow_1 rfl rfl⟩, ?_⟩
  refine ⟨⟨mo_gI, ok_gI rfl fd_J5_48 rfl dJ5_grow_2 rfl⟩, ?_⟩
  refine ⟨⟨mo_push, ok_iconst dJ5_grow_5 iv_i1 rfl⟩, ?_⟩
  refine ⟨⟨mo_bin, ok_iadd dJ5_grow_6 rfl⟩, ?_⟩
  refine ⟨⟨mo_cvR, ok_cvR mi_J5_grow_2 lk_J5_69 q1221 qs32 rfl (Nat.le_of_ble_eq_true rfl) (iy_ro_le _) rfl rfl dJ5_grow_7 rfl⟩, ?_⟩
  refine ⟨⟨mo_aret, ok_aret rfl rfl dJ5_grow_10⟩, ?_⟩
  exact trivial
set_option maxHeartbeats 4000000 in
theorem alJ5_grow_2 : iy_all (iy_calls iy_mi) RJ5 "grow" cJ5_grow_2 4 (some (FieldType.array (FieldType.object "java/lang/Object")), []) pcJ5_grow_2 pcJ5_grow_2 stJ5_grow_2 := by
  refine ⟨⟨mo_ald, ok_aldn dJ5_grow_2_0 rfl rfl⟩, ?_⟩
  refine ⟨⟨mo_gR, ok_gR rfl fd_J5_9 rfl dJ5_grow_2_1 rfl⟩, ?_⟩
  refine ⟨⟨mo_len, ok_len rfl dJ5_grow_2_4 rfl⟩, ?_⟩
  refine ⟨⟨mo_ist, ok_istn dJ5_grow_2_5 rfl (Nat.le_of_ble_eq_true rfl) rfl⟩, ?_⟩
  refine ⟨⟨mo_ild, ok_ildn dJ5_grow_2_6 rfl rfl⟩, ?_⟩
  refine ⟨⟨mo_igt, ok_igt dJ5_grow_2_7 rfl rfl⟩, ?_⟩
  refine ⟨⟨mo_ald, ok_aldn dJ5_grow_2_10 rfl rfl⟩, ?_⟩
  refine ⟨⟨mo_gR, ok_gR rfl fd_J5_9 rfl dJ5_grow_2_11 rfl⟩, ?_⟩
  refine ⟨⟨mo_cst, ok_gsR (C := "java/util/ArrayList") (List.mem_of_getElem? (i := 1) rfl) q578 rfl dJ5_grow_2_14 rfl⟩, ?_⟩
  refine ⟨⟨mo_aeq, ok_aeq dJ5_grow_2_17 rfl rfl⟩, ?_⟩
  refine ⟨⟨mo_keep, ok_keep rfl⟩, ?_⟩
  refine ⟨⟨mo_ild, ok_ildn dJ5_grow_2_20 rfl rfl⟩, ?_⟩
  refine ⟨⟨mo_ild, ok_ildn dJ5_grow_2_21 rfl rfl⟩, ?_⟩
  refine ⟨⟨mo_ild, ok_ildn dJ5_grow_2_22 rfl rfl⟩, ?_⟩
  refine ⟨⟨mo_bin, ok_isub dJ5_grow_2_23 rfl⟩, ?_⟩
  refine ⟨⟨mo_ild, ok_ildn dJ5_grow_2_24 rfl rfl⟩, ?_⟩
  refine ⟨⟨mo_push, ok_iconst dJ5_grow_2_25 iv_i1 rfl⟩, ?_⟩
  refine ⟨⟨mo_bin, ok_ishr dJ5_grow_2_26 rfl⟩, ?_⟩
  refine ⟨⟨mo_csI, ok_csI mi_J12_newLength lk_J5_73 q862 dJ5_grow_2_27 rfl⟩, ?_⟩
  refine ⟨⟨mo_ist, ok_istn dJ5_grow_2_30 rfl (Nat.le_of_ble_eq_true rfl) rfl⟩, ?_⟩
  refine ⟨⟨mo_ald, ok_aldn dJ5_grow_2_31 rfl rfl⟩, ?_⟩
  refine ⟨⟨mo_ald, ok_aldn dJ5_grow_2_32 rfl rfl⟩, ?_⟩
  refine ⟨⟨mo_gR, ok_gR rfl fd_J5_9 rfl dJ5_grow_2_33 rfl⟩, ?_⟩
  refine ⟨⟨mo_ild, ok_ildn dJ5_grow_2_36 rfl rfl⟩, ?_⟩
  refine ⟨⟨mo_csR, ok_csR mi_J14_copyOf_2 lk_J5_66 q1225 dJ5_grow_2_37 rfl⟩, ?_⟩
  refine ⟨⟨mo_dupx1, ok_dupx1 dJ5_grow_2_40 rfl⟩, ?_⟩
  refine ⟨⟨mo_pR, ok_pR rfl fd_J5_9 rfl (Or.inl rfl) dJ5_grow_2_41 rfl⟩, ?_⟩
  refine ⟨⟨mo_aret, ok_aret rfl rfl dJ5_grow_2_44⟩, ?_⟩
  refine ⟨⟨mo_ald, ok_aldn dJ5_grow_2_45 rfl rfl⟩, ?_⟩
  refine ⟨⟨mo_push, ok_bipush dJ5_grow_2_46 iv_b10 rfl⟩, ?_⟩
  refine ⟨⟨mo_ild, ok_ildn dJ5_grow_2_48 rfl rfl⟩, ?_⟩
  refine ⟨⟨mo_csI, ok_csI mi_J13_max lk_J5_79 q865 dJ5_grow_2_49 rfl⟩, ?_⟩
  refine ⟨⟨mo_newA, ok_newR rfl q1259 q1256 dJ5_grow_2_52 rfl⟩, ?_⟩
  refine ⟨⟨mo_dupx1, ok_dupx1 dJ5_grow_2_55 rfl⟩, ?_⟩
  refine ⟨⟨mo_pR, ok_pR rfl fd_J5_9 rfl (Or.inl rfl) dJ5_grow_2_56 rfl⟩, ?_⟩
  refine ⟨⟨mo_aret, ok_aret rfl rfl dJ5_grow_2_59⟩, ?_⟩
  exact trivial
set_option maxHeartbeats 4000000 in
theorem alJ5_size : iy_all (iy_calls iy_mi) RJ5 "size" cJ5_size 1 (some FieldType.int, []) pcJ5_size pcJ5_size stJ5_size := by
  refine ⟨⟨mo_ald, ok_aldn dJ5_size_0 rfl rfl⟩, ?_⟩
  refine ⟨⟨mo_gI, ok_gI rfl fd_J5_48 rfl dJ5_size_1 rfl⟩, ?_⟩
  refine ⟨⟨mo_iret, ok_iret rfl rfl dJ5_size_4⟩, ?_⟩
  exact trivial
set_option maxHeartbeats 4000000 in
theorem alJ5_get : iy_all (iy_calls iy_mi) RJ5 "get" cJ5_get 2 (some (FieldType.object "java/lang/Object"), []) pcJ5_get pcJ5_get stJ5_get := by
  refine ⟨⟨mo_ild, ok_ildn dJ5_get_0 rfl rfl⟩, ?_⟩
  refine ⟨⟨mo_ald, ok_aldn dJ5_get_1 rfl rfl⟩, ?_⟩
  refine ⟨⟨mo_gI, ok_gI rfl fd_J5_48 rfl dJ5_get_2 rfl⟩, ?_⟩
  refine ⟨⟨mo_csI, ok_csI mi_J15_checkIndex lk_J5_118 q1312 dJ5_get_5 rfl⟩, ?_⟩
  refine ⟨⟨mo_pop, ok_pop dJ5_get_8 rfl⟩, ?_⟩
  refine ⟨⟨mo_ald, ok_aldn dJ5_get_9 rfl rfl⟩, ?_⟩
  refine ⟨⟨mo_ild, ok_ildn dJ5_get_10 rfl rfl⟩, ?_⟩
  refine ⟨⟨mo_cvR, ok_cvR mi_J5_elementData lk_J5_123 q1316 q1317 rfl (Nat.le_of_ble_eq_true rfl) (iy_ro_le _) rfl rfl dJ5_get_11 rfl⟩, ?_⟩
  refine ⟨⟨mo_aret, ok_aret rfl rfl dJ5_get_14⟩, ?_⟩
  exact trivial
set_option maxHeartbeats 4000000 in
theorem alJ5_elementData : iy_all (iy_calls iy_mi) RJ5 "elementData" cJ5_elementData 2 (some (FieldType.object "java/lang/Object"), []) pcJ5_elementData pcJ5_elementData stJ5_elementData := by
  refine ⟨⟨mo_ald, ok_aldn dJ5_elementData_0 rfl rfl⟩, ?_⟩
  refine ⟨⟨mo_gR, ok_gR rfl fd_J5_9 rfl dJ5_elementData_1 rfl⟩, ?_⟩
  refine ⟨⟨mo_ild, ok_ildn dJ5_elementData_4 rfl rfl⟩, ?_⟩
  refine ⟨⟨mo_alR, ok_aald rfl dJ5_elementData_5 rfl⟩, ?_⟩
  refine ⟨⟨mo_aret, ok_aret rfl rfl dJ5_elementData_6⟩, ?_⟩
  exact trivial
set_option maxHeartbeats 4000000 in
theorem alJ6_length : iy_all (iy_calls iy_mi) RJ6 "length" cJ6_length 1 (some FieldType.int, []) pcJ6_length pcJ6_length stJ6_length := by
  refine ⟨⟨mo_ald, ok_aldn dJ6_length_0 rfl rfl⟩, ?_⟩
  refine ⟨⟨mo_gRr, ok_gRr rfl fd_J6_9 rfl (by decide) (iy_ro_le _) dJ6_length_1 rfl⟩, ?_⟩
  refine ⟨⟨mo_len, ok_len rfl dJ6_length_4 rfl⟩, ?_⟩
  refine ⟨⟨mo_ald, ok_aldn dJ6_length_5 rfl rfl⟩, ?_⟩
  refine ⟨⟨mo_cvI, ok_cvI mi_J6_coder lk_J6_335 q730 q731 rfl (Nat.le_of_ble_eq_true rfl) (iy_ro_le _) rfl rfl dJ6_length_6 rfl⟩, ?_⟩
  refine ⟨⟨mo_bin, ok_ishr dJ6_length_9 rfl⟩, ?_⟩
  refine ⟨⟨mo_iret, ok_iret rfl rfl dJ6_length_10⟩, ?_⟩
  exact trivial
set_option maxHeartbeats 4000000 in
theorem alJ6_coder : iy_all (iy_calls iy_mi) RJ6 "coder" cJ6_coder 1 (some FieldType.byte, []) pcJ6_coder pcJ6_coder stJ6_coder := by
  refine ⟨⟨mo_push, ok_gsI (C := "java/lang/String") (List.mem_of_getElem? (i := 0) rfl) q733 rfl dJ6_coder_0 rfl⟩, ?_⟩
  refine ⟨⟨mo_ieq, ok_ieq dJ6_coder_3 rfl rfl⟩, ?_⟩
  refine ⟨⟨mo_ald, ok_aldn dJ6_coder_6 rfl rfl⟩, ?_⟩
  refine ⟨⟨mo_gIr, ok_gIr rfl fd_J6_15 rfl (by decide) (iy_ro_le _) dJ6_coder_7 rfl⟩, ?_⟩
  refine ⟨⟨mo_goto, ok_goto dJ6_coder_10 rfl⟩, ?_⟩
  refine ⟨⟨mo_push, ok_iconst dJ6_coder_13 iv_i1 rfl⟩, ?_⟩
  refine ⟨⟨mo_keep, ok_keep rfl⟩, ?_⟩
  refine ⟨⟨mo_iret, ok_iret rfl rfl dJ6_coder_14⟩, ?_⟩
  exact trivial
set_option maxHeartbeats 4000000 in
theorem alJ6_charAt : iy_all (iy_calls iy_mi) RJ6 "charAt" cJ6_charAt 2 (some FieldType.char, []) pcJ6_charAt pcJ6_charAt stJ6_charAt := by
  refine ⟨⟨mo_ald, ok_aldn dJ6_charAt_0 rfl rfl⟩, ?_⟩
  refine ⟨⟨mo_cvI, ok_cvI mi_J6_isLatin1 lk_J6_492 q740 q741 rfl (Nat.le_of_ble_eq_true rfl) (iy_ro_le _) rfl rfl dJ6_charAt_1 rfl⟩, ?_⟩
  refine ⟨⟨mo_ieq, ok_ieq dJ6_charAt_4 rfl rfl⟩, ?_⟩
  refine ⟨⟨mo_ald, ok_aldn dJ6_charAt_7 rfl rfl⟩, ?_⟩
  refine ⟨⟨mo_gRr, ok_gRr rfl fd_J6_9 rfl (by decide) (iy_ro_le _) dJ6_charAt_8 rfl⟩, ?_⟩
  refine ⟨⟨mo_ild, ok_ildn dJ6_charAt_11 rfl rfl⟩, ?_⟩
  refine ⟨⟨mo_csI, ok_csI mi_J7_charAt lk_J6_495 q744 dJ6_charAt_12 rfl⟩, ?_⟩
  refine ⟨⟨mo_iret, ok_iret rfl rfl dJ6_charAt_15⟩, ?_⟩
  refine ⟨⟨mo_ald, ok_aldn dJ6_charAt_16 rfl rfl⟩, ?_⟩
  refine ⟨⟨mo_gRr, ok_gRr rfl fd_J6_9 rfl (by decide) (iy_ro_le _) dJ6_charAt_17 rfl⟩, ?_⟩
  refine ⟨⟨mo_ild, ok_ildn dJ6_charAt_20 rfl rfl⟩, ?_⟩
  refine ⟨⟨mo_csI, ok_csI mi_J9_charAt lk_J6_498 q755 dJ6_charAt_21 rfl⟩, ?_⟩
  refine ⟨⟨mo_iret, ok_iret rfl rfl dJ6_charAt_24⟩, ?_⟩
  exact trivial
set_option maxHeartbeats 4000000 in
theorem alJ6_isLatin1 : iy_all (iy_calls iy_mi) RJ6 "isLatin1" cJ6_isLatin1 1 (some FieldType.boolean, []) pcJ6_isLatin1 pcJ6_isLatin1 stJ6_isLatin1 := by
  refine ⟨⟨mo_push, ok_gsI (C := "java/lang/String") (List.mem_of_getElem? (i := 0) rfl) q733 rfl dJ6_isLatin1_0 rfl⟩, ?_⟩
  refine ⟨⟨mo_ieq, ok_ieq dJ6_isLatin1_3 rfl rfl⟩, ?_⟩
  refine ⟨⟨mo_ald, ok_aldn dJ6_isLatin1_6 rfl rfl⟩, ?_⟩
  refine ⟨⟨mo_gIr, ok_gIr rfl fd_J6_15 rfl (by decide) (iy_ro_le _) dJ6_isLatin1_7 rfl⟩, ?_⟩
  refine ⟨⟨mo_ine, ok_ine dJ6_isLatin1_10 rfl rfl⟩, ?_⟩
  refine ⟨⟨mo_push, ok_iconst dJ6_isLatin1_13 iv_i1 rfl⟩, ?_⟩
  refine ⟨⟨mo_goto, ok_goto dJ6_isLatin1_14 rfl⟩, ?_⟩
  refine ⟨⟨mo_keep, ok_keep rfl⟩, ?_⟩
  refine ⟨⟨mo_push, ok_iconst dJ6_isLatin1_17 iv_i0 rfl⟩, ?_⟩
  refine ⟨⟨mo_keep, ok_keep rfl⟩, ?_⟩
  refine ⟨⟨mo_iret, ok_iret rfl rfl dJ6_isLatin1_18⟩, ?_⟩
  exact trivial
set_option maxHeartbeats 4000000 in
theorem alJ6_checkIndex : iy_all (iy_calls iy_mi) RJ6 "checkIndex" cJ6_checkIndex 2 (none, []) pcJ6_checkIndex pcJ6_checkIndex stJ6_checkIndex := by
  refine ⟨⟨mo_ild, ok_ildn dJ6_checkIndex_0 rfl rfl⟩, ?_⟩
  refine ⟨⟨mo_ild, ok_ildn dJ6_checkIndex_1 rfl rfl⟩, ?_⟩
  refine ⟨⟨mo_cst, ok_gsR (C := "jdk/internal/util/Preconditions") (List.mem_of_getElem? (i := 4) rfl) q749 rfl dJ6_checkIndex_2 rfl⟩, ?_⟩
  refine ⟨⟨mo_csI, ok_csI mi_J8_checkIndex lk_J6_1059 q752 dJ6_checkIndex_5 rfl⟩, ?_⟩
  refine ⟨⟨mo_pop, ok_pop dJ6_checkIndex_8 rfl⟩, ?_⟩
  refine ⟨⟨mo_ret, ok_ret rfl dJ6_checkIndex_9⟩, ?_⟩
  exact trivial
set_option maxHeartbeats 4000000 in
theorem alJ6_checkBoundsOffCount : iy_all (iy_calls iy_mi) RJ6 "checkBoundsOffCount" cJ6_checkBoundsOffCount 3 (some FieldType.int, []) pcJ6_checkBoundsOffCount pcJ6_checkBoundsOffCount stJ6_checkBoundsOffCount := by
  refine ⟨⟨mo_ild, ok_ildn dJ6_checkBoundsOffCount_0 rfl rfl⟩, ?_⟩
  refine ⟨⟨mo_ild, ok_ildn dJ6_checkBoundsOffCount_1 rfl rfl⟩, ?_⟩
  refine ⟨⟨mo_ild, ok_ildn dJ6_checkBoundsOffCount_2 rfl rfl⟩, ?_⟩
  refine ⟨⟨mo_cst, ok_gsR (C := "jdk/internal/util/Preconditions") (List.mem_of_getElem? (i := 4) rfl) q749 rfl dJ6_checkBoundsOffCount_3 rfl⟩, ?_⟩
  refine ⟨⟨mo_csI, ok_csI mi_J8_checkFromIndexSize lk_J6_1065 q913 dJ6_checkBoundsOffCount_6 rfl⟩, ?_⟩
  refine ⟨⟨mo_iret, ok_iret rfl rfl dJ6_checkBoundsOffCount_9⟩, ?_⟩
  exact trivial
set_option maxHeartbeats 4000000 in
theorem alJ6_init : iy_all (iy_calls iy_mi) RJ6 "<init>" cJ6_init 2 (none, []) pcJ6_init pcJ6_init stJ6_init := by
  refine ⟨⟨mo_ald, ok_aldn dJ6_init_0 rfl rfl⟩, ?_⟩
  refine ⟨⟨mo_ald, ok_aldn dJ6_init_1 rfl rfl⟩, ?_⟩
  refine ⟨⟨mo_push, ok_null dJ6_init_2 rfl⟩, ?_⟩
  refine ⟨⟨mo_cvV, ok_ci mi_J6_init_2 lk_J6_489 q931 rfl dJ6_init_3 rfl⟩, ?_⟩
  refine ⟨⟨mo_ret, ok_ret rfl dJ6_init_6⟩, ?_⟩
  exact trivial
set_option maxHeartbeats 4000000 in
theorem alJ6_init_2 : iy_all (iy_calls iy_mi) RJ6 "<init>" cJ6_init_2 5 (none, []) pcJ6_init_2 pcJ6_init_2 stJ6_init_2 := by
  refine ⟨⟨mo_ald, ok_aldn dJ6_init_2_0 rfl rfl⟩, ?_⟩
  refine ⟨⟨mo_oin, ok_oin q933 q185 q186 dJ6_init_2_1 rfl⟩, ?_⟩
  refine ⟨⟨mo_ald, ok_aldn dJ6_init_2_4 rfl rfl⟩, ?_⟩
  refine ⟨⟨mo_cvR, ok_cuR mi_J10_getValue q934 q163 q938 ⟨nmh_J10.1, nmh_J10.2, pmd_yJ10_getValue⟩ (Nat.le_of_ble_eq_true rfl) q935 q936 rfl q937 rfl (Nat.le_of_ble_eq_true rfl) (iy_ro_le _) rfl dJ6_init_2_5 rfl⟩, ?_⟩
  refine ⟨⟨mo_ast, ok_astn dJ6_init_2_8 rfl (Nat.le_of_ble_eq_true rfl) rfl⟩, ?_⟩
  refine ⟨⟨mo_ald, ok_aldn dJ6_init_2_9 rfl rfl⟩, ?_⟩
  refine ⟨⟨mo_cvI, ok_ctI mi_J11_length q939 q164 q944 ⟨nmh_J10.1, nmh_J10.2, pmd_yJ10_length⟩ (Nat.le_of_ble_eq_true rfl) q943 q941 q940 q946 q942 rfl (Nat.le_of_ble_eq_true rfl) (iy_ro_le _) rfl dJ6_init_2_10 rfl⟩, ?_⟩
  refine ⟨⟨mo_ist, ok_ist dJ6_init_2_13 (Nat.le_of_ble_eq_true rfl) rfl⟩, ?_⟩
  refine ⟨⟨mo_ald, ok_aldn dJ6_init_2_15 rfl rfl⟩, ?_⟩
  refine ⟨⟨mo_cvI, ok_cuI mi_J10_isLatin1 q947 q163 q892 ⟨nmh_J10.1, nmh_J10.2, pmd_yJ10_isLatin1⟩ (Nat.le_of_ble_eq_true rfl) q889 q890 rfl q891 rfl (Nat.le_of_ble_eq_true rfl) (iy_ro_le _) rfl dJ6_init_2_16 rfl⟩, ?_⟩
  refine ⟨⟨mo_ieq, ok_ieq dJ6_init_2_19 rfl rfl⟩, ?_⟩
  refine ⟨⟨mo_ald, ok_aldn dJ6_init_2_22 rfl rfl⟩, ?_⟩
  refine ⟨⟨mo_push, ok_iconst dJ6_init_2_23 iv_i0 rfl⟩, ?_⟩
  refine ⟨⟨mo_pI, ok_pI rfl fd_J6_15 rfl (Or.inr ⟨rfl, rfl, rfl⟩) dJ6_init_2_24 rfl⟩, ?_⟩
  refine ⟨⟨mo_ald, ok_aldn dJ6_init_2_27 rfl rfl⟩, ?_⟩
  refine ⟨⟨mo_ald, ok_aldn dJ6_init_2_28 rfl rfl⟩, ?_⟩
  refine ⟨⟨mo_push, ok_iconst dJ6_init_2_29 iv_i0 rfl⟩, ?_⟩
  refine ⟨⟨mo_ild, ok_ild dJ6_init_2_30 rfl⟩, ?_⟩
  refine ⟨⟨mo_csR, ok_csR mi_J14_copyOfRange lk_J6_54 q949 dJ6_init_2_32 rfl⟩, ?_⟩
  refine ⟨⟨mo_pR, ok_pR rfl fd_J6_9 rfl (Or.inr ⟨rfl, rfl, rfl⟩) dJ6_init_2_35 rfl⟩, ?_⟩
  refine ⟨⟨mo_goto, ok_goto dJ6_init_2_38 rfl⟩, ?_⟩
  refine ⟨⟨mo_push, ok_gsI (C := "java/lang/String") (List.mem_of_getElem? (i := 0) rfl) q733 rfl dJ6_init_2_41 rfl⟩, ?_⟩
  refine ⟨⟨mo_ieq, ok_ieq dJ6_init_2_44 rfl rfl⟩, ?_⟩
  refine ⟨⟨mo_ald, ok_aldn dJ6_init_2_47 rfl rfl⟩, ?_⟩
  refine ⟨⟨mo_gI, ok_gI rfl fd_J6_1048 rfl dJ6_init_2_48 rfl⟩, ?_⟩
  refine ⟨⟨mo_ieq, ok_ieq dJ6_init_2_51 rfl rfl⟩, ?_⟩
  refine ⟨⟨mo_ald, ok_aldn dJ6_init_2_54 rfl rfl⟩, ?_⟩
  refine ⟨⟨mo_ald, ok_aldn dJ6_init_2_55 rfl rfl⟩, ?_⟩
  refine ⟨⟨mo_push, ok_iconst dJ6_init_2_56 iv_i0 rfl⟩, ?_⟩
  refine ⟨⟨mo_ild, ok_ild dJ6_init_2_57 rfl⟩, ?_⟩
  refine ⟨⟨mo_csR, ok_csR mi_J9_compress lk_J6_1051 q958 dJ6_init_2_59 rfl⟩, ?_⟩
  refine ⟨⟨mo_pR, ok_pR rfl fd_J6_9 rfl (Or.inr ⟨rfl, rfl, rfl⟩) dJ6_init_2_62 rfl⟩, ?_⟩
  refine ⟨⟨mo_ald, ok_aldn dJ6_init_2_65 rfl rfl⟩, ?_⟩
  refine ⟨⟨mo_ald, ok_aldn dJ6_init_2_66 rfl rfl⟩, ?_⟩
  refine ⟨⟨mo_gRr, ok_gRr rfl fd_J6_9 rfl (by decide) (iy_ro_le _) dJ6_init_2_67 rfl⟩, ?_⟩
  refine ⟨⟨mo_ild, ok_ild dJ6_init_2_70 rfl⟩, ?_⟩
  refine ⟨⟨mo_csI, ok_csI mi_J9_coderFromArrayLen lk_J6_47 q965 dJ6_init_2_72 rfl⟩, ?_⟩
  refine ⟨⟨mo_pI, ok_pI rfl fd_J6_15 rfl (Or.inr ⟨rfl, rfl, rfl⟩) dJ6_init_2_75 rfl⟩, ?_⟩
  refine ⟨⟨mo_ret, ok_ret rfl dJ6_init_2_78⟩, ?_⟩
  refine ⟨⟨mo_keep, ok_keep rfl⟩, ?_⟩
  refine ⟨⟨mo_ald, ok_aldn dJ6_init_2_79 rfl rfl⟩, ?_⟩
  refine ⟨⟨mo_push, ok_iconst dJ6_init_2_80 iv_i1 rfl⟩, ?_⟩
  refine ⟨⟨mo_pI, ok_pI rfl fd_J6_15 rfl (Or.inr ⟨rfl, rfl, rfl⟩) dJ6_init_2_81 rfl⟩, ?_⟩
  refine ⟨⟨mo_ald, ok_aldn dJ6_init_2_84 rfl rfl⟩, ?_⟩
  refine ⟨⟨mo_ald, ok_aldn dJ6_init_2_85 rfl rfl⟩, ?_⟩
  refine ⟨⟨mo_push, ok_iconst dJ6_init_2_86 iv_i0 rfl⟩, ?_⟩
  refine ⟨⟨mo_ild, ok_ild dJ6_init_2_87 rfl⟩, ?_⟩
  refine ⟨⟨mo_push, ok_iconst dJ6_init_2_89 iv_i1 rfl⟩, ?_⟩
  refine ⟨⟨mo_bin, ok_ishl dJ6_init_2_90 rfl⟩, ?_⟩
  refine ⟨⟨mo_csR, ok_csR mi_J14_copyOfRange lk_J6_54 q949 dJ6_init_2_91 rfl⟩, ?_⟩
  refine ⟨⟨mo_pR, ok_pR rfl fd_J6_9 rfl (Or.inr ⟨rfl, rfl, rfl⟩) dJ6_init_2_94 rfl⟩, ?_⟩
  refine ⟨⟨mo_keep, ok_keep rfl⟩, ?_⟩
  refine ⟨⟨mo_ret, ok_ret rfl dJ6_init_2_97⟩, ?_⟩
  exact trivial
set_option maxHeartbeats 4000000 in
theorem alJ6_equals : iy_all (iy_calls iy_mi) RJ6 "equals" cJ6_equals 3 (some FieldType.boolean, []) pcJ6_equals pcJ6_equals stJ6_equals := by
  refine ⟨⟨mo_ald, ok_aldn dJ6_equals_0 rfl rfl⟩, ?_⟩
  refine ⟨⟨mo_ald, ok_aldn dJ6_equals_1 rfl rfl⟩, ?_⟩
  refine ⟨⟨mo_ane, ok_ane dJ6_equals_2 rfl rfl⟩, ?_⟩
  refine ⟨⟨mo_push, ok_iconst dJ6_equals_5 iv_i1 rfl⟩, ?_⟩
  refine ⟨⟨mo_iret, ok_iret rfl rfl dJ6_equals_6⟩, ?_⟩
  refine ⟨⟨mo_ald, ok_aldn dJ6_equals_7 rfl rfl⟩, ?_⟩
  refine ⟨⟨mo_inst, ok_inst can_java_lang_String_19 q984 dJ6_equals_8 rfl⟩, ?_⟩
  refine ⟨⟨mo_ieq, ok_ieq dJ6_equals_11 rfl rfl⟩, ?_⟩
  refine ⟨⟨mo_ald, ok_aldn dJ6_equals_14 rfl rfl⟩, ?_⟩
  refine ⟨⟨mo_cast, ok_cast can_java_lang_String_19_531 q984 dJ6_equals_15 rfl⟩, ?_⟩
  refine ⟨⟨mo_ast, ok_astn dJ6_equals_18 rfl (Nat.le_of_ble_eq_true rfl) rfl⟩, ?_⟩
  refine ⟨⟨mo_push, ok_gsI (C := "java/lang/String") (List.mem_of_getElem? (i := 0) rfl) q733 rfl dJ6_equals_19 rfl⟩, ?_⟩
  refine ⟨⟨mo_ieq, ok_ieq dJ6_equals_22 rfl rfl⟩, ?_⟩
  refine ⟨⟨mo_ald, ok_aldn dJ6_equals_25 rfl rfl⟩, ?_⟩
  refine ⟨⟨mo_gIr, ok_gIr rfl fd_J6_15 rfl (by decide) (iy_ro_le _) dJ6_equals_26 rfl⟩, ?_⟩
  refine ⟨⟨mo_ald, ok_aldn dJ6_equals_29 rfl rfl⟩, ?_⟩
  refine ⟨⟨mo_gIr, ok_gIr rfl fd_J6_15 rfl (by decide) (iy_ro_le _) dJ6_equals_30 rfl⟩, ?_⟩
  refine ⟨⟨mo_cne, ok_cne dJ6_equals_33 rfl rfl⟩, ?_⟩
  refine ⟨⟨mo_keep, ok_keep rfl⟩, ?_⟩
  refine ⟨⟨mo_ald, ok_aldn dJ6_equals_36 rfl rfl⟩, ?_⟩
  refine ⟨⟨mo_gRr, ok_gRr rfl fd_J6_9 rfl (by decide) (iy_ro_le _) dJ6_equals_37 rfl⟩, ?_⟩
  refine ⟨⟨mo_ald, ok_aldn dJ6_equals_40 rfl rfl⟩, ?_⟩
  refine ⟨⟨mo_gRr, ok_gRr rfl fd_J6_9 rfl (by decide) (iy_ro_le _) dJ6_equals_41 rfl⟩, ?_⟩
  refine ⟨⟨mo_csI, ok_csI mi_J7_equals lk_J6_541 q986 dJ6_equals_44 rfl⟩, ?_⟩
  refine ⟨⟨mo_ieq, ok_ieq dJ6_equals_47 rfl rfl⟩, ?_⟩
  refine ⟨⟨mo_push, ok_iconst dJ6_equals_50 iv_i1 rfl⟩, ?_⟩
  refine ⟨⟨mo_goto, ok_goto dJ6_equals_51 rfl⟩, ?_⟩
  refine ⟨⟨mo_keep, ok_keep rfl⟩, ?_⟩
  refine ⟨⟨mo_push, ok_iconst dJ6_equals_54 iv_i0 rfl⟩, ?_⟩
  refine ⟨⟨mo_keep, ok_keep rfl⟩, ?_⟩
  refine ⟨⟨mo_iret, ok_iret rfl rfl dJ6_equals_55⟩, ?_⟩
  exact trivial
set_option maxHeartbeats 4000000 in
theorem alJ6_hashCode : iy_all (iy_calls iy_mi) RJ6 "hashCode" cJ6_hashCode 2 (some FieldType.int, []) pcJ6_hashCode pcJ6_hashCode stJ6_hashCode := by
  refine ⟨⟨mo_ald, ok_aldn dJ6_hashCode_0 rfl rfl⟩, ?_⟩
  refine ⟨⟨mo_gI, ok_gI rfl fd_J6_19 rfl dJ6_hashCode_1 rfl⟩, ?_⟩
  refine ⟨⟨mo_ist, ok_istn dJ6_hashCode_4 rfl (Nat.le_of_ble_eq_true rfl) rfl⟩, ?_⟩
  refine ⟨⟨mo_ild, ok_ildn dJ6_hashCode_5 rfl rfl⟩, ?_⟩
  refine ⟨⟨mo_ine, ok_ine dJ6_hashCode_6 rfl rfl⟩, ?_⟩
  refine ⟨⟨mo_ald, ok_aldn dJ6_hashCode_9 rfl rfl⟩, ?_⟩
  refine ⟨⟨mo_gI, ok_gI rfl fd_J6_23 rfl dJ6_hashCode_10 rfl⟩, ?_⟩
  refine ⟨⟨mo_ine, ok_ine dJ6_hashCode_13 rfl rfl⟩, ?_⟩
  refine ⟨⟨mo_ald, ok_aldn dJ6_hashCode_16 rfl rfl⟩, ?_⟩
  refine ⟨⟨mo_cvI, ok_cvI mi_J6_isLatin1 lk_J6_492 q740 q741 rfl (Nat.le_of_ble_eq_true rfl) (iy_ro_le _) rfl rfl dJ6_hashCode_17 rfl⟩, ?_⟩
  refine ⟨⟨mo_ieq, ok_ieq dJ6_hashCode_20 rfl rfl⟩, ?_⟩
  refine ⟨⟨mo_ald, ok_aldn dJ6_hashCode_23 rfl rfl⟩, ?_⟩
  refine ⟨⟨mo_gRr, ok_gRr rfl fd_J6_9 rfl (by decide) (iy_ro_le _) dJ6_hashCode_24 rfl⟩, ?_⟩
  refine ⟨⟨mo_csI, ok_csI mi_J7_hashCode lk_J6_628 q1027 dJ6_hashCode_27 rfl⟩, ?_⟩
  refine ⟨⟨mo_goto, ok_goto dJ6_hashCode_30 rfl⟩, ?_⟩
  refine ⟨⟨mo_ald, ok_aldn dJ6_hashCode_33 rfl rfl⟩, ?_⟩
  refine ⟨⟨mo_gRr, ok_gRr rfl fd_J6_9 rfl (by decide) (iy_ro_le _) dJ6_hashCode_34 rfl⟩, ?_⟩
  refine ⟨⟨mo_csI, ok_csI mi_J9_hashCode lk_J6_632 q1068 dJ6_hashCode_37 rfl⟩, ?_⟩
  refine ⟨⟨mo_keep, ok_keep rfl⟩, ?_⟩
  refine ⟨⟨mo_ist, ok_istn dJ6_hashCode_40 rfl (Nat.le_of_ble_eq_true rfl) rfl⟩, ?_⟩
  refine ⟨⟨mo_ild, ok_ildn dJ6_hashCode_41 rfl rfl⟩, ?_⟩
  refine ⟨⟨mo_ine, ok_ine dJ6_hashCode_42 rfl rfl⟩, ?_⟩
  refine ⟨⟨mo_ald, ok_aldn dJ6_hashCode_45 rfl rfl⟩, ?_⟩
  refine ⟨⟨mo_push, ok_iconst dJ6_hashCode_46 iv_i1 rfl⟩, ?_⟩
  refine ⟨⟨mo_pI, ok_pI rfl fd_J6_23 rfl (Or.inl rfl) dJ6_hashCode_47 rfl⟩, ?_⟩
  refine ⟨⟨mo_goto, ok_goto dJ6_hashCode_50 rfl⟩, ?_⟩
  refine ⟨⟨mo_ald, ok_aldn dJ6_hashCode_53 rfl rfl⟩, ?_⟩
  refine ⟨⟨mo_ild, ok_ildn dJ6_hashCode_54 rfl rfl⟩, ?_⟩
  refine ⟨⟨mo_pI, ok_pI rfl fd_J6_19 rfl (Or.inl rfl) dJ6_hashCode_55 rfl⟩, ?_⟩
  refine ⟨⟨mo_keep, ok_keep rfl⟩, ?_⟩
  refine ⟨⟨mo_ild, ok_ildn dJ6_hashCode_58 rfl rfl⟩, ?_⟩
  refine ⟨⟨mo_iret, ok_iret rfl rfl dJ6_hashCode_59⟩, ?_⟩
  exact trivial
set_option maxHeartbeats 4000000 in
theorem alJ7_charAt : iy_all (iy_calls iy_mi) RJ7 "charAt" cJ7_charAt 2 (some FieldType.char, []) pcJ7_charAt pcJ7_charAt stJ7_charAt := by
  refine ⟨⟨mo_ild, ok_ildn dJ7_charAt_0 rfl rfl⟩, ?_⟩
  refine ⟨⟨mo_ald, ok_aldn dJ7_charAt_1 rfl rfl⟩, ?_⟩
  refine ⟨⟨mo_len, ok_len rfl dJ7_charAt_2 rfl⟩, ?_⟩
  refine ⟨⟨mo_csV, ok_csV mi_J6_checkIndex lk_J7_9 q747 dJ7_charAt_3 rfl⟩, ?_⟩
  refine ⟨⟨mo_ald, ok_aldn dJ7_charAt_6 rfl rfl⟩, ?_⟩
  refine ⟨⟨mo_ild, ok_ildn dJ7_charAt_7 rfl rfl⟩, ?_⟩
  refine ⟨⟨mo_alI, ok_bald dJ7_charAt_8 rfl⟩, ?_⟩
  refine ⟨⟨mo_push, ok_sipush dJ7_charAt_9 iv_s255 rfl⟩, ?_⟩
  refine ⟨⟨mo_bin, ok_iand dJ7_charAt_12 rfl⟩, ?_⟩
  refine ⟨⟨mo_un, ok_i2c dJ7_charAt_13 rfl⟩, ?_⟩
  refine ⟨⟨mo_iret, ok_iret rfl rfl dJ7_charAt_14⟩, ?_⟩
  exact trivial
set_option maxHeartbeats 4000000 in
theorem alJ7_canEncode : iy_all (iy_calls iy_mi) RJ7 "canEncode" cJ7_canEncode 1 (some FieldType.boolean, []) pcJ7_canEncode pcJ7_canEncode stJ7_canEncode := by
  refine ⟨⟨mo_ild, ok_ildn dJ7_canEncode_0 rfl rfl⟩, ?_⟩
  refine ⟨⟨mo_push, ok_sipush dJ7_canEncode_1 iv_s255 rfl⟩, ?_⟩
  refine ⟨⟨mo_cgt, ok_cgt dJ7_canEncode_4 rfl rfl⟩, ?_⟩
  refine ⟨⟨mo_push, ok_iconst dJ7_canEncode_7 iv_i1 rfl⟩, ?_⟩
  refine ⟨⟨mo_goto, ok_goto dJ7_canEncode_8 rfl⟩, ?_⟩
  refine ⟨⟨mo_push, ok_iconst dJ7_canEncode_11 iv_i0 rfl⟩, ?_⟩
  refine ⟨⟨mo_keep, ok_keep rfl⟩, ?_⟩
  refine ⟨⟨mo_iret, ok_iret rfl rfl dJ7_canEncode_12⟩, ?_⟩
  exact trivial
set_option maxHeartbeats 4000000 in
theorem alJ7_inflate : iy_all (iy_calls iy_mi) RJ7 "inflate" cJ7_inflate 5 (none, []) pcJ7_inflate pcJ7_inflate stJ7_inflate := by
  refine ⟨⟨mo_ald, ok_aldn dJ7_inflate_0 rfl rfl⟩, ?_⟩
  refine ⟨⟨mo_ild, ok_ildn dJ7_inflate_1 rfl rfl⟩, ?_⟩
  refine ⟨⟨mo_ald, ok_aldn dJ7_inflate_2 rfl rfl⟩, ?_⟩
  refine ⟨⟨mo_ild, ok_ildn dJ7_inflate_3 rfl rfl⟩, ?_⟩
  refine ⟨⟨mo_ild, ok_ild dJ7_inflate_4 rfl⟩, ?_⟩
  refine ⟨⟨mo_csV, ok_csV mi_J9_inflate lk_J7_240 q904 dJ7_inflate_6 rfl⟩, ?_⟩
  refine ⟨⟨mo_ret, ok_ret rfl dJ7_inflate_9⟩, ?_⟩
  exact trivial
set_option maxHeartbeats 4000000 in
theorem alJ7_equals : iy_all (iy_calls iy_mi) RJ7 "equals" cJ7_equals 3 (some FieldType.boolean, []) pcJ7_equals pcJ7_equals stJ7_equals := by
  refine ⟨⟨mo_ald, ok_aldn dJ7_equals_0 rfl rfl⟩, ?_⟩
  refine ⟨⟨mo_len, ok_len rfl dJ7_equals_1 rfl⟩, ?_⟩
  refine ⟨⟨mo_ald, ok_aldn dJ7_equals_2 rfl rfl⟩, ?_⟩
  refine ⟨⟨mo_len, ok_len rfl dJ7_equals_3 rfl⟩, ?_⟩
  refine ⟨⟨mo_cne, ok_cne dJ7_equals_4 rfl rfl⟩, ?_⟩
  refine ⟨⟨mo_push, ok_iconst dJ7_equals_7 iv_i0 rfl⟩, ?_⟩
  refine ⟨⟨mo_ist, ok_istn dJ7_equals_8 rfl (Nat.le_of_ble_eq_true rfl) rfl⟩, ?_⟩
  refine ⟨⟨mo_keep, ok_keep rfl⟩, ?_⟩
  refine ⟨⟨mo_ild, ok_ildn dJ7_equals_9 rfl rfl⟩, ?_⟩
  refine ⟨⟨mo_ald, ok_aldn dJ7_equals_10 rfl rfl⟩, ?_⟩
  refine ⟨⟨mo_len, ok_len rfl dJ7_equals_11 rfl⟩, ?_⟩
  refine ⟨⟨mo_cge, ok_cge dJ7_equals_12 rfl rfl⟩, ?_⟩
  refine ⟨⟨mo_ald, ok_aldn dJ7_equals_15 rfl rfl⟩, ?_⟩
  refine ⟨⟨mo_ild, ok_ildn dJ7_equals_16 rfl rfl⟩, ?_⟩
  refine ⟨⟨mo_alI, ok_bald dJ7_equals_17 rfl⟩, ?_⟩
  refine ⟨⟨mo_ald, ok_aldn dJ7_equals_18 rfl rfl⟩, ?_⟩
  refine ⟨⟨mo_ild, ok_ildn dJ7_equals_19 rfl rfl⟩, ?_⟩
  refine ⟨⟨mo_alI, ok_bald dJ7_equals_20 rfl⟩, ?_⟩
  refine ⟨⟨mo_ceq, ok_ceq dJ7_equals_21 rfl rfl⟩, ?_⟩
  refine ⟨⟨mo_push, ok_iconst dJ7_equals_24 iv_i0 rfl⟩, ?_⟩
  refine ⟨⟨mo_iret, ok_iret rfl rfl dJ7_equals_25⟩, ?_⟩
  refine ⟨⟨mo_inc, ok_inc dJ7_equals_26 iv_i1 (Nat.le_of_ble_eq_true rfl) rfl⟩, ?_⟩
  refine ⟨⟨mo_back, ok_back dJ7_equals_29 rfl⟩, ?_⟩
  refine ⟨⟨mo_push, ok_iconst dJ7_equals_32 iv_i1 rfl⟩, ?_⟩
  refine ⟨⟨mo_iret, ok_iret rfl rfl dJ7_equals_33⟩, ?_⟩
  refine ⟨⟨mo_push, ok_iconst dJ7_equals_34 iv_i0 rfl⟩, ?_⟩
  refine ⟨⟨mo_iret, ok_iret rfl rfl dJ7_equals_35⟩, ?_⟩
  exact trivial
set_option maxHeartbeats 4000000 in
theorem alJ7_hashCode : iy_all (iy_calls iy_mi) RJ7 "hashCode" cJ7_hashCode 1 (some FieldType.int, []) pcJ7_hashCode pcJ7_hashCode stJ7_hashCode := by
  refine ⟨⟨mo_ald, ok_aldn dJ7_hashCode_0 rfl rfl⟩, ?_⟩
  refine ⟨⟨mo_len, ok_len rfl dJ7_hashCode_1 rfl⟩, ?_⟩
  refine ⟨⟨mo_sw, ok_lsw dJ7_hashCode_2 rfl (by decide +kernel) (by decide +kernel)⟩, ?_⟩
  refine ⟨⟨mo_push, ok_iconst dJ7_hashCode_28 iv_i0 rfl⟩, ?_⟩
  refine ⟨⟨mo_goto, ok_goto dJ7_hashCode_29 rfl⟩, ?_⟩
  refine ⟨⟨mo_ald, ok_aldn dJ7_hashCode_32 rfl rfl⟩, ?_⟩
  refine ⟨⟨mo_push, ok_iconst dJ7_hashCode_33 iv_i0 rfl⟩, ?_⟩
  refine ⟨⟨mo_alI, ok_bald dJ7_hashCode_34 rfl⟩, ?_⟩
  refine ⟨⟨mo_push, ok_sipush dJ7_hashCode_35 iv_s255 rfl⟩, ?_⟩
  refine ⟨⟨mo_bin, ok_iand dJ7_hashCode_38 rfl⟩, ?_⟩
  refine ⟨⟨mo_goto, ok_goto dJ7_hashCode_39 rfl⟩, ?_⟩
  refine ⟨⟨mo_ald, ok_aldn dJ7_hashCode_42 rfl rfl⟩, ?_⟩
  refine ⟨⟨mo_push, ok_iconst dJ7_hashCode_43 iv_i0 rfl⟩, ?_⟩
  refine ⟨⟨mo_ald, ok_aldn dJ7_hashCode_44 rfl rfl⟩, ?_⟩
  refine ⟨⟨mo_len, ok_len rfl dJ7_hashCode_45 rfl⟩, ?_⟩
  refine ⟨⟨mo_push, ok_iconst dJ7_hashCode_46 iv_i0 rfl⟩, ?_⟩
  refine ⟨⟨mo_push, ok_iconst dJ7_hashCode_47 iv_i4 rfl⟩, ?_⟩
  refine ⟨⟨mo_csI, ok_csI mi_J12_vectorizedHashCode lk_J7_84 q1030 dJ7_hashCode_48 rfl⟩, ?_⟩
  refine ⟨⟨mo_keep, ok_keep rfl⟩, ?_⟩
  refine ⟨⟨mo_iret, ok_iret rfl rfl dJ7_hashCode_51⟩, ?_⟩
  exact trivial
set_option maxHeartbeats 4000000 in
theorem alJ8_checkIndex : iy_all (iy_calls iy_mi) RJ8 "checkIndex" cJ8_checkIndex 3 (some FieldType.int, []) pcJ8_checkIndex pcJ8_checkIndex stJ8_checkIndex := by
  refine ⟨⟨mo_ild, ok_ildn dJ8_checkIndex_0 rfl rfl⟩, ?_⟩
  refine ⟨⟨mo_ilt, ok_ilt dJ8_checkIndex_1 rfl rfl⟩, ?_⟩
  refine ⟨⟨mo_ild, ok_ildn dJ8_checkIndex_4 rfl rfl⟩, ?_⟩
  refine ⟨⟨mo_ild, ok_ildn dJ8_checkIndex_5 rfl rfl⟩, ?_⟩
  refine ⟨⟨mo_clt, ok_clt dJ8_checkIndex_6 rfl rfl⟩, ?_⟩
  refine ⟨⟨mo_keep, ok_keep rfl⟩, ?_⟩
  refine ⟨⟨mo_ald, ok_aldn dJ8_checkIndex_9 rfl rfl⟩, ?_⟩
  refine ⟨⟨mo_ild, ok_ildn dJ8_checkIndex_10 rfl rfl⟩, ?_⟩
  refine ⟨⟨mo_ild, ok_ildn dJ8_checkIndex_11 rfl rfl⟩, ?_⟩
  refine ⟨⟨mo_no, ok_no⟩, ?_⟩
  refine ⟨⟨mo_no, ok_no⟩, ?_⟩
  refine ⟨⟨mo_ild, ok_ildn dJ8_checkIndex_16 rfl rfl⟩, ?_⟩
  refine ⟨⟨mo_iret, ok_iret rfl rfl dJ8_checkIndex_17⟩, ?_⟩
  exact trivial
set_option maxHeartbeats 4000000 in
theorem alJ8_checkFromIndexSize : iy_all (iy_calls iy_mi) RJ8 "checkFromIndexSize" cJ8_checkFromIndexSize 4 (some FieldType.int, []) pcJ8_checkFromIndexSize pcJ8_checkFromIndexSize stJ8_checkFromIndexSize := by
  refine ⟨⟨mo_ild, ok_ildn dJ8_checkFromIndexSize_0 rfl rfl⟩, ?_⟩
  refine ⟨⟨mo_ild, ok_ildn dJ8_checkFromIndexSize_1 rfl rfl⟩, ?_⟩
  refine ⟨⟨mo_bin, ok_ior dJ8_checkFromIndexSize_2 rfl⟩, ?_⟩
  refine ⟨⟨mo_ild, ok_ildn dJ8_checkFromIndexSize_3 rfl rfl⟩, ?_⟩
  refine ⟨⟨mo_bin, ok_ior dJ8_checkFromIndexSize_4 rfl⟩, ?_⟩
  refine ⟨⟨mo_ilt, ok_ilt dJ8_checkFromIndexSize_5 rfl rfl⟩, ?_⟩
  refine ⟨⟨mo_ild, ok_ildn dJ8_checkFromIndexSize_8 rfl rfl⟩, ?_⟩
  refine ⟨⟨mo_ild, ok_ildn dJ8_checkFromIndexSize_9 rfl rfl⟩, ?_⟩
  refine ⟨⟨mo_ild, ok_ildn dJ8_checkFromIndexSize_10 rfl rfl⟩, ?_⟩
  refine ⟨⟨mo_bin, ok_isub dJ8_checkFromIndexSize_11 rfl⟩, ?_⟩
  refine ⟨⟨mo_cle, ok_cle dJ8_checkFromIndexSize_12 rfl rfl⟩, ?_⟩
  refine ⟨⟨mo_keep, ok_keep rfl⟩, ?_⟩
  refine ⟨⟨mo_ald, ok_aldn dJ8_checkFromIndexSize_15 rfl rfl⟩, ?_⟩
  refine ⟨⟨mo_ild, ok_ildn dJ8_checkFromIndexSize_16 rfl rfl⟩, ?_⟩
  refine ⟨⟨mo_ild, ok_ildn dJ8_checkFromIndexSize_17 rfl rfl⟩, ?_⟩
  refine ⟨⟨mo_ild, ok_ildn dJ8_checkFromIndexSize_18 rfl rfl⟩, ?_⟩
  refine ⟨⟨mo_no, ok_no⟩, ?_⟩
  refine ⟨⟨mo_no, ok_no⟩, ?_⟩
  refine ⟨⟨mo_ild, ok_ildn dJ8_checkFromIndexSize_23 rfl rfl⟩, ?_⟩
  refine ⟨⟨mo_iret, ok_iret rfl rfl dJ8_checkFromIndexSize_24⟩, ?_⟩
  exact trivial
set_option maxHeartbeats 4000000 in
theorem alJ9_charAt : iy_all (iy_calls iy_mi) RJ9 "charAt" cJ9_charAt 2 (some FieldType.char, []) pcJ9_charAt pcJ9_charAt stJ9_charAt := by
  refine ⟨⟨mo_ild, ok_ildn dJ9_charAt_0 rfl rfl⟩, ?_⟩
  refine ⟨⟨mo_ald, ok_aldn dJ9_charAt_1 rfl rfl⟩, ?_⟩
  refine ⟨⟨mo_csV, ok_csV mi_J9_checkIndex lk_J9_67 q758 dJ9_charAt_2 rfl⟩, ?_⟩
  refine ⟨⟨mo_ald, ok_aldn dJ9_charAt_5 rfl rfl⟩, ?_⟩
  refine ⟨⟨mo_ild, ok_ildn dJ9_charAt_6 rfl rfl⟩, ?_⟩
  refine ⟨⟨mo_csI, ok_csI mi_J9_getChar lk_J9_71 q765 dJ9_charAt_7 rfl⟩, ?_⟩
  refine ⟨⟨mo_iret, ok_iret rfl rfl dJ9_charAt_10⟩, ?_⟩
  exact trivial
set_option maxHeartbeats 4000000 in
theorem alJ9_checkIndex : iy_all (iy_calls iy_mi) RJ9 "checkIndex" cJ9_checkIndex 2 (none, []) pcJ9_checkIndex pcJ9_checkIndex stJ9_checkIndex := by
  refine ⟨⟨mo_ild, ok_ildn dJ9_checkIndex_0 rfl rfl⟩, ?_⟩
  refine ⟨⟨mo_ald, ok_aldn dJ9_checkIndex_1 rfl rfl⟩, ?_⟩
  refine ⟨⟨mo_csI, ok_csI mi_J9_length lk_J9_48 q761 dJ9_checkIndex_2 rfl⟩, ?_⟩
  refine ⟨⟨mo_csV, ok_csV mi_J6_checkIndex lk_J9_414 q747 dJ9_checkIndex_5 rfl⟩, ?_⟩
  refine ⟨⟨mo_ret, ok_ret rfl dJ9_checkIndex_8⟩, ?_⟩
  exact trivial
set_option maxHeartbeats 4000000 in
theorem alJ9_length : iy_all (iy_calls iy_mi) RJ9 "length" cJ9_length 1 (some FieldType.int, []) pcJ9_length pcJ9_length stJ9_length := by
  refine ⟨⟨mo_ald, ok_aldn dJ9_length_0 rfl rfl⟩, ?_⟩
  refine ⟨⟨mo_len, ok_len rfl dJ9_length_1 rfl⟩, ?_⟩
  refine ⟨⟨mo_push, ok_iconst dJ9_length_2 iv_i1 rfl⟩, ?_⟩
  refine ⟨⟨mo_bin, ok_ishr dJ9_length_3 rfl⟩, ?_⟩
  refine ⟨⟨mo_iret, ok_iret rfl rfl dJ9_length_4⟩, ?_⟩
  exact trivial
set_option maxHeartbeats 4000000 in
theorem alJ9_getChar : iy_all (iy_calls iy_mi) RJ9 "getChar" cJ9_getChar 2 (some FieldType.char, []) pcJ9_getChar pcJ9_getChar stJ9_getChar := by
  refine ⟨⟨mo_no, ok_no⟩, ?_⟩
  refine ⟨⟨mo_ine, ok_ine dJ9_getChar_3 rfl rfl⟩, ?_⟩
  refine ⟨⟨mo_ild, ok_ildn dJ9_getChar_6 rfl rfl⟩, ?_⟩
  refine ⟨⟨mo_ilt, ok_ilt dJ9_getChar_7 rfl rfl⟩, ?_⟩
  refine ⟨⟨mo_ild, ok_ildn dJ9_getChar_10 rfl rfl⟩, ?_⟩
  refine ⟨⟨mo_ald, ok_aldn dJ9_getChar_11 rfl rfl⟩, ?_⟩
  refine ⟨⟨mo_csI, ok_csI mi_J9_length lk_J9_48 q761 dJ9_getChar_12 rfl⟩, ?_⟩
  refine ⟨⟨mo_clt, ok_clt dJ9_getChar_15 rfl rfl⟩, ?_⟩
  refine ⟨⟨mo_keep, ok_keep rfl⟩, ?_⟩
  refine ⟨⟨mo_no, ok_no⟩, ?_⟩
  refine ⟨⟨mo_no, ok_no⟩, ?_⟩
  refine ⟨⟨mo_no, ok_no⟩, ?_⟩
  refine ⟨⟨mo_no, ok_no⟩, ?_⟩
  refine ⟨⟨mo_no, ok_no⟩, ?_⟩
  refine ⟨⟨mo_keep, ok_keep rfl⟩, ?_⟩
  refine ⟨⟨mo_ild, ok_ildn dJ9_getChar_28 rfl rfl⟩, ?_⟩
  refine ⟨⟨mo_push, ok_iconst dJ9_getChar_29 iv_i1 rfl⟩, ?_⟩
  refine ⟨⟨mo_bin, ok_ishl dJ9_getChar_30 rfl⟩, ?_⟩
  refine ⟨⟨mo_ist, ok_istn dJ9_getChar_31 rfl (Nat.le_of_ble_eq_true rfl) rfl⟩, ?_⟩
  refine ⟨⟨mo_ald, ok_aldn dJ9_getChar_32 rfl rfl⟩, ?_⟩
  refine ⟨⟨mo_ild, ok_ildn dJ9_getChar_33 rfl rfl⟩, ?_⟩
  refine ⟨⟨mo_inc, ok_inc dJ9_getChar_34 iv_i1 (Nat.le_of_ble_eq_true rfl) rfl⟩, ?_⟩
  refine ⟨⟨mo_alI, ok_bald dJ9_getChar_37 rfl⟩, ?_⟩
  refine ⟨⟨mo_push, ok_sipush dJ9_getChar_38 iv_s255 rfl⟩, ?_⟩
  refine ⟨⟨mo_bin, ok_iand dJ9_getChar_41 rfl⟩, ?_⟩
  refine ⟨⟨mo_no, ok_no⟩, ?_⟩
  refine ⟨⟨mo_bin, ok_ishl dJ9_getChar_45 rfl⟩, ?_⟩
  refine ⟨⟨mo_ald, ok_aldn dJ9_getChar_46 rfl rfl⟩, ?_⟩
  refine ⟨⟨mo_ild, ok_ildn dJ9_getChar_47 rfl rfl⟩, ?_⟩
  refine ⟨⟨mo_alI, ok_bald dJ9_getChar_48 rfl⟩, ?_⟩
  refine ⟨⟨mo_push, ok_sipush dJ9_getChar_49 iv_s255 rfl⟩, ?_⟩
  refine ⟨⟨mo_bin, ok_iand dJ9_getChar_52 rfl⟩, ?_⟩
  refine ⟨⟨mo_no, ok_no⟩, ?_⟩
  refine ⟨⟨mo_bin, ok_ishl dJ9_getChar_56 rfl⟩, ?_⟩
  refine ⟨⟨mo_bin, ok_ior dJ9_getChar_57 rfl⟩, ?_⟩
  refine ⟨⟨mo_un, ok_i2c dJ9_getChar_58 rfl⟩, ?_⟩
  refine ⟨⟨mo_iret, ok_iret rfl rfl dJ9_getChar_59⟩, ?_⟩
  exact trivial
set_option maxHeartbeats 4000000 in
theorem alJ9_newBytesFor : iy_all (iy_calls iy_mi) RJ9 "newBytesFor" cJ9_newBytesFor 1 (some (FieldType.array FieldType.byte), []) pcJ9_newBytesFor pcJ9_newBytesFor stJ9_newBytesFor := by
  refine ⟨⟨mo_ild, ok_ildn dJ9_newBytesFor_0 rfl rfl⟩, ?_⟩
  refine ⟨⟨mo_csI, ok_csI mi_J9_newBytesLength lk_J9_11 q830 dJ9_newBytesFor_1 rfl⟩, ?_⟩
  refine ⟨⟨mo_newA, ok_newA rfl rfl q260 dJ9_newBytesFor_4 rfl rfl⟩, ?_⟩
  refine ⟨⟨mo_aret, ok_aret rfl rfl dJ9_newBytesFor_6⟩, ?_⟩
  exact trivial
set_option maxHeartbeats 4000000 in
theorem alJ9_newBytesLength : iy_all (iy_calls iy_mi) RJ9 "newBytesLength" cJ9_newBytesLength 1 (some FieldType.int, []) pcJ9_newBytesLength pcJ9_newBytesLength stJ9_newBytesLength := by
  refine ⟨⟨mo_ild, ok_ildn dJ9_newBytesLength_0 rfl rfl⟩, ?_⟩
  refine ⟨⟨mo_ige, ok_ige dJ9_newBytesLength_1 rfl rfl⟩, ?_⟩
  refine ⟨⟨mo_no, ok_no⟩, ?_⟩
  refine ⟨⟨mo_no, ok_no⟩, ?_⟩
  refine ⟨⟨mo_no, ok_no⟩, ?_⟩
  refine ⟨⟨mo_no, ok_no⟩, ?_⟩
  refine ⟨⟨mo_ild, ok_ildn dJ9_newBytesLength_12 rfl rfl⟩, ?_⟩
  refine ⟨⟨mo_push, ok_ldc dJ9_newBytesLength_13 q832 rfl⟩, ?_⟩
  refine ⟨⟨mo_clt, ok_clt dJ9_newBytesLength_15 rfl rfl⟩, ?_⟩
  refine ⟨⟨mo_no, ok_no⟩, ?_⟩
  refine ⟨⟨mo_no, ok_no⟩, ?_⟩
  refine ⟨⟨mo_no, ok_no⟩, ?_⟩
  refine ⟨⟨mo_no, ok_no⟩, ?_⟩
  refine ⟨⟨mo_no, ok_no⟩, ?_⟩
  refine ⟨⟨mo_no, ok_no⟩, ?_⟩
  refine ⟨⟨mo_no, ok_no⟩, ?_⟩
  refine ⟨⟨mo_no, ok_no⟩, ?_⟩
  refine ⟨⟨mo_no, ok_no⟩, ?_⟩
  refine ⟨⟨mo_no, ok_no⟩, ?_⟩
  refine ⟨⟨mo_no, ok_no⟩, ?_⟩
  refine ⟨⟨mo_no, ok_no⟩, ?_⟩
  refine ⟨⟨mo_no, ok_no⟩, ?_⟩
  refine ⟨⟨mo_no, ok_no⟩, ?_⟩
  refine ⟨⟨mo_no, ok_no⟩, ?_⟩
  refine ⟨⟨mo_no, ok_no⟩, ?_⟩
  refine ⟨⟨mo_ild, ok_ildn dJ9_newBytesLength_55 rfl rfl⟩, ?_⟩
  refine ⟨⟨mo_push, ok_iconst dJ9_newBytesLength_56 iv_i1 rfl⟩, ?_⟩
  refine ⟨⟨mo_bin, ok_ishl dJ9_newBytesLength_57 rfl⟩, ?_⟩
  refine ⟨⟨mo_iret, ok_iret rfl rfl dJ9_newBytesLength_58⟩, ?_⟩
  exact trivial
set_option maxHeartbeats 4000000 in
theorem alJ9_inflate : iy_all (iy_calls iy_mi) RJ9 "inflate" cJ9_inflate 6 (none, []) pcJ9_inflate pcJ9_inflate stJ9_inflate := by
  refine ⟨⟨mo_ild, ok_ildn dJ9_inflate_0 rfl rfl⟩, ?_⟩
  refine ⟨⟨mo_ild, ok_ild dJ9_inflate_1 rfl⟩, ?_⟩
  refine ⟨⟨mo_ald, ok_aldn dJ9_inflate_3 rfl rfl⟩, ?_⟩
  refine ⟨⟨mo_csV, ok_csV mi_J9_checkBoundsOffCount lk_J9_173 q907 dJ9_inflate_4 rfl⟩, ?_⟩
  refine ⟨⟨mo_push, ok_iconst dJ9_inflate_7 iv_i0 rfl⟩, ?_⟩
  refine ⟨⟨mo_ist, ok_ist dJ9_inflate_8 (Nat.le_of_ble_eq_true rfl) rfl⟩, ?_⟩
  refine ⟨⟨mo_keep, ok_keep rfl⟩, ?_⟩
  refine ⟨⟨mo_ild, ok_ild dJ9_inflate_10 rfl⟩, ?_⟩
  refine ⟨⟨mo_ild, ok_ild dJ9_inflate_12 rfl⟩, ?_⟩
  refine ⟨⟨mo_cge, ok_cge dJ9_inflate_14 rfl rfl⟩, ?_⟩
  refine ⟨⟨mo_ald, ok_aldn dJ9_inflate_17 rfl rfl⟩, ?_⟩
  refine ⟨⟨mo_ild, ok_ildn dJ9_inflate_18 rfl rfl⟩, ?_⟩
  refine ⟨⟨mo_inc, ok_inc dJ9_inflate_19 iv_i1 (Nat.le_of_ble_eq_true rfl) rfl⟩, ?_⟩
  refine ⟨⟨mo_ald, ok_aldn dJ9_inflate_22 rfl rfl⟩, ?_⟩
  refine ⟨⟨mo_ild, ok_ildn dJ9_inflate_23 rfl rfl⟩, ?_⟩
  refine ⟨⟨mo_inc, ok_inc dJ9_inflate_24 iv_i1 (Nat.le_of_ble_eq_true rfl) rfl⟩, ?_⟩
  refine ⟨⟨mo_alI, ok_bald dJ9_inflate_27 rfl⟩, ?_⟩
  refine ⟨⟨mo_push, ok_sipush dJ9_inflate_28 iv_s255 rfl⟩, ?_⟩
  refine ⟨⟨mo_bin, ok_iand dJ9_inflate_31 rfl⟩, ?_⟩
  refine ⟨⟨mo_csV, ok_csV mi_J9_putChar lk_J9_111 q916 dJ9_inflate_32 rfl⟩, ?_⟩
  refine ⟨⟨mo_inc, ok_inc dJ9_inflate_35 iv_i1 (Nat.le_of_ble_eq_true rfl) rfl⟩, ?_⟩
  refine ⟨⟨mo_back, ok_back dJ9_inflate_38 rfl⟩, ?_⟩
  refine ⟨⟨mo_ret, ok_ret rfl dJ9_inflate_41⟩, ?_⟩
  exact trivial
set_option maxHeartbeats 4000000 in
theorem alJ9_checkBoundsOffCount : iy_all (iy_calls iy_mi) RJ9 "checkBoundsOffCount" cJ9_checkBoundsOffCount 3 (none, []) pcJ9_checkBoundsOffCount pcJ9_checkBoundsOffCount stJ9_checkBoundsOffCount := by
  refine ⟨⟨mo_ild, ok_ildn dJ9_checkBoundsOffCount_0 rfl rfl⟩, ?_⟩
  refine ⟨⟨mo_ild, ok_ildn dJ9_checkBoundsOffCount_1 rfl rfl⟩, ?_⟩
  refine ⟨⟨mo_ald, ok_aldn dJ9_checkBoundsOffCount_2 rfl rfl⟩, ?_⟩
  refine ⟨⟨mo_csI, ok_csI mi_J9_length lk_J9_48 q761 dJ9_checkBoundsOffCount_3 rfl⟩, ?_⟩
  refine ⟨⟨mo_csI, ok_csI mi_J6_checkBoundsOffCount lk_J9_419 q910 dJ9_checkBoundsOffCount_6 rfl⟩, ?_⟩
  refine ⟨⟨mo_pop, ok_pop dJ9_checkBoundsOffCount_9 rfl⟩, ?_⟩
  refine ⟨⟨mo_ret, ok_ret rfl dJ9_checkBoundsOffCount_10⟩, ?_⟩
  exact trivial
set_option maxHeartbeats 4000000 in
theorem alJ9_putChar : iy_all (iy_calls iy_mi) RJ9 "putChar" cJ9_putChar 3 (none, []) pcJ9_putChar pcJ9_putChar stJ9_putChar := by
  refine ⟨⟨mo_no, ok_no⟩, ?_⟩
  refine ⟨⟨mo_ine, ok_ine dJ9_putChar_3 rfl rfl⟩, ?_⟩
  refine ⟨⟨mo_ild, ok_ildn dJ9_putChar_6 rfl rfl⟩, ?_⟩
  refine ⟨⟨mo_ilt, ok_ilt dJ9_putChar_7 rfl rfl⟩, ?_⟩
  refine ⟨⟨mo_ild, ok_ildn dJ9_putChar_10 rfl rfl⟩, ?_⟩
  refine ⟨⟨mo_ald, ok_aldn dJ9_putChar_11 rfl rfl⟩, ?_⟩
  refine ⟨⟨mo_csI, ok_csI mi_J9_length lk_J9_48 q761 dJ9_putChar_12 rfl⟩, ?_⟩
  refine ⟨⟨mo_clt, ok_clt dJ9_putChar_15 rfl rfl⟩, ?_⟩
  refine ⟨⟨mo_keep, ok_keep rfl⟩, ?_⟩
  refine ⟨⟨mo_no, ok_no⟩, ?_⟩
  refine ⟨⟨mo_no, ok_no⟩, ?_⟩
  refine ⟨⟨mo_no, ok_no⟩, ?_⟩
  refine ⟨⟨mo_no, ok_no⟩, ?_⟩
  refine ⟨⟨mo_no, ok_no⟩, ?_⟩
  refine ⟨⟨mo_keep, ok_keep rfl⟩, ?_⟩
  refine ⟨⟨mo_ild, ok_ildn dJ9_putChar_28 rfl rfl⟩, ?_⟩
  refine ⟨⟨mo_push, ok_iconst dJ9_putChar_29 iv_i1 rfl⟩, ?_⟩
  refine ⟨⟨mo_bin, ok_ishl dJ9_putChar_30 rfl⟩, ?_⟩
  refine ⟨⟨mo_ist, ok_istn dJ9_putChar_31 rfl (Nat.le_of_ble_eq_true rfl) rfl⟩, ?_⟩
  refine ⟨⟨mo_ald, ok_aldn dJ9_putChar_32 rfl rfl⟩, ?_⟩
  refine ⟨⟨mo_ild, ok_ildn dJ9_putChar_33 rfl rfl⟩, ?_⟩
  refine ⟨⟨mo_inc, ok_inc dJ9_putChar_34 iv_i1 (Nat.le_of_ble_eq_true rfl) rfl⟩, ?_⟩
  refine ⟨⟨mo_ild, ok_ildn dJ9_putChar_37 rfl rfl⟩, ?_⟩
  refine ⟨⟨mo_no, ok_no⟩, ?_⟩
  refine ⟨⟨mo_bin, ok_ishr dJ9_putChar_41 rfl⟩, ?_⟩
  refine ⟨⟨mo_un, ok_i2b dJ9_putChar_42 rfl⟩, ?_⟩
  refine ⟨⟨mo_asI, ok_bast dJ9_putChar_43 rfl⟩, ?_⟩
  refine ⟨⟨mo_ald, ok_aldn dJ9_putChar_44 rfl rfl⟩, ?_⟩
  refine ⟨⟨mo_ild, ok_ildn dJ9_putChar_45 rfl rfl⟩, ?_⟩
  refine ⟨⟨mo_ild, ok_ildn dJ9_putChar_46 rfl rfl⟩, ?_⟩
  refine ⟨⟨mo_no, ok_no⟩, ?_⟩
  refine ⟨⟨mo_bin, ok_ishr dJ9_putChar_50 rfl⟩, ?_⟩
  refine ⟨⟨mo_un, ok_i2b dJ9_putChar_51 rfl⟩, ?_⟩
  refine ⟨⟨mo_asI, ok_bast dJ9_putChar_52 rfl⟩, ?_⟩
  refine ⟨⟨mo_ret, ok_ret rfl dJ9_putChar_53⟩, ?_⟩
  exact trivial
set_option maxHeartbeats 4000000 in
theorem alJ9_putCharSB : iy_all (iy_calls iy_mi) RJ9 "putCharSB" cJ9_putCharSB 3 (none, []) pcJ9_putCharSB pcJ9_putCharSB stJ9_putCharSB := by
  refine ⟨⟨mo_ild, ok_ildn dJ9_putCharSB_0 rfl rfl⟩, ?_⟩
  refine ⟨⟨mo_ald, ok_aldn dJ9_putCharSB_1 rfl rfl⟩, ?_⟩
  refine ⟨⟨mo_csV, ok_csV mi_J9_checkIndex lk_J9_67 q758 dJ9_putCharSB_2 rfl⟩, ?_⟩
  refine ⟨⟨mo_ald, ok_aldn dJ9_putCharSB_5 rfl rfl⟩, ?_⟩
  refine ⟨⟨mo_ild, ok_ildn dJ9_putCharSB_6 rfl rfl⟩, ?_⟩
  refine ⟨⟨mo_ild, ok_ildn dJ9_putCharSB_7 rfl rfl⟩, ?_⟩
  refine ⟨⟨mo_csV, ok_csV mi_J9_putChar lk_J9_111 q916 dJ9_putCharSB_8 rfl⟩, ?_⟩
  refine ⟨⟨mo_ret, ok_ret rfl dJ9_putCharSB_11⟩, ?_⟩
  exact trivial
set_option maxHeartbeats 4000000 in
theorem alJ9_compress : iy_all (iy_calls iy_mi) RJ9 "compress" cJ9_compress 6 (some (FieldType.array FieldType.byte), []) pcJ9_compress pcJ9_compress stJ9_compress := by
  refine ⟨⟨mo_ild, ok_ildn dJ9_compress_0 rfl rfl⟩, ?_⟩
  refine ⟨⟨mo_newA, ok_newA rfl rfl q260 dJ9_compress_1 rfl rfl⟩, ?_⟩
  refine ⟨⟨mo_ast, ok_astn dJ9_compress_3 rfl (Nat.le_of_ble_eq_true rfl) rfl⟩, ?_⟩
  refine ⟨⟨mo_ald, ok_aldn dJ9_compress_4 rfl rfl⟩, ?_⟩
  refine ⟨⟨mo_ild, ok_ildn dJ9_compress_5 rfl rfl⟩, ?_⟩
  refine ⟨⟨mo_ald, ok_aldn dJ9_compress_6 rfl rfl⟩, ?_⟩
  refine ⟨⟨mo_push, ok_iconst dJ9_compress_7 iv_i0 rfl⟩, ?_⟩
  refine ⟨⟨mo_ild, ok_ildn dJ9_compress_8 rfl rfl⟩, ?_⟩
  refine ⟨⟨mo_csI, ok_csI mi_J9_compress_2 lk_J9_123 q961 dJ9_compress_9 rfl⟩, ?_⟩
  refine ⟨⟨mo_ist, ok_ist dJ9_compress_12 (Nat.le_of_ble_eq_true rfl) rfl⟩, ?_⟩
  refine ⟨⟨mo_ild, ok_ild dJ9_compress_14 rfl⟩, ?_⟩
  refine ⟨⟨mo_ild, ok_ildn dJ9_compress_16 rfl rfl⟩, ?_⟩
  refine ⟨⟨mo_ceq, ok_ceq dJ9_compress_17 rfl rfl⟩, ?_⟩
  refine ⟨⟨mo_ald, ok_aldn dJ9_compress_20 rfl rfl⟩, ?_⟩
  refine ⟨⟨mo_ild, ok_ildn dJ9_compress_21 rfl rfl⟩, ?_⟩
  refine ⟨⟨mo_push, ok_iconst dJ9_compress_22 iv_i1 rfl⟩, ?_⟩
  refine ⟨⟨mo_bin, ok_ishl dJ9_compress_23 rfl⟩, ?_⟩
  refine ⟨⟨mo_ild, ok_ildn dJ9_compress_24 rfl rfl⟩, ?_⟩
  refine ⟨⟨mo_ild, ok_ildn dJ9_compress_25 rfl rfl⟩, ?_⟩
  refine ⟨⟨mo_bin, ok_iadd dJ9_compress_26 rfl⟩, ?_⟩
  refine ⟨⟨mo_csI, ok_csI mi_J9_newBytesLength lk_J9_11 q830 dJ9_compress_27 rfl⟩, ?_⟩
  refine ⟨⟨mo_csR, ok_csR mi_J14_copyOfRange lk_J9_126 q949 dJ9_compress_30 rfl⟩, ?_⟩
  refine ⟨⟨mo_ast, ok_ast dJ9_compress_33 (Nat.le_of_ble_eq_true rfl) rfl⟩, ?_⟩
  refine ⟨⟨mo_ald, ok_ald dJ9_compress_35 rfl⟩, ?_⟩
  refine ⟨⟨mo_ild, ok_ild dJ9_compress_37 rfl⟩, ?_⟩
  refine ⟨⟨mo_csI, ok_csI mi_J9_getChar lk_J9_71 q765 dJ9_compress_39 rfl⟩, ?_⟩
  refine ⟨⟨mo_push, ok_sipush dJ9_compress_42 iv_s255 rfl⟩, ?_⟩
  refine ⟨⟨mo_cgt, ok_cgt dJ9_compress_45 rfl rfl⟩, ?_⟩
  refine ⟨⟨mo_ald, ok_ald dJ9_compress_48 rfl⟩, ?_⟩
  refine ⟨⟨mo_push, ok_iconst dJ9_compress_50 iv_i0 rfl⟩, ?_⟩
  refine ⟨⟨mo_ald, ok_aldn dJ9_compress_51 rfl rfl⟩, ?_⟩
  refine ⟨⟨mo_push, ok_iconst dJ9_compress_52 iv_i0 rfl⟩, ?_⟩
  refine ⟨⟨mo_ild, ok_ildn dJ9_compress_53 rfl rfl⟩, ?_⟩
  refine ⟨⟨mo_csI, ok_csI mi_J9_compress_2 lk_J9_123 q961 dJ9_compress_54 rfl⟩, ?_⟩
  refine ⟨⟨mo_ild, ok_ildn dJ9_compress_57 rfl rfl⟩, ?_⟩
  refine ⟨⟨mo_ceq, ok_ceq dJ9_compress_58 rfl rfl⟩, ?_⟩
  refine ⟨⟨mo_keep, ok_keep rfl⟩, ?_⟩
  refine ⟨⟨mo_ald, ok_ald dJ9_compress_61 rfl⟩, ?_⟩
  refine ⟨⟨mo_aret, ok_aret rfl rfl dJ9_compress_63⟩, ?_⟩
  refine ⟨⟨mo_keep, ok_keep rfl⟩, ?_⟩
  refine ⟨⟨mo_ald, ok_aldn dJ9_compress_64 rfl rfl⟩, ?_⟩
  refine ⟨⟨mo_aret, ok_aret rfl rfl dJ9_compress_65⟩, ?_⟩
  exact trivial
set_option maxHeartbeats 4000000 in
theorem alJ9_compress_2 : iy_all (iy_calls iy_mi) RJ9 "compress" cJ9_compress_2 7 (some FieldType.int, []) pcJ9_compress_2 pcJ9_compress_2 stJ9_compress_2 := by
  refine ⟨⟨mo_ild, ok_ildn dJ9_compress_2_0 rfl rfl⟩, ?_⟩
  refine ⟨⟨mo_ild, ok_ild dJ9_compress_2_1 rfl⟩, ?_⟩
  refine ⟨⟨mo_ald, ok_aldn dJ9_compress_2_3 rfl rfl⟩, ?_⟩
  refine ⟨⟨mo_csV, ok_csV mi_J9_checkBoundsOffCount lk_J9_173 q907 dJ9_compress_2_4 rfl⟩, ?_⟩
  refine ⟨⟨mo_push, ok_iconst dJ9_compress_2_7 iv_i0 rfl⟩, ?_⟩
  refine ⟨⟨mo_ist, ok_ist dJ9_compress_2_8 (Nat.le_of_ble_eq_true rfl) rfl⟩, ?_⟩
  refine ⟨⟨mo_keep, ok_keep rfl⟩, ?_⟩
  refine ⟨⟨mo_ild, ok_ild dJ9_compress_2_10 rfl⟩, ?_⟩
  refine ⟨⟨mo_ild, ok_ild dJ9_compress_2_12 rfl⟩, ?_⟩
  refine ⟨⟨mo_cge, ok_cge dJ9_compress_2_14 rfl rfl⟩, ?_⟩
  refine ⟨⟨mo_ald, ok_aldn dJ9_compress_2_17 rfl rfl⟩, ?_⟩
  refine ⟨⟨mo_ild, ok_ildn dJ9_compress_2_18 rfl rfl⟩, ?_⟩
  refine ⟨⟨mo_csI, ok_csI mi_J9_getChar lk_J9_71 q765 dJ9_compress_2_19 rfl⟩, ?_⟩
  refine ⟨⟨mo_ist, ok_ist dJ9_compress_2_22 (Nat.le_of_ble_eq_true rfl) rfl⟩, ?_⟩
  refine ⟨⟨mo_ild, ok_ild dJ9_compress_2_24 rfl⟩, ?_⟩
  refine ⟨⟨mo_push, ok_sipush dJ9_compress_2_26 iv_s255 rfl⟩, ?_⟩
  refine ⟨⟨mo_cle, ok_cle dJ9_compress_2_29 rfl rfl⟩, ?_⟩
  refine ⟨⟨mo_ild, ok_ild dJ9_compress_2_32 rfl⟩, ?_⟩
  refine ⟨⟨mo_iret, ok_iret rfl rfl dJ9_compress_2_34⟩, ?_⟩
  refine ⟨⟨mo_ald, ok_aldn dJ9_compress_2_35 rfl rfl⟩, ?_⟩
  refine ⟨⟨mo_ild, ok_ildn dJ9_compress_2_36 rfl rfl⟩, ?_⟩
  refine ⟨⟨mo_ild, ok_ild dJ9_compress_2_37 rfl⟩, ?_⟩
  refine ⟨⟨mo_un, ok_i2b dJ9_compress_2_39 rfl⟩, ?_⟩
  refine ⟨⟨mo_asI, ok_bast dJ9_compress_2_40 rfl⟩, ?_⟩
  refine ⟨⟨mo_inc, ok_inc dJ9_compress_2_41 iv_i1 (Nat.le_of_ble_eq_true rfl) rfl⟩, ?_⟩
  refine ⟨⟨mo_inc, ok_inc dJ9_compress_2_44 iv_i1 (Nat.le_of_ble_eq_true rfl) rfl⟩, ?_⟩
  refine ⟨⟨mo_inc, ok_inc dJ9_compress_2_47 iv_i1 (Nat.le_of_ble_eq_true rfl) rfl⟩, ?_⟩
  refine ⟨⟨mo_back, ok_back dJ9_compress_2_50 rfl⟩, ?_⟩
  refine ⟨⟨mo_ild, ok_ild dJ9_compress_2_53 rfl⟩, ?_⟩
  refine ⟨⟨mo_iret, ok_iret rfl rfl dJ9_compress_2_55⟩, ?_⟩
  exact trivial
set_option maxHeartbeats 4000000 in
theorem alJ9_coderFromArrayLen : iy_all (iy_calls iy_mi) RJ9 "coderFromArrayLen" cJ9_coderFromArrayLen 2 (some FieldType.byte, []) pcJ9_coderFromArrayLen pcJ9_coderFromArrayLen stJ9_coderFromArrayLen := by
  refine ⟨⟨mo_ild, ok_ildn dJ9_coderFromArrayLen_0 rfl rfl⟩, ?_⟩
  refine ⟨⟨mo_ald, ok_aldn dJ9_coderFromArrayLen_1 rfl rfl⟩, ?_⟩
  refine ⟨⟨mo_len, ok_len rfl dJ9_coderFromArrayLen_2 rfl⟩, ?_⟩
  refine ⟨⟨mo_bin, ok_isub dJ9_coderFromArrayLen_3 rfl⟩, ?_⟩
  refine ⟨⟨mo_push, ok_bipush dJ9_coderFromArrayLen_4 iv_b31 rfl⟩, ?_⟩
  refine ⟨⟨mo_bin, ok_iushr dJ9_coderFromArrayLen_6 rfl⟩, ?_⟩
  refine ⟨⟨mo_un, ok_i2b dJ9_coderFromArrayLen_7 rfl⟩, ?_⟩
  refine ⟨⟨mo_iret, ok_iret rfl rfl dJ9_coderFromArrayLen_8⟩, ?_⟩
  exact trivial
set_option maxHeartbeats 4000000 in
theorem alJ9_hashCode : iy_all (iy_calls iy_mi) RJ9 "hashCode" cJ9_hashCode 1 (some FieldType.int, []) pcJ9_hashCode pcJ9_hashCode stJ9_hashCode := by
  refine ⟨⟨mo_ald, ok_aldn dJ9_hashCode_0 rfl rfl⟩, ?_⟩
  refine ⟨⟨mo_len, ok_len rfl dJ9_hashCode_1 rfl⟩, ?_⟩
  refine ⟨⟨mo_sw, ok_lsw dJ9_hashCode_2 rfl (by decide +kernel) (by decide +kernel)⟩, ?_⟩
  refine ⟨⟨mo_push, ok_iconst dJ9_hashCode_28 iv_i0 rfl⟩, ?_⟩
  refine ⟨⟨mo_goto, ok_goto dJ9_hashCode_29 rfl⟩, ?_⟩
  refine ⟨⟨mo_ald, ok_aldn dJ9_hashCode_32 rfl rfl⟩, ?_⟩
  refine ⟨⟨mo_push, ok_iconst dJ9_hashCode_33 iv_i0 rfl⟩, ?_⟩
  refine ⟨⟨mo_csI, ok_csI mi_J9_getChar lk_J9_71 q765 dJ9_hashCode_34 rfl⟩, ?_⟩
  refine ⟨⟨mo_goto, ok_goto dJ9_hashCode_37 rfl⟩, ?_⟩
  refine ⟨⟨mo_ald, ok_aldn dJ9_hashCode_40 rfl rfl⟩, ?_⟩
  refine ⟨⟨mo_push, ok_iconst dJ9_hashCode_41 iv_i0 rfl⟩, ?_⟩
  refine ⟨⟨mo_ald, ok_aldn dJ9_hashCode_42 rfl rfl⟩, ?_⟩
  refine ⟨⟨mo_len, ok_len rfl dJ9_hashCode_43 rfl⟩, ?_⟩
  refine ⟨⟨mo_push, ok_iconst dJ9_hashCode_44 iv_i1 rfl⟩, ?_⟩
  refine ⟨⟨mo_bin, ok_ishr dJ9_hashCode_45 rfl⟩, ?_⟩
  refine ⟨⟨mo_push, ok_iconst dJ9_hashCode_46 iv_i0 rfl⟩, ?_⟩
  refine ⟨⟨mo_push, ok_iconst dJ9_hashCode_47 iv_i5 rfl⟩, ?_⟩
  refine ⟨⟨mo_csI, ok_csI mi_J12_vectorizedHashCode lk_J9_220 q1030 dJ9_hashCode_48 rfl⟩, ?_⟩
  refine ⟨⟨mo_keep, ok_keep rfl⟩, ?_⟩
  refine ⟨⟨mo_iret, ok_iret rfl rfl dJ9_hashCode_51⟩, ?_⟩
  exact trivial
