/-! SOUND STEPS. Written by gen_code.py -/
set_option maxRecDepth 100000
set_option maxHeartbeats 4000000 in
theorem alX1_init : iy_all (iy_calls iy_mi) RX1 "<init>" cX1_init 1 (none, []) pcX1_init pcX1_init stX1_init := by
  refine ⟨⟨mo_ald, ok_aldn dX1_init_0 rfl rfl⟩, ?_⟩
  refine ⟨⟨mo_cst, ok_str (tx := "") (List.mem_of_getElem? (i := 0) rfl) dX1_init_1 rfl⟩, ?_⟩
  refine ⟨⟨mo_push, ok_null dX1_init_3 rfl⟩, ?_⟩
  refine ⟨⟨mo_push, ok_iconst dX1_init_4 iv_i0 rfl⟩, ?_⟩
  refine ⟨⟨mo_push, ok_iconst dX1_init_5 iv_i0 rfl⟩, ?_⟩
  refine ⟨⟨mo_cvV, ok_ci mi_J2_init lk_X1_3 q231 rfl dX1_init_6 rfl⟩, ?_⟩
  refine ⟨⟨mo_ret, ok_ret rfl dX1_init_9⟩, ?_⟩
  exact trivial
set_option maxHeartbeats 4000000 in
theorem alX1_of : iy_all (iy_calls iy_mi) RX1 "of" cX1_of 3 (some (FieldType.object "DeltaIndex$Fault"), []) pcX1_of pcX1_of stX1_of := by
  refine ⟨⟨mo_ald, ok_aldn dX1_of_0 rfl rfl⟩, ?_⟩
  refine ⟨⟨mo_ild, ok_ildn dX1_of_1 rfl rfl⟩, ?_⟩
  refine ⟨⟨mo_pI, ok_pI rfl fd_X1_9 rfl (Or.inl rfl) dX1_of_2 rfl⟩, ?_⟩
  refine ⟨⟨mo_ald, ok_aldn dX1_of_5 rfl rfl⟩, ?_⟩
  refine ⟨⟨mo_ild, ok_ildn dX1_of_6 rfl rfl⟩, ?_⟩
  refine ⟨⟨mo_pI, ok_pI rfl fd_X1_15 rfl (Or.inl rfl) dX1_of_7 rfl⟩, ?_⟩
  refine ⟨⟨mo_ald, ok_aldn dX1_of_10 rfl rfl⟩, ?_⟩
  refine ⟨⟨mo_aret, ok_aret rfl rfl dX1_of_11⟩, ?_⟩
  exact trivial
set_option maxHeartbeats 4000000 in
theorem alX10_act : iy_all (iy_calls iy_mi) RX10 "act" cX10_act 3 (some FieldType.int, []) pcX10_act pcX10_act stX10_act := by
  refine ⟨⟨mo_ald, ok_aldn dX10_act_0 rfl rfl⟩, ?_⟩
  refine ⟨⟨mo_ast, ok_astn dX10_act_1 rfl (Nat.le_of_ble_eq_true rfl) rfl⟩, ?_⟩
  refine ⟨⟨mo_push, ok_iconst dX10_act_2 iv_im1 rfl⟩, ?_⟩
  refine ⟨⟨mo_ist, ok_istn dX10_act_3 rfl (Nat.le_of_ble_eq_true rfl) rfl⟩, ?_⟩
  refine ⟨⟨mo_ald, ok_aldn dX10_act_4 rfl rfl⟩, ?_⟩
  refine ⟨⟨mo_cvI, ok_cvI mi_J6_hashCode lk_X10_3 q1023 q1024 rfl (Nat.le_of_ble_eq_true rfl) (iy_ro_le _) rfl rfl dX10_act_5 rfl⟩, ?_⟩
  refine ⟨⟨mo_sw, ok_lsw dX10_act_8 rfl (by decide +kernel) (by decide +kernel)⟩, ?_⟩
  refine ⟨⟨mo_ald, ok_aldn dX10_act_44 rfl rfl⟩, ?_⟩
  refine ⟨⟨mo_cst, ok_str (tx := "put") (List.mem_of_getElem? (i := 1) rfl) dX10_act_45 rfl⟩, ?_⟩
  refine ⟨⟨mo_cvI, ok_cvI mi_J6_equals lk_X10_11 q981 q982 rfl (Nat.le_of_ble_eq_true rfl) (iy_ro_le _) rfl rfl dX10_act_47 rfl⟩, ?_⟩
  refine ⟨⟨mo_ieq, ok_ieq dX10_act_50 rfl rfl⟩, ?_⟩
  refine ⟨⟨mo_push, ok_iconst dX10_act_53 iv_i0 rfl⟩, ?_⟩
  refine ⟨⟨mo_ist, ok_istn dX10_act_54 rfl (Nat.le_of_ble_eq_true rfl) rfl⟩, ?_⟩
  refine ⟨⟨mo_goto, ok_goto dX10_act_55 rfl⟩, ?_⟩
  refine ⟨⟨mo_ald, ok_aldn dX10_act_58 rfl rfl⟩, ?_⟩
  refine ⟨⟨mo_cst, ok_str (tx := "cut") (List.mem_of_getElem? (i := 2) rfl) dX10_act_59 rfl⟩, ?_⟩
  refine ⟨⟨mo_cvI, ok_cvI mi_J6_equals lk_X10_11 q981 q982 rfl (Nat.le_of_ble_eq_true rfl) (iy_ro_le _) rfl rfl dX10_act_61 rfl⟩, ?_⟩
  refine ⟨⟨mo_ieq, ok_ieq dX10_act_64 rfl rfl⟩, ?_⟩
  refine ⟨⟨mo_push, ok_iconst dX10_act_67 iv_i1 rfl⟩, ?_⟩
  refine ⟨⟨mo_ist, ok_istn dX10_act_68 rfl (Nat.le_of_ble_eq_true rfl) rfl⟩, ?_⟩
  refine ⟨⟨mo_goto, ok_goto dX10_act_69 rfl⟩, ?_⟩
  refine ⟨⟨mo_ald, ok_aldn dX10_act_72 rfl rfl⟩, ?_⟩
  refine ⟨⟨mo_cst, ok_str (tx := "get") (List.mem_of_getElem? (i := 3) rfl) dX10_act_73 rfl⟩, ?_⟩
  refine ⟨⟨mo_cvI, ok_cvI mi_J6_equals lk_X10_11 q981 q982 rfl (Nat.le_of_ble_eq_true rfl) (iy_ro_le _) rfl rfl dX10_act_75 rfl⟩, ?_⟩
  refine ⟨⟨mo_ieq, ok_ieq dX10_act_78 rfl rfl⟩, ?_⟩
  refine ⟨⟨mo_push, ok_iconst dX10_act_81 iv_i2 rfl⟩, ?_⟩
  refine ⟨⟨mo_ist, ok_istn dX10_act_82 rfl (Nat.le_of_ble_eq_true rfl) rfl⟩, ?_⟩
  refine ⟨⟨mo_keep, ok_keep rfl⟩, ?_⟩
  refine ⟨⟨mo_ild, ok_ildn dX10_act_83 rfl rfl⟩, ?_⟩
  refine ⟨⟨mo_sw, ok_tsw dX10_act_84 rfl rfl (by decide +kernel)⟩, ?_⟩
  refine ⟨⟨mo_push, ok_iconst dX10_act_112 iv_i1 rfl⟩, ?_⟩
  refine ⟨⟨mo_goto, ok_goto dX10_act_113 rfl⟩, ?_⟩
  refine ⟨⟨mo_push, ok_iconst dX10_act_116 iv_i2 rfl⟩, ?_⟩
  refine ⟨⟨mo_goto, ok_goto dX10_act_117 rfl⟩, ?_⟩
  refine ⟨⟨mo_push, ok_iconst dX10_act_120 iv_i3 rfl⟩, ?_⟩
  refine ⟨⟨mo_goto, ok_goto dX10_act_121 rfl⟩, ?_⟩
  refine ⟨⟨mo_push, ok_iconst dX10_act_124 iv_i0 rfl⟩, ?_⟩
  refine ⟨⟨mo_keep, ok_keep rfl⟩, ?_⟩
  refine ⟨⟨mo_iret, ok_iret rfl rfl dX10_act_125⟩, ?_⟩
  exact trivial
set_option maxHeartbeats 4000000 in
theorem alX10_counts : iy_all (iy_calls iy_mi) RX10 "counts" cX10_counts 1 (some FieldType.int, []) pcX10_counts pcX10_counts stX10_counts := by
  refine ⟨⟨mo_push, ok_iconst dX10_counts_0 iv_i1 rfl⟩, ?_⟩
  refine ⟨⟨mo_iret, ok_iret rfl rfl dX10_counts_1⟩, ?_⟩
  exact trivial
set_option maxHeartbeats 4000000 in
theorem alX10_keyOf : iy_all (iy_calls iy_mi) RX10 "keyOf" cX10_keyOf 2 (some FieldType.int, []) pcX10_keyOf pcX10_keyOf stX10_keyOf := by
  refine ⟨⟨mo_ald, ok_aldn dX10_keyOf_0 rfl rfl⟩, ?_⟩
  refine ⟨⟨mo_ald, ok_aldn dX10_keyOf_1 rfl rfl⟩, ?_⟩
  refine ⟨⟨mo_cdI, ok_cdI q1351 ⟨nmh_X11.1, nmh_X11.2, pmd_DeltaIndex_Sumof_LDeltaIndex_Run__I⟩ q1353 q1352 rw_of dX10_keyOf_2 rfl⟩, ?_⟩
  refine ⟨⟨mo_push, ok_sipush dX10_keyOf_5 iv_s1000 rfl⟩, ?_⟩
  refine ⟨⟨mo_csI, ok_csI mi_J13_floorMod lk_X10_25 q1406 dX10_keyOf_8 rfl⟩, ?_⟩
  refine ⟨⟨mo_iret, ok_iret rfl rfl dX10_keyOf_11⟩, ?_⟩
  exact trivial
set_option maxHeartbeats 4000000 in
theorem alX11_init : iy_all (iy_calls iy_mi) RX11 "<init>" cX11_init 1 (none, []) pcX11_init pcX11_init stX11_init := by
  refine ⟨⟨mo_ald, ok_aldn dX11_init_0 rfl rfl⟩, ?_⟩
  refine ⟨⟨mo_oin, ok_oin q1111 q185 q186 dX11_init_1 rfl⟩, ?_⟩
  refine ⟨⟨mo_ret, ok_ret rfl dX11_init_4⟩, ?_⟩
  exact trivial
set_option maxHeartbeats 4000000 in
theorem alX12_init : iy_all (iy_calls iy_mi) RX12 "<init>" cX12_init 2 (none, []) pcX12_init pcX12_init stX12_init := by
  refine ⟨⟨mo_ald, ok_aldn dX12_init_0 rfl rfl⟩, ?_⟩
  refine ⟨⟨mo_cvV, ok_cn mi_X11_init q1108 q170 q1110 ⟨nmh_X11.1, nmh_X11.2, pmd_yX11_init⟩ (Nat.le_of_ble_eq_true rfl) q1109 rfl dX12_init_1 rfl⟩, ?_⟩
  refine ⟨⟨mo_ald, ok_aldn dX12_init_4 rfl rfl⟩, ?_⟩
  refine ⟨⟨mo_ild, ok_ildn dX12_init_5 rfl rfl⟩, ?_⟩
  refine ⟨⟨mo_pI, ok_pI rfl fd_X12_7 rfl (Or.inr ⟨rfl, rfl, rfl⟩) dX12_init_6 rfl⟩, ?_⟩
  refine ⟨⟨mo_ret, ok_ret rfl dX12_init_9⟩, ?_⟩
  exact trivial
set_option maxHeartbeats 4000000 in
theorem alX12_of : iy_all (iy_calls iy_mi) RX12 "of" cX12_of 2 (some FieldType.int, []) pcX12_of pcX12_of stX12_of := by
  refine ⟨⟨mo_ald, ok_aldn dX12_of_0 rfl rfl⟩, ?_⟩
  refine ⟨⟨mo_gI, ok_gI rfl fd_X12_7 rfl dX12_of_1 rfl⟩, ?_⟩
  refine ⟨⟨mo_iret, ok_iret rfl rfl dX12_of_4⟩, ?_⟩
  exact trivial
set_option maxHeartbeats 4000000 in
theorem alX13_init : iy_all (iy_calls iy_mi) RX13 "<init>" cX13_init 2 (none, []) pcX13_init pcX13_init stX13_init := by
  refine ⟨⟨mo_ald, ok_aldn dX13_init_0 rfl rfl⟩, ?_⟩
  refine ⟨⟨mo_cvV, ok_cn mi_X11_init q1121 q170 q1110 ⟨nmh_X11.1, nmh_X11.2, pmd_yX11_init⟩ (Nat.le_of_ble_eq_true rfl) q1109 rfl dX13_init_1 rfl⟩, ?_⟩
  refine ⟨⟨mo_ald, ok_aldn dX13_init_4 rfl rfl⟩, ?_⟩
  refine ⟨⟨mo_ild, ok_ildn dX13_init_5 rfl rfl⟩, ?_⟩
  refine ⟨⟨mo_pI, ok_pI rfl fd_X13_7 rfl (Or.inr ⟨rfl, rfl, rfl⟩) dX13_init_6 rfl⟩, ?_⟩
  refine ⟨⟨mo_ret, ok_ret rfl dX13_init_9⟩, ?_⟩
  exact trivial
set_option maxHeartbeats 4000000 in
theorem alX13_of : iy_all (iy_calls iy_mi) RX13 "of" cX13_of 2 (some FieldType.int, []) pcX13_of pcX13_of stX13_of := by
  refine ⟨⟨mo_ald, ok_aldn dX13_of_0 rfl rfl⟩, ?_⟩
  refine ⟨⟨mo_gI, ok_gI rfl fd_X13_7 rfl dX13_of_1 rfl⟩, ?_⟩
  refine ⟨⟨mo_sw, ok_tsw dX13_of_4 rfl rfl (by decide +kernel)⟩, ?_⟩
  refine ⟨⟨mo_ald, ok_aldn dX13_of_40 rfl rfl⟩, ?_⟩
  refine ⟨⟨mo_push, ok_iconst dX13_of_41 iv_i0 rfl⟩, ?_⟩
  refine ⟨⟨mo_cvI, ok_cvI mi_X18_round lk_X13_13 q1364 q1365 rfl (Nat.le_of_ble_eq_true rfl) (iy_ro_le _) rfl rfl dX13_of_42 rfl⟩, ?_⟩
  refine ⟨⟨mo_goto, ok_goto dX13_of_45 rfl⟩, ?_⟩
  refine ⟨⟨mo_ald, ok_aldn dX13_of_48 rfl rfl⟩, ?_⟩
  refine ⟨⟨mo_push, ok_iconst dX13_of_49 iv_i1 rfl⟩, ?_⟩
  refine ⟨⟨mo_cvI, ok_cvI mi_X18_round lk_X13_13 q1364 q1365 rfl (Nat.le_of_ble_eq_true rfl) (iy_ro_le _) rfl rfl dX13_of_50 rfl⟩, ?_⟩
  refine ⟨⟨mo_goto, ok_goto dX13_of_53 rfl⟩, ?_⟩
  refine ⟨⟨mo_ald, ok_aldn dX13_of_56 rfl rfl⟩, ?_⟩
  refine ⟨⟨mo_gR, ok_gR rfl fd_X13_19 rfl dX13_of_57 rfl⟩, ?_⟩
  refine ⟨⟨mo_cvI, ok_cvI mi_X4_keys lk_X13_23 q1368 q1369 rfl (Nat.le_of_ble_eq_true rfl) (iy_ro_le _) rfl rfl dX13_of_60 rfl⟩, ?_⟩
  refine ⟨⟨mo_goto, ok_goto dX13_of_63 rfl⟩, ?_⟩
  refine ⟨⟨mo_ald, ok_aldn dX13_of_66 rfl rfl⟩, ?_⟩
  refine ⟨⟨mo_gI, ok_gI rfl fd_X13_29 rfl dX13_of_67 rfl⟩, ?_⟩
  refine ⟨⟨mo_goto, ok_goto dX13_of_70 rfl⟩, ?_⟩
  refine ⟨⟨mo_ald, ok_aldn dX13_of_73 rfl rfl⟩, ?_⟩
  refine ⟨⟨mo_gR, ok_gR rfl fd_X13_19 rfl dX13_of_74 rfl⟩, ?_⟩
  refine ⟨⟨mo_gI, ok_gI rfl fd_X13_32 rfl dX13_of_77 rfl⟩, ?_⟩
  refine ⟨⟨mo_goto, ok_goto dX13_of_80 rfl⟩, ?_⟩
  refine ⟨⟨mo_ald, ok_aldn dX13_of_83 rfl rfl⟩, ?_⟩
  refine ⟨⟨mo_gR, ok_gR rfl fd_X13_19 rfl dX13_of_84 rfl⟩, ?_⟩
  refine ⟨⟨mo_cvI, ok_cvI mi_X4_lostOfAll lk_X13_35 q1401 q1402 rfl (Nat.le_of_ble_eq_true rfl) (iy_ro_le _) rfl rfl dX13_of_87 rfl⟩, ?_⟩
  refine ⟨⟨mo_keep, ok_keep rfl⟩, ?_⟩
  refine ⟨⟨mo_iret, ok_iret rfl rfl dX13_of_90⟩, ?_⟩
  exact trivial
set_option maxHeartbeats 4000000 in
theorem alX14_init : iy_all (iy_calls iy_mi) RX14 "<init>" cX14_init 4 (none, []) pcX14_init pcX14_init stX14_init := by
  refine ⟨⟨mo_ald, ok_aldn dX14_init_0 rfl rfl⟩, ?_⟩
  refine ⟨⟨mo_cvV, ok_cn mi_X11_init q1131 q170 q1110 ⟨nmh_X11.1, nmh_X11.2, pmd_yX11_init⟩ (Nat.le_of_ble_eq_true rfl) q1109 rfl dX14_init_1 rfl⟩, ?_⟩
  refine ⟨⟨mo_ald, ok_aldn dX14_init_4 rfl rfl⟩, ?_⟩
  refine ⟨⟨mo_ild, ok_ildn dX14_init_5 rfl rfl⟩, ?_⟩
  refine ⟨⟨mo_pI, ok_pI rfl fd_X14_7 rfl (Or.inr ⟨rfl, rfl, rfl⟩) dX14_init_6 rfl⟩, ?_⟩
  refine ⟨⟨mo_ald, ok_aldn dX14_init_9 rfl rfl⟩, ?_⟩
  refine ⟨⟨mo_ald, ok_aldn dX14_init_10 rfl rfl⟩, ?_⟩
  refine ⟨⟨mo_pR, ok_pR rfl fd_X14_13 rfl (Or.inr ⟨rfl, rfl, rfl⟩) dX14_init_11 rfl⟩, ?_⟩
  refine ⟨⟨mo_ald, ok_aldn dX14_init_14 rfl rfl⟩, ?_⟩
  refine ⟨⟨mo_ald, ok_aldn dX14_init_15 rfl rfl⟩, ?_⟩
  refine ⟨⟨mo_pR, ok_pR rfl fd_X14_17 rfl (Or.inr ⟨rfl, rfl, rfl⟩) dX14_init_16 rfl⟩, ?_⟩
  refine ⟨⟨mo_ret, ok_ret rfl dX14_init_19⟩, ?_⟩
  exact trivial
set_option maxHeartbeats 4000000 in
theorem alX14_of : iy_all (iy_calls iy_mi) RX14 "of" cX14_of 4 (some FieldType.int, []) pcX14_of pcX14_of stX14_of := by
  refine ⟨⟨mo_ald, ok_aldn dX14_of_0 rfl rfl⟩, ?_⟩
  refine ⟨⟨mo_gR, ok_gR rfl fd_X14_13 rfl dX14_of_1 rfl⟩, ?_⟩
  refine ⟨⟨mo_ald, ok_aldn dX14_of_4 rfl rfl⟩, ?_⟩
  refine ⟨⟨mo_cdI, ok_cdI q1360 ⟨nmh_X11.1, nmh_X11.2, pmd_DeltaIndex_Sumof_LDeltaIndex_Run__I⟩ q1353 q1352 rw_of dX14_of_5 rfl⟩, ?_⟩
  refine ⟨⟨mo_ist, ok_istn dX14_of_8 rfl (Nat.le_of_ble_eq_true rfl) rfl⟩, ?_⟩
  refine ⟨⟨mo_ald, ok_aldn dX14_of_9 rfl rfl⟩, ?_⟩
  refine ⟨⟨mo_gR, ok_gR rfl fd_X14_17 rfl dX14_of_10 rfl⟩, ?_⟩
  refine ⟨⟨mo_ald, ok_aldn dX14_of_13 rfl rfl⟩, ?_⟩
  refine ⟨⟨mo_cdI, ok_cdI q1360 ⟨nmh_X11.1, nmh_X11.2, pmd_DeltaIndex_Sumof_LDeltaIndex_Run__I⟩ q1353 q1352 rw_of dX14_of_14 rfl⟩, ?_⟩
  refine ⟨⟨mo_ist, ok_istn dX14_of_17 rfl (Nat.le_of_ble_eq_true rfl) rfl⟩, ?_⟩
  refine ⟨⟨mo_ald, ok_aldn dX14_of_18 rfl rfl⟩, ?_⟩
  refine ⟨⟨mo_gI, ok_gI rfl fd_X14_7 rfl dX14_of_19 rfl⟩, ?_⟩
  refine ⟨⟨mo_sw, ok_tsw dX14_of_22 rfl rfl (by decide +kernel)⟩, ?_⟩
  refine ⟨⟨mo_ild, ok_ildn dX14_of_60 rfl rfl⟩, ?_⟩
  refine ⟨⟨mo_ild, ok_ildn dX14_of_61 rfl rfl⟩, ?_⟩
  refine ⟨⟨mo_bin, ok_iadd dX14_of_62 rfl⟩, ?_⟩
  refine ⟨⟨mo_goto, ok_goto dX14_of_63 rfl⟩, ?_⟩
  refine ⟨⟨mo_ild, ok_ildn dX14_of_66 rfl rfl⟩, ?_⟩
  refine ⟨⟨mo_ild, ok_ildn dX14_of_67 rfl rfl⟩, ?_⟩
  refine ⟨⟨mo_bin, ok_isub dX14_of_68 rfl⟩, ?_⟩
  refine ⟨⟨mo_goto, ok_goto dX14_of_69 rfl⟩, ?_⟩
  refine ⟨⟨mo_ild, ok_ildn dX14_of_72 rfl rfl⟩, ?_⟩
  refine ⟨⟨mo_ild, ok_ildn dX14_of_73 rfl rfl⟩, ?_⟩
  refine ⟨⟨mo_bin, ok_imul dX14_of_74 rfl⟩, ?_⟩
  refine ⟨⟨mo_goto, ok_goto dX14_of_75 rfl⟩, ?_⟩
  refine ⟨⟨mo_ild, ok_ildn dX14_of_78 rfl rfl⟩, ?_⟩
  refine ⟨⟨mo_ine, ok_ine dX14_of_79 rfl rfl⟩, ?_⟩
  refine ⟨⟨mo_push, ok_iconst dX14_of_82 iv_i0 rfl⟩, ?_⟩
  refine ⟨⟨mo_goto, ok_goto dX14_of_83 rfl⟩, ?_⟩
  refine ⟨⟨mo_ild, ok_ildn dX14_of_86 rfl rfl⟩, ?_⟩
  refine ⟨⟨mo_ild, ok_ildn dX14_of_87 rfl rfl⟩, ?_⟩
  refine ⟨⟨mo_div, ok_idiv dX14_of_88 rfl⟩, ?_⟩
  refine ⟨⟨mo_goto, ok_goto dX14_of_89 rfl⟩, ?_⟩
  refine ⟨⟨mo_keep, ok_keep rfl⟩, ?_⟩
  refine ⟨⟨mo_ild, ok_ildn dX14_of_92 rfl rfl⟩, ?_⟩
  refine ⟨⟨mo_ine, ok_ine dX14_of_93 rfl rfl⟩, ?_⟩
  refine ⟨⟨mo_push, ok_iconst dX14_of_96 iv_i0 rfl⟩, ?_⟩
  refine ⟨⟨mo_goto, ok_goto dX14_of_97 rfl⟩, ?_⟩
  refine ⟨⟨mo_ild, ok_ildn dX14_of_100 rfl rfl⟩, ?_⟩
  refine ⟨⟨mo_ild, ok_ildn dX14_of_101 rfl rfl⟩, ?_⟩
  refine ⟨⟨mo_div, ok_irem dX14_of_102 rfl⟩, ?_⟩
  refine ⟨⟨mo_keep, ok_keep rfl⟩, ?_⟩
  refine ⟨⟨mo_iret, ok_iret rfl rfl dX14_of_103⟩, ?_⟩
  exact trivial
set_option maxHeartbeats 4000000 in
theorem alX15_init : iy_all (iy_calls iy_mi) RX15 "<init>" cX15_init 6 (none, []) pcX15_init pcX15_init stX15_init := by
  refine ⟨⟨mo_ald, ok_aldn dX15_init_0 rfl rfl⟩, ?_⟩
  refine ⟨⟨mo_oin, ok_oin q1147 q185 q186 dX15_init_1 rfl⟩, ?_⟩
  refine ⟨⟨mo_ald, ok_aldn dX15_init_4 rfl rfl⟩, ?_⟩
  refine ⟨⟨mo_ild, ok_ildn dX15_init_5 rfl rfl⟩, ?_⟩
  refine ⟨⟨mo_pI, ok_pI rfl fd_X15_9 rfl (Or.inr ⟨rfl, rfl, rfl⟩) dX15_init_6 rfl⟩, ?_⟩
  refine ⟨⟨mo_ald, ok_aldn dX15_init_9 rfl rfl⟩, ?_⟩
  refine ⟨⟨mo_ild, ok_ildn dX15_init_10 rfl rfl⟩, ?_⟩
  refine ⟨⟨mo_pI, ok_pI rfl fd_X15_15 rfl (Or.inr ⟨rfl, rfl, rfl⟩) dX15_init_11 rfl⟩, ?_⟩
  refine ⟨⟨mo_ald, ok_aldn dX15_init_14 rfl rfl⟩, ?_⟩
  refine ⟨⟨mo_ild, ok_ildn dX15_init_15 rfl rfl⟩, ?_⟩
  refine ⟨⟨mo_pI, ok_pI rfl fd_X15_18 rfl (Or.inr ⟨rfl, rfl, rfl⟩) dX15_init_16 rfl⟩, ?_⟩
  refine ⟨⟨mo_ald, ok_aldn dX15_init_19 rfl rfl⟩, ?_⟩
  refine ⟨⟨mo_ald, ok_ald dX15_init_20 rfl⟩, ?_⟩
  refine ⟨⟨mo_pR, ok_pR rfl fd_X15_22 rfl (Or.inr ⟨rfl, rfl, rfl⟩) dX15_init_22 rfl⟩, ?_⟩
  refine ⟨⟨mo_ald, ok_aldn dX15_init_25 rfl rfl⟩, ?_⟩
  refine ⟨⟨mo_ald, ok_ald dX15_init_26 rfl⟩, ?_⟩
  refine ⟨⟨mo_pR, ok_pR rfl fd_X15_26 rfl (Or.inr ⟨rfl, rfl, rfl⟩) dX15_init_28 rfl⟩, ?_⟩
  refine ⟨⟨mo_ret, ok_ret rfl dX15_init_31⟩, ?_⟩
  exact trivial
set_option maxHeartbeats 4000000 in
theorem alX15_does : iy_all (iy_calls iy_mi) RX15 "does" cX15_does 5 (none, []) pcX15_does pcX15_does stX15_does := by
  refine ⟨⟨mo_ald, ok_aldn dX15_does_0 rfl rfl⟩, ?_⟩
  refine ⟨⟨mo_gR, ok_gR rfl fd_X15_22 rfl dX15_does_1 rfl⟩, ?_⟩
  refine ⟨⟨mo_ald, ok_aldn dX15_does_4 rfl rfl⟩, ?_⟩
  refine ⟨⟨mo_csI, ok_csI mi_X10_keyOf lk_X15_29 q1349 dX15_does_5 rfl⟩, ?_⟩
  refine ⟨⟨mo_ist, ok_istn dX15_does_8 rfl (Nat.le_of_ble_eq_true rfl) rfl⟩, ?_⟩
  refine ⟨⟨mo_ald, ok_aldn dX15_does_9 rfl rfl⟩, ?_⟩
  refine ⟨⟨mo_gR, ok_gR rfl fd_X15_26 rfl dX15_does_10 rfl⟩, ?_⟩
  refine ⟨⟨mo_nnul, ok_nnul dX15_does_13 rfl rfl⟩, ?_⟩
  refine ⟨⟨mo_push, ok_iconst dX15_does_16 iv_i0 rfl⟩, ?_⟩
  refine ⟨⟨mo_goto, ok_goto dX15_does_17 rfl⟩, ?_⟩
  refine ⟨⟨mo_ald, ok_aldn dX15_does_20 rfl rfl⟩, ?_⟩
  refine ⟨⟨mo_gR, ok_gR rfl fd_X15_26 rfl dX15_does_21 rfl⟩, ?_⟩
  refine ⟨⟨mo_ald, ok_aldn dX15_does_24 rfl rfl⟩, ?_⟩
  refine ⟨⟨mo_cdI, ok_cdI q1408 ⟨nmh_X11.1, nmh_X11.2, pmd_DeltaIndex_Sumof_LDeltaIndex_Run__I⟩ q1353 q1352 rw_of dX15_does_25 rfl⟩, ?_⟩
  refine ⟨⟨mo_keep, ok_keep rfl⟩, ?_⟩
  refine ⟨⟨mo_ist, ok_istn dX15_does_28 rfl (Nat.le_of_ble_eq_true rfl) rfl⟩, ?_⟩
  refine ⟨⟨mo_ald, ok_aldn dX15_does_29 rfl rfl⟩, ?_⟩
  refine ⟨⟨mo_gR, ok_gR rfl fd_X15_41 rfl dX15_does_30 rfl⟩, ?_⟩
  refine ⟨⟨mo_ald, ok_aldn dX15_does_33 rfl rfl⟩, ?_⟩
  refine ⟨⟨mo_gI, ok_gI rfl fd_X15_9 rfl dX15_does_34 rfl⟩, ?_⟩
  refine ⟨⟨mo_ald, ok_aldn dX15_does_37 rfl rfl⟩, ?_⟩
  refine ⟨⟨mo_gI, ok_gI rfl fd_X15_15 rfl dX15_does_38 rfl⟩, ?_⟩
  refine ⟨⟨mo_ild, ok_ildn dX15_does_41 rfl rfl⟩, ?_⟩
  refine ⟨⟨mo_ild, ok_ildn dX15_does_42 rfl rfl⟩, ?_⟩
  refine ⟨⟨mo_cvI, ok_cvI mi_X4_takesUp lk_X15_47 q1410 q1411 rfl (Nat.le_of_ble_eq_true rfl) (iy_ro_le _) rfl rfl dX15_does_43 rfl⟩, ?_⟩
  refine ⟨⟨mo_ist, ok_ist dX15_does_46 (Nat.le_of_ble_eq_true rfl) rfl⟩, ?_⟩
  refine ⟨⟨mo_ild, ok_ild dX15_does_48 rfl⟩, ?_⟩
  refine ⟨⟨mo_ieq, ok_ieq dX15_does_50 rfl rfl⟩, ?_⟩
  refine ⟨⟨mo_ald, ok_aldn dX15_does_53 rfl rfl⟩, ?_⟩
  refine ⟨⟨mo_gI, ok_gI rfl fd_X15_15 rfl dX15_does_54 rfl⟩, ?_⟩
  refine ⟨⟨mo_push, ok_iconst dX15_does_57 iv_i1 rfl⟩, ?_⟩
  refine ⟨⟨mo_cne, ok_cne dX15_does_58 rfl rfl⟩, ?_⟩
  refine ⟨⟨mo_ald, ok_aldn dX15_does_61 rfl rfl⟩, ?_⟩
  refine ⟨⟨mo_ild, ok_ildn dX15_does_62 rfl rfl⟩, ?_⟩
  refine ⟨⟨mo_pI, ok_pI rfl fd_X15_53 rfl (Or.inl rfl) dX15_does_63 rfl⟩, ?_⟩
  refine ⟨⟨mo_keep, ok_keep rfl⟩, ?_⟩
  refine ⟨⟨mo_ild, ok_ild dX15_does_66 rfl⟩, ?_⟩
  refine ⟨⟨mo_ieq, ok_ieq dX15_does_68 rfl rfl⟩, ?_⟩
  refine ⟨⟨mo_ald, ok_aldn dX15_does_71 rfl rfl⟩, ?_⟩
  refine ⟨⟨mo_gI, ok_gI rfl fd_X15_18 rfl dX15_does_72 rfl⟩, ?_⟩
  refine ⟨⟨mo_ieq, ok_ieq dX15_does_75 rfl rfl⟩, ?_⟩
  refine ⟨⟨mo_ald, ok_aldn dX15_does_78 rfl rfl⟩, ?_⟩
  refine ⟨⟨mo_gR, ok_gR rfl fd_X15_41 rfl dX15_does_79 rfl⟩, ?_⟩
  refine ⟨⟨mo_ald, ok_aldn dX15_does_82 rfl rfl⟩, ?_⟩
  refine ⟨⟨mo_gI, ok_gI rfl fd_X15_9 rfl dX15_does_83 rfl⟩, ?_⟩
  refine ⟨⟨mo_cvI, ok_cvI mi_X4_closes lk_X15_56 q1414 q1415 rfl (Nat.le_of_ble_eq_true rfl) (iy_ro_le _) rfl rfl dX15_does_86 rfl⟩, ?_⟩
  refine ⟨⟨mo_pop, ok_pop dX15_does_89 rfl⟩, ?_⟩
  refine ⟨⟨mo_keep, ok_keep rfl⟩, ?_⟩
  refine ⟨⟨mo_ret, ok_ret rfl dX15_does_90⟩, ?_⟩
  exact trivial
set_option maxHeartbeats 4000000 in
theorem alX16_init : iy_all (iy_calls iy_mi) RX16 "<init>" cX16_init 3 (none, []) pcX16_init pcX16_init stX16_init := by
  refine ⟨⟨mo_ald, ok_aldn dX16_init_0 rfl rfl⟩, ?_⟩
  refine ⟨⟨mo_oin, ok_oin q1181 q185 q186 dX16_init_1 rfl⟩, ?_⟩
  refine ⟨⟨mo_ald, ok_aldn dX16_init_4 rfl rfl⟩, ?_⟩
  refine ⟨⟨mo_ild, ok_ildn dX16_init_5 rfl rfl⟩, ?_⟩
  refine ⟨⟨mo_pI, ok_pI rfl fd_X16_7 rfl (Or.inr ⟨rfl, rfl, rfl⟩) dX16_init_6 rfl⟩, ?_⟩
  refine ⟨⟨mo_ald, ok_aldn dX16_init_9 rfl rfl⟩, ?_⟩
  refine ⟨⟨mo_ild, ok_ildn dX16_init_10 rfl rfl⟩, ?_⟩
  refine ⟨⟨mo_pI, ok_pI rfl fd_X16_13 rfl (Or.inr ⟨rfl, rfl, rfl⟩) dX16_init_11 rfl⟩, ?_⟩
  refine ⟨⟨mo_ret, ok_ret rfl dX16_init_14⟩, ?_⟩
  exact trivial
set_option maxHeartbeats 4000000 in
theorem alX16_does : iy_all (iy_calls iy_mi) RX16 "does" cX16_does 2 (none, []) pcX16_does pcX16_does stX16_does := by
  refine ⟨⟨mo_ald, ok_aldn dX16_does_0 rfl rfl⟩, ?_⟩
  refine ⟨⟨mo_gI, ok_gI rfl fd_X16_13 rfl dX16_does_1 rfl⟩, ?_⟩
  refine ⟨⟨mo_ieq, ok_ieq dX16_does_4 rfl rfl⟩, ?_⟩
  refine ⟨⟨mo_ald, ok_aldn dX16_does_7 rfl rfl⟩, ?_⟩
  refine ⟨⟨mo_gR, ok_gR rfl fd_X16_17 rfl dX16_does_8 rfl⟩, ?_⟩
  refine ⟨⟨mo_ald, ok_aldn dX16_does_11 rfl rfl⟩, ?_⟩
  refine ⟨⟨mo_gI, ok_gI rfl fd_X16_7 rfl dX16_does_12 rfl⟩, ?_⟩
  refine ⟨⟨mo_cvI, ok_cvI mi_X4_closes lk_X16_23 q1414 q1415 rfl (Nat.le_of_ble_eq_true rfl) (iy_ro_le _) rfl rfl dX16_does_15 rfl⟩, ?_⟩
  refine ⟨⟨mo_pop, ok_pop dX16_does_18 rfl⟩, ?_⟩
  refine ⟨⟨mo_goto, ok_goto dX16_does_19 rfl⟩, ?_⟩
  refine ⟨⟨mo_ald, ok_aldn dX16_does_22 rfl rfl⟩, ?_⟩
  refine ⟨⟨mo_gR, ok_gR rfl fd_X16_17 rfl dX16_does_23 rfl⟩, ?_⟩
  refine ⟨⟨mo_ald, ok_aldn dX16_does_26 rfl rfl⟩, ?_⟩
  refine ⟨⟨mo_gI, ok_gI rfl fd_X16_7 rfl dX16_does_27 rfl⟩, ?_⟩
  refine ⟨⟨mo_cvI, ok_cvI mi_X4_steps lk_X16_29 q1418 q1419 rfl (Nat.le_of_ble_eq_true rfl) (iy_ro_le _) rfl rfl dX16_does_30 rfl⟩, ?_⟩
  refine ⟨⟨mo_pop, ok_pop dX16_does_33 rfl⟩, ?_⟩
  refine ⟨⟨mo_keep, ok_keep rfl⟩, ?_⟩
  refine ⟨⟨mo_ret, ok_ret rfl dX16_does_34⟩, ?_⟩
  exact trivial
set_option maxHeartbeats 4000000 in
theorem alX17_init : iy_all (iy_calls iy_mi) RX17 "<init>" cX17_init 1 (none, []) pcX17_init pcX17_init stX17_init := by
  refine ⟨⟨mo_ald, ok_aldn dX17_init_0 rfl rfl⟩, ?_⟩
  refine ⟨⟨mo_oin, ok_oin q1198 q185 q186 dX17_init_1 rfl⟩, ?_⟩
  refine ⟨⟨mo_ret, ok_ret rfl dX17_init_4⟩, ?_⟩
  exact trivial
set_option maxHeartbeats 4000000 in
theorem alX17_does : iy_all (iy_calls iy_mi) RX17 "does" cX17_does 2 (none, []) pcX17_does pcX17_does stX17_does := by
  refine ⟨⟨mo_ald, ok_aldn dX17_does_0 rfl rfl⟩, ?_⟩
  refine ⟨⟨mo_gR, ok_gR rfl fd_X17_7 rfl dX17_does_1 rfl⟩, ?_⟩
  refine ⟨⟨mo_cvI, ok_cvI mi_X4_sweeps lk_X17_13 q1547 q1548 rfl (Nat.le_of_ble_eq_true rfl) (iy_ro_le _) rfl rfl dX17_does_4 rfl⟩, ?_⟩
  refine ⟨⟨mo_pop, ok_pop dX17_does_7 rfl⟩, ?_⟩
  refine ⟨⟨mo_ret, ok_ret rfl dX17_does_8⟩, ?_⟩
  exact trivial
set_option maxHeartbeats 4000000 in
theorem alX18_init : iy_all (iy_calls iy_mi) RX18 "<init>" cX18_init 2 (none, []) pcX18_init pcX18_init stX18_init := by
  refine ⟨⟨mo_ald, ok_aldn dX18_init_0 rfl rfl⟩, ?_⟩
  refine ⟨⟨mo_oin, ok_oin q1269 q185 q186 dX18_init_1 rfl⟩, ?_⟩
  refine ⟨⟨mo_ald, ok_aldn dX18_init_4 rfl rfl⟩, ?_⟩
  refine ⟨⟨mo_push, ok_iconst dX18_init_5 iv_i4 rfl⟩, ?_⟩
  refine ⟨⟨mo_newA, ok_newA rfl rfl q422 dX18_init_6 rfl rfl⟩, ?_⟩
  refine ⟨⟨mo_pR, ok_pR rfl fd_X18_9 rfl (Or.inr ⟨rfl, rfl, rfl⟩) dX18_init_8 rfl⟩, ?_⟩
  refine ⟨⟨mo_ald, ok_aldn dX18_init_11 rfl rfl⟩, ?_⟩
  refine ⟨⟨mo_ald, ok_aldn dX18_init_12 rfl rfl⟩, ?_⟩
  refine ⟨⟨mo_pR, ok_pR rfl fd_X18_15 rfl (Or.inr ⟨rfl, rfl, rfl⟩) dX18_init_13 rfl⟩, ?_⟩
  refine ⟨⟨mo_ret, ok_ret rfl dX18_init_16⟩, ?_⟩
  exact trivial
set_option maxHeartbeats 4000000 in
theorem alX18_isOver : iy_all (iy_calls iy_mi) RX18 "isOver" cX18_isOver 1 (some FieldType.boolean, []) pcX18_isOver pcX18_isOver stX18_isOver := by
  refine ⟨⟨mo_ald, ok_aldn dX18_isOver_0 rfl rfl⟩, ?_⟩
  refine ⟨⟨mo_gI, ok_gI rfl fd_X18_23 rfl dX18_isOver_1 rfl⟩, ?_⟩
  refine ⟨⟨mo_push, ok_sipush dX18_isOver_4 iv_s400 rfl⟩, ?_⟩
  refine ⟨⟨mo_cne, ok_cne dX18_isOver_7 rfl rfl⟩, ?_⟩
  refine ⟨⟨mo_push, ok_iconst dX18_isOver_10 iv_i1 rfl⟩, ?_⟩
  refine ⟨⟨mo_goto, ok_goto dX18_isOver_11 rfl⟩, ?_⟩
  refine ⟨⟨mo_push, ok_iconst dX18_isOver_14 iv_i0 rfl⟩, ?_⟩
  refine ⟨⟨mo_keep, ok_keep rfl⟩, ?_⟩
  refine ⟨⟨mo_iret, ok_iret rfl rfl dX18_isOver_15⟩, ?_⟩
  exact trivial
set_option maxHeartbeats 4000000 in
theorem alX18_round : iy_all (iy_calls iy_mi) RX18 "round" cX18_round 2 (some FieldType.int, []) pcX18_round pcX18_round stX18_round := by
  refine ⟨⟨mo_ald, ok_aldn dX18_round_0 rfl rfl⟩, ?_⟩
  refine ⟨⟨mo_gI, ok_gI rfl fd_X18_19 rfl dX18_round_1 rfl⟩, ?_⟩
  refine ⟨⟨mo_ild, ok_ildn dX18_round_4 rfl rfl⟩, ?_⟩
  refine ⟨⟨mo_bin, ok_isub dX18_round_5 rfl⟩, ?_⟩
  refine ⟨⟨mo_igt, ok_igt dX18_round_6 rfl rfl⟩, ?_⟩
  refine ⟨⟨mo_push, ok_iconst dX18_round_9 iv_i0 rfl⟩, ?_⟩
  refine ⟨⟨mo_goto, ok_goto dX18_round_10 rfl⟩, ?_⟩
  refine ⟨⟨mo_ald, ok_aldn dX18_round_13 rfl rfl⟩, ?_⟩
  refine ⟨⟨mo_gR, ok_gR rfl fd_X18_9 rfl dX18_round_14 rfl⟩, ?_⟩
  refine ⟨⟨mo_ald, ok_aldn dX18_round_17 rfl rfl⟩, ?_⟩
  refine ⟨⟨mo_gI, ok_gI rfl fd_X18_19 rfl dX18_round_18 rfl⟩, ?_⟩
  refine ⟨⟨mo_ild, ok_ildn dX18_round_21 rfl rfl⟩, ?_⟩
  refine ⟨⟨mo_bin, ok_isub dX18_round_22 rfl⟩, ?_⟩
  refine ⟨⟨mo_alI, ok_iald dX18_round_23 rfl⟩, ?_⟩
  refine ⟨⟨mo_keep, ok_keep rfl⟩, ?_⟩
  refine ⟨⟨mo_iret, ok_iret rfl rfl dX18_round_24⟩, ?_⟩
  exact trivial
set_option maxHeartbeats 4000000 in
theorem alX5_init : iy_all (iy_calls iy_mi) RX5 "<init>" cX5_init 1 (none, []) pcX5_init pcX5_init stX5_init := by
  refine ⟨⟨mo_ald, ok_aldn dX5_init_0 rfl rfl⟩, ?_⟩
  refine ⟨⟨mo_oin, ok_oin q363 q185 q186 dX5_init_1 rfl⟩, ?_⟩
  refine ⟨⟨mo_ald, ok_aldn dX5_init_4 rfl rfl⟩, ?_⟩
  refine ⟨⟨mo_push, ok_bipush dX5_init_5 iv_b44 rfl⟩, ?_⟩
  refine ⟨⟨mo_newA, ok_newA rfl rfl q422 dX5_init_7 rfl rfl⟩, ?_⟩
  refine ⟨⟨mo_pR, ok_pR rfl fd_X5_9 rfl (Or.inr ⟨rfl, rfl, rfl⟩) dX5_init_9 rfl⟩, ?_⟩
  refine ⟨⟨mo_ald, ok_aldn dX5_init_12 rfl rfl⟩, ?_⟩
  refine ⟨⟨mo_push, ok_bipush dX5_init_13 iv_b44 rfl⟩, ?_⟩
  refine ⟨⟨mo_newA, ok_newA rfl rfl q422 dX5_init_15 rfl rfl⟩, ?_⟩
  refine ⟨⟨mo_pR, ok_pR rfl fd_X5_15 rfl (Or.inr ⟨rfl, rfl, rfl⟩) dX5_init_17 rfl⟩, ?_⟩
  refine ⟨⟨mo_ret, ok_ret rfl dX5_init_20⟩, ?_⟩
  exact trivial
set_option maxHeartbeats 4000000 in
theorem alX5_begins : iy_all (iy_calls iy_mi) RX5 "begins" cX5_begins 5 (none, []) pcX5_begins pcX5_begins stX5_begins := by
  refine ⟨⟨mo_ald, ok_aldn dX5_begins_0 rfl rfl⟩, ?_⟩
  refine ⟨⟨mo_ild, ok_ildn dX5_begins_1 rfl rfl⟩, ?_⟩
  refine ⟨⟨mo_pI, ok_pI rfl fd_X5_18 rfl (Or.inl rfl) dX5_begins_2 rfl⟩, ?_⟩
  refine ⟨⟨mo_ald, ok_aldn dX5_begins_5 rfl rfl⟩, ?_⟩
  refine ⟨⟨mo_push, ok_iconst dX5_begins_6 iv_i0 rfl⟩, ?_⟩
  refine ⟨⟨mo_pI, ok_pI rfl fd_X5_22 rfl (Or.inl rfl) dX5_begins_7 rfl⟩, ?_⟩
  refine ⟨⟨mo_ald, ok_aldn dX5_begins_10 rfl rfl⟩, ?_⟩
  refine ⟨⟨mo_push, ok_iconst dX5_begins_11 iv_i0 rfl⟩, ?_⟩
  refine ⟨⟨mo_pI, ok_pI rfl fd_X5_25 rfl (Or.inl rfl) dX5_begins_12 rfl⟩, ?_⟩
  refine ⟨⟨mo_ald, ok_aldn dX5_begins_15 rfl rfl⟩, ?_⟩
  refine ⟨⟨mo_push, ok_bipush dX5_begins_16 iv_bm2 rfl⟩, ?_⟩
  refine ⟨⟨mo_pI, ok_pI rfl fd_X5_28 rfl (Or.inl rfl) dX5_begins_18 rfl⟩, ?_⟩
  refine ⟨⟨mo_ald, ok_aldn dX5_begins_21 rfl rfl⟩, ?_⟩
  refine ⟨⟨mo_ild, ok_ildn dX5_begins_22 rfl rfl⟩, ?_⟩
  refine ⟨⟨mo_pI, ok_pI rfl fd_X5_31 rfl (Or.inl rfl) dX5_begins_23 rfl⟩, ?_⟩
  refine ⟨⟨mo_ald, ok_aldn dX5_begins_26 rfl rfl⟩, ?_⟩
  refine ⟨⟨mo_ild, ok_ildn dX5_begins_27 rfl rfl⟩, ?_⟩
  refine ⟨⟨mo_pI, ok_pI rfl fd_X5_34 rfl (Or.inl rfl) dX5_begins_28 rfl⟩, ?_⟩
  refine ⟨⟨mo_ald, ok_aldn dX5_begins_31 rfl rfl⟩, ?_⟩
  refine ⟨⟨mo_ild, ok_ild dX5_begins_32 rfl⟩, ?_⟩
  refine ⟨⟨mo_pI, ok_pI rfl fd_X5_37 rfl (Or.inl rfl) dX5_begins_34 rfl⟩, ?_⟩
  refine ⟨⟨mo_ald, ok_aldn dX5_begins_37 rfl rfl⟩, ?_⟩
  refine ⟨⟨mo_push, ok_iconst dX5_begins_38 iv_im1 rfl⟩, ?_⟩
  refine ⟨⟨mo_pI, ok_pI rfl fd_X5_40 rfl (Or.inl rfl) dX5_begins_39 rfl⟩, ?_⟩
  refine ⟨⟨mo_ald, ok_aldn dX5_begins_42 rfl rfl⟩, ?_⟩
  refine ⟨⟨mo_push, ok_bipush dX5_begins_43 iv_bm2 rfl⟩, ?_⟩
  refine ⟨⟨mo_pI, ok_pI rfl fd_X5_43 rfl (Or.inl rfl) dX5_begins_45 rfl⟩, ?_⟩
  refine ⟨⟨mo_ald, ok_aldn dX5_begins_48 rfl rfl⟩, ?_⟩
  refine ⟨⟨mo_push, ok_iconst dX5_begins_49 iv_i0 rfl⟩, ?_⟩
  refine ⟨⟨mo_pI, ok_pI rfl fd_X5_46 rfl (Or.inl rfl) dX5_begins_50 rfl⟩, ?_⟩
  refine ⟨⟨mo_ret, ok_ret rfl dX5_begins_53⟩, ?_⟩
  exact trivial
set_option maxHeartbeats 4000000 in
theorem alX5_sets : iy_all (iy_calls iy_mi) RX5 "sets" cX5_sets 4 (none, []) pcX5_sets pcX5_sets stX5_sets := by
  refine ⟨⟨mo_ald, ok_aldn dX5_sets_0 rfl rfl⟩, ?_⟩
  refine ⟨⟨mo_ild, ok_ildn dX5_sets_1 rfl rfl⟩, ?_⟩
  refine ⟨⟨mo_cvI, ok_cvI mi_X5_at lk_X5_58 q643 q644 rfl (Nat.le_of_ble_eq_true rfl) (iy_ro_le _) rfl rfl dX5_sets_2 rfl⟩, ?_⟩
  refine ⟨⟨mo_ist, ok_istn dX5_sets_5 rfl (Nat.le_of_ble_eq_true rfl) rfl⟩, ?_⟩
  refine ⟨⟨mo_ild, ok_ildn dX5_sets_6 rfl rfl⟩, ?_⟩
  refine ⟨⟨mo_ilt, ok_ilt dX5_sets_7 rfl rfl⟩, ?_⟩
  refine ⟨⟨mo_ald, ok_aldn dX5_sets_10 rfl rfl⟩, ?_⟩
  refine ⟨⟨mo_gR, ok_gR rfl fd_X5_15 rfl dX5_sets_11 rfl⟩, ?_⟩
  refine ⟨⟨mo_ild, ok_ildn dX5_sets_14 rfl rfl⟩, ?_⟩
  refine ⟨⟨mo_ild, ok_ildn dX5_sets_15 rfl rfl⟩, ?_⟩
  refine ⟨⟨mo_asI, ok_iast dX5_sets_16 rfl⟩, ?_⟩
  refine ⟨⟨mo_ret, ok_ret rfl dX5_sets_17⟩, ?_⟩
  refine ⟨⟨mo_ald, ok_aldn dX5_sets_18 rfl rfl⟩, ?_⟩
  refine ⟨⟨mo_gI, ok_gI rfl fd_X5_22 rfl dX5_sets_19 rfl⟩, ?_⟩
  refine ⟨⟨mo_ist, ok_istn dX5_sets_22 rfl (Nat.le_of_ble_eq_true rfl) rfl⟩, ?_⟩
  refine ⟨⟨mo_ald, ok_aldn dX5_sets_23 rfl rfl⟩, ?_⟩
  refine ⟨⟨mo_dup, ok_dup dX5_sets_24 rfl⟩, ?_⟩
  refine ⟨⟨mo_gI, ok_gI rfl fd_X5_22 rfl dX5_sets_25 rfl⟩, ?_⟩
  refine ⟨⟨mo_push, ok_iconst dX5_sets_28 iv_i1 rfl⟩, ?_⟩
  refine ⟨⟨mo_bin, ok_iadd dX5_sets_29 rfl⟩, ?_⟩
  refine ⟨⟨mo_pI, ok_pI rfl fd_X5_22 rfl (Or.inl rfl) dX5_sets_30 rfl⟩, ?_⟩
  refine ⟨⟨mo_keep, ok_keep rfl⟩, ?_⟩
  refine ⟨⟨mo_ild, ok_ildn dX5_sets_33 rfl rfl⟩, ?_⟩
  refine ⟨⟨mo_ile, ok_ile dX5_sets_34 rfl rfl⟩, ?_⟩
  refine ⟨⟨mo_ald, ok_aldn dX5_sets_37 rfl rfl⟩, ?_⟩
  refine ⟨⟨mo_gR, ok_gR rfl fd_X5_9 rfl dX5_sets_38 rfl⟩, ?_⟩
  refine ⟨⟨mo_ild, ok_ildn dX5_sets_41 rfl rfl⟩, ?_⟩
  refine ⟨⟨mo_push, ok_iconst dX5_sets_42 iv_i1 rfl⟩, ?_⟩
  refine ⟨⟨mo_bin, ok_isub dX5_sets_43 rfl⟩, ?_⟩
  refine ⟨⟨mo_alI, ok_iald dX5_sets_44 rfl⟩, ?_⟩
  refine ⟨⟨mo_ild, ok_ildn dX5_sets_45 rfl rfl⟩, ?_⟩
  refine ⟨⟨mo_cle, ok_cle dX5_sets_46 rfl rfl⟩, ?_⟩
  refine ⟨⟨mo_ald, ok_aldn dX5_sets_49 rfl rfl⟩, ?_⟩
  refine ⟨⟨mo_gR, ok_gR rfl fd_X5_9 rfl dX5_sets_50 rfl⟩, ?_⟩
  refine ⟨⟨mo_ild, ok_ildn dX5_sets_53 rfl rfl⟩, ?_⟩
  refine ⟨⟨mo_ald, ok_aldn dX5_sets_54 rfl rfl⟩, ?_⟩
  refine ⟨⟨mo_gR, ok_gR rfl fd_X5_9 rfl dX5_sets_55 rfl⟩, ?_⟩
  refine ⟨⟨mo_ild, ok_ildn dX5_sets_58 rfl rfl⟩, ?_⟩
  refine ⟨⟨mo_push, ok_iconst dX5_sets_59 iv_i1 rfl⟩, ?_⟩
  refine ⟨⟨mo_bin, ok_isub dX5_sets_60 rfl⟩, ?_⟩
  refine ⟨⟨mo_alI, ok_iald dX5_sets_61 rfl⟩, ?_⟩
  refine ⟨⟨mo_asI, ok_iast dX5_sets_62 rfl⟩, ?_⟩
  refine ⟨⟨mo_ald, ok_aldn dX5_sets_63 rfl rfl⟩, ?_⟩
  refine ⟨⟨mo_gR, ok_gR rfl fd_X5_15 rfl dX5_sets_64 rfl⟩, ?_⟩
  refine ⟨⟨mo_ild, ok_ildn dX5_sets_67 rfl rfl⟩, ?_⟩
  refine ⟨⟨mo_ald, ok_aldn dX5_sets_68 rfl rfl⟩, ?_⟩
  refine ⟨⟨mo_gR, ok_gR rfl fd_X5_15 rfl dX5_sets_69 rfl⟩, ?_⟩
  refine ⟨⟨mo_ild, ok_ildn dX5_sets_72 rfl rfl⟩, ?_⟩
  refine ⟨⟨mo_push, ok_iconst dX5_sets_73 iv_i1 rfl⟩, ?_⟩
  refine ⟨⟨mo_bin, ok_isub dX5_sets_74 rfl⟩, ?_⟩
  refine ⟨⟨mo_alI, ok_iald dX5_sets_75 rfl⟩, ?_⟩
  refine ⟨⟨mo_asI, ok_iast dX5_sets_76 rfl⟩, ?_⟩
  refine ⟨⟨mo_inc, ok_inc dX5_sets_77 iv_im1 (Nat.le_of_ble_eq_true rfl) rfl⟩, ?_⟩
  refine ⟨⟨mo_back, ok_back dX5_sets_80 rfl⟩, ?_⟩
  refine ⟨⟨mo_keep, ok_keep rfl⟩, ?_⟩
  refine ⟨⟨mo_ald, ok_aldn dX5_sets_83 rfl rfl⟩, ?_⟩
  refine ⟨⟨mo_gR, ok_gR rfl fd_X5_9 rfl dX5_sets_84 rfl⟩, ?_⟩
  refine ⟨⟨mo_ild, ok_ildn dX5_sets_87 rfl rfl⟩, ?_⟩
  refine ⟨⟨mo_ild, ok_ildn dX5_sets_88 rfl rfl⟩, ?_⟩
  refine ⟨⟨mo_asI, ok_iast dX5_sets_89 rfl⟩, ?_⟩
  refine ⟨⟨mo_ald, ok_aldn dX5_sets_90 rfl rfl⟩, ?_⟩
  refine ⟨⟨mo_gR, ok_gR rfl fd_X5_15 rfl dX5_sets_91 rfl⟩, ?_⟩
  refine ⟨⟨mo_ild, ok_ildn dX5_sets_94 rfl rfl⟩, ?_⟩
  refine ⟨⟨mo_ild, ok_ildn dX5_sets_95 rfl rfl⟩, ?_⟩
  refine ⟨⟨mo_asI, ok_iast dX5_sets_96 rfl⟩, ?_⟩
  refine ⟨⟨mo_ret, ok_ret rfl dX5_sets_97⟩, ?_⟩
  exact trivial
set_option maxHeartbeats 4000000 in
theorem alX5_at : iy_all (iy_calls iy_mi) RX5 "at" cX5_at 3 (some FieldType.int, []) pcX5_at pcX5_at stX5_at := by
  refine ⟨⟨mo_push, ok_iconst dX5_at_0 iv_i0 rfl⟩, ?_⟩
  refine ⟨⟨mo_ist, ok_istn dX5_at_1 rfl (Nat.le_of_ble_eq_true rfl) rfl⟩, ?_⟩
  refine ⟨⟨mo_keep, ok_keep rfl⟩, ?_⟩
  refine ⟨⟨mo_ild, ok_ildn dX5_at_2 rfl rfl⟩, ?_⟩
  refine ⟨⟨mo_ald, ok_aldn dX5_at_3 rfl rfl⟩, ?_⟩
  refine ⟨⟨mo_gI, ok_gI rfl fd_X5_22 rfl dX5_at_4 rfl⟩, ?_⟩
  refine ⟨⟨mo_cge, ok_cge dX5_at_7 rfl rfl⟩, ?_⟩
  refine ⟨⟨mo_ald, ok_aldn dX5_at_10 rfl rfl⟩, ?_⟩
  refine ⟨⟨mo_gR, ok_gR rfl fd_X5_9 rfl dX5_at_11 rfl⟩, ?_⟩
  refine ⟨⟨mo_ild, ok_ildn dX5_at_14 rfl rfl⟩, ?_⟩
  refine ⟨⟨mo_alI, ok_iald dX5_at_15 rfl⟩, ?_⟩
  refine ⟨⟨mo_ild, ok_ildn dX5_at_16 rfl rfl⟩, ?_⟩
  refine ⟨⟨mo_cne, ok_cne dX5_at_17 rfl rfl⟩, ?_⟩
  refine ⟨⟨mo_ild, ok_ildn dX5_at_20 rfl rfl⟩, ?_⟩
  refine ⟨⟨mo_iret, ok_iret rfl rfl dX5_at_21⟩, ?_⟩
  refine ⟨⟨mo_inc, ok_inc dX5_at_22 iv_i1 (Nat.le_of_ble_eq_true rfl) rfl⟩, ?_⟩
  refine ⟨⟨mo_back, ok_back dX5_at_25 rfl⟩, ?_⟩
  refine ⟨⟨mo_push, ok_iconst dX5_at_28 iv_im1 rfl⟩, ?_⟩
  refine ⟨⟨mo_iret, ok_iret rfl rfl dX5_at_29⟩, ?_⟩
  exact trivial
set_option maxHeartbeats 4000000 in
theorem alX5_takes : iy_all (iy_calls iy_mi) RX5 "takes" cX5_takes 3 (none, []) pcX5_takes pcX5_takes stX5_takes := by
  refine ⟨⟨mo_ald, ok_aldn dX5_takes_0 rfl rfl⟩, ?_⟩
  refine ⟨⟨mo_ald, ok_aldn dX5_takes_1 rfl rfl⟩, ?_⟩
  refine ⟨⟨mo_gI, ok_gI rfl fd_X5_22 rfl dX5_takes_2 rfl⟩, ?_⟩
  refine ⟨⟨mo_pI, ok_pI rfl fd_X5_22 rfl (Or.inl rfl) dX5_takes_5 rfl⟩, ?_⟩
  refine ⟨⟨mo_ald, ok_aldn dX5_takes_8 rfl rfl⟩, ?_⟩
  refine ⟨⟨mo_ald, ok_aldn dX5_takes_9 rfl rfl⟩, ?_⟩
  refine ⟨⟨mo_gI, ok_gI rfl fd_X5_25 rfl dX5_takes_10 rfl⟩, ?_⟩
  refine ⟨⟨mo_pI, ok_pI rfl fd_X5_25 rfl (Or.inl rfl) dX5_takes_13 rfl⟩, ?_⟩
  refine ⟨⟨mo_ald, ok_aldn dX5_takes_16 rfl rfl⟩, ?_⟩
  refine ⟨⟨mo_ald, ok_aldn dX5_takes_17 rfl rfl⟩, ?_⟩
  refine ⟨⟨mo_gI, ok_gI rfl fd_X5_28 rfl dX5_takes_18 rfl⟩, ?_⟩
  refine ⟨⟨mo_pI, ok_pI rfl fd_X5_28 rfl (Or.inl rfl) dX5_takes_21 rfl⟩, ?_⟩
  refine ⟨⟨mo_push, ok_iconst dX5_takes_24 iv_i0 rfl⟩, ?_⟩
  refine ⟨⟨mo_ist, ok_istn dX5_takes_25 rfl (Nat.le_of_ble_eq_true rfl) rfl⟩, ?_⟩
  refine ⟨⟨mo_keep, ok_keep rfl⟩, ?_⟩
  refine ⟨⟨mo_ild, ok_ildn dX5_takes_26 rfl rfl⟩, ?_⟩
  refine ⟨⟨mo_ald, ok_aldn dX5_takes_27 rfl rfl⟩, ?_⟩
  refine ⟨⟨mo_gI, ok_gI rfl fd_X5_22 rfl dX5_takes_28 rfl⟩, ?_⟩
  refine ⟨⟨mo_cge, ok_cge dX5_takes_31 rfl rfl⟩, ?_⟩
  refine ⟨⟨mo_ald, ok_aldn dX5_takes_34 rfl rfl⟩, ?_⟩
  refine ⟨⟨mo_gR, ok_gR rfl fd_X5_9 rfl dX5_takes_35 rfl⟩, ?_⟩
  refine ⟨⟨mo_ild, ok_ildn dX5_takes_38 rfl rfl⟩, ?_⟩
  refine ⟨⟨mo_ald, ok_aldn dX5_takes_39 rfl rfl⟩, ?_⟩
  refine ⟨⟨mo_gR, ok_gR rfl fd_X5_9 rfl dX5_takes_40 rfl⟩, ?_⟩
  refine ⟨⟨mo_ild, ok_ildn dX5_takes_43 rfl rfl⟩, ?_⟩
  refine ⟨⟨mo_alI, ok_iald dX5_takes_44 rfl⟩, ?_⟩
  refine ⟨⟨mo_asI, ok_iast dX5_takes_45 rfl⟩, ?_⟩
  refine ⟨⟨mo_ald, ok_aldn dX5_takes_46 rfl rfl⟩, ?_⟩
  refine ⟨⟨mo_gR, ok_gR rfl fd_X5_15 rfl dX5_takes_47 rfl⟩, ?_⟩
  refine ⟨⟨mo_ild, ok_ildn dX5_takes_50 rfl rfl⟩, ?_⟩
  refine ⟨⟨mo_ald, ok_aldn dX5_takes_51 rfl rfl⟩, ?_⟩
  refine ⟨⟨mo_gR, ok_gR rfl fd_X5_15 rfl dX5_takes_52 rfl⟩, ?_⟩
  refine ⟨⟨mo_ild, ok_ildn dX5_takes_55 rfl rfl⟩, ?_⟩
  refine ⟨⟨mo_alI, ok_iald dX5_takes_56 rfl⟩, ?_⟩
  refine ⟨⟨mo_asI, ok_iast dX5_takes_57 rfl⟩, ?_⟩
  refine ⟨⟨mo_inc, ok_inc dX5_takes_58 iv_i1 (Nat.le_of_ble_eq_true rfl) rfl⟩, ?_⟩
  refine ⟨⟨mo_back, ok_back dX5_takes_61 rfl⟩, ?_⟩
  refine ⟨⟨mo_ret, ok_ret rfl dX5_takes_64⟩, ?_⟩
  exact trivial
set_option maxHeartbeats 4000000 in
theorem alX5_changes : iy_all (iy_calls iy_mi) RX5 "changes" cX5_changes 3 (none, []) pcX5_changes pcX5_changes stX5_changes := by
  refine ⟨⟨mo_ald, ok_aldn dX5_changes_0 rfl rfl⟩, ?_⟩
  refine ⟨⟨mo_gI, ok_gI rfl fd_X5_18 rfl dX5_changes_1 rfl⟩, ?_⟩
  refine ⟨⟨mo_sw, ok_tsw dX5_changes_4 rfl rfl (by decide +kernel)⟩, ?_⟩
  refine ⟨⟨mo_keep, ok_keep rfl⟩, ?_⟩
  refine ⟨⟨mo_ald, ok_aldn dX5_changes_48 rfl rfl⟩, ?_⟩
  refine ⟨⟨mo_ald, ok_aldn dX5_changes_49 rfl rfl⟩, ?_⟩
  refine ⟨⟨mo_gI, ok_gI rfl fd_X5_31 rfl dX5_changes_50 rfl⟩, ?_⟩
  refine ⟨⟨mo_ald, ok_aldn dX5_changes_53 rfl rfl⟩, ?_⟩
  refine ⟨⟨mo_gI, ok_gI rfl fd_X5_34 rfl dX5_changes_54 rfl⟩, ?_⟩
  refine ⟨⟨mo_cvV, ok_cvV mi_X5_sets lk_X5_62 q639 q640 rfl (Nat.le_of_ble_eq_true rfl) (iy_ro_le _) rfl rfl dX5_changes_57 rfl⟩, ?_⟩
  refine ⟨⟨mo_goto, ok_goto dX5_changes_60 rfl⟩, ?_⟩
  refine ⟨⟨mo_keep, ok_keep rfl⟩, ?_⟩
  refine ⟨⟨mo_ald, ok_aldn dX5_changes_63 rfl rfl⟩, ?_⟩
  refine ⟨⟨mo_ald, ok_aldn dX5_changes_64 rfl rfl⟩, ?_⟩
  refine ⟨⟨mo_gI, ok_gI rfl fd_X5_31 rfl dX5_changes_65 rfl⟩, ?_⟩
  refine ⟨⟨mo_cvV, ok_cvV mi_X5_drops lk_X5_66 q1389 q1390 rfl (Nat.le_of_ble_eq_true rfl) (iy_ro_le _) rfl rfl dX5_changes_68 rfl⟩, ?_⟩
  refine ⟨⟨mo_goto, ok_goto dX5_changes_71 rfl⟩, ?_⟩
  refine ⟨⟨mo_ald, ok_aldn dX5_changes_74 rfl rfl⟩, ?_⟩
  refine ⟨⟨mo_ald, ok_aldn dX5_changes_75 rfl rfl⟩, ?_⟩
  refine ⟨⟨mo_gI, ok_gI rfl fd_X5_31 rfl dX5_changes_76 rfl⟩, ?_⟩
  refine ⟨⟨mo_ald, ok_aldn dX5_changes_79 rfl rfl⟩, ?_⟩
  refine ⟨⟨mo_gI, ok_gI rfl fd_X5_34 rfl dX5_changes_80 rfl⟩, ?_⟩
  refine ⟨⟨mo_cvV, ok_cvV mi_X5_ends lk_X5_70 q1393 q1394 rfl (Nat.le_of_ble_eq_true rfl) (iy_ro_le _) rfl rfl dX5_changes_83 rfl⟩, ?_⟩
  refine ⟨⟨mo_goto, ok_goto dX5_changes_86 rfl⟩, ?_⟩
  refine ⟨⟨mo_ald, ok_aldn dX5_changes_89 rfl rfl⟩, ?_⟩
  refine ⟨⟨mo_ald, ok_aldn dX5_changes_90 rfl rfl⟩, ?_⟩
  refine ⟨⟨mo_ald, ok_aldn dX5_changes_91 rfl rfl⟩, ?_⟩
  refine ⟨⟨mo_gI, ok_gI rfl fd_X5_40 rfl dX5_changes_92 rfl⟩, ?_⟩
  refine ⟨⟨mo_alR, ok_aald rfl dX5_changes_95 rfl⟩, ?_⟩
  refine ⟨⟨mo_cvV, ok_cvV mi_X5_joins lk_X5_73 q1397 q1398 rfl (Nat.le_of_ble_eq_true rfl) (iy_ro_le _) rfl rfl dX5_changes_96 rfl⟩, ?_⟩
  refine ⟨⟨mo_goto, ok_goto dX5_changes_99 rfl⟩, ?_⟩
  refine ⟨⟨mo_keep, ok_keep rfl⟩, ?_⟩
  refine ⟨⟨mo_ret, ok_ret rfl dX5_changes_102⟩, ?_⟩
  exact trivial
set_option maxHeartbeats 4000000 in
theorem alX5_drops : iy_all (iy_calls iy_mi) RX5 "drops" cX5_drops 4 (none, []) pcX5_drops pcX5_drops stX5_drops := by
  refine ⟨⟨mo_ald, ok_aldn dX5_drops_0 rfl rfl⟩, ?_⟩
  refine ⟨⟨mo_ild, ok_ildn dX5_drops_1 rfl rfl⟩, ?_⟩
  refine ⟨⟨mo_cvI, ok_cvI mi_X5_at lk_X5_58 q643 q644 rfl (Nat.le_of_ble_eq_true rfl) (iy_ro_le _) rfl rfl dX5_drops_2 rfl⟩, ?_⟩
  refine ⟨⟨mo_ist, ok_istn dX5_drops_5 rfl (Nat.le_of_ble_eq_true rfl) rfl⟩, ?_⟩
  refine ⟨⟨mo_ild, ok_ildn dX5_drops_6 rfl rfl⟩, ?_⟩
  refine ⟨⟨mo_ige, ok_ige dX5_drops_7 rfl rfl⟩, ?_⟩
  refine ⟨⟨mo_ret, ok_ret rfl dX5_drops_10⟩, ?_⟩
  refine ⟨⟨mo_ald, ok_aldn dX5_drops_11 rfl rfl⟩, ?_⟩
  refine ⟨⟨mo_dup, ok_dup dX5_drops_12 rfl⟩, ?_⟩
  refine ⟨⟨mo_gI, ok_gI rfl fd_X5_22 rfl dX5_drops_13 rfl⟩, ?_⟩
  refine ⟨⟨mo_push, ok_iconst dX5_drops_16 iv_i1 rfl⟩, ?_⟩
  refine ⟨⟨mo_bin, ok_isub dX5_drops_17 rfl⟩, ?_⟩
  refine ⟨⟨mo_pI, ok_pI rfl fd_X5_22 rfl (Or.inl rfl) dX5_drops_18 rfl⟩, ?_⟩
  refine ⟨⟨mo_ild, ok_ildn dX5_drops_21 rfl rfl⟩, ?_⟩
  refine ⟨⟨mo_ist, ok_istn dX5_drops_22 rfl (Nat.le_of_ble_eq_true rfl) rfl⟩, ?_⟩
  refine ⟨⟨mo_keep, ok_keep rfl⟩, ?_⟩
  refine ⟨⟨mo_ild, ok_ildn dX5_drops_23 rfl rfl⟩, ?_⟩
  refine ⟨⟨mo_ald, ok_aldn dX5_drops_24 rfl rfl⟩, ?_⟩
  refine ⟨⟨mo_gI, ok_gI rfl fd_X5_22 rfl dX5_drops_25 rfl⟩, ?_⟩
  refine ⟨⟨mo_cge, ok_cge dX5_drops_28 rfl rfl⟩, ?_⟩
  refine ⟨⟨mo_ald, ok_aldn dX5_drops_31 rfl rfl⟩, ?_⟩
  refine ⟨⟨mo_gR, ok_gR rfl fd_X5_9 rfl dX5_drops_32 rfl⟩, ?_⟩
  refine ⟨⟨mo_ild, ok_ildn dX5_drops_35 rfl rfl⟩, ?_⟩
  refine ⟨⟨mo_ald, ok_aldn dX5_drops_36 rfl rfl⟩, ?_⟩
  refine ⟨⟨mo_gR, ok_gR rfl fd_X5_9 rfl dX5_drops_37 rfl⟩, ?_⟩
  refine ⟨⟨mo_ild, ok_ildn dX5_drops_40 rfl rfl⟩, ?_⟩
  refine ⟨⟨mo_push, ok_iconst dX5_drops_41 iv_i1 rfl⟩, ?_⟩
  refine ⟨⟨mo_bin, ok_iadd dX5_drops_42 rfl⟩, ?_⟩
  refine ⟨⟨mo_alI, ok_iald dX5_drops_43 rfl⟩, ?_⟩
  refine ⟨⟨mo_asI, ok_iast dX5_drops_44 rfl⟩, ?_⟩
  refine ⟨⟨mo_ald, ok_aldn dX5_drops_45 rfl rfl⟩, ?_⟩
  refine ⟨⟨mo_gR, ok_gR rfl fd_X5_15 rfl dX5_drops_46 rfl⟩, ?_⟩
  refine ⟨⟨mo_ild, ok_ildn dX5_drops_49 rfl rfl⟩, ?_⟩
  refine ⟨⟨mo_ald, ok_aldn dX5_drops_50 rfl rfl⟩, ?_⟩
  refine ⟨⟨mo_gR, ok_gR rfl fd_X5_15 rfl dX5_drops_51 rfl⟩, ?_⟩
  refine ⟨⟨mo_ild, ok_ildn dX5_drops_54 rfl rfl⟩, ?_⟩
  refine ⟨⟨mo_push, ok_iconst dX5_drops_55 iv_i1 rfl⟩, ?_⟩
  refine ⟨⟨mo_bin, ok_iadd dX5_drops_56 rfl⟩, ?_⟩
  refine ⟨⟨mo_alI, ok_iald dX5_drops_57 rfl⟩, ?_⟩
  refine ⟨⟨mo_asI, ok_iast dX5_drops_58 rfl⟩, ?_⟩
  refine ⟨⟨mo_inc, ok_inc dX5_drops_59 iv_i1 (Nat.le_of_ble_eq_true rfl) rfl⟩, ?_⟩
  refine ⟨⟨mo_back, ok_back dX5_drops_62 rfl⟩, ?_⟩
  refine ⟨⟨mo_ret, ok_ret rfl dX5_drops_65⟩, ?_⟩
  exact trivial
set_option maxHeartbeats 4000000 in
theorem alX5_ends : iy_all (iy_calls iy_mi) RX5 "ends" cX5_ends 3 (none, []) pcX5_ends pcX5_ends stX5_ends := by
  refine ⟨⟨mo_keep, ok_keep rfl⟩, ?_⟩
  refine ⟨⟨mo_ald, ok_aldn dX5_ends_0 rfl rfl⟩, ?_⟩
  refine ⟨⟨mo_gI, ok_gI rfl fd_X5_22 rfl dX5_ends_1 rfl⟩, ?_⟩
  refine ⟨⟨mo_ile, ok_ile dX5_ends_4 rfl rfl⟩, ?_⟩
  refine ⟨⟨mo_ald, ok_aldn dX5_ends_7 rfl rfl⟩, ?_⟩
  refine ⟨⟨mo_gR, ok_gR rfl fd_X5_9 rfl dX5_ends_8 rfl⟩, ?_⟩
  refine ⟨⟨mo_ald, ok_aldn dX5_ends_11 rfl rfl⟩, ?_⟩
  refine ⟨⟨mo_gI, ok_gI rfl fd_X5_22 rfl dX5_ends_12 rfl⟩, ?_⟩
  refine ⟨⟨mo_push, ok_iconst dX5_ends_15 iv_i1 rfl⟩, ?_⟩
  refine ⟨⟨mo_bin, ok_isub dX5_ends_16 rfl⟩, ?_⟩
  refine ⟨⟨mo_alI, ok_iald dX5_ends_17 rfl⟩, ?_⟩
  refine ⟨⟨mo_ild, ok_ildn dX5_ends_18 rfl rfl⟩, ?_⟩
  refine ⟨⟨mo_clt, ok_clt dX5_ends_19 rfl rfl⟩, ?_⟩
  refine ⟨⟨mo_ald, ok_aldn dX5_ends_22 rfl rfl⟩, ?_⟩
  refine ⟨⟨mo_dup, ok_dup dX5_ends_23 rfl⟩, ?_⟩
  refine ⟨⟨mo_gI, ok_gI rfl fd_X5_22 rfl dX5_ends_24 rfl⟩, ?_⟩
  refine ⟨⟨mo_push, ok_iconst dX5_ends_27 iv_i1 rfl⟩, ?_⟩
  refine ⟨⟨mo_bin, ok_isub dX5_ends_28 rfl⟩, ?_⟩
  refine ⟨⟨mo_pI, ok_pI rfl fd_X5_22 rfl (Or.inl rfl) dX5_ends_29 rfl⟩, ?_⟩
  refine ⟨⟨mo_back, ok_back dX5_ends_32 rfl⟩, ?_⟩
  refine ⟨⟨mo_keep, ok_keep rfl⟩, ?_⟩
  refine ⟨⟨mo_ald, ok_aldn dX5_ends_35 rfl rfl⟩, ?_⟩
  refine ⟨⟨mo_ild, ok_ildn dX5_ends_36 rfl rfl⟩, ?_⟩
  refine ⟨⟨mo_pI, ok_pI rfl fd_X5_25 rfl (Or.inl rfl) dX5_ends_37 rfl⟩, ?_⟩
  refine ⟨⟨mo_ald, ok_aldn dX5_ends_40 rfl rfl⟩, ?_⟩
  refine ⟨⟨mo_ild, ok_ildn dX5_ends_41 rfl rfl⟩, ?_⟩
  refine ⟨⟨mo_pI, ok_pI rfl fd_X5_28 rfl (Or.inl rfl) dX5_ends_42 rfl⟩, ?_⟩
  refine ⟨⟨mo_ret, ok_ret rfl dX5_ends_45⟩, ?_⟩
  exact trivial
set_option maxHeartbeats 4000000 in
theorem alX5_joins : iy_all (iy_calls iy_mi) RX5 "joins" cX5_joins 3 (none, []) pcX5_joins pcX5_joins stX5_joins := by
  refine ⟨⟨mo_push, ok_iconst dX5_joins_0 iv_i0 rfl⟩, ?_⟩
  refine ⟨⟨mo_ist, ok_istn dX5_joins_1 rfl (Nat.le_of_ble_eq_true rfl) rfl⟩, ?_⟩
  refine ⟨⟨mo_keep, ok_keep rfl⟩, ?_⟩
  refine ⟨⟨mo_ild, ok_ildn dX5_joins_2 rfl rfl⟩, ?_⟩
  refine ⟨⟨mo_ald, ok_aldn dX5_joins_3 rfl rfl⟩, ?_⟩
  refine ⟨⟨mo_gI, ok_gI rfl fd_X5_22 rfl dX5_joins_4 rfl⟩, ?_⟩
  refine ⟨⟨mo_cge, ok_cge dX5_joins_7 rfl rfl⟩, ?_⟩
  refine ⟨⟨mo_ald, ok_aldn dX5_joins_10 rfl rfl⟩, ?_⟩
  refine ⟨⟨mo_ald, ok_aldn dX5_joins_11 rfl rfl⟩, ?_⟩
  refine ⟨⟨mo_gR, ok_gR rfl fd_X5_9 rfl dX5_joins_12 rfl⟩, ?_⟩
  refine ⟨⟨mo_ild, ok_ildn dX5_joins_15 rfl rfl⟩, ?_⟩
  refine ⟨⟨mo_alI, ok_iald dX5_joins_16 rfl⟩, ?_⟩
  refine ⟨⟨mo_ald, ok_aldn dX5_joins_17 rfl rfl⟩, ?_⟩
  refine ⟨⟨mo_gR, ok_gR rfl fd_X5_15 rfl dX5_joins_18 rfl⟩, ?_⟩
  refine ⟨⟨mo_ild, ok_ildn dX5_joins_21 rfl rfl⟩, ?_⟩
  refine ⟨⟨mo_alI, ok_iald dX5_joins_22 rfl⟩, ?_⟩
  refine ⟨⟨mo_cvV, ok_cvV mi_X5_sets lk_X5_62 q639 q640 rfl (Nat.le_of_ble_eq_true rfl) (iy_ro_le _) rfl rfl dX5_joins_23 rfl⟩, ?_⟩
  refine ⟨⟨mo_inc, ok_inc dX5_joins_26 iv_i1 (Nat.le_of_ble_eq_true rfl) rfl⟩, ?_⟩
  refine ⟨⟨mo_back, ok_back dX5_joins_29 rfl⟩, ?_⟩
  refine ⟨⟨mo_ald, ok_aldn dX5_joins_32 rfl rfl⟩, ?_⟩
  refine ⟨⟨mo_ald, ok_aldn dX5_joins_33 rfl rfl⟩, ?_⟩
  refine ⟨⟨mo_gI, ok_gI rfl fd_X5_25 rfl dX5_joins_34 rfl⟩, ?_⟩
  refine ⟨⟨mo_pI, ok_pI rfl fd_X5_25 rfl (Or.inl rfl) dX5_joins_37 rfl⟩, ?_⟩
  refine ⟨⟨mo_ald, ok_aldn dX5_joins_40 rfl rfl⟩, ?_⟩
  refine ⟨⟨mo_ald, ok_aldn dX5_joins_41 rfl rfl⟩, ?_⟩
  refine ⟨⟨mo_gI, ok_gI rfl fd_X5_28 rfl dX5_joins_42 rfl⟩, ?_⟩
  refine ⟨⟨mo_pI, ok_pI rfl fd_X5_28 rfl (Or.inl rfl) dX5_joins_45 rfl⟩, ?_⟩
  refine ⟨⟨mo_ret, ok_ret rfl dX5_joins_48⟩, ?_⟩
  exact trivial
set_option maxHeartbeats 4000000 in
theorem alX5_upTo : iy_all (iy_calls iy_mi) RX5 "upTo" cX5_upTo 3 (some FieldType.int, []) pcX5_upTo pcX5_upTo stX5_upTo := by
  refine ⟨⟨mo_ald, ok_aldn dX5_upTo_0 rfl rfl⟩, ?_⟩
  refine ⟨⟨mo_gI, ok_gI rfl fd_X5_22 rfl dX5_upTo_1 rfl⟩, ?_⟩
  refine ⟨⟨mo_push, ok_iconst dX5_upTo_4 iv_i1 rfl⟩, ?_⟩
  refine ⟨⟨mo_bin, ok_isub dX5_upTo_5 rfl⟩, ?_⟩
  refine ⟨⟨mo_ist, ok_istn dX5_upTo_6 rfl (Nat.le_of_ble_eq_true rfl) rfl⟩, ?_⟩
  refine ⟨⟨mo_keep, ok_keep rfl⟩, ?_⟩
  refine ⟨⟨mo_ild, ok_ildn dX5_upTo_7 rfl rfl⟩, ?_⟩
  refine ⟨⟨mo_ilt, ok_ilt dX5_upTo_8 rfl rfl⟩, ?_⟩
  refine ⟨⟨mo_ald, ok_aldn dX5_upTo_11 rfl rfl⟩, ?_⟩
  refine ⟨⟨mo_gR, ok_gR rfl fd_X5_9 rfl dX5_upTo_12 rfl⟩, ?_⟩
  refine ⟨⟨mo_ild, ok_ildn dX5_upTo_15 rfl rfl⟩, ?_⟩
  refine ⟨⟨mo_alI, ok_iald dX5_upTo_16 rfl⟩, ?_⟩
  refine ⟨⟨mo_ild, ok_ildn dX5_upTo_17 rfl rfl⟩, ?_⟩
  refine ⟨⟨mo_cle, ok_cle dX5_upTo_18 rfl rfl⟩, ?_⟩
  refine ⟨⟨mo_inc, ok_inc dX5_upTo_21 iv_im1 (Nat.le_of_ble_eq_true rfl) rfl⟩, ?_⟩
  refine ⟨⟨mo_back, ok_back dX5_upTo_24 rfl⟩, ?_⟩
  refine ⟨⟨mo_keep, ok_keep rfl⟩, ?_⟩
  refine ⟨⟨mo_ild, ok_ildn dX5_upTo_27 rfl rfl⟩, ?_⟩
  refine ⟨⟨mo_iret, ok_iret rfl rfl dX5_upTo_28⟩, ?_⟩
  exact trivial
set_option maxHeartbeats 4000000 in
theorem alX5_becomes : iy_all (iy_calls iy_mi) RX5 "becomes" cX5_becomes 2 (none, []) pcX5_becomes pcX5_becomes stX5_becomes := by
  refine ⟨⟨mo_ald, ok_aldn dX5_becomes_0 rfl rfl⟩, ?_⟩
  refine ⟨⟨mo_ald, ok_aldn dX5_becomes_1 rfl rfl⟩, ?_⟩
  refine ⟨⟨mo_gI, ok_gI rfl fd_X5_18 rfl dX5_becomes_2 rfl⟩, ?_⟩
  refine ⟨⟨mo_ald, ok_aldn dX5_becomes_5 rfl rfl⟩, ?_⟩
  refine ⟨⟨mo_gI, ok_gI rfl fd_X5_31 rfl dX5_becomes_6 rfl⟩, ?_⟩
  refine ⟨⟨mo_ald, ok_aldn dX5_becomes_9 rfl rfl⟩, ?_⟩
  refine ⟨⟨mo_gI, ok_gI rfl fd_X5_34 rfl dX5_becomes_10 rfl⟩, ?_⟩
  refine ⟨⟨mo_ald, ok_aldn dX5_becomes_13 rfl rfl⟩, ?_⟩
  refine ⟨⟨mo_gI, ok_gI rfl fd_X5_37 rfl dX5_becomes_14 rfl⟩, ?_⟩
  refine ⟨⟨mo_cvV, ok_cvV mi_X5_begins lk_X5_50 q635 q636 rfl (Nat.le_of_ble_eq_true rfl) (iy_ro_le _) rfl rfl dX5_becomes_17 rfl⟩, ?_⟩
  refine ⟨⟨mo_ald, ok_aldn dX5_becomes_20 rfl rfl⟩, ?_⟩
  refine ⟨⟨mo_ald, ok_aldn dX5_becomes_21 rfl rfl⟩, ?_⟩
  refine ⟨⟨mo_cvV, ok_cvV mi_X5_takes lk_X5_54 q1380 q1381 rfl (Nat.le_of_ble_eq_true rfl) (iy_ro_le _) rfl rfl dX5_becomes_22 rfl⟩, ?_⟩
  refine ⟨⟨mo_ald, ok_aldn dX5_becomes_25 rfl rfl⟩, ?_⟩
  refine ⟨⟨mo_ald, ok_aldn dX5_becomes_26 rfl rfl⟩, ?_⟩
  refine ⟨⟨mo_gI, ok_gI rfl fd_X5_40 rfl dX5_becomes_27 rfl⟩, ?_⟩
  refine ⟨⟨mo_pI, ok_pI rfl fd_X5_40 rfl (Or.inl rfl) dX5_becomes_30 rfl⟩, ?_⟩
  refine ⟨⟨mo_ald, ok_aldn dX5_becomes_33 rfl rfl⟩, ?_⟩
  refine ⟨⟨mo_ald, ok_aldn dX5_becomes_34 rfl rfl⟩, ?_⟩
  refine ⟨⟨mo_gI, ok_gI rfl fd_X5_43 rfl dX5_becomes_35 rfl⟩, ?_⟩
  refine ⟨⟨mo_pI, ok_pI rfl fd_X5_43 rfl (Or.inl rfl) dX5_becomes_38 rfl⟩, ?_⟩
  refine ⟨⟨mo_ald, ok_aldn dX5_becomes_41 rfl rfl⟩, ?_⟩
  refine ⟨⟨mo_ald, ok_aldn dX5_becomes_42 rfl rfl⟩, ?_⟩
  refine ⟨⟨mo_gI, ok_gI rfl fd_X5_46 rfl dX5_becomes_43 rfl⟩, ?_⟩
  refine ⟨⟨mo_pI, ok_pI rfl fd_X5_46 rfl (Or.inl rfl) dX5_becomes_46 rfl⟩, ?_⟩
  refine ⟨⟨mo_ret, ok_ret rfl dX5_becomes_49⟩, ?_⟩
  exact trivial
set_option maxHeartbeats 4000000 in
theorem alX6_init : iy_all (iy_calls iy_mi) RX6 "<init>" cX6_init 1 (none, []) pcX6_init pcX6_init stX6_init := by
  refine ⟨⟨mo_ald, ok_aldn dX6_init_0 rfl rfl⟩, ?_⟩
  refine ⟨⟨mo_oin, ok_oin q427 q185 q186 dX6_init_1 rfl⟩, ?_⟩
  refine ⟨⟨mo_ret, ok_ret rfl dX6_init_4⟩, ?_⟩
  exact trivial
set_option maxHeartbeats 4000000 in
theorem alX6_begins : iy_all (iy_calls iy_mi) RX6 "begins" cX6_begins 1 (none, []) pcX6_begins pcX6_begins stX6_begins := by
  refine ⟨⟨mo_ald, ok_aldn dX6_begins_0 rfl rfl⟩, ?_⟩
  refine ⟨⟨mo_push, ok_iconst dX6_begins_1 iv_i0 rfl⟩, ?_⟩
  refine ⟨⟨mo_pI, ok_pI rfl fd_X6_9 rfl (Or.inl rfl) dX6_begins_2 rfl⟩, ?_⟩
  refine ⟨⟨mo_ald, ok_aldn dX6_begins_5 rfl rfl⟩, ?_⟩
  refine ⟨⟨mo_push, ok_iconst dX6_begins_6 iv_i0 rfl⟩, ?_⟩
  refine ⟨⟨mo_pI, ok_pI rfl fd_X6_15 rfl (Or.inl rfl) dX6_begins_7 rfl⟩, ?_⟩
  refine ⟨⟨mo_ald, ok_aldn dX6_begins_10 rfl rfl⟩, ?_⟩
  refine ⟨⟨mo_push, ok_bipush dX6_begins_11 iv_bm2 rfl⟩, ?_⟩
  refine ⟨⟨mo_pI, ok_pI rfl fd_X6_18 rfl (Or.inl rfl) dX6_begins_13 rfl⟩, ?_⟩
  refine ⟨⟨mo_ald, ok_aldn dX6_begins_16 rfl rfl⟩, ?_⟩
  refine ⟨⟨mo_push, ok_bipush dX6_begins_17 iv_bm2 rfl⟩, ?_⟩
  refine ⟨⟨mo_pI, ok_pI rfl fd_X6_21 rfl (Or.inl rfl) dX6_begins_19 rfl⟩, ?_⟩
  refine ⟨⟨mo_ald, ok_aldn dX6_begins_22 rfl rfl⟩, ?_⟩
  refine ⟨⟨mo_push, ok_iconst dX6_begins_23 iv_i0 rfl⟩, ?_⟩
  refine ⟨⟨mo_pI, ok_pI rfl fd_X6_24 rfl (Or.inl rfl) dX6_begins_24 rfl⟩, ?_⟩
  refine ⟨⟨mo_ald, ok_aldn dX6_begins_27 rfl rfl⟩, ?_⟩
  refine ⟨⟨mo_push, ok_iconst dX6_begins_28 iv_i0 rfl⟩, ?_⟩
  refine ⟨⟨mo_pI, ok_pI rfl fd_X6_27 rfl (Or.inl rfl) dX6_begins_29 rfl⟩, ?_⟩
  refine ⟨⟨mo_ald, ok_aldn dX6_begins_32 rfl rfl⟩, ?_⟩
  refine ⟨⟨mo_push, ok_bipush dX6_begins_33 iv_bm2 rfl⟩, ?_⟩
  refine ⟨⟨mo_pI, ok_pI rfl fd_X6_30 rfl (Or.inl rfl) dX6_begins_35 rfl⟩, ?_⟩
  refine ⟨⟨mo_ald, ok_aldn dX6_begins_38 rfl rfl⟩, ?_⟩
  refine ⟨⟨mo_push, ok_iconst dX6_begins_39 iv_i0 rfl⟩, ?_⟩
  refine ⟨⟨mo_pI, ok_pI rfl fd_X6_33 rfl (Or.inl rfl) dX6_begins_40 rfl⟩, ?_⟩
  refine ⟨⟨mo_ald, ok_aldn dX6_begins_43 rfl rfl⟩, ?_⟩
  refine ⟨⟨mo_push, ok_iconst dX6_begins_44 iv_i0 rfl⟩, ?_⟩
  refine ⟨⟨mo_pI, ok_pI rfl fd_X6_36 rfl (Or.inl rfl) dX6_begins_45 rfl⟩, ?_⟩
  refine ⟨⟨mo_ret, ok_ret rfl dX6_begins_48⟩, ?_⟩
  exact trivial
set_option maxHeartbeats 4000000 in
theorem alX6_tells : iy_all (iy_calls iy_mi) RX6 "tells" cX6_tells 2 (some FieldType.int, []) pcX6_tells pcX6_tells stX6_tells := by
  refine ⟨⟨mo_ald, ok_aldn dX6_tells_0 rfl rfl⟩, ?_⟩
  refine ⟨⟨mo_ild, ok_ildn dX6_tells_1 rfl rfl⟩, ?_⟩
  refine ⟨⟨mo_pI, ok_pI rfl fd_X6_33 rfl (Or.inl rfl) dX6_tells_2 rfl⟩, ?_⟩
  refine ⟨⟨mo_ald, ok_aldn dX6_tells_5 rfl rfl⟩, ?_⟩
  refine ⟨⟨mo_push, ok_iconst dX6_tells_6 iv_i1 rfl⟩, ?_⟩
  refine ⟨⟨mo_pI, ok_pI rfl fd_X6_36 rfl (Or.inl rfl) dX6_tells_7 rfl⟩, ?_⟩
  refine ⟨⟨mo_ald, ok_aldn dX6_tells_10 rfl rfl⟩, ?_⟩
  refine ⟨⟨mo_cvI, ok_cvI mi_X6_rests lk_X6_61 q1455 q1456 rfl (Nat.le_of_ble_eq_true rfl) (iy_ro_le _) rfl rfl dX6_tells_11 rfl⟩, ?_⟩
  refine ⟨⟨mo_iret, ok_iret rfl rfl dX6_tells_14⟩, ?_⟩
  exact trivial
set_option maxHeartbeats 4000000 in
theorem alX6_rests : iy_all (iy_calls iy_mi) RX6 "rests" cX6_rests 1 (some FieldType.int, []) pcX6_rests pcX6_rests stX6_rests := by
  refine ⟨⟨mo_ald, ok_aldn dX6_rests_0 rfl rfl⟩, ?_⟩
  refine ⟨⟨mo_push, ok_bipush dX6_rests_1 iv_bm2 rfl⟩, ?_⟩
  refine ⟨⟨mo_pI, ok_pI rfl fd_X6_30 rfl (Or.inl rfl) dX6_rests_3 rfl⟩, ?_⟩
  refine ⟨⟨mo_push, ok_iconst dX6_rests_6 iv_i0 rfl⟩, ?_⟩
  refine ⟨⟨mo_iret, ok_iret rfl rfl dX6_rests_7⟩, ?_⟩
  exact trivial
set_option maxHeartbeats 4000000 in
theorem alX6_lost : iy_all (iy_calls iy_mi) RX6 "lost" cX6_lost 2 (some FieldType.int, []) pcX6_lost pcX6_lost stX6_lost := by
  refine ⟨⟨mo_ald, ok_aldn dX6_lost_0 rfl rfl⟩, ?_⟩
  refine ⟨⟨mo_dup, ok_dup dX6_lost_1 rfl⟩, ?_⟩
  refine ⟨⟨mo_gI, ok_gI rfl fd_X6_24 rfl dX6_lost_2 rfl⟩, ?_⟩
  refine ⟨⟨mo_push, ok_iconst dX6_lost_5 iv_i1 rfl⟩, ?_⟩
  refine ⟨⟨mo_bin, ok_iadd dX6_lost_6 rfl⟩, ?_⟩
  refine ⟨⟨mo_pI, ok_pI rfl fd_X6_24 rfl (Or.inl rfl) dX6_lost_7 rfl⟩, ?_⟩
  refine ⟨⟨mo_ild, ok_ildn dX6_lost_10 rfl rfl⟩, ?_⟩
  refine ⟨⟨mo_iret, ok_iret rfl rfl dX6_lost_11⟩, ?_⟩
  exact trivial
set_option maxHeartbeats 4000000 in
theorem alX6_goesOn : iy_all (iy_calls iy_mi) RX6 "goesOn" cX6_goesOn 1 (some FieldType.int, []) pcX6_goesOn pcX6_goesOn stX6_goesOn := by
  refine ⟨⟨mo_ald, ok_aldn dX6_goesOn_0 rfl rfl⟩, ?_⟩
  refine ⟨⟨mo_gI, ok_gI rfl fd_X6_36 rfl dX6_goesOn_1 rfl⟩, ?_⟩
  refine ⟨⟨mo_ieq, ok_ieq dX6_goesOn_4 rfl rfl⟩, ?_⟩
  refine ⟨⟨mo_ald, ok_aldn dX6_goesOn_7 rfl rfl⟩, ?_⟩
  refine ⟨⟨mo_cvI, ok_cvI mi_X6_rests lk_X6_61 q1455 q1456 rfl (Nat.le_of_ble_eq_true rfl) (iy_ro_le _) rfl rfl dX6_goesOn_8 rfl⟩, ?_⟩
  refine ⟨⟨mo_goto, ok_goto dX6_goesOn_11 rfl⟩, ?_⟩
  refine ⟨⟨mo_push, ok_iconst dX6_goesOn_14 iv_i1 rfl⟩, ?_⟩
  refine ⟨⟨mo_keep, ok_keep rfl⟩, ?_⟩
  refine ⟨⟨mo_iret, ok_iret rfl rfl dX6_goesOn_15⟩, ?_⟩
  exact trivial
set_option maxHeartbeats 4000000 in
theorem alX6_becomes : iy_all (iy_calls iy_mi) RX6 "becomes" cX6_becomes 2 (none, []) pcX6_becomes pcX6_becomes stX6_becomes := by
  refine ⟨⟨mo_ald, ok_aldn dX6_becomes_0 rfl rfl⟩, ?_⟩
  refine ⟨⟨mo_ald, ok_aldn dX6_becomes_1 rfl rfl⟩, ?_⟩
  refine ⟨⟨mo_gI, ok_gI rfl fd_X6_9 rfl dX6_becomes_2 rfl⟩, ?_⟩
  refine ⟨⟨mo_pI, ok_pI rfl fd_X6_9 rfl (Or.inl rfl) dX6_becomes_5 rfl⟩, ?_⟩
  refine ⟨⟨mo_ald, ok_aldn dX6_becomes_8 rfl rfl⟩, ?_⟩
  refine ⟨⟨mo_ald, ok_aldn dX6_becomes_9 rfl rfl⟩, ?_⟩
  refine ⟨⟨mo_gI, ok_gI rfl fd_X6_21 rfl dX6_becomes_10 rfl⟩, ?_⟩
  refine ⟨⟨mo_pI, ok_pI rfl fd_X6_21 rfl (Or.inl rfl) dX6_becomes_13 rfl⟩, ?_⟩
  refine ⟨⟨mo_ald, ok_aldn dX6_becomes_16 rfl rfl⟩, ?_⟩
  refine ⟨⟨mo_ald, ok_aldn dX6_becomes_17 rfl rfl⟩, ?_⟩
  refine ⟨⟨mo_gI, ok_gI rfl fd_X6_40 rfl dX6_becomes_18 rfl⟩, ?_⟩
  refine ⟨⟨mo_pI, ok_pI rfl fd_X6_40 rfl (Or.inl rfl) dX6_becomes_21 rfl⟩, ?_⟩
  refine ⟨⟨mo_ald, ok_aldn dX6_becomes_24 rfl rfl⟩, ?_⟩
  refine ⟨⟨mo_ald, ok_aldn dX6_becomes_25 rfl rfl⟩, ?_⟩
  refine ⟨⟨mo_gI, ok_gI rfl fd_X6_15 rfl dX6_becomes_26 rfl⟩, ?_⟩
  refine ⟨⟨mo_pI, ok_pI rfl fd_X6_15 rfl (Or.inl rfl) dX6_becomes_29 rfl⟩, ?_⟩
  refine ⟨⟨mo_ald, ok_aldn dX6_becomes_32 rfl rfl⟩, ?_⟩
  refine ⟨⟨mo_ald, ok_aldn dX6_becomes_33 rfl rfl⟩, ?_⟩
  refine ⟨⟨mo_gI, ok_gI rfl fd_X6_18 rfl dX6_becomes_34 rfl⟩, ?_⟩
  refine ⟨⟨mo_pI, ok_pI rfl fd_X6_18 rfl (Or.inl rfl) dX6_becomes_37 rfl⟩, ?_⟩
  refine ⟨⟨mo_ald, ok_aldn dX6_becomes_40 rfl rfl⟩, ?_⟩
  refine ⟨⟨mo_ald, ok_aldn dX6_becomes_41 rfl rfl⟩, ?_⟩
  refine ⟨⟨mo_gI, ok_gI rfl fd_X6_43 rfl dX6_becomes_42 rfl⟩, ?_⟩
  refine ⟨⟨mo_pI, ok_pI rfl fd_X6_43 rfl (Or.inl rfl) dX6_becomes_45 rfl⟩, ?_⟩
  refine ⟨⟨mo_ald, ok_aldn dX6_becomes_48 rfl rfl⟩, ?_⟩
  refine ⟨⟨mo_ald, ok_aldn dX6_becomes_49 rfl rfl⟩, ?_⟩
  refine ⟨⟨mo_gI, ok_gI rfl fd_X6_46 rfl dX6_becomes_50 rfl⟩, ?_⟩
  refine ⟨⟨mo_pI, ok_pI rfl fd_X6_46 rfl (Or.inl rfl) dX6_becomes_53 rfl⟩, ?_⟩
  refine ⟨⟨mo_ald, ok_aldn dX6_becomes_56 rfl rfl⟩, ?_⟩
  refine ⟨⟨mo_ald, ok_aldn dX6_becomes_57 rfl rfl⟩, ?_⟩
  refine ⟨⟨mo_gI, ok_gI rfl fd_X6_49 rfl dX6_becomes_58 rfl⟩, ?_⟩
  refine ⟨⟨mo_pI, ok_pI rfl fd_X6_49 rfl (Or.inl rfl) dX6_becomes_61 rfl⟩, ?_⟩
  refine ⟨⟨mo_ald, ok_aldn dX6_becomes_64 rfl rfl⟩, ?_⟩
  refine ⟨⟨mo_ald, ok_aldn dX6_becomes_65 rfl rfl⟩, ?_⟩
  refine ⟨⟨mo_gI, ok_gI rfl fd_X6_52 rfl dX6_becomes_66 rfl⟩, ?_⟩
  refine ⟨⟨mo_pI, ok_pI rfl fd_X6_52 rfl (Or.inl rfl) dX6_becomes_69 rfl⟩, ?_⟩
  refine ⟨⟨mo_ald, ok_aldn dX6_becomes_72 rfl rfl⟩, ?_⟩
  refine ⟨⟨mo_ald, ok_aldn dX6_becomes_73 rfl rfl⟩, ?_⟩
  refine ⟨⟨mo_gI, ok_gI rfl fd_X6_55 rfl dX6_becomes_74 rfl⟩, ?_⟩
  refine ⟨⟨mo_pI, ok_pI rfl fd_X6_55 rfl (Or.inl rfl) dX6_becomes_77 rfl⟩, ?_⟩
  refine ⟨⟨mo_ald, ok_aldn dX6_becomes_80 rfl rfl⟩, ?_⟩
  refine ⟨⟨mo_ald, ok_aldn dX6_becomes_81 rfl rfl⟩, ?_⟩
  refine ⟨⟨mo_gI, ok_gI rfl fd_X6_58 rfl dX6_becomes_82 rfl⟩, ?_⟩
  refine ⟨⟨mo_pI, ok_pI rfl fd_X6_58 rfl (Or.inl rfl) dX6_becomes_85 rfl⟩, ?_⟩
  refine ⟨⟨mo_ald, ok_aldn dX6_becomes_88 rfl rfl⟩, ?_⟩
  refine ⟨⟨mo_ald, ok_aldn dX6_becomes_89 rfl rfl⟩, ?_⟩
  refine ⟨⟨mo_gI, ok_gI rfl fd_X6_24 rfl dX6_becomes_90 rfl⟩, ?_⟩
  refine ⟨⟨mo_pI, ok_pI rfl fd_X6_24 rfl (Or.inl rfl) dX6_becomes_93 rfl⟩, ?_⟩
  refine ⟨⟨mo_ald, ok_aldn dX6_becomes_96 rfl rfl⟩, ?_⟩
  refine ⟨⟨mo_ald, ok_aldn dX6_becomes_97 rfl rfl⟩, ?_⟩
  refine ⟨⟨mo_gI, ok_gI rfl fd_X6_27 rfl dX6_becomes_98 rfl⟩, ?_⟩
  refine ⟨⟨mo_pI, ok_pI rfl fd_X6_27 rfl (Or.inl rfl) dX6_becomes_101 rfl⟩, ?_⟩
  refine ⟨⟨mo_ald, ok_aldn dX6_becomes_104 rfl rfl⟩, ?_⟩
  refine ⟨⟨mo_ald, ok_aldn dX6_becomes_105 rfl rfl⟩, ?_⟩
  refine ⟨⟨mo_gI, ok_gI rfl fd_X6_30 rfl dX6_becomes_106 rfl⟩, ?_⟩
  refine ⟨⟨mo_pI, ok_pI rfl fd_X6_30 rfl (Or.inl rfl) dX6_becomes_109 rfl⟩, ?_⟩
  refine ⟨⟨mo_ald, ok_aldn dX6_becomes_112 rfl rfl⟩, ?_⟩
  refine ⟨⟨mo_ald, ok_aldn dX6_becomes_113 rfl rfl⟩, ?_⟩
  refine ⟨⟨mo_gI, ok_gI rfl fd_X6_33 rfl dX6_becomes_114 rfl⟩, ?_⟩
  refine ⟨⟨mo_pI, ok_pI rfl fd_X6_33 rfl (Or.inl rfl) dX6_becomes_117 rfl⟩, ?_⟩
  refine ⟨⟨mo_ald, ok_aldn dX6_becomes_120 rfl rfl⟩, ?_⟩
  refine ⟨⟨mo_ald, ok_aldn dX6_becomes_121 rfl rfl⟩, ?_⟩
  refine ⟨⟨mo_gI, ok_gI rfl fd_X6_36 rfl dX6_becomes_122 rfl⟩, ?_⟩
  refine ⟨⟨mo_pI, ok_pI rfl fd_X6_36 rfl (Or.inl rfl) dX6_becomes_125 rfl⟩, ?_⟩
  refine ⟨⟨mo_ret, ok_ret rfl dX6_becomes_128⟩, ?_⟩
  exact trivial
set_option maxHeartbeats 4000000 in
theorem alX7_init : iy_all (iy_calls iy_mi) RX7 "<init>" cX7_init 1 (none, []) pcX7_init pcX7_init stX7_init := by
  refine ⟨⟨mo_ald, ok_aldn dX7_init_0 rfl rfl⟩, ?_⟩
  refine ⟨⟨mo_oin, ok_oin q559 q185 q186 dX7_init_1 rfl⟩, ?_⟩
  refine ⟨⟨mo_ald, ok_aldn dX7_init_4 rfl rfl⟩, ?_⟩
  refine ⟨⟨mo_new, ok_new (r := (RX8, TX8, 2)) rfl rfl (Nat.le_of_ble_eq_true rfl) rfl rfl q560 q561 q154 dX7_init_5 rfl⟩, ?_⟩
  refine ⟨⟨mo_dup, ok_dup dX7_init_8 rfl⟩, ?_⟩
  refine ⟨⟨mo_push, ok_iconst dX7_init_9 iv_i1 rfl⟩, ?_⟩
  refine ⟨⟨mo_cvV, ok_ci mi_X8_init lk_X7_9 q563 rfl dX7_init_10 rfl⟩, ?_⟩
  refine ⟨⟨mo_pR, ok_pR rfl fd_X7_12 rfl (Or.inr ⟨rfl, rfl, rfl⟩) dX7_init_13 rfl⟩, ?_⟩
  refine ⟨⟨mo_ald, ok_aldn dX7_init_16 rfl rfl⟩, ?_⟩
  refine ⟨⟨mo_push, ok_iconst dX7_init_17 iv_i3 rfl⟩, ?_⟩
  refine ⟨⟨mo_pI, ok_pI rfl fd_X7_18 rfl (Or.inl rfl) dX7_init_18 rfl⟩, ?_⟩
  refine ⟨⟨mo_ald, ok_aldn dX7_init_21 rfl rfl⟩, ?_⟩
  refine ⟨⟨mo_push, ok_bipush dX7_init_22 iv_b6 rfl⟩, ?_⟩
  refine ⟨⟨mo_pI, ok_pI rfl fd_X7_22 rfl (Or.inl rfl) dX7_init_24 rfl⟩, ?_⟩
  refine ⟨⟨mo_ald, ok_aldn dX7_init_27 rfl rfl⟩, ?_⟩
  refine ⟨⟨mo_push, ok_iconst dX7_init_28 iv_i2 rfl⟩, ?_⟩
  refine ⟨⟨mo_pI, ok_pI rfl fd_X7_25 rfl (Or.inl rfl) dX7_init_29 rfl⟩, ?_⟩
  refine ⟨⟨mo_ret, ok_ret rfl dX7_init_32⟩, ?_⟩
  exact trivial
set_option maxHeartbeats 4000000 in
theorem alX8_init : iy_all (iy_calls iy_mi) RX8 "<init>" cX8_init 2 (none, []) pcX8_init pcX8_init stX8_init := by
  refine ⟨⟨mo_ald, ok_aldn dX8_init_0 rfl rfl⟩, ?_⟩
  refine ⟨⟨mo_oin, ok_oin q565 q185 q186 dX8_init_1 rfl⟩, ?_⟩
  refine ⟨⟨mo_ald, ok_aldn dX8_init_4 rfl rfl⟩, ?_⟩
  refine ⟨⟨mo_new, ok_new (r := (RJ5, TJ5, 3)) rfl rfl (Nat.le_of_ble_eq_true rfl) rfl rfl q566 q567 q157 dX8_init_5 rfl⟩, ?_⟩
  refine ⟨⟨mo_dup, ok_dup dX8_init_8 rfl⟩, ?_⟩
  refine ⟨⟨mo_cvV, ok_ci mi_J5_init lk_X8_9 q569 rfl dX8_init_9 rfl⟩, ?_⟩
  refine ⟨⟨mo_pR, ok_pR rfl fd_X8_10 rfl (Or.inr ⟨rfl, rfl, rfl⟩) dX8_init_12 rfl⟩, ?_⟩
  refine ⟨⟨mo_ald, ok_aldn dX8_init_15 rfl rfl⟩, ?_⟩
  refine ⟨⟨mo_ild, ok_ildn dX8_init_16 rfl rfl⟩, ?_⟩
  refine ⟨⟨mo_pI, ok_pI rfl fd_X8_16 rfl (Or.inr ⟨rfl, rfl, rfl⟩) dX8_init_17 rfl⟩, ?_⟩
  refine ⟨⟨mo_ret, ok_ret rfl dX8_init_20⟩, ?_⟩
  exact trivial
set_option maxHeartbeats 4000000 in
theorem alX8_all : iy_all (iy_calls iy_mi) RX8 "all" cX8_all 4 (none, []) pcX8_all pcX8_all stX8_all := by
  refine ⟨⟨mo_push, ok_iconst dX8_all_0 iv_i0 rfl⟩, ?_⟩
  refine ⟨⟨mo_ist, ok_istn dX8_all_1 rfl (Nat.le_of_ble_eq_true rfl) rfl⟩, ?_⟩
  refine ⟨⟨mo_keep, ok_keep rfl⟩, ?_⟩
  refine ⟨⟨mo_ild, ok_ildn dX8_all_2 rfl rfl⟩, ?_⟩
  refine ⟨⟨mo_ald, ok_aldn dX8_all_3 rfl rfl⟩, ?_⟩
  refine ⟨⟨mo_gR, ok_gR rfl fd_X8_10 rfl dX8_all_4 rfl⟩, ?_⟩
  refine ⟨⟨mo_cvI, ok_cvI mi_J5_size lk_X8_37 q1300 q1301 rfl (Nat.le_of_ble_eq_true rfl) (iy_ro_le _) rfl rfl dX8_all_7 rfl⟩, ?_⟩
  refine ⟨⟨mo_cge, ok_cge dX8_all_10 rfl rfl⟩, ?_⟩
  refine ⟨⟨mo_ald, ok_aldn dX8_all_13 rfl rfl⟩, ?_⟩
  refine ⟨⟨mo_cvI, ok_cvI mi_X18_isOver lk_X8_25 q1304 q1305 rfl (Nat.le_of_ble_eq_true rfl) (iy_ro_le _) rfl rfl dX8_all_14 rfl⟩, ?_⟩
  refine ⟨⟨mo_ine, ok_ine dX8_all_17 rfl rfl⟩, ?_⟩
  refine ⟨⟨mo_ald, ok_aldn dX8_all_20 rfl rfl⟩, ?_⟩
  refine ⟨⟨mo_gR, ok_gR rfl fd_X8_10 rfl dX8_all_21 rfl⟩, ?_⟩
  refine ⟨⟨mo_ild, ok_ildn dX8_all_24 rfl rfl⟩, ?_⟩
  refine ⟨⟨mo_cvR, ok_cvR mi_J5_get lk_X8_41 q1308 q1309 rfl (Nat.le_of_ble_eq_true rfl) (iy_ro_le _) rfl rfl dX8_all_25 rfl⟩, ?_⟩
  refine ⟨⟨mo_cast, ok_cast can_DeltaIndex_Tell_14_15_16_9 q1319 dX8_all_28 rfl⟩, ?_⟩
  refine ⟨⟨mo_ast, ok_astn dX8_all_31 rfl (Nat.le_of_ble_eq_true rfl) rfl⟩, ?_⟩
  refine ⟨⟨mo_ald, ok_aldn dX8_all_32 rfl rfl⟩, ?_⟩
  refine ⟨⟨mo_dup, ok_dup dX8_all_33 rfl⟩, ?_⟩
  refine ⟨⟨mo_gI, ok_gI rfl fd_X8_47 rfl dX8_all_34 rfl⟩, ?_⟩
  refine ⟨⟨mo_ald, ok_aldn dX8_all_37 rfl rfl⟩, ?_⟩
  refine ⟨⟨mo_cdI, ok_cfI q1321 ⟨nmh_X10.1, nmh_X10.2, pmd_yX10_counts⟩ q1323 q1322 rw_counts dX8_all_38 rfl⟩, ?_⟩
  refine ⟨⟨mo_bin, ok_iadd dX8_all_43 rfl⟩, ?_⟩
  refine ⟨⟨mo_pI, ok_pI rfl fd_X8_47 rfl (Or.inl rfl) dX8_all_44 rfl⟩, ?_⟩
  refine ⟨⟨mo_ald, ok_aldn dX8_all_47 rfl rfl⟩, ?_⟩
  refine ⟨⟨mo_ald, ok_aldn dX8_all_48 rfl rfl⟩, ?_⟩
  refine ⟨⟨mo_cdV, ok_cfV q1340 ⟨nmh_X10.1, nmh_X10.2, pmd_DeltaIndex_Telldoes_LDeltaIndex_Run__V⟩ q1342 q1341 rw_does dX8_all_49 rfl⟩, ?_⟩
  refine ⟨⟨mo_inc, ok_inc dX8_all_54 iv_i1 (Nat.le_of_ble_eq_true rfl) rfl⟩, ?_⟩
  refine ⟨⟨mo_back, ok_back dX8_all_57 rfl⟩, ?_⟩
  refine ⟨⟨mo_keep, ok_keep rfl⟩, ?_⟩
  refine ⟨⟨mo_ret, ok_ret rfl dX8_all_60⟩, ?_⟩
  exact trivial
set_option maxHeartbeats 4000000 in
theorem alX8_counts : iy_all (iy_calls iy_mi) RX8 "counts" cX8_counts 1 (some FieldType.int, []) pcX8_counts pcX8_counts stX8_counts := by
  refine ⟨⟨mo_push, ok_iconst dX8_counts_0 iv_i0 rfl⟩, ?_⟩
  refine ⟨⟨mo_iret, ok_iret rfl rfl dX8_counts_1⟩, ?_⟩
  exact trivial
set_option maxHeartbeats 4000000 in
theorem alX8_does : iy_all (iy_calls iy_mi) RX8 "does" cX8_does 3 (none, []) pcX8_does pcX8_does stX8_does := by
  refine ⟨⟨mo_ald, ok_aldn dX8_does_0 rfl rfl⟩, ?_⟩
  refine ⟨⟨mo_dup, ok_dup dX8_does_1 rfl⟩, ?_⟩
  refine ⟨⟨mo_gI, ok_gI rfl fd_X8_20 rfl dX8_does_2 rfl⟩, ?_⟩
  refine ⟨⟨mo_push, ok_iconst dX8_does_5 iv_i1 rfl⟩, ?_⟩
  refine ⟨⟨mo_bin, ok_iadd dX8_does_6 rfl⟩, ?_⟩
  refine ⟨⟨mo_pI, ok_pI rfl fd_X8_20 rfl (Or.inl rfl) dX8_does_7 rfl⟩, ?_⟩
  refine ⟨⟨mo_push, ok_iconst dX8_does_10 iv_i0 rfl⟩, ?_⟩
  refine ⟨⟨mo_ist, ok_istn dX8_does_11 rfl (Nat.le_of_ble_eq_true rfl) rfl⟩, ?_⟩
  refine ⟨⟨mo_keep, ok_keep rfl⟩, ?_⟩
  refine ⟨⟨mo_ild, ok_ildn dX8_does_12 rfl rfl⟩, ?_⟩
  refine ⟨⟨mo_ald, ok_aldn dX8_does_13 rfl rfl⟩, ?_⟩
  refine ⟨⟨mo_gI, ok_gI rfl fd_X8_16 rfl dX8_does_14 rfl⟩, ?_⟩
  refine ⟨⟨mo_cge, ok_cge dX8_does_17 rfl rfl⟩, ?_⟩
  refine ⟨⟨mo_ald, ok_aldn dX8_does_20 rfl rfl⟩, ?_⟩
  refine ⟨⟨mo_cvI, ok_cvI mi_X18_isOver lk_X8_25 q1304 q1305 rfl (Nat.le_of_ble_eq_true rfl) (iy_ro_le _) rfl rfl dX8_does_21 rfl⟩, ?_⟩
  refine ⟨⟨mo_ine, ok_ine dX8_does_24 rfl rfl⟩, ?_⟩
  refine ⟨⟨mo_ald, ok_aldn dX8_does_27 rfl rfl⟩, ?_⟩
  refine ⟨⟨mo_gR, ok_gR rfl fd_X8_29 rfl dX8_does_28 rfl⟩, ?_⟩
  refine ⟨⟨mo_ald, ok_aldn dX8_does_31 rfl rfl⟩, ?_⟩
  refine ⟨⟨mo_gI, ok_gI rfl fd_X8_20 rfl dX8_does_32 rfl⟩, ?_⟩
  refine ⟨⟨mo_ild, ok_ildn dX8_does_35 rfl rfl⟩, ?_⟩
  refine ⟨⟨mo_asI, ok_iast dX8_does_36 rfl⟩, ?_⟩
  refine ⟨⟨mo_ald, ok_aldn dX8_does_37 rfl rfl⟩, ?_⟩
  refine ⟨⟨mo_ald, ok_aldn dX8_does_38 rfl rfl⟩, ?_⟩
  refine ⟨⟨mo_cvV, ok_cvV mi_X8_all lk_X8_33 q1296 q1297 rfl (Nat.le_of_ble_eq_true rfl) (iy_ro_le _) rfl rfl dX8_does_39 rfl⟩, ?_⟩
  refine ⟨⟨mo_inc, ok_inc dX8_does_42 iv_i1 (Nat.le_of_ble_eq_true rfl) rfl⟩, ?_⟩
  refine ⟨⟨mo_back, ok_back dX8_does_45 rfl⟩, ?_⟩
  refine ⟨⟨mo_keep, ok_keep rfl⟩, ?_⟩
  refine ⟨⟨mo_ald, ok_aldn dX8_does_48 rfl rfl⟩, ?_⟩
  refine ⟨⟨mo_dup, ok_dup dX8_does_49 rfl⟩, ?_⟩
  refine ⟨⟨mo_gI, ok_gI rfl fd_X8_20 rfl dX8_does_50 rfl⟩, ?_⟩
  refine ⟨⟨mo_push, ok_iconst dX8_does_53 iv_i1 rfl⟩, ?_⟩
  refine ⟨⟨mo_bin, ok_isub dX8_does_54 rfl⟩, ?_⟩
  refine ⟨⟨mo_pI, ok_pI rfl fd_X8_20 rfl (Or.inl rfl) dX8_does_55 rfl⟩, ?_⟩
  refine ⟨⟨mo_ret, ok_ret rfl dX8_does_58⟩, ?_⟩
  exact trivial
