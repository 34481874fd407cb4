/-! SOUND STEPS. Written by gen_code.py -/
set_option maxRecDepth 100000
set_option maxHeartbeats 4000000 in
theorem alX4_init : iy_all (iy_calls iy_mi) RX4 "<init>" cX4_init 2 (none, []) pcX4_init pcX4_init stX4_init := by
  refine ⟨⟨mo_ald, ok_aldn dX4_init_0 rfl rfl⟩, ?_⟩
  refine ⟨⟨mo_oin, ok_oin q354 q185 q186 dX4_init_1 rfl⟩, ?_⟩
  refine ⟨⟨mo_ald, ok_aldn dX4_init_4 rfl rfl⟩, ?_⟩
  refine ⟨⟨mo_push, ok_sipush dX4_init_5 iv_s2000 rfl⟩, ?_⟩
  refine ⟨⟨mo_newA, ok_newR rfl q355 q356 dX4_init_8 rfl⟩, ?_⟩
  refine ⟨⟨mo_pR, ok_pR rfl fd_X4_11 rfl (Or.inr ⟨rfl, rfl, rfl⟩) dX4_init_11 rfl⟩, ?_⟩
  refine ⟨⟨mo_ald, ok_aldn dX4_init_14 rfl rfl⟩, ?_⟩
  refine ⟨⟨mo_push, ok_bipush dX4_init_15 iv_b32 rfl⟩, ?_⟩
  refine ⟨⟨mo_newA, ok_newA rfl rfl q422 dX4_init_17 rfl rfl⟩, ?_⟩
  refine ⟨⟨mo_pR, ok_pR rfl fd_X4_17 rfl (Or.inr ⟨rfl, rfl, rfl⟩) dX4_init_19 rfl⟩, ?_⟩
  refine ⟨⟨mo_ald, ok_aldn dX4_init_22 rfl rfl⟩, ?_⟩
  refine ⟨⟨mo_push, ok_iconst dX4_init_23 iv_i4 rfl⟩, ?_⟩
  refine ⟨⟨mo_newA, ok_newR rfl q357 q358 dX4_init_24 rfl⟩, ?_⟩
  refine ⟨⟨mo_pR, ok_pR rfl fd_X4_23 rfl (Or.inr ⟨rfl, rfl, rfl⟩) dX4_init_27 rfl⟩, ?_⟩
  refine ⟨⟨mo_ald, ok_aldn dX4_init_30 rfl rfl⟩, ?_⟩
  refine ⟨⟨mo_new, ok_new (r := (RX5, TX5, 12)) rfl rfl (Nat.le_of_ble_eq_true rfl) rfl rfl q355 q359 q151 dX4_init_31 rfl⟩, ?_⟩
  refine ⟨⟨mo_dup, ok_dup dX4_init_34 rfl⟩, ?_⟩
  refine ⟨⟨mo_cvV, ok_cn mi_X5_init q360 q151 q362 ⟨nmh_X5.1, nmh_X5.2, pmd_yX5_init⟩ (Nat.le_of_ble_eq_true rfl) q361 rfl dX4_init_35 rfl⟩, ?_⟩
  refine ⟨⟨mo_pR, ok_pR rfl fd_X4_28 rfl (Or.inr ⟨rfl, rfl, rfl⟩) dX4_init_38 rfl⟩, ?_⟩
  refine ⟨⟨mo_ald, ok_aldn dX4_init_41 rfl rfl⟩, ?_⟩
  refine ⟨⟨mo_new, ok_new (r := (RX5, TX5, 12)) rfl rfl (Nat.le_of_ble_eq_true rfl) rfl rfl q355 q359 q151 dX4_init_42 rfl⟩, ?_⟩
  refine ⟨⟨mo_dup, ok_dup dX4_init_45 rfl⟩, ?_⟩
  refine ⟨⟨mo_cvV, ok_cn mi_X5_init q360 q151 q362 ⟨nmh_X5.1, nmh_X5.2, pmd_yX5_init⟩ (Nat.le_of_ble_eq_true rfl) q361 rfl dX4_init_46 rfl⟩, ?_⟩
  refine ⟨⟨mo_pR, ok_pR rfl fd_X4_32 rfl (Or.inr ⟨rfl, rfl, rfl⟩) dX4_init_49 rfl⟩, ?_⟩
  refine ⟨⟨mo_ald, ok_aldn dX4_init_52 rfl rfl⟩, ?_⟩
  refine ⟨⟨mo_new, ok_new (r := (RX5, TX5, 12)) rfl rfl (Nat.le_of_ble_eq_true rfl) rfl rfl q355 q359 q151 dX4_init_53 rfl⟩, ?_⟩
  refine ⟨⟨mo_dup, ok_dup dX4_init_56 rfl⟩, ?_⟩
  refine ⟨⟨mo_cvV, ok_cn mi_X5_init q360 q151 q362 ⟨nmh_X5.1, nmh_X5.2, pmd_yX5_init⟩ (Nat.le_of_ble_eq_true rfl) q361 rfl dX4_init_57 rfl⟩, ?_⟩
  refine ⟨⟨mo_pR, ok_pR rfl fd_X4_35 rfl (Or.inr ⟨rfl, rfl, rfl⟩) dX4_init_60 rfl⟩, ?_⟩
  refine ⟨⟨mo_ald, ok_aldn dX4_init_63 rfl rfl⟩, ?_⟩
  refine ⟨⟨mo_push, ok_sipush dX4_init_64 iv_s2000 rfl⟩, ?_⟩
  refine ⟨⟨mo_newA, ok_newA rfl rfl q422 dX4_init_67 rfl rfl⟩, ?_⟩
  refine ⟨⟨mo_pR, ok_pR rfl fd_X4_38 rfl (Or.inr ⟨rfl, rfl, rfl⟩) dX4_init_69 rfl⟩, ?_⟩
  refine ⟨⟨mo_push, ok_iconst dX4_init_72 iv_i0 rfl⟩, ?_⟩
  refine ⟨⟨mo_ist, ok_istn dX4_init_73 rfl (Nat.le_of_ble_eq_true rfl) rfl⟩, ?_⟩
  refine ⟨⟨mo_keep, ok_keep rfl⟩, ?_⟩
  refine ⟨⟨mo_ild, ok_ildn dX4_init_74 rfl rfl⟩, ?_⟩
  refine ⟨⟨mo_push, ok_iconst dX4_init_75 iv_i4 rfl⟩, ?_⟩
  refine ⟨⟨mo_cge, ok_cge dX4_init_76 rfl rfl⟩, ?_⟩
  refine ⟨⟨mo_ald, ok_aldn dX4_init_79 rfl rfl⟩, ?_⟩
  refine ⟨⟨mo_gR, ok_gR rfl fd_X4_23 rfl dX4_init_80 rfl⟩, ?_⟩
  refine ⟨⟨mo_ild, ok_ildn dX4_init_83 rfl rfl⟩, ?_⟩
  refine ⟨⟨mo_new, ok_new (r := (RX6, TX6, 16)) rfl rfl (Nat.le_of_ble_eq_true rfl) rfl rfl q357 q423 q152 dX4_init_84 rfl⟩, ?_⟩
  refine ⟨⟨mo_dup, ok_dup dX4_init_87 rfl⟩, ?_⟩
  refine ⟨⟨mo_cvV, ok_cn mi_X6_init q424 q152 q426 ⟨nmh_X6.1, nmh_X6.2, pmd_yX6_init⟩ (Nat.le_of_ble_eq_true rfl) q425 rfl dX4_init_88 rfl⟩, ?_⟩
  refine ⟨⟨mo_asR, ok_asR rfl can_DeltaIndex_Hand_7 dX4_init_91 rfl⟩, ?_⟩
  refine ⟨⟨mo_inc, ok_inc dX4_init_92 iv_i1 (Nat.le_of_ble_eq_true rfl) rfl⟩, ?_⟩
  refine ⟨⟨mo_back, ok_back dX4_init_95 rfl⟩, ?_⟩
  refine ⟨⟨mo_ret, ok_ret rfl dX4_init_98⟩, ?_⟩
  exact trivial
set_option maxHeartbeats 4000000 in
theorem alX4_begins : iy_all (iy_calls iy_mi) RX4 "begins" cX4_begins 3 (none, []) pcX4_begins pcX4_begins stX4_begins := by
  refine ⟨⟨mo_ald, ok_aldn dX4_begins_0 rfl rfl⟩, ?_⟩
  refine ⟨⟨mo_ald, ok_aldn dX4_begins_1 rfl rfl⟩, ?_⟩
  refine ⟨⟨mo_gI, ok_gI rfl fd_X4_42 rfl dX4_begins_2 rfl⟩, ?_⟩
  refine ⟨⟨mo_pI, ok_pI rfl fd_X4_48 rfl (Or.inl rfl) dX4_begins_5 rfl⟩, ?_⟩
  refine ⟨⟨mo_ald, ok_aldn dX4_begins_8 rfl rfl⟩, ?_⟩
  refine ⟨⟨mo_ald, ok_aldn dX4_begins_9 rfl rfl⟩, ?_⟩
  refine ⟨⟨mo_gI, ok_gI rfl fd_X4_49 rfl dX4_begins_10 rfl⟩, ?_⟩
  refine ⟨⟨mo_pI, ok_pI rfl fd_X4_52 rfl (Or.inl rfl) dX4_begins_13 rfl⟩, ?_⟩
  refine ⟨⟨mo_ald, ok_aldn dX4_begins_16 rfl rfl⟩, ?_⟩
  refine ⟨⟨mo_ald, ok_aldn dX4_begins_17 rfl rfl⟩, ?_⟩
  refine ⟨⟨mo_gI, ok_gI rfl fd_X4_53 rfl dX4_begins_18 rfl⟩, ?_⟩
  refine ⟨⟨mo_pI, ok_pI rfl fd_X4_56 rfl (Or.inl rfl) dX4_begins_21 rfl⟩, ?_⟩
  refine ⟨⟨mo_ald, ok_aldn dX4_begins_24 rfl rfl⟩, ?_⟩
  refine ⟨⟨mo_push, ok_iconst dX4_begins_25 iv_i0 rfl⟩, ?_⟩
  refine ⟨⟨mo_pI, ok_pI rfl fd_X4_57 rfl (Or.inl rfl) dX4_begins_26 rfl⟩, ?_⟩
  refine ⟨⟨mo_ald, ok_aldn dX4_begins_29 rfl rfl⟩, ?_⟩
  refine ⟨⟨mo_push, ok_iconst dX4_begins_30 iv_i0 rfl⟩, ?_⟩
  refine ⟨⟨mo_pI, ok_pI rfl fd_X4_60 rfl (Or.inl rfl) dX4_begins_31 rfl⟩, ?_⟩
  refine ⟨⟨mo_push, ok_iconst dX4_begins_34 iv_i0 rfl⟩, ?_⟩
  refine ⟨⟨mo_ist, ok_istn dX4_begins_35 rfl (Nat.le_of_ble_eq_true rfl) rfl⟩, ?_⟩
  refine ⟨⟨mo_keep, ok_keep rfl⟩, ?_⟩
  refine ⟨⟨mo_ild, ok_ildn dX4_begins_36 rfl rfl⟩, ?_⟩
  refine ⟨⟨mo_push, ok_iconst dX4_begins_37 iv_i4 rfl⟩, ?_⟩
  refine ⟨⟨mo_cge, ok_cge dX4_begins_38 rfl rfl⟩, ?_⟩
  refine ⟨⟨mo_ald, ok_aldn dX4_begins_41 rfl rfl⟩, ?_⟩
  refine ⟨⟨mo_gR, ok_gR rfl fd_X4_23 rfl dX4_begins_42 rfl⟩, ?_⟩
  refine ⟨⟨mo_ild, ok_ildn dX4_begins_45 rfl rfl⟩, ?_⟩
  refine ⟨⟨mo_alR, ok_aald rfl dX4_begins_46 rfl⟩, ?_⟩
  refine ⟨⟨mo_cvV, ok_cvV mi_X6_begins lk_X4_63 q627 q628 rfl (Nat.le_of_ble_eq_true rfl) (iy_ro_le _) rfl rfl dX4_begins_47 rfl⟩, ?_⟩
  refine ⟨⟨mo_inc, ok_inc dX4_begins_50 iv_i1 (Nat.le_of_ble_eq_true rfl) rfl⟩, ?_⟩
  refine ⟨⟨mo_back, ok_back dX4_begins_53 rfl⟩, ?_⟩
  refine ⟨⟨mo_ald, ok_aldn dX4_begins_56 rfl rfl⟩, ?_⟩
  refine ⟨⟨mo_gR, ok_gR rfl fd_X4_17 rfl dX4_begins_57 rfl⟩, ?_⟩
  refine ⟨⟨mo_push, ok_iconst dX4_begins_60 iv_i0 rfl⟩, ?_⟩
  refine ⟨⟨mo_ald, ok_aldn dX4_begins_61 rfl rfl⟩, ?_⟩
  refine ⟨⟨mo_push, ok_iconst dX4_begins_62 iv_i0 rfl⟩, ?_⟩
  refine ⟨⟨mo_push, ok_bipush dX4_begins_63 iv_bm2 rfl⟩, ?_⟩
  refine ⟨⟨mo_push, ok_bipush dX4_begins_65 iv_bm2 rfl⟩, ?_⟩
  refine ⟨⟨mo_push, ok_bipush dX4_begins_67 iv_bm2 rfl⟩, ?_⟩
  refine ⟨⟨mo_cvI, ok_cvI mi_X4_makes lk_X4_66 q632 qs1 rfl (Nat.le_of_ble_eq_true rfl) (iy_ro_le _) rfl rfl dX4_begins_69 rfl⟩, ?_⟩
  refine ⟨⟨mo_asI, ok_iast dX4_begins_72 rfl⟩, ?_⟩
  refine ⟨⟨mo_ald, ok_aldn dX4_begins_73 rfl rfl⟩, ?_⟩
  refine ⟨⟨mo_gR, ok_gR rfl fd_X4_11 rfl dX4_begins_74 rfl⟩, ?_⟩
  refine ⟨⟨mo_ald, ok_aldn dX4_begins_77 rfl rfl⟩, ?_⟩
  refine ⟨⟨mo_gR, ok_gR rfl fd_X4_17 rfl dX4_begins_78 rfl⟩, ?_⟩
  refine ⟨⟨mo_push, ok_iconst dX4_begins_81 iv_i0 rfl⟩, ?_⟩
  refine ⟨⟨mo_alI, ok_iald dX4_begins_82 rfl⟩, ?_⟩
  refine ⟨⟨mo_alR, ok_aald rfl dX4_begins_83 rfl⟩, ?_⟩
  refine ⟨⟨mo_push, ok_iconst dX4_begins_84 iv_i0 rfl⟩, ?_⟩
  refine ⟨⟨mo_push, ok_iconst dX4_begins_85 iv_i1 rfl⟩, ?_⟩
  refine ⟨⟨mo_cvV, ok_cvV mi_X5_sets lk_X4_70 q639 q640 rfl (Nat.le_of_ble_eq_true rfl) (iy_ro_le _) rfl rfl dX4_begins_86 rfl⟩, ?_⟩
  refine ⟨⟨mo_ald, ok_aldn dX4_begins_89 rfl rfl⟩, ?_⟩
  refine ⟨⟨mo_gR, ok_gR rfl fd_X4_17 rfl dX4_begins_90 rfl⟩, ?_⟩
  refine ⟨⟨mo_push, ok_iconst dX4_begins_93 iv_i1 rfl⟩, ?_⟩
  refine ⟨⟨mo_ald, ok_aldn dX4_begins_94 rfl rfl⟩, ?_⟩
  refine ⟨⟨mo_push, ok_iconst dX4_begins_95 iv_i0 rfl⟩, ?_⟩
  refine ⟨⟨mo_push, ok_bipush dX4_begins_96 iv_bm2 rfl⟩, ?_⟩
  refine ⟨⟨mo_push, ok_bipush dX4_begins_98 iv_bm2 rfl⟩, ?_⟩
  refine ⟨⟨mo_push, ok_bipush dX4_begins_100 iv_bm2 rfl⟩, ?_⟩
  refine ⟨⟨mo_cvI, ok_cvI mi_X4_makes lk_X4_66 q632 qs1 rfl (Nat.le_of_ble_eq_true rfl) (iy_ro_le _) rfl rfl dX4_begins_102 rfl⟩, ?_⟩
  refine ⟨⟨mo_asI, ok_iast dX4_begins_105 rfl⟩, ?_⟩
  refine ⟨⟨mo_ald, ok_aldn dX4_begins_106 rfl rfl⟩, ?_⟩
  refine ⟨⟨mo_gR, ok_gR rfl fd_X4_11 rfl dX4_begins_107 rfl⟩, ?_⟩
  refine ⟨⟨mo_ald, ok_aldn dX4_begins_110 rfl rfl⟩, ?_⟩
  refine ⟨⟨mo_gR, ok_gR rfl fd_X4_17 rfl dX4_begins_111 rfl⟩, ?_⟩
  refine ⟨⟨mo_push, ok_iconst dX4_begins_114 iv_i1 rfl⟩, ?_⟩
  refine ⟨⟨mo_alI, ok_iald dX4_begins_115 rfl⟩, ?_⟩
  refine ⟨⟨mo_alR, ok_aald rfl dX4_begins_116 rfl⟩, ?_⟩
  refine ⟨⟨mo_push, ok_sipush dX4_begins_117 iv_s1000 rfl⟩, ?_⟩
  refine ⟨⟨mo_pI, ok_pI rfl fd_X4_74 rfl (Or.inl rfl) dX4_begins_120 rfl⟩, ?_⟩
  refine ⟨⟨mo_ald, ok_aldn dX4_begins_123 rfl rfl⟩, ?_⟩
  refine ⟨⟨mo_push, ok_iconst dX4_begins_124 iv_i2 rfl⟩, ?_⟩
  refine ⟨⟨mo_pI, ok_pI rfl fd_X4_77 rfl (Or.inl rfl) dX4_begins_125 rfl⟩, ?_⟩
  refine ⟨⟨mo_ret, ok_ret rfl dX4_begins_128⟩, ?_⟩
  exact trivial
set_option maxHeartbeats 4000000 in
theorem alX4_makes : iy_all (iy_calls iy_mi) RX4 "makes" cX4_makes 5 (some FieldType.int, []) pcX4_makes pcX4_makes stX4_makes := by
  refine ⟨⟨mo_ald, ok_aldn dX4_makes_0 rfl rfl⟩, ?_⟩
  refine ⟨⟨mo_gR, ok_gR rfl fd_X4_11 rfl dX4_makes_1 rfl⟩, ?_⟩
  refine ⟨⟨mo_ald, ok_aldn dX4_makes_4 rfl rfl⟩, ?_⟩
  refine ⟨⟨mo_gI, ok_gI rfl fd_X4_57 rfl dX4_makes_5 rfl⟩, ?_⟩
  refine ⟨⟨mo_alR, ok_aald rfl dX4_makes_8 rfl⟩, ?_⟩
  refine ⟨⟨mo_nnul, ok_nnul dX4_makes_9 rfl rfl⟩, ?_⟩
  refine ⟨⟨mo_ald, ok_aldn dX4_makes_12 rfl rfl⟩, ?_⟩
  refine ⟨⟨mo_gR, ok_gR rfl fd_X4_11 rfl dX4_makes_13 rfl⟩, ?_⟩
  refine ⟨⟨mo_ald, ok_aldn dX4_makes_16 rfl rfl⟩, ?_⟩
  refine ⟨⟨mo_gI, ok_gI rfl fd_X4_57 rfl dX4_makes_17 rfl⟩, ?_⟩
  refine ⟨⟨mo_new, ok_new (r := (RX5, TX5, 12)) rfl rfl (Nat.le_of_ble_eq_true rfl) rfl rfl q355 q359 q151 dX4_makes_20 rfl⟩, ?_⟩
  refine ⟨⟨mo_dup, ok_dup dX4_makes_23 rfl⟩, ?_⟩
  refine ⟨⟨mo_cvV, ok_cn mi_X5_init q360 q151 q362 ⟨nmh_X5.1, nmh_X5.2, pmd_yX5_init⟩ (Nat.le_of_ble_eq_true rfl) q361 rfl dX4_makes_24 rfl⟩, ?_⟩
  refine ⟨⟨mo_asR, ok_asR rfl can_DeltaIndex_Record_6 dX4_makes_27 rfl⟩, ?_⟩
  refine ⟨⟨mo_keep, ok_keep rfl⟩, ?_⟩
  refine ⟨⟨mo_ald, ok_aldn dX4_makes_28 rfl rfl⟩, ?_⟩
  refine ⟨⟨mo_gR, ok_gR rfl fd_X4_11 rfl dX4_makes_29 rfl⟩, ?_⟩
  refine ⟨⟨mo_ald, ok_aldn dX4_makes_32 rfl rfl⟩, ?_⟩
  refine ⟨⟨mo_gI, ok_gI rfl fd_X4_57 rfl dX4_makes_33 rfl⟩, ?_⟩
  refine ⟨⟨mo_alR, ok_aald rfl dX4_makes_36 rfl⟩, ?_⟩
  refine ⟨⟨mo_ild, ok_ildn dX4_makes_37 rfl rfl⟩, ?_⟩
  refine ⟨⟨mo_ild, ok_ildn dX4_makes_38 rfl rfl⟩, ?_⟩
  refine ⟨⟨mo_ild, ok_ildn dX4_makes_39 rfl rfl⟩, ?_⟩
  refine ⟨⟨mo_ild, ok_ild dX4_makes_40 rfl⟩, ?_⟩
  refine ⟨⟨mo_cvV, ok_cvV mi_X5_begins lk_X4_93 q635 q636 rfl (Nat.le_of_ble_eq_true rfl) (iy_ro_le _) rfl rfl dX4_makes_42 rfl⟩, ?_⟩
  refine ⟨⟨mo_ald, ok_aldn dX4_makes_45 rfl rfl⟩, ?_⟩
  refine ⟨⟨mo_dup, ok_dup dX4_makes_46 rfl⟩, ?_⟩
  refine ⟨⟨mo_gI, ok_gI rfl fd_X4_57 rfl dX4_makes_47 rfl⟩, ?_⟩
  refine ⟨⟨mo_push, ok_iconst dX4_makes_50 iv_i1 rfl⟩, ?_⟩
  refine ⟨⟨mo_bin, ok_iadd dX4_makes_51 rfl⟩, ?_⟩
  refine ⟨⟨mo_pI, ok_pI rfl fd_X4_57 rfl (Or.inl rfl) dX4_makes_52 rfl⟩, ?_⟩
  refine ⟨⟨mo_ald, ok_aldn dX4_makes_55 rfl rfl⟩, ?_⟩
  refine ⟨⟨mo_gI, ok_gI rfl fd_X4_57 rfl dX4_makes_56 rfl⟩, ?_⟩
  refine ⟨⟨mo_push, ok_iconst dX4_makes_59 iv_i1 rfl⟩, ?_⟩
  refine ⟨⟨mo_bin, ok_isub dX4_makes_60 rfl⟩, ?_⟩
  refine ⟨⟨mo_iret, ok_iret rfl rfl dX4_makes_61⟩, ?_⟩
  exact trivial
set_option maxHeartbeats 4000000 in
theorem alX4_keys : iy_all (iy_calls iy_mi) RX4 "keys" cX4_keys 3 (some FieldType.int, []) pcX4_keys pcX4_keys stX4_keys := by
  refine ⟨⟨mo_push, ok_iconst dX4_keys_0 iv_i0 rfl⟩, ?_⟩
  refine ⟨⟨mo_ist, ok_istn dX4_keys_1 rfl (Nat.le_of_ble_eq_true rfl) rfl⟩, ?_⟩
  refine ⟨⟨mo_push, ok_iconst dX4_keys_2 iv_i1 rfl⟩, ?_⟩
  refine ⟨⟨mo_ist, ok_istn dX4_keys_3 rfl (Nat.le_of_ble_eq_true rfl) rfl⟩, ?_⟩
  refine ⟨⟨mo_keep, ok_keep rfl⟩, ?_⟩
  refine ⟨⟨mo_ild, ok_ildn dX4_keys_4 rfl rfl⟩, ?_⟩
  refine ⟨⟨mo_ilt, ok_ilt dX4_keys_5 rfl rfl⟩, ?_⟩
  refine ⟨⟨mo_ald, ok_aldn dX4_keys_8 rfl rfl⟩, ?_⟩
  refine ⟨⟨mo_ild, ok_ildn dX4_keys_9 rfl rfl⟩, ?_⟩
  refine ⟨⟨mo_ald, ok_aldn dX4_keys_10 rfl rfl⟩, ?_⟩
  refine ⟨⟨mo_gR, ok_gR rfl fd_X4_35 rfl dX4_keys_11 rfl⟩, ?_⟩
  refine ⟨⟨mo_cvV, ok_cvV mi_X4_lays lk_X4_113 q1372 q1373 rfl (Nat.le_of_ble_eq_true rfl) (iy_ro_le _) rfl rfl dX4_keys_14 rfl⟩, ?_⟩
  refine ⟨⟨mo_ild, ok_ildn dX4_keys_17 rfl rfl⟩, ?_⟩
  refine ⟨⟨mo_ald, ok_aldn dX4_keys_18 rfl rfl⟩, ?_⟩
  refine ⟨⟨mo_gR, ok_gR rfl fd_X4_35 rfl dX4_keys_19 rfl⟩, ?_⟩
  refine ⟨⟨mo_gI, ok_gI rfl fd_X4_120 rfl dX4_keys_22 rfl⟩, ?_⟩
  refine ⟨⟨mo_bin, ok_iadd dX4_keys_25 rfl⟩, ?_⟩
  refine ⟨⟨mo_ist, ok_istn dX4_keys_26 rfl (Nat.le_of_ble_eq_true rfl) rfl⟩, ?_⟩
  refine ⟨⟨mo_ald, ok_aldn dX4_keys_27 rfl rfl⟩, ?_⟩
  refine ⟨⟨mo_gR, ok_gR rfl fd_X4_35 rfl dX4_keys_28 rfl⟩, ?_⟩
  refine ⟨⟨mo_gI, ok_gI rfl fd_X4_133 rfl dX4_keys_31 rfl⟩, ?_⟩
  refine ⟨⟨mo_ist, ok_istn dX4_keys_34 rfl (Nat.le_of_ble_eq_true rfl) rfl⟩, ?_⟩
  refine ⟨⟨mo_back, ok_back dX4_keys_35 rfl⟩, ?_⟩
  refine ⟨⟨mo_ild, ok_ildn dX4_keys_38 rfl rfl⟩, ?_⟩
  refine ⟨⟨mo_iret, ok_iret rfl rfl dX4_keys_39⟩, ?_⟩
  exact trivial
set_option maxHeartbeats 4000000 in
theorem alX4_lays : iy_all (iy_calls iy_mi) RX4 "lays" cX4_lays 5 (none, []) pcX4_lays pcX4_lays stX4_lays := by
  refine ⟨⟨mo_push, ok_iconst dX4_lays_0 iv_i0 rfl⟩, ?_⟩
  refine ⟨⟨mo_ist, ok_istn dX4_lays_1 rfl (Nat.le_of_ble_eq_true rfl) rfl⟩, ?_⟩
  refine ⟨⟨mo_ald, ok_aldn dX4_lays_2 rfl rfl⟩, ?_⟩
  refine ⟨⟨mo_gR, ok_gR rfl fd_X4_17 rfl dX4_lays_3 rfl⟩, ?_⟩
  refine ⟨⟨mo_ild, ok_ildn dX4_lays_6 rfl rfl⟩, ?_⟩
  refine ⟨⟨mo_alI, ok_iald dX4_lays_7 rfl⟩, ?_⟩
  refine ⟨⟨mo_ist, ok_ist dX4_lays_8 (Nat.le_of_ble_eq_true rfl) rfl⟩, ?_⟩
  refine ⟨⟨mo_keep, ok_keep rfl⟩, ?_⟩
  refine ⟨⟨mo_ald, ok_aldn dX4_lays_10 rfl rfl⟩, ?_⟩
  refine ⟨⟨mo_gR, ok_gR rfl fd_X4_11 rfl dX4_lays_11 rfl⟩, ?_⟩
  refine ⟨⟨mo_ild, ok_ild dX4_lays_14 rfl⟩, ?_⟩
  refine ⟨⟨mo_alR, ok_aald rfl dX4_lays_16 rfl⟩, ?_⟩
  refine ⟨⟨mo_gI, ok_gI rfl fd_X4_96 rfl dX4_lays_17 rfl⟩, ?_⟩
  refine ⟨⟨mo_ieq, ok_ieq dX4_lays_20 rfl rfl⟩, ?_⟩
  refine ⟨⟨mo_ald, ok_aldn dX4_lays_23 rfl rfl⟩, ?_⟩
  refine ⟨⟨mo_gR, ok_gR rfl fd_X4_38 rfl dX4_lays_24 rfl⟩, ?_⟩
  refine ⟨⟨mo_ild, ok_ildn dX4_lays_27 rfl rfl⟩, ?_⟩
  refine ⟨⟨mo_ild, ok_ild dX4_lays_28 rfl⟩, ?_⟩
  refine ⟨⟨mo_asI, ok_iast dX4_lays_30 rfl⟩, ?_⟩
  refine ⟨⟨mo_inc, ok_inc dX4_lays_31 iv_i1 (Nat.le_of_ble_eq_true rfl) rfl⟩, ?_⟩
  refine ⟨⟨mo_ald, ok_aldn dX4_lays_34 rfl rfl⟩, ?_⟩
  refine ⟨⟨mo_gR, ok_gR rfl fd_X4_11 rfl dX4_lays_35 rfl⟩, ?_⟩
  refine ⟨⟨mo_ild, ok_ild dX4_lays_38 rfl⟩, ?_⟩
  refine ⟨⟨mo_alR, ok_aald rfl dX4_lays_40 rfl⟩, ?_⟩
  refine ⟨⟨mo_gI, ok_gI rfl fd_X4_99 rfl dX4_lays_41 rfl⟩, ?_⟩
  refine ⟨⟨mo_ist, ok_ist dX4_lays_44 (Nat.le_of_ble_eq_true rfl) rfl⟩, ?_⟩
  refine ⟨⟨mo_back, ok_back dX4_lays_46 rfl⟩, ?_⟩
  refine ⟨⟨mo_ald, ok_aldn dX4_lays_49 rfl rfl⟩, ?_⟩
  refine ⟨⟨mo_ald, ok_aldn dX4_lays_50 rfl rfl⟩, ?_⟩
  refine ⟨⟨mo_ild, ok_ildn dX4_lays_51 rfl rfl⟩, ?_⟩
  refine ⟨⟨mo_cvR, ok_cvR mi_X4_baseOf lk_X4_102 q1376 q1377 rfl (Nat.le_of_ble_eq_true rfl) (iy_ro_le _) rfl rfl dX4_lays_52 rfl⟩, ?_⟩
  refine ⟨⟨mo_cvV, ok_cvV mi_X5_takes lk_X4_106 q1380 q1381 rfl (Nat.le_of_ble_eq_true rfl) (iy_ro_le _) rfl rfl dX4_lays_55 rfl⟩, ?_⟩
  refine ⟨⟨mo_ild, ok_ildn dX4_lays_58 rfl rfl⟩, ?_⟩
  refine ⟨⟨mo_push, ok_iconst dX4_lays_59 iv_i1 rfl⟩, ?_⟩
  refine ⟨⟨mo_bin, ok_isub dX4_lays_60 rfl⟩, ?_⟩
  refine ⟨⟨mo_ist, ok_ist dX4_lays_61 (Nat.le_of_ble_eq_true rfl) rfl⟩, ?_⟩
  refine ⟨⟨mo_keep, ok_keep rfl⟩, ?_⟩
  refine ⟨⟨mo_ild, ok_ild dX4_lays_63 rfl⟩, ?_⟩
  refine ⟨⟨mo_ilt, ok_ilt dX4_lays_65 rfl rfl⟩, ?_⟩
  refine ⟨⟨mo_ald, ok_aldn dX4_lays_68 rfl rfl⟩, ?_⟩
  refine ⟨⟨mo_ald, ok_aldn dX4_lays_69 rfl rfl⟩, ?_⟩
  refine ⟨⟨mo_gR, ok_gR rfl fd_X4_11 rfl dX4_lays_70 rfl⟩, ?_⟩
  refine ⟨⟨mo_ald, ok_aldn dX4_lays_73 rfl rfl⟩, ?_⟩
  refine ⟨⟨mo_gR, ok_gR rfl fd_X4_38 rfl dX4_lays_74 rfl⟩, ?_⟩
  refine ⟨⟨mo_ild, ok_ild dX4_lays_77 rfl⟩, ?_⟩
  refine ⟨⟨mo_alI, ok_iald dX4_lays_79 rfl⟩, ?_⟩
  refine ⟨⟨mo_alR, ok_aald rfl dX4_lays_80 rfl⟩, ?_⟩
  refine ⟨⟨mo_ald, ok_aldn dX4_lays_81 rfl rfl⟩, ?_⟩
  refine ⟨⟨mo_gR, ok_gR rfl fd_X4_11 rfl dX4_lays_82 rfl⟩, ?_⟩
  refine ⟨⟨mo_cvV, ok_cvV mi_X5_changes lk_X4_109 q1384 q1385 rfl (Nat.le_of_ble_eq_true rfl) (iy_ro_le _) rfl rfl dX4_lays_85 rfl⟩, ?_⟩
  refine ⟨⟨mo_inc, ok_inc dX4_lays_88 iv_im1 (Nat.le_of_ble_eq_true rfl) rfl⟩, ?_⟩
  refine ⟨⟨mo_back, ok_back dX4_lays_91 rfl⟩, ?_⟩
  refine ⟨⟨mo_ret, ok_ret rfl dX4_lays_94⟩, ?_⟩
  exact trivial
set_option maxHeartbeats 4000000 in
theorem alX4_baseOf : iy_all (iy_calls iy_mi) RX4 "baseOf" cX4_baseOf 3 (some (FieldType.object "DeltaIndex$Record"), []) pcX4_baseOf pcX4_baseOf stX4_baseOf := by
  refine ⟨⟨mo_ald, ok_aldn dX4_baseOf_0 rfl rfl⟩, ?_⟩
  refine ⟨⟨mo_gR, ok_gR rfl fd_X4_17 rfl dX4_baseOf_1 rfl⟩, ?_⟩
  refine ⟨⟨mo_ild, ok_ildn dX4_baseOf_4 rfl rfl⟩, ?_⟩
  refine ⟨⟨mo_alI, ok_iald dX4_baseOf_5 rfl⟩, ?_⟩
  refine ⟨⟨mo_ist, ok_istn dX4_baseOf_6 rfl (Nat.le_of_ble_eq_true rfl) rfl⟩, ?_⟩
  refine ⟨⟨mo_keep, ok_keep rfl⟩, ?_⟩
  refine ⟨⟨mo_ald, ok_aldn dX4_baseOf_7 rfl rfl⟩, ?_⟩
  refine ⟨⟨mo_gR, ok_gR rfl fd_X4_11 rfl dX4_baseOf_8 rfl⟩, ?_⟩
  refine ⟨⟨mo_ild, ok_ildn dX4_baseOf_11 rfl rfl⟩, ?_⟩
  refine ⟨⟨mo_alR, ok_aald rfl dX4_baseOf_12 rfl⟩, ?_⟩
  refine ⟨⟨mo_gI, ok_gI rfl fd_X4_96 rfl dX4_baseOf_13 rfl⟩, ?_⟩
  refine ⟨⟨mo_ieq, ok_ieq dX4_baseOf_16 rfl rfl⟩, ?_⟩
  refine ⟨⟨mo_ald, ok_aldn dX4_baseOf_19 rfl rfl⟩, ?_⟩
  refine ⟨⟨mo_gR, ok_gR rfl fd_X4_11 rfl dX4_baseOf_20 rfl⟩, ?_⟩
  refine ⟨⟨mo_ild, ok_ildn dX4_baseOf_23 rfl rfl⟩, ?_⟩
  refine ⟨⟨mo_alR, ok_aald rfl dX4_baseOf_24 rfl⟩, ?_⟩
  refine ⟨⟨mo_gI, ok_gI rfl fd_X4_99 rfl dX4_baseOf_25 rfl⟩, ?_⟩
  refine ⟨⟨mo_ist, ok_istn dX4_baseOf_28 rfl (Nat.le_of_ble_eq_true rfl) rfl⟩, ?_⟩
  refine ⟨⟨mo_back, ok_back dX4_baseOf_29 rfl⟩, ?_⟩
  refine ⟨⟨mo_ald, ok_aldn dX4_baseOf_32 rfl rfl⟩, ?_⟩
  refine ⟨⟨mo_gR, ok_gR rfl fd_X4_11 rfl dX4_baseOf_33 rfl⟩, ?_⟩
  refine ⟨⟨mo_ild, ok_ildn dX4_baseOf_36 rfl rfl⟩, ?_⟩
  refine ⟨⟨mo_alR, ok_aald rfl dX4_baseOf_37 rfl⟩, ?_⟩
  refine ⟨⟨mo_aret, ok_aret rfl rfl dX4_baseOf_38⟩, ?_⟩
  exact trivial
set_option maxHeartbeats 4000000 in
theorem alX4_lostOfAll : iy_all (iy_calls iy_mi) RX4 "lostOfAll" cX4_lostOfAll 3 (some FieldType.int, []) pcX4_lostOfAll pcX4_lostOfAll stX4_lostOfAll := by
  refine ⟨⟨mo_push, ok_iconst dX4_lostOfAll_0 iv_i0 rfl⟩, ?_⟩
  refine ⟨⟨mo_ist, ok_istn dX4_lostOfAll_1 rfl (Nat.le_of_ble_eq_true rfl) rfl⟩, ?_⟩
  refine ⟨⟨mo_push, ok_iconst dX4_lostOfAll_2 iv_i0 rfl⟩, ?_⟩
  refine ⟨⟨mo_ist, ok_istn dX4_lostOfAll_3 rfl (Nat.le_of_ble_eq_true rfl) rfl⟩, ?_⟩
  refine ⟨⟨mo_keep, ok_keep rfl⟩, ?_⟩
  refine ⟨⟨mo_ild, ok_ildn dX4_lostOfAll_4 rfl rfl⟩, ?_⟩
  refine ⟨⟨mo_push, ok_iconst dX4_lostOfAll_5 iv_i4 rfl⟩, ?_⟩
  refine ⟨⟨mo_cge, ok_cge dX4_lostOfAll_6 rfl rfl⟩, ?_⟩
  refine ⟨⟨mo_ild, ok_ildn dX4_lostOfAll_9 rfl rfl⟩, ?_⟩
  refine ⟨⟨mo_ald, ok_aldn dX4_lostOfAll_10 rfl rfl⟩, ?_⟩
  refine ⟨⟨mo_gR, ok_gR rfl fd_X4_23 rfl dX4_lostOfAll_11 rfl⟩, ?_⟩
  refine ⟨⟨mo_ild, ok_ildn dX4_lostOfAll_14 rfl rfl⟩, ?_⟩
  refine ⟨⟨mo_alR, ok_aald rfl dX4_lostOfAll_15 rfl⟩, ?_⟩
  refine ⟨⟨mo_gI, ok_gI rfl fd_X4_136 rfl dX4_lostOfAll_16 rfl⟩, ?_⟩
  refine ⟨⟨mo_bin, ok_iadd dX4_lostOfAll_19 rfl⟩, ?_⟩
  refine ⟨⟨mo_ist, ok_istn dX4_lostOfAll_20 rfl (Nat.le_of_ble_eq_true rfl) rfl⟩, ?_⟩
  refine ⟨⟨mo_inc, ok_inc dX4_lostOfAll_21 iv_i1 (Nat.le_of_ble_eq_true rfl) rfl⟩, ?_⟩
  refine ⟨⟨mo_back, ok_back dX4_lostOfAll_24 rfl⟩, ?_⟩
  refine ⟨⟨mo_ild, ok_ildn dX4_lostOfAll_27 rfl rfl⟩, ?_⟩
  refine ⟨⟨mo_iret, ok_iret rfl rfl dX4_lostOfAll_28⟩, ?_⟩
  exact trivial
set_option maxHeartbeats 4000000 in
theorem alX4_takesUp : iy_all (iy_calls iy_mi) RX4 "takesUp" cX4_takesUp 6 (some FieldType.boolean, []) pcX4_takesUp pcX4_takesUp stX4_takesUp := by
  refine ⟨⟨mo_ald, ok_aldn dX4_takesUp_0 rfl rfl⟩, ?_⟩
  refine ⟨⟨mo_gR, ok_gR rfl fd_X4_23 rfl dX4_takesUp_1 rfl⟩, ?_⟩
  refine ⟨⟨mo_ild, ok_ildn dX4_takesUp_4 rfl rfl⟩, ?_⟩
  refine ⟨⟨mo_alR, ok_aald rfl dX4_takesUp_5 rfl⟩, ?_⟩
  refine ⟨⟨mo_ast, ok_ast dX4_takesUp_6 (Nat.le_of_ble_eq_true rfl) rfl⟩, ?_⟩
  refine ⟨⟨mo_ald, ok_ald dX4_takesUp_8 rfl⟩, ?_⟩
  refine ⟨⟨mo_gI, ok_gI rfl fd_X4_147 rfl dX4_takesUp_10 rfl⟩, ?_⟩
  refine ⟨⟨mo_ine, ok_ine dX4_takesUp_13 rfl rfl⟩, ?_⟩
  refine ⟨⟨mo_ald, ok_aldn dX4_takesUp_16 rfl rfl⟩, ?_⟩
  refine ⟨⟨mo_gI, ok_gI rfl fd_X4_57 rfl dX4_takesUp_17 rfl⟩, ?_⟩
  refine ⟨⟨mo_push, ok_sipush dX4_takesUp_20 iv_s640 rfl⟩, ?_⟩
  refine ⟨⟨mo_cge, ok_cge dX4_takesUp_23 rfl rfl⟩, ?_⟩
  refine ⟨⟨mo_ald, ok_aldn dX4_takesUp_26 rfl rfl⟩, ?_⟩
  refine ⟨⟨mo_gI, ok_gI rfl fd_X4_77 rfl dX4_takesUp_27 rfl⟩, ?_⟩
  refine ⟨⟨mo_push, ok_bipush dX4_takesUp_30 iv_b28 rfl⟩, ?_⟩
  refine ⟨⟨mo_clt, ok_clt dX4_takesUp_32 rfl rfl⟩, ?_⟩
  refine ⟨⟨mo_keep, ok_keep rfl⟩, ?_⟩
  refine ⟨⟨mo_push, ok_iconst dX4_takesUp_35 iv_i0 rfl⟩, ?_⟩
  refine ⟨⟨mo_iret, ok_iret rfl rfl dX4_takesUp_36⟩, ?_⟩
  refine ⟨⟨mo_ald, ok_ald dX4_takesUp_37 rfl⟩, ?_⟩
  refine ⟨⟨mo_ild, ok_ildn dX4_takesUp_39 rfl rfl⟩, ?_⟩
  refine ⟨⟨mo_pI, ok_pI rfl fd_X4_150 rfl (Or.inl rfl) dX4_takesUp_40 rfl⟩, ?_⟩
  refine ⟨⟨mo_ald, ok_ald dX4_takesUp_43 rfl⟩, ?_⟩
  refine ⟨⟨mo_ild, ok_ildn dX4_takesUp_45 rfl rfl⟩, ?_⟩
  refine ⟨⟨mo_pI, ok_pI rfl fd_X4_153 rfl (Or.inl rfl) dX4_takesUp_46 rfl⟩, ?_⟩
  refine ⟨⟨mo_ald, ok_ald dX4_takesUp_49 rfl⟩, ?_⟩
  refine ⟨⟨mo_ild, ok_ild dX4_takesUp_51 rfl⟩, ?_⟩
  refine ⟨⟨mo_pI, ok_pI rfl fd_X4_155 rfl (Or.inl rfl) dX4_takesUp_53 rfl⟩, ?_⟩
  refine ⟨⟨mo_ald, ok_ald dX4_takesUp_56 rfl⟩, ?_⟩
  refine ⟨⟨mo_push, ok_iconst dX4_takesUp_58 iv_i1 rfl⟩, ?_⟩
  refine ⟨⟨mo_pI, ok_pI rfl fd_X4_147 rfl (Or.inl rfl) dX4_takesUp_59 rfl⟩, ?_⟩
  refine ⟨⟨mo_ald, ok_ald dX4_takesUp_62 rfl⟩, ?_⟩
  refine ⟨⟨mo_push, ok_iconst dX4_takesUp_64 iv_i0 rfl⟩, ?_⟩
  refine ⟨⟨mo_pI, ok_pI rfl fd_X4_158 rfl (Or.inl rfl) dX4_takesUp_65 rfl⟩, ?_⟩
  refine ⟨⟨mo_ald, ok_ald dX4_takesUp_68 rfl⟩, ?_⟩
  refine ⟨⟨mo_push, ok_iconst dX4_takesUp_70 iv_i0 rfl⟩, ?_⟩
  refine ⟨⟨mo_pI, ok_pI rfl fd_X4_161 rfl (Or.inl rfl) dX4_takesUp_71 rfl⟩, ?_⟩
  refine ⟨⟨mo_ald, ok_ald dX4_takesUp_74 rfl⟩, ?_⟩
  refine ⟨⟨mo_ald, ok_aldn dX4_takesUp_76 rfl rfl⟩, ?_⟩
  refine ⟨⟨mo_gI, ok_gI rfl fd_X4_60 rfl dX4_takesUp_77 rfl⟩, ?_⟩
  refine ⟨⟨mo_pI, ok_pI rfl fd_X4_165 rfl (Or.inl rfl) dX4_takesUp_80 rfl⟩, ?_⟩
  refine ⟨⟨mo_push, ok_iconst dX4_takesUp_83 iv_i1 rfl⟩, ?_⟩
  refine ⟨⟨mo_iret, ok_iret rfl rfl dX4_takesUp_84⟩, ?_⟩
  exact trivial
set_option maxHeartbeats 4000000 in
theorem alX4_closes : iy_all (iy_calls iy_mi) RX4 "closes" cX4_closes 3 (some FieldType.int, []) pcX4_closes pcX4_closes stX4_closes := by
  refine ⟨⟨mo_push, ok_iconst dX4_closes_0 iv_i0 rfl⟩, ?_⟩
  refine ⟨⟨mo_ist, ok_istn dX4_closes_1 rfl (Nat.le_of_ble_eq_true rfl) rfl⟩, ?_⟩
  refine ⟨⟨mo_keep, ok_keep rfl⟩, ?_⟩
  refine ⟨⟨mo_ald, ok_aldn dX4_closes_2 rfl rfl⟩, ?_⟩
  refine ⟨⟨mo_gR, ok_gR rfl fd_X4_23 rfl dX4_closes_3 rfl⟩, ?_⟩
  refine ⟨⟨mo_ild, ok_ildn dX4_closes_6 rfl rfl⟩, ?_⟩
  refine ⟨⟨mo_alR, ok_aald rfl dX4_closes_7 rfl⟩, ?_⟩
  refine ⟨⟨mo_gI, ok_gI rfl fd_X4_147 rfl dX4_closes_8 rfl⟩, ?_⟩
  refine ⟨⟨mo_ieq, ok_ieq dX4_closes_11 rfl rfl⟩, ?_⟩
  refine ⟨⟨mo_ild, ok_ildn dX4_closes_14 rfl rfl⟩, ?_⟩
  refine ⟨⟨mo_push, ok_sipush dX4_closes_15 iv_s200 rfl⟩, ?_⟩
  refine ⟨⟨mo_cge, ok_cge dX4_closes_18 rfl rfl⟩, ?_⟩
  refine ⟨⟨mo_ald, ok_aldn dX4_closes_21 rfl rfl⟩, ?_⟩
  refine ⟨⟨mo_ild, ok_ildn dX4_closes_22 rfl rfl⟩, ?_⟩
  refine ⟨⟨mo_cvI, ok_cvI mi_X4_steps lk_X4_209 q1418 q1419 rfl (Nat.le_of_ble_eq_true rfl) (iy_ro_le _) rfl rfl dX4_closes_23 rfl⟩, ?_⟩
  refine ⟨⟨mo_pop, ok_pop dX4_closes_26 rfl⟩, ?_⟩
  refine ⟨⟨mo_inc, ok_inc dX4_closes_27 iv_i1 (Nat.le_of_ble_eq_true rfl) rfl⟩, ?_⟩
  refine ⟨⟨mo_back, ok_back dX4_closes_30 rfl⟩, ?_⟩
  refine ⟨⟨mo_keep, ok_keep rfl⟩, ?_⟩
  refine ⟨⟨mo_ild, ok_ildn dX4_closes_33 rfl rfl⟩, ?_⟩
  refine ⟨⟨mo_iret, ok_iret rfl rfl dX4_closes_34⟩, ?_⟩
  exact trivial
set_option maxHeartbeats 4000000 in
theorem alX4_steps : iy_all (iy_calls iy_mi) RX4 "steps" cX4_steps 3 (some FieldType.int, []) pcX4_steps pcX4_steps stX4_steps := by
  refine ⟨⟨mo_ald, ok_aldn dX4_steps_0 rfl rfl⟩, ?_⟩
  refine ⟨⟨mo_gR, ok_gR rfl fd_X4_23 rfl dX4_steps_1 rfl⟩, ?_⟩
  refine ⟨⟨mo_ild, ok_ildn dX4_steps_4 rfl rfl⟩, ?_⟩
  refine ⟨⟨mo_alR, ok_aald rfl dX4_steps_5 rfl⟩, ?_⟩
  refine ⟨⟨mo_ast, ok_astn dX4_steps_6 rfl (Nat.le_of_ble_eq_true rfl) rfl⟩, ?_⟩
  refine ⟨⟨mo_ald, ok_aldn dX4_steps_7 rfl rfl⟩, ?_⟩
  refine ⟨⟨mo_gI, ok_gI rfl fd_X4_147 rfl dX4_steps_8 rfl⟩, ?_⟩
  refine ⟨⟨mo_ine, ok_ine dX4_steps_11 rfl rfl⟩, ?_⟩
  refine ⟨⟨mo_push, ok_iconst dX4_steps_14 iv_im1 rfl⟩, ?_⟩
  refine ⟨⟨mo_iret, ok_iret rfl rfl dX4_steps_15⟩, ?_⟩
  refine ⟨⟨mo_ald, ok_aldn dX4_steps_16 rfl rfl⟩, ?_⟩
  refine ⟨⟨mo_dup, ok_dup dX4_steps_17 rfl⟩, ?_⟩
  refine ⟨⟨mo_gI, ok_gI rfl fd_X4_166 rfl dX4_steps_18 rfl⟩, ?_⟩
  refine ⟨⟨mo_push, ok_iconst dX4_steps_21 iv_i1 rfl⟩, ?_⟩
  refine ⟨⟨mo_bin, ok_iadd dX4_steps_22 rfl⟩, ?_⟩
  refine ⟨⟨mo_pI, ok_pI rfl fd_X4_166 rfl (Or.inl rfl) dX4_steps_23 rfl⟩, ?_⟩
  refine ⟨⟨mo_ald, ok_aldn dX4_steps_26 rfl rfl⟩, ?_⟩
  refine ⟨⟨mo_ald, ok_aldn dX4_steps_27 rfl rfl⟩, ?_⟩
  refine ⟨⟨mo_gI, ok_gI rfl fd_X4_147 rfl dX4_steps_28 rfl⟩, ?_⟩
  refine ⟨⟨mo_sw, ok_tsw dX4_steps_31 rfl rfl (by decide +kernel)⟩, ?_⟩
  refine ⟨⟨mo_ald, ok_aldn dX4_steps_92 rfl rfl⟩, ?_⟩
  refine ⟨⟨mo_ald, ok_aldn dX4_steps_93 rfl rfl⟩, ?_⟩
  refine ⟨⟨mo_cvI, ok_cvI mi_X4_finds lk_X4_169 q1423 qs34 rfl (Nat.le_of_ble_eq_true rfl) (iy_ro_le _) rfl rfl dX4_steps_94 rfl⟩, ?_⟩
  refine ⟨⟨mo_goto, ok_goto dX4_steps_97 rfl⟩, ?_⟩
  refine ⟨⟨mo_ald, ok_aldn dX4_steps_100 rfl rfl⟩, ?_⟩
  refine ⟨⟨mo_ald, ok_aldn dX4_steps_101 rfl rfl⟩, ?_⟩
  refine ⟨⟨mo_cvI, ok_cvI mi_X4_reads lk_X4_173 q1435 qs35 rfl (Nat.le_of_ble_eq_true rfl) (iy_ro_le _) rfl rfl dX4_steps_102 rfl⟩, ?_⟩
  refine ⟨⟨mo_goto, ok_goto dX4_steps_105 rfl⟩, ?_⟩
  refine ⟨⟨mo_ald, ok_aldn dX4_steps_108 rfl rfl⟩, ?_⟩
  refine ⟨⟨mo_ald, ok_aldn dX4_steps_109 rfl rfl⟩, ?_⟩
  refine ⟨⟨mo_cvI, ok_cvI mi_X4_prepends lk_X4_176 q1465 qs38 rfl (Nat.le_of_ble_eq_true rfl) (iy_ro_le _) rfl rfl dX4_steps_110 rfl⟩, ?_⟩
  refine ⟨⟨mo_goto, ok_goto dX4_steps_113 rfl⟩, ?_⟩
  refine ⟨⟨mo_ald, ok_aldn dX4_steps_116 rfl rfl⟩, ?_⟩
  refine ⟨⟨mo_ald, ok_aldn dX4_steps_117 rfl rfl⟩, ?_⟩
  refine ⟨⟨mo_cvI, ok_cvI mi_X4_gathers lk_X4_179 q1474 qs39 rfl (Nat.le_of_ble_eq_true rfl) (iy_ro_le _) rfl rfl dX4_steps_118 rfl⟩, ?_⟩
  refine ⟨⟨mo_goto, ok_goto dX4_steps_121 rfl⟩, ?_⟩
  refine ⟨⟨mo_ald, ok_aldn dX4_steps_124 rfl rfl⟩, ?_⟩
  refine ⟨⟨mo_ald, ok_aldn dX4_steps_125 rfl rfl⟩, ?_⟩
  refine ⟨⟨mo_cvI, ok_cvI mi_X4_swaps lk_X4_182 q1482 qs40 rfl (Nat.le_of_ble_eq_true rfl) (iy_ro_le _) rfl rfl dX4_steps_126 rfl⟩, ?_⟩
  refine ⟨⟨mo_goto, ok_goto dX4_steps_129 rfl⟩, ?_⟩
  refine ⟨⟨mo_ald, ok_aldn dX4_steps_132 rfl rfl⟩, ?_⟩
  refine ⟨⟨mo_ald, ok_aldn dX4_steps_133 rfl rfl⟩, ?_⟩
  refine ⟨⟨mo_cvI, ok_cvI mi_X4_splits lk_X4_185 q1490 qs42 rfl (Nat.le_of_ble_eq_true rfl) (iy_ro_le _) rfl rfl dX4_steps_134 rfl⟩, ?_⟩
  refine ⟨⟨mo_goto, ok_goto dX4_steps_137 rfl⟩, ?_⟩
  refine ⟨⟨mo_ald, ok_aldn dX4_steps_140 rfl rfl⟩, ?_⟩
  refine ⟨⟨mo_ald, ok_aldn dX4_steps_141 rfl rfl⟩, ?_⟩
  refine ⟨⟨mo_cvI, ok_cvI mi_X4_notes lk_X4_188 q1494 qs43 rfl (Nat.le_of_ble_eq_true rfl) (iy_ro_le _) rfl rfl dX4_steps_142 rfl⟩, ?_⟩
  refine ⟨⟨mo_goto, ok_goto dX4_steps_145 rfl⟩, ?_⟩
  refine ⟨⟨mo_ald, ok_aldn dX4_steps_148 rfl rfl⟩, ?_⟩
  refine ⟨⟨mo_ald, ok_aldn dX4_steps_149 rfl rfl⟩, ?_⟩
  refine ⟨⟨mo_cvI, ok_cvI mi_X4_enters lk_X4_191 q1498 qs44 rfl (Nat.le_of_ble_eq_true rfl) (iy_ro_le _) rfl rfl dX4_steps_150 rfl⟩, ?_⟩
  refine ⟨⟨mo_goto, ok_goto dX4_steps_153 rfl⟩, ?_⟩
  refine ⟨⟨mo_ald, ok_aldn dX4_steps_156 rfl rfl⟩, ?_⟩
  refine ⟨⟨mo_ald, ok_aldn dX4_steps_157 rfl rfl⟩, ?_⟩
  refine ⟨⟨mo_cvI, ok_cvI mi_X4_removes lk_X4_194 q1506 qs46 rfl (Nat.le_of_ble_eq_true rfl) (iy_ro_le _) rfl rfl dX4_steps_158 rfl⟩, ?_⟩
  refine ⟨⟨mo_goto, ok_goto dX4_steps_161 rfl⟩, ?_⟩
  refine ⟨⟨mo_ald, ok_aldn dX4_steps_164 rfl rfl⟩, ?_⟩
  refine ⟨⟨mo_ald, ok_aldn dX4_steps_165 rfl rfl⟩, ?_⟩
  refine ⟨⟨mo_cvI, ok_cvI mi_X4_looksLeft lk_X4_197 q1514 qs47 rfl (Nat.le_of_ble_eq_true rfl) (iy_ro_le _) rfl rfl dX4_steps_166 rfl⟩, ?_⟩
  refine ⟨⟨mo_goto, ok_goto dX4_steps_169 rfl⟩, ?_⟩
  refine ⟨⟨mo_ald, ok_aldn dX4_steps_172 rfl rfl⟩, ?_⟩
  refine ⟨⟨mo_ald, ok_aldn dX4_steps_173 rfl rfl⟩, ?_⟩
  refine ⟨⟨mo_cvI, ok_cvI mi_X4_joins lk_X4_200 q1518 qs48 rfl (Nat.le_of_ble_eq_true rfl) (iy_ro_le _) rfl rfl dX4_steps_174 rfl⟩, ?_⟩
  refine ⟨⟨mo_goto, ok_goto dX4_steps_177 rfl⟩, ?_⟩
  refine ⟨⟨mo_ald, ok_aldn dX4_steps_180 rfl rfl⟩, ?_⟩
  refine ⟨⟨mo_ald, ok_aldn dX4_steps_181 rfl rfl⟩, ?_⟩
  refine ⟨⟨mo_cvI, ok_cvI mi_X4_looks lk_X4_203 q1522 qs49 rfl (Nat.le_of_ble_eq_true rfl) (iy_ro_le _) rfl rfl dX4_steps_182 rfl⟩, ?_⟩
  refine ⟨⟨mo_goto, ok_goto dX4_steps_185 rfl⟩, ?_⟩
  refine ⟨⟨mo_ald, ok_aldn dX4_steps_188 rfl rfl⟩, ?_⟩
  refine ⟨⟨mo_ald, ok_aldn dX4_steps_189 rfl rfl⟩, ?_⟩
  refine ⟨⟨mo_cvI, ok_cvI mi_X4_strikes lk_X4_206 q1526 qs50 rfl (Nat.le_of_ble_eq_true rfl) (iy_ro_le _) rfl rfl dX4_steps_190 rfl⟩, ?_⟩
  refine ⟨⟨mo_keep, ok_keep rfl⟩, ?_⟩
  refine ⟨⟨mo_pI, ok_pI rfl fd_X4_147 rfl (Or.inl rfl) dX4_steps_193 rfl⟩, ?_⟩
  refine ⟨⟨mo_ald, ok_aldn dX4_steps_196 rfl rfl⟩, ?_⟩
  refine ⟨⟨mo_gI, ok_gI rfl fd_X4_147 rfl dX4_steps_197 rfl⟩, ?_⟩
  refine ⟨⟨mo_iret, ok_iret rfl rfl dX4_steps_200⟩, ?_⟩
  exact trivial
set_option maxHeartbeats 4000000 in
theorem alX4_finds : iy_all (iy_calls iy_mi) RX4 "finds" cX4_finds 3 (some FieldType.int, []) pcX4_finds pcX4_finds stX4_finds := by
  refine ⟨⟨mo_ald, ok_aldn dX4_finds_0 rfl rfl⟩, ?_⟩
  refine ⟨⟨mo_cvR, ok_cvR mi_X4_bounds lk_X4_117 q1426 q1427 rfl (Nat.le_of_ble_eq_true rfl) (iy_ro_le _) rfl rfl dX4_finds_1 rfl⟩, ?_⟩
  refine ⟨⟨mo_ast, ok_astn dX4_finds_4 rfl (Nat.le_of_ble_eq_true rfl) rfl⟩, ?_⟩
  refine ⟨⟨mo_ald, ok_aldn dX4_finds_5 rfl rfl⟩, ?_⟩
  refine ⟨⟨mo_ald, ok_aldn dX4_finds_6 rfl rfl⟩, ?_⟩
  refine ⟨⟨mo_gR, ok_gR rfl fd_X4_123 rfl dX4_finds_7 rfl⟩, ?_⟩
  refine ⟨⟨mo_ald, ok_aldn dX4_finds_10 rfl rfl⟩, ?_⟩
  refine ⟨⟨mo_ald, ok_aldn dX4_finds_11 rfl rfl⟩, ?_⟩
  refine ⟨⟨mo_gI, ok_gI rfl fd_X4_153 rfl dX4_finds_12 rfl⟩, ?_⟩
  refine ⟨⟨mo_cvI, ok_cvI mi_X5_upTo lk_X4_211 q1430 q1431 rfl (Nat.le_of_ble_eq_true rfl) (iy_ro_le _) rfl rfl dX4_finds_15 rfl⟩, ?_⟩
  refine ⟨⟨mo_alI, ok_iald dX4_finds_18 rfl⟩, ?_⟩
  refine ⟨⟨mo_pI, ok_pI rfl fd_X4_214 rfl (Or.inl rfl) dX4_finds_19 rfl⟩, ?_⟩
  refine ⟨⟨mo_push, ok_iconst dX4_finds_22 iv_i2 rfl⟩, ?_⟩
  refine ⟨⟨mo_iret, ok_iret rfl rfl dX4_finds_23⟩, ?_⟩
  exact trivial
set_option maxHeartbeats 4000000 in
theorem alX4_bounds : iy_all (iy_calls iy_mi) RX4 "bounds" cX4_bounds 1 (some (FieldType.object "DeltaIndex$Record"), []) pcX4_bounds pcX4_bounds stX4_bounds := by
  refine ⟨⟨mo_ald, ok_aldn dX4_bounds_0 rfl rfl⟩, ?_⟩
  refine ⟨⟨mo_push, ok_iconst dX4_bounds_1 iv_i0 rfl⟩, ?_⟩
  refine ⟨⟨mo_ald, ok_aldn dX4_bounds_2 rfl rfl⟩, ?_⟩
  refine ⟨⟨mo_gR, ok_gR rfl fd_X4_32 rfl dX4_bounds_3 rfl⟩, ?_⟩
  refine ⟨⟨mo_cvV, ok_cvV mi_X4_lays lk_X4_113 q1372 q1373 rfl (Nat.le_of_ble_eq_true rfl) (iy_ro_le _) rfl rfl dX4_bounds_6 rfl⟩, ?_⟩
  refine ⟨⟨mo_ald, ok_aldn dX4_bounds_9 rfl rfl⟩, ?_⟩
  refine ⟨⟨mo_gR, ok_gR rfl fd_X4_32 rfl dX4_bounds_10 rfl⟩, ?_⟩
  refine ⟨⟨mo_aret, ok_aret rfl rfl dX4_bounds_13⟩, ?_⟩
  exact trivial
set_option maxHeartbeats 4000000 in
theorem alX4_reads : iy_all (iy_calls iy_mi) RX4 "reads" cX4_reads 3 (some FieldType.int, []) pcX4_reads pcX4_reads stX4_reads := by
  refine ⟨⟨mo_ald, ok_aldn dX4_reads_0 rfl rfl⟩, ?_⟩
  refine ⟨⟨mo_ald, ok_aldn dX4_reads_1 rfl rfl⟩, ?_⟩
  refine ⟨⟨mo_gI, ok_gI rfl fd_X4_214 rfl dX4_reads_2 rfl⟩, ?_⟩
  refine ⟨⟨mo_cvI, ok_cvI mi_X4_isGone lk_X4_139 q1438 q1439 rfl (Nat.le_of_ble_eq_true rfl) (iy_ro_le _) rfl rfl dX4_reads_5 rfl⟩, ?_⟩
  refine ⟨⟨mo_ieq, ok_ieq dX4_reads_8 rfl rfl⟩, ?_⟩
  refine ⟨⟨mo_ald, ok_aldn dX4_reads_11 rfl rfl⟩, ?_⟩
  refine ⟨⟨mo_ald, ok_aldn dX4_reads_12 rfl rfl⟩, ?_⟩
  refine ⟨⟨mo_gI, ok_gI rfl fd_X4_214 rfl dX4_reads_13 rfl⟩, ?_⟩
  refine ⟨⟨mo_pI, ok_pI rfl fd_X4_221 rfl (Or.inl rfl) dX4_reads_16 rfl⟩, ?_⟩
  refine ⟨⟨mo_push, ok_bipush dX4_reads_19 iv_b10 rfl⟩, ?_⟩
  refine ⟨⟨mo_iret, ok_iret rfl rfl dX4_reads_21⟩, ?_⟩
  refine ⟨⟨mo_ald, ok_aldn dX4_reads_22 rfl rfl⟩, ?_⟩
  refine ⟨⟨mo_ald, ok_aldn dX4_reads_23 rfl rfl⟩, ?_⟩
  refine ⟨⟨mo_gI, ok_gI rfl fd_X4_214 rfl dX4_reads_24 rfl⟩, ?_⟩
  refine ⟨⟨mo_ald, ok_aldn dX4_reads_27 rfl rfl⟩, ?_⟩
  refine ⟨⟨mo_gR, ok_gR rfl fd_X4_28 rfl dX4_reads_28 rfl⟩, ?_⟩
  refine ⟨⟨mo_cvV, ok_cvV mi_X4_lays lk_X4_113 q1372 q1373 rfl (Nat.le_of_ble_eq_true rfl) (iy_ro_le _) rfl rfl dX4_reads_31 rfl⟩, ?_⟩
  refine ⟨⟨mo_ald, ok_aldn dX4_reads_34 rfl rfl⟩, ?_⟩
  refine ⟨⟨mo_gI, ok_gI rfl fd_X4_153 rfl dX4_reads_35 rfl⟩, ?_⟩
  refine ⟨⟨mo_ald, ok_aldn dX4_reads_38 rfl rfl⟩, ?_⟩
  refine ⟨⟨mo_gR, ok_gR rfl fd_X4_28 rfl dX4_reads_39 rfl⟩, ?_⟩
  refine ⟨⟨mo_gI, ok_gI rfl fd_X4_74 rfl dX4_reads_42 rfl⟩, ?_⟩
  refine ⟨⟨mo_clt, ok_clt dX4_reads_45 rfl rfl⟩, ?_⟩
  refine ⟨⟨mo_ald, ok_aldn dX4_reads_48 rfl rfl⟩, ?_⟩
  refine ⟨⟨mo_ald, ok_aldn dX4_reads_49 rfl rfl⟩, ?_⟩
  refine ⟨⟨mo_gR, ok_gR rfl fd_X4_28 rfl dX4_reads_50 rfl⟩, ?_⟩
  refine ⟨⟨mo_gI, ok_gI rfl fd_X4_74 rfl dX4_reads_53 rfl⟩, ?_⟩
  refine ⟨⟨mo_ald, ok_aldn dX4_reads_56 rfl rfl⟩, ?_⟩
  refine ⟨⟨mo_gR, ok_gR rfl fd_X4_28 rfl dX4_reads_57 rfl⟩, ?_⟩
  refine ⟨⟨mo_gI, ok_gI rfl fd_X4_133 rfl dX4_reads_60 rfl⟩, ?_⟩
  refine ⟨⟨mo_cvI, ok_cvI mi_X4_isNoted lk_X4_143 q1443 qs36 rfl (Nat.le_of_ble_eq_true rfl) (iy_ro_le _) rfl rfl dX4_reads_63 rfl⟩, ?_⟩
  refine ⟨⟨mo_ine, ok_ine dX4_reads_66 rfl rfl⟩, ?_⟩
  refine ⟨⟨mo_ald, ok_aldn dX4_reads_69 rfl rfl⟩, ?_⟩
  refine ⟨⟨mo_ald, ok_aldn dX4_reads_70 rfl rfl⟩, ?_⟩
  refine ⟨⟨mo_ald, ok_aldn dX4_reads_71 rfl rfl⟩, ?_⟩
  refine ⟨⟨mo_gR, ok_gR rfl fd_X4_28 rfl dX4_reads_72 rfl⟩, ?_⟩
  refine ⟨⟨mo_gI, ok_gI rfl fd_X4_74 rfl dX4_reads_75 rfl⟩, ?_⟩
  refine ⟨⟨mo_ald, ok_aldn dX4_reads_78 rfl rfl⟩, ?_⟩
  refine ⟨⟨mo_gR, ok_gR rfl fd_X4_28 rfl dX4_reads_79 rfl⟩, ?_⟩
  refine ⟨⟨mo_gI, ok_gI rfl fd_X4_133 rfl dX4_reads_82 rfl⟩, ?_⟩
  refine ⟨⟨mo_cvI, ok_cvI mi_X4_noting lk_X4_224 q1448 qs37 rfl (Nat.le_of_ble_eq_true rfl) (iy_ro_le _) rfl rfl dX4_reads_85 rfl⟩, ?_⟩
  refine ⟨⟨mo_iret, ok_iret rfl rfl dX4_reads_88⟩, ?_⟩
  refine ⟨⟨mo_ald, ok_aldn dX4_reads_89 rfl rfl⟩, ?_⟩
  refine ⟨⟨mo_ald, ok_aldn dX4_reads_90 rfl rfl⟩, ?_⟩
  refine ⟨⟨mo_gR, ok_gR rfl fd_X4_28 rfl dX4_reads_91 rfl⟩, ?_⟩
  refine ⟨⟨mo_gI, ok_gI rfl fd_X4_133 rfl dX4_reads_94 rfl⟩, ?_⟩
  refine ⟨⟨mo_pI, ok_pI rfl fd_X4_214 rfl (Or.inl rfl) dX4_reads_97 rfl⟩, ?_⟩
  refine ⟨⟨mo_push, ok_iconst dX4_reads_100 iv_i2 rfl⟩, ?_⟩
  refine ⟨⟨mo_iret, ok_iret rfl rfl dX4_reads_101⟩, ?_⟩
  refine ⟨⟨mo_ald, ok_aldn dX4_reads_102 rfl rfl⟩, ?_⟩
  refine ⟨⟨mo_gR, ok_gR rfl fd_X4_28 rfl dX4_reads_103 rfl⟩, ?_⟩
  refine ⟨⟨mo_ald, ok_aldn dX4_reads_106 rfl rfl⟩, ?_⟩
  refine ⟨⟨mo_gI, ok_gI rfl fd_X4_153 rfl dX4_reads_107 rfl⟩, ?_⟩
  refine ⟨⟨mo_cvI, ok_cvI mi_X5_at lk_X4_129 q643 q644 rfl (Nat.le_of_ble_eq_true rfl) (iy_ro_le _) rfl rfl dX4_reads_110 rfl⟩, ?_⟩
  refine ⟨⟨mo_ist, ok_istn dX4_reads_113 rfl (Nat.le_of_ble_eq_true rfl) rfl⟩, ?_⟩
  refine ⟨⟨mo_ald, ok_aldn dX4_reads_114 rfl rfl⟩, ?_⟩
  refine ⟨⟨mo_gI, ok_gI rfl fd_X4_150 rfl dX4_reads_115 rfl⟩, ?_⟩
  refine ⟨⟨mo_push, ok_iconst dX4_reads_118 iv_i3 rfl⟩, ?_⟩
  refine ⟨⟨mo_cne, ok_cne dX4_reads_119 rfl rfl⟩, ?_⟩
  refine ⟨⟨mo_ald, ok_aldn dX4_reads_122 rfl rfl⟩, ?_⟩
  refine ⟨⟨mo_ild, ok_ildn dX4_reads_123 rfl rfl⟩, ?_⟩
  refine ⟨⟨mo_ige, ok_ige dX4_reads_124 rfl rfl⟩, ?_⟩
  refine ⟨⟨mo_push, ok_iconst dX4_reads_127 iv_i0 rfl⟩, ?_⟩
  refine ⟨⟨mo_goto, ok_goto dX4_reads_128 rfl⟩, ?_⟩
  refine ⟨⟨mo_ald, ok_aldn dX4_reads_131 rfl rfl⟩, ?_⟩
  refine ⟨⟨mo_gR, ok_gR rfl fd_X4_28 rfl dX4_reads_132 rfl⟩, ?_⟩
  refine ⟨⟨mo_gR, ok_gR rfl fd_X4_123 rfl dX4_reads_135 rfl⟩, ?_⟩
  refine ⟨⟨mo_ild, ok_ildn dX4_reads_138 rfl rfl⟩, ?_⟩
  refine ⟨⟨mo_alI, ok_iald dX4_reads_139 rfl⟩, ?_⟩
  refine ⟨⟨mo_keep, ok_keep rfl⟩, ?_⟩
  refine ⟨⟨mo_cvI, ok_cvI mi_X6_tells lk_X4_228 q1451 q1452 rfl (Nat.le_of_ble_eq_true rfl) (iy_ro_le _) rfl rfl dX4_reads_140 rfl⟩, ?_⟩
  refine ⟨⟨mo_iret, ok_iret rfl rfl dX4_reads_143⟩, ?_⟩
  refine ⟨⟨mo_ald, ok_aldn dX4_reads_144 rfl rfl⟩, ?_⟩
  refine ⟨⟨mo_gI, ok_gI rfl fd_X4_150 rfl dX4_reads_145 rfl⟩, ?_⟩
  refine ⟨⟨mo_push, ok_iconst dX4_reads_148 iv_i2 rfl⟩, ?_⟩
  refine ⟨⟨mo_cne, ok_cne dX4_reads_149 rfl rfl⟩, ?_⟩
  refine ⟨⟨mo_ild, ok_ildn dX4_reads_152 rfl rfl⟩, ?_⟩
  refine ⟨⟨mo_ige, ok_ige dX4_reads_153 rfl rfl⟩, ?_⟩
  refine ⟨⟨mo_ald, ok_aldn dX4_reads_156 rfl rfl⟩, ?_⟩
  refine ⟨⟨mo_push, ok_iconst dX4_reads_157 iv_i0 rfl⟩, ?_⟩
  refine ⟨⟨mo_cvI, ok_cvI mi_X6_tells lk_X4_228 q1451 q1452 rfl (Nat.le_of_ble_eq_true rfl) (iy_ro_le _) rfl rfl dX4_reads_158 rfl⟩, ?_⟩
  refine ⟨⟨mo_iret, ok_iret rfl rfl dX4_reads_161⟩, ?_⟩
  refine ⟨⟨mo_keep, ok_keep rfl⟩, ?_⟩
  refine ⟨⟨mo_ald, ok_aldn dX4_reads_162 rfl rfl⟩, ?_⟩
  refine ⟨⟨mo_ald, ok_aldn dX4_reads_163 rfl rfl⟩, ?_⟩
  refine ⟨⟨mo_gI, ok_gI rfl fd_X4_214 rfl dX4_reads_164 rfl⟩, ?_⟩
  refine ⟨⟨mo_cvI, ok_cvI mi_X4_length lk_X4_231 q1459 q1460 rfl (Nat.le_of_ble_eq_true rfl) (iy_ro_le _) rfl rfl dX4_reads_167 rfl⟩, ?_⟩
  refine ⟨⟨mo_push, ok_bipush dX4_reads_170 iv_b24 rfl⟩, ?_⟩
  refine ⟨⟨mo_clt, ok_clt dX4_reads_172 rfl rfl⟩, ?_⟩
  refine ⟨⟨mo_push, ok_iconst dX4_reads_175 iv_i4 rfl⟩, ?_⟩
  refine ⟨⟨mo_iret, ok_iret rfl rfl dX4_reads_176⟩, ?_⟩
  refine ⟨⟨mo_ald, ok_aldn dX4_reads_177 rfl rfl⟩, ?_⟩
  refine ⟨⟨mo_gI, ok_gI rfl fd_X4_150 rfl dX4_reads_178 rfl⟩, ?_⟩
  refine ⟨⟨mo_push, ok_iconst dX4_reads_181 iv_i1 rfl⟩, ?_⟩
  refine ⟨⟨mo_cne, ok_cne dX4_reads_182 rfl rfl⟩, ?_⟩
  refine ⟨⟨mo_ild, ok_ildn dX4_reads_185 rfl rfl⟩, ?_⟩
  refine ⟨⟨mo_ige, ok_ige dX4_reads_186 rfl rfl⟩, ?_⟩
  refine ⟨⟨mo_ald, ok_aldn dX4_reads_189 rfl rfl⟩, ?_⟩
  refine ⟨⟨mo_cvI, ok_cvI mi_X4_keys lk_X4_234 q1368 q1369 rfl (Nat.le_of_ble_eq_true rfl) (iy_ro_le _) rfl rfl dX4_reads_190 rfl⟩, ?_⟩
  refine ⟨⟨mo_push, ok_bipush dX4_reads_193 iv_b40 rfl⟩, ?_⟩
  refine ⟨⟨mo_clt, ok_clt dX4_reads_195 rfl rfl⟩, ?_⟩
  refine ⟨⟨mo_ald, ok_aldn dX4_reads_198 rfl rfl⟩, ?_⟩
  refine ⟨⟨mo_push, ok_bipush dX4_reads_199 iv_bm3 rfl⟩, ?_⟩
  refine ⟨⟨mo_cvI, ok_cvI mi_X6_tells lk_X4_228 q1451 q1452 rfl (Nat.le_of_ble_eq_true rfl) (iy_ro_le _) rfl rfl dX4_reads_201 rfl⟩, ?_⟩
  refine ⟨⟨mo_iret, ok_iret rfl rfl dX4_reads_204⟩, ?_⟩
  refine ⟨⟨mo_keep, ok_keep rfl⟩, ?_⟩
  refine ⟨⟨mo_ald, ok_aldn dX4_reads_205 rfl rfl⟩, ?_⟩
  refine ⟨⟨mo_ald, ok_aldn dX4_reads_206 rfl rfl⟩, ?_⟩
  refine ⟨⟨mo_gR, ok_gR rfl fd_X4_17 rfl dX4_reads_207 rfl⟩, ?_⟩
  refine ⟨⟨mo_ald, ok_aldn dX4_reads_210 rfl rfl⟩, ?_⟩
  refine ⟨⟨mo_gI, ok_gI rfl fd_X4_214 rfl dX4_reads_211 rfl⟩, ?_⟩
  refine ⟨⟨mo_alI, ok_iald dX4_reads_214 rfl⟩, ?_⟩
  refine ⟨⟨mo_pI, ok_pI rfl fd_X4_238 rfl (Or.inl rfl) dX4_reads_215 rfl⟩, ?_⟩
  refine ⟨⟨mo_push, ok_iconst dX4_reads_218 iv_i3 rfl⟩, ?_⟩
  refine ⟨⟨mo_iret, ok_iret rfl rfl dX4_reads_219⟩, ?_⟩
  exact trivial
set_option maxHeartbeats 4000000 in
theorem alX4_isGone : iy_all (iy_calls iy_mi) RX4 "isGone" cX4_isGone 2 (some FieldType.boolean, []) pcX4_isGone pcX4_isGone stX4_isGone := by
  refine ⟨⟨mo_ald, ok_aldn dX4_isGone_0 rfl rfl⟩, ?_⟩
  refine ⟨⟨mo_gR, ok_gR rfl fd_X4_11 rfl dX4_isGone_1 rfl⟩, ?_⟩
  refine ⟨⟨mo_ald, ok_aldn dX4_isGone_4 rfl rfl⟩, ?_⟩
  refine ⟨⟨mo_gR, ok_gR rfl fd_X4_17 rfl dX4_isGone_5 rfl⟩, ?_⟩
  refine ⟨⟨mo_ild, ok_ildn dX4_isGone_8 rfl rfl⟩, ?_⟩
  refine ⟨⟨mo_alI, ok_iald dX4_isGone_9 rfl⟩, ?_⟩
  refine ⟨⟨mo_alR, ok_aald rfl dX4_isGone_10 rfl⟩, ?_⟩
  refine ⟨⟨mo_gI, ok_gI rfl fd_X4_96 rfl dX4_isGone_11 rfl⟩, ?_⟩
  refine ⟨⟨mo_push, ok_iconst dX4_isGone_14 iv_i4 rfl⟩, ?_⟩
  refine ⟨⟨mo_cne, ok_cne dX4_isGone_15 rfl rfl⟩, ?_⟩
  refine ⟨⟨mo_push, ok_iconst dX4_isGone_18 iv_i1 rfl⟩, ?_⟩
  refine ⟨⟨mo_goto, ok_goto dX4_isGone_19 rfl⟩, ?_⟩
  refine ⟨⟨mo_push, ok_iconst dX4_isGone_22 iv_i0 rfl⟩, ?_⟩
  refine ⟨⟨mo_keep, ok_keep rfl⟩, ?_⟩
  refine ⟨⟨mo_iret, ok_iret rfl rfl dX4_isGone_23⟩, ?_⟩
  exact trivial
set_option maxHeartbeats 4000000 in
theorem alX4_isNoted : iy_all (iy_calls iy_mi) RX4 "isNoted" cX4_isNoted 4 (some FieldType.boolean, []) pcX4_isNoted pcX4_isNoted stX4_isNoted := by
  refine ⟨⟨mo_ald, ok_aldn dX4_isNoted_0 rfl rfl⟩, ?_⟩
  refine ⟨⟨mo_cvR, ok_cvR mi_X4_bounds lk_X4_117 q1426 q1427 rfl (Nat.le_of_ble_eq_true rfl) (iy_ro_le _) rfl rfl dX4_isNoted_1 rfl⟩, ?_⟩
  refine ⟨⟨mo_ild, ok_ildn dX4_isNoted_4 rfl rfl⟩, ?_⟩
  refine ⟨⟨mo_cvI, ok_cvI mi_X5_at lk_X4_129 q643 q644 rfl (Nat.le_of_ble_eq_true rfl) (iy_ro_le _) rfl rfl dX4_isNoted_5 rfl⟩, ?_⟩
  refine ⟨⟨mo_ist, ok_istn dX4_isNoted_8 rfl (Nat.le_of_ble_eq_true rfl) rfl⟩, ?_⟩
  refine ⟨⟨mo_ild, ok_ildn dX4_isNoted_9 rfl rfl⟩, ?_⟩
  refine ⟨⟨mo_ilt, ok_ilt dX4_isNoted_10 rfl rfl⟩, ?_⟩
  refine ⟨⟨mo_ald, ok_aldn dX4_isNoted_13 rfl rfl⟩, ?_⟩
  refine ⟨⟨mo_gR, ok_gR rfl fd_X4_32 rfl dX4_isNoted_14 rfl⟩, ?_⟩
  refine ⟨⟨mo_gR, ok_gR rfl fd_X4_123 rfl dX4_isNoted_17 rfl⟩, ?_⟩
  refine ⟨⟨mo_ild, ok_ildn dX4_isNoted_20 rfl rfl⟩, ?_⟩
  refine ⟨⟨mo_alI, ok_iald dX4_isNoted_21 rfl⟩, ?_⟩
  refine ⟨⟨mo_ild, ok_ildn dX4_isNoted_22 rfl rfl⟩, ?_⟩
  refine ⟨⟨mo_cne, ok_cne dX4_isNoted_23 rfl rfl⟩, ?_⟩
  refine ⟨⟨mo_push, ok_iconst dX4_isNoted_26 iv_i1 rfl⟩, ?_⟩
  refine ⟨⟨mo_goto, ok_goto dX4_isNoted_27 rfl⟩, ?_⟩
  refine ⟨⟨mo_keep, ok_keep rfl⟩, ?_⟩
  refine ⟨⟨mo_push, ok_iconst dX4_isNoted_30 iv_i0 rfl⟩, ?_⟩
  refine ⟨⟨mo_keep, ok_keep rfl⟩, ?_⟩
  refine ⟨⟨mo_iret, ok_iret rfl rfl dX4_isNoted_31⟩, ?_⟩
  exact trivial
set_option maxHeartbeats 4000000 in
theorem alX4_noting : iy_all (iy_calls iy_mi) RX4 "noting" cX4_noting 4 (some FieldType.int, []) pcX4_noting pcX4_noting stX4_noting := by
  refine ⟨⟨mo_ald, ok_aldn dX4_noting_0 rfl rfl⟩, ?_⟩
  refine ⟨⟨mo_ild, ok_ildn dX4_noting_1 rfl rfl⟩, ?_⟩
  refine ⟨⟨mo_pI, ok_pI rfl fd_X4_217 rfl (Or.inl rfl) dX4_noting_2 rfl⟩, ?_⟩
  refine ⟨⟨mo_ald, ok_aldn dX4_noting_5 rfl rfl⟩, ?_⟩
  refine ⟨⟨mo_ild, ok_ildn dX4_noting_6 rfl rfl⟩, ?_⟩
  refine ⟨⟨mo_pI, ok_pI rfl fd_X4_220 rfl (Or.inl rfl) dX4_noting_7 rfl⟩, ?_⟩
  refine ⟨⟨mo_push, ok_bipush dX4_noting_10 iv_b7 rfl⟩, ?_⟩
  refine ⟨⟨mo_iret, ok_iret rfl rfl dX4_noting_12⟩, ?_⟩
  exact trivial
set_option maxHeartbeats 4000000 in
theorem alX4_length : iy_all (iy_calls iy_mi) RX4 "length" cX4_length 4 (some FieldType.int, []) pcX4_length pcX4_length stX4_length := by
  refine ⟨⟨mo_push, ok_iconst dX4_length_0 iv_i0 rfl⟩, ?_⟩
  refine ⟨⟨mo_ist, ok_istn dX4_length_1 rfl (Nat.le_of_ble_eq_true rfl) rfl⟩, ?_⟩
  refine ⟨⟨mo_ald, ok_aldn dX4_length_2 rfl rfl⟩, ?_⟩
  refine ⟨⟨mo_gR, ok_gR rfl fd_X4_17 rfl dX4_length_3 rfl⟩, ?_⟩
  refine ⟨⟨mo_ild, ok_ildn dX4_length_6 rfl rfl⟩, ?_⟩
  refine ⟨⟨mo_alI, ok_iald dX4_length_7 rfl⟩, ?_⟩
  refine ⟨⟨mo_ist, ok_istn dX4_length_8 rfl (Nat.le_of_ble_eq_true rfl) rfl⟩, ?_⟩
  refine ⟨⟨mo_keep, ok_keep rfl⟩, ?_⟩
  refine ⟨⟨mo_ald, ok_aldn dX4_length_9 rfl rfl⟩, ?_⟩
  refine ⟨⟨mo_gR, ok_gR rfl fd_X4_11 rfl dX4_length_10 rfl⟩, ?_⟩
  refine ⟨⟨mo_ild, ok_ildn dX4_length_13 rfl rfl⟩, ?_⟩
  refine ⟨⟨mo_alR, ok_aald rfl dX4_length_14 rfl⟩, ?_⟩
  refine ⟨⟨mo_gI, ok_gI rfl fd_X4_96 rfl dX4_length_15 rfl⟩, ?_⟩
  refine ⟨⟨mo_ieq, ok_ieq dX4_length_18 rfl rfl⟩, ?_⟩
  refine ⟨⟨mo_inc, ok_inc dX4_length_21 iv_i1 (Nat.le_of_ble_eq_true rfl) rfl⟩, ?_⟩
  refine ⟨⟨mo_ald, ok_aldn dX4_length_24 rfl rfl⟩, ?_⟩
  refine ⟨⟨mo_gR, ok_gR rfl fd_X4_11 rfl dX4_length_25 rfl⟩, ?_⟩
  refine ⟨⟨mo_ild, ok_ildn dX4_length_28 rfl rfl⟩, ?_⟩
  refine ⟨⟨mo_alR, ok_aald rfl dX4_length_29 rfl⟩, ?_⟩
  refine ⟨⟨mo_gI, ok_gI rfl fd_X4_99 rfl dX4_length_30 rfl⟩, ?_⟩
  refine ⟨⟨mo_ist, ok_istn dX4_length_33 rfl (Nat.le_of_ble_eq_true rfl) rfl⟩, ?_⟩
  refine ⟨⟨mo_back, ok_back dX4_length_34 rfl⟩, ?_⟩
  refine ⟨⟨mo_ild, ok_ildn dX4_length_37 rfl rfl⟩, ?_⟩
  refine ⟨⟨mo_iret, ok_iret rfl rfl dX4_length_38⟩, ?_⟩
  exact trivial
set_option maxHeartbeats 4000000 in
theorem alX4_prepends : iy_all (iy_calls iy_mi) RX4 "prepends" cX4_prepends 2 (some FieldType.int, []) pcX4_prepends pcX4_prepends stX4_prepends := by
  refine ⟨⟨mo_ald, ok_aldn dX4_prepends_0 rfl rfl⟩, ?_⟩
  refine ⟨⟨mo_gR, ok_gR rfl fd_X4_17 rfl dX4_prepends_1 rfl⟩, ?_⟩
  refine ⟨⟨mo_ald, ok_aldn dX4_prepends_4 rfl rfl⟩, ?_⟩
  refine ⟨⟨mo_gI, ok_gI rfl fd_X4_214 rfl dX4_prepends_5 rfl⟩, ?_⟩
  refine ⟨⟨mo_alI, ok_iald dX4_prepends_8 rfl⟩, ?_⟩
  refine ⟨⟨mo_ald, ok_aldn dX4_prepends_9 rfl rfl⟩, ?_⟩
  refine ⟨⟨mo_gI, ok_gI rfl fd_X4_238 rfl dX4_prepends_10 rfl⟩, ?_⟩
  refine ⟨⟨mo_ceq, ok_ceq dX4_prepends_13 rfl rfl⟩, ?_⟩
  refine ⟨⟨mo_ald, ok_aldn dX4_prepends_16 rfl rfl⟩, ?_⟩
  refine ⟨⟨mo_push, ok_iconst dX4_prepends_17 iv_i2 rfl⟩, ?_⟩
  refine ⟨⟨mo_cvI, ok_cvI mi_X6_lost lk_X4_241 q1468 q1469 rfl (Nat.le_of_ble_eq_true rfl) (iy_ro_le _) rfl rfl dX4_prepends_18 rfl⟩, ?_⟩
  refine ⟨⟨mo_iret, ok_iret rfl rfl dX4_prepends_21⟩, ?_⟩
  refine ⟨⟨mo_ald, ok_aldn dX4_prepends_22 rfl rfl⟩, ?_⟩
  refine ⟨⟨mo_ald, ok_aldn dX4_prepends_23 rfl rfl⟩, ?_⟩
  refine ⟨⟨mo_gI, ok_gI rfl fd_X4_214 rfl dX4_prepends_24 rfl⟩, ?_⟩
  refine ⟨⟨mo_ald, ok_aldn dX4_prepends_27 rfl rfl⟩, ?_⟩
  refine ⟨⟨mo_gR, ok_gR rfl fd_X4_28 rfl dX4_prepends_28 rfl⟩, ?_⟩
  refine ⟨⟨mo_cvV, ok_cvV mi_X4_lays lk_X4_113 q1372 q1373 rfl (Nat.le_of_ble_eq_true rfl) (iy_ro_le _) rfl rfl dX4_prepends_31 rfl⟩, ?_⟩
  refine ⟨⟨mo_ald, ok_aldn dX4_prepends_34 rfl rfl⟩, ?_⟩
  refine ⟨⟨mo_ald, ok_aldn dX4_prepends_35 rfl rfl⟩, ?_⟩
  refine ⟨⟨mo_gR, ok_gR rfl fd_X4_28 rfl dX4_prepends_36 rfl⟩, ?_⟩
  refine ⟨⟨mo_ald, ok_aldn dX4_prepends_39 rfl rfl⟩, ?_⟩
  refine ⟨⟨mo_gI, ok_gI rfl fd_X4_153 rfl dX4_prepends_40 rfl⟩, ?_⟩
  refine ⟨⟨mo_cvI, ok_cvI mi_X5_at lk_X4_129 q643 q644 rfl (Nat.le_of_ble_eq_true rfl) (iy_ro_le _) rfl rfl dX4_prepends_43 rfl⟩, ?_⟩
  refine ⟨⟨mo_ilt, ok_ilt dX4_prepends_46 rfl rfl⟩, ?_⟩
  refine ⟨⟨mo_push, ok_iconst dX4_prepends_49 iv_i1 rfl⟩, ?_⟩
  refine ⟨⟨mo_goto, ok_goto dX4_prepends_50 rfl⟩, ?_⟩
  refine ⟨⟨mo_push, ok_iconst dX4_prepends_53 iv_i0 rfl⟩, ?_⟩
  refine ⟨⟨mo_keep, ok_keep rfl⟩, ?_⟩
  refine ⟨⟨mo_pI, ok_pI rfl fd_X4_158 rfl (Or.inl rfl) dX4_prepends_54 rfl⟩, ?_⟩
  refine ⟨⟨mo_ald, ok_aldn dX4_prepends_57 rfl rfl⟩, ?_⟩
  refine ⟨⟨mo_push, ok_iconst dX4_prepends_58 iv_i1 rfl⟩, ?_⟩
  refine ⟨⟨mo_pI, ok_pI rfl fd_X4_161 rfl (Or.inl rfl) dX4_prepends_59 rfl⟩, ?_⟩
  refine ⟨⟨mo_ald, ok_aldn dX4_prepends_62 rfl rfl⟩, ?_⟩
  refine ⟨⟨mo_gR, ok_gR rfl fd_X4_17 rfl dX4_prepends_63 rfl⟩, ?_⟩
  refine ⟨⟨mo_ald, ok_aldn dX4_prepends_66 rfl rfl⟩, ?_⟩
  refine ⟨⟨mo_gI, ok_gI rfl fd_X4_214 rfl dX4_prepends_67 rfl⟩, ?_⟩
  refine ⟨⟨mo_ald, ok_aldn dX4_prepends_70 rfl rfl⟩, ?_⟩
  refine ⟨⟨mo_ald, ok_aldn dX4_prepends_71 rfl rfl⟩, ?_⟩
  refine ⟨⟨mo_gI, ok_gI rfl fd_X4_150 rfl dX4_prepends_72 rfl⟩, ?_⟩
  refine ⟨⟨mo_ald, ok_aldn dX4_prepends_75 rfl rfl⟩, ?_⟩
  refine ⟨⟨mo_gI, ok_gI rfl fd_X4_153 rfl dX4_prepends_76 rfl⟩, ?_⟩
  refine ⟨⟨mo_ald, ok_aldn dX4_prepends_79 rfl rfl⟩, ?_⟩
  refine ⟨⟨mo_gI, ok_gI rfl fd_X4_150 rfl dX4_prepends_80 rfl⟩, ?_⟩
  refine ⟨⟨mo_push, ok_iconst dX4_prepends_83 iv_i1 rfl⟩, ?_⟩
  refine ⟨⟨mo_cne, ok_cne dX4_prepends_84 rfl rfl⟩, ?_⟩
  refine ⟨⟨mo_ald, ok_aldn dX4_prepends_87 rfl rfl⟩, ?_⟩
  refine ⟨⟨mo_gI, ok_gI rfl fd_X4_155 rfl dX4_prepends_88 rfl⟩, ?_⟩
  refine ⟨⟨mo_goto, ok_goto dX4_prepends_91 rfl⟩, ?_⟩
  refine ⟨⟨mo_push, ok_bipush dX4_prepends_94 iv_bm2 rfl⟩, ?_⟩
  refine ⟨⟨mo_keep, ok_keep rfl⟩, ?_⟩
  refine ⟨⟨mo_ald, ok_aldn dX4_prepends_96 rfl rfl⟩, ?_⟩
  refine ⟨⟨mo_gI, ok_gI rfl fd_X4_238 rfl dX4_prepends_97 rfl⟩, ?_⟩
  refine ⟨⟨mo_cvI, ok_cvI mi_X4_makes lk_X4_66 q632 qs1 rfl (Nat.le_of_ble_eq_true rfl) (iy_ro_le _) rfl rfl dX4_prepends_100 rfl⟩, ?_⟩
  refine ⟨⟨mo_asI, ok_iast dX4_prepends_103 rfl⟩, ?_⟩
  refine ⟨⟨mo_ald, ok_aldn dX4_prepends_104 rfl rfl⟩, ?_⟩
  refine ⟨⟨mo_ald, ok_aldn dX4_prepends_105 rfl rfl⟩, ?_⟩
  refine ⟨⟨mo_gI, ok_gI rfl fd_X4_214 rfl dX4_prepends_106 rfl⟩, ?_⟩
  refine ⟨⟨mo_cvI, ok_cvI mi_X4_length lk_X4_231 q1459 q1460 rfl (Nat.le_of_ble_eq_true rfl) (iy_ro_le _) rfl rfl dX4_prepends_109 rfl⟩, ?_⟩
  refine ⟨⟨mo_ald, ok_aldn dX4_prepends_112 rfl rfl⟩, ?_⟩
  refine ⟨⟨mo_gI, ok_gI rfl fd_X4_48 rfl dX4_prepends_113 rfl⟩, ?_⟩
  refine ⟨⟨mo_cle, ok_cle dX4_prepends_116 rfl rfl⟩, ?_⟩
  refine ⟨⟨mo_push, ok_iconst dX4_prepends_119 iv_i4 rfl⟩, ?_⟩
  refine ⟨⟨mo_goto, ok_goto dX4_prepends_120 rfl⟩, ?_⟩
  refine ⟨⟨mo_ald, ok_aldn dX4_prepends_123 rfl rfl⟩, ?_⟩
  refine ⟨⟨mo_cvI, ok_cvI mi_X6_rests lk_X4_243 q1455 q1456 rfl (Nat.le_of_ble_eq_true rfl) (iy_ro_le _) rfl rfl dX4_prepends_124 rfl⟩, ?_⟩
  refine ⟨⟨mo_keep, ok_keep rfl⟩, ?_⟩
  refine ⟨⟨mo_iret, ok_iret rfl rfl dX4_prepends_127⟩, ?_⟩
  exact trivial
set_option maxHeartbeats 4000000 in
theorem alX4_gathers : iy_all (iy_calls iy_mi) RX4 "gathers" cX4_gathers 2 (some FieldType.int, []) pcX4_gathers pcX4_gathers stX4_gathers := by
  refine ⟨⟨mo_ald, ok_aldn dX4_gathers_0 rfl rfl⟩, ?_⟩
  refine ⟨⟨mo_gI, ok_gI rfl fd_X4_214 rfl dX4_gathers_1 rfl⟩, ?_⟩
  refine ⟨⟨mo_ile, ok_ile dX4_gathers_4 rfl rfl⟩, ?_⟩
  refine ⟨⟨mo_ald, ok_aldn dX4_gathers_7 rfl rfl⟩, ?_⟩
  refine ⟨⟨mo_ald, ok_aldn dX4_gathers_8 rfl rfl⟩, ?_⟩
  refine ⟨⟨mo_gI, ok_gI rfl fd_X4_214 rfl dX4_gathers_9 rfl⟩, ?_⟩
  refine ⟨⟨mo_cvI, ok_cvI mi_X4_isGone lk_X4_139 q1438 q1439 rfl (Nat.le_of_ble_eq_true rfl) (iy_ro_le _) rfl rfl dX4_gathers_12 rfl⟩, ?_⟩
  refine ⟨⟨mo_ieq, ok_ieq dX4_gathers_15 rfl rfl⟩, ?_⟩
  refine ⟨⟨mo_ald, ok_aldn dX4_gathers_18 rfl rfl⟩, ?_⟩
  refine ⟨⟨mo_cvI, ok_cvI mi_X6_goesOn lk_X4_246 q1477 q1478 rfl (Nat.le_of_ble_eq_true rfl) (iy_ro_le _) rfl rfl dX4_gathers_19 rfl⟩, ?_⟩
  refine ⟨⟨mo_iret, ok_iret rfl rfl dX4_gathers_22⟩, ?_⟩
  refine ⟨⟨mo_keep, ok_keep rfl⟩, ?_⟩
  refine ⟨⟨mo_ald, ok_aldn dX4_gathers_23 rfl rfl⟩, ?_⟩
  refine ⟨⟨mo_ald, ok_aldn dX4_gathers_24 rfl rfl⟩, ?_⟩
  refine ⟨⟨mo_gR, ok_gR rfl fd_X4_17 rfl dX4_gathers_25 rfl⟩, ?_⟩
  refine ⟨⟨mo_ald, ok_aldn dX4_gathers_28 rfl rfl⟩, ?_⟩
  refine ⟨⟨mo_gI, ok_gI rfl fd_X4_214 rfl dX4_gathers_29 rfl⟩, ?_⟩
  refine ⟨⟨mo_alI, ok_iald dX4_gathers_32 rfl⟩, ?_⟩
  refine ⟨⟨mo_pI, ok_pI rfl fd_X4_238 rfl (Or.inl rfl) dX4_gathers_33 rfl⟩, ?_⟩
  refine ⟨⟨mo_push, ok_iconst dX4_gathers_36 iv_i5 rfl⟩, ?_⟩
  refine ⟨⟨mo_iret, ok_iret rfl rfl dX4_gathers_37⟩, ?_⟩
  exact trivial
set_option maxHeartbeats 4000000 in
theorem alX4_swaps : iy_all (iy_calls iy_mi) RX4 "swaps" cX4_swaps 2 (some FieldType.int, []) pcX4_swaps pcX4_swaps stX4_swaps := by
  refine ⟨⟨mo_ald, ok_aldn dX4_swaps_0 rfl rfl⟩, ?_⟩
  refine ⟨⟨mo_gR, ok_gR rfl fd_X4_17 rfl dX4_swaps_1 rfl⟩, ?_⟩
  refine ⟨⟨mo_ald, ok_aldn dX4_swaps_4 rfl rfl⟩, ?_⟩
  refine ⟨⟨mo_gI, ok_gI rfl fd_X4_214 rfl dX4_swaps_5 rfl⟩, ?_⟩
  refine ⟨⟨mo_alI, ok_iald dX4_swaps_8 rfl⟩, ?_⟩
  refine ⟨⟨mo_ald, ok_aldn dX4_swaps_9 rfl rfl⟩, ?_⟩
  refine ⟨⟨mo_gI, ok_gI rfl fd_X4_238 rfl dX4_swaps_10 rfl⟩, ?_⟩
  refine ⟨⟨mo_ceq, ok_ceq dX4_swaps_13 rfl rfl⟩, ?_⟩
  refine ⟨⟨mo_ald, ok_aldn dX4_swaps_16 rfl rfl⟩, ?_⟩
  refine ⟨⟨mo_ald, ok_aldn dX4_swaps_17 rfl rfl⟩, ?_⟩
  refine ⟨⟨mo_cvI, ok_cvI mi_X6_goesOn lk_X4_246 q1477 q1478 rfl (Nat.le_of_ble_eq_true rfl) (iy_ro_le _) rfl rfl dX4_swaps_18 rfl⟩, ?_⟩
  refine ⟨⟨mo_cvI, ok_cvI mi_X6_lost lk_X4_241 q1468 q1469 rfl (Nat.le_of_ble_eq_true rfl) (iy_ro_le _) rfl rfl dX4_swaps_21 rfl⟩, ?_⟩
  refine ⟨⟨mo_iret, ok_iret rfl rfl dX4_swaps_24⟩, ?_⟩
  refine ⟨⟨mo_ald, ok_aldn dX4_swaps_25 rfl rfl⟩, ?_⟩
  refine ⟨⟨mo_ald, ok_aldn dX4_swaps_26 rfl rfl⟩, ?_⟩
  refine ⟨⟨mo_gI, ok_gI rfl fd_X4_214 rfl dX4_swaps_27 rfl⟩, ?_⟩
  refine ⟨⟨mo_ald, ok_aldn dX4_swaps_30 rfl rfl⟩, ?_⟩
  refine ⟨⟨mo_gR, ok_gR rfl fd_X4_28 rfl dX4_swaps_31 rfl⟩, ?_⟩
  refine ⟨⟨mo_cvV, ok_cvV mi_X4_lays lk_X4_113 q1372 q1373 rfl (Nat.le_of_ble_eq_true rfl) (iy_ro_le _) rfl rfl dX4_swaps_34 rfl⟩, ?_⟩
  refine ⟨⟨mo_ald, ok_aldn dX4_swaps_37 rfl rfl⟩, ?_⟩
  refine ⟨⟨mo_ald, ok_aldn dX4_swaps_38 rfl rfl⟩, ?_⟩
  refine ⟨⟨mo_gI, ok_gI rfl fd_X4_238 rfl dX4_swaps_39 rfl⟩, ?_⟩
  refine ⟨⟨mo_cvV, ok_cvV mi_X4_retires lk_X4_255 q1486 qs41 rfl (Nat.le_of_ble_eq_true rfl) (iy_ro_le _) rfl rfl dX4_swaps_42 rfl⟩, ?_⟩
  refine ⟨⟨mo_ald, ok_aldn dX4_swaps_45 rfl rfl⟩, ?_⟩
  refine ⟨⟨mo_ald, ok_aldn dX4_swaps_46 rfl rfl⟩, ?_⟩
  refine ⟨⟨mo_push, ok_iconst dX4_swaps_47 iv_i0 rfl⟩, ?_⟩
  refine ⟨⟨mo_push, ok_bipush dX4_swaps_48 iv_bm2 rfl⟩, ?_⟩
  refine ⟨⟨mo_push, ok_bipush dX4_swaps_50 iv_bm2 rfl⟩, ?_⟩
  refine ⟨⟨mo_push, ok_bipush dX4_swaps_52 iv_bm2 rfl⟩, ?_⟩
  refine ⟨⟨mo_cvI, ok_cvI mi_X4_makes lk_X4_66 q632 qs1 rfl (Nat.le_of_ble_eq_true rfl) (iy_ro_le _) rfl rfl dX4_swaps_54 rfl⟩, ?_⟩
  refine ⟨⟨mo_pI, ok_pI rfl fd_X4_259 rfl (Or.inl rfl) dX4_swaps_57 rfl⟩, ?_⟩
  refine ⟨⟨mo_ald, ok_aldn dX4_swaps_60 rfl rfl⟩, ?_⟩
  refine ⟨⟨mo_gR, ok_gR rfl fd_X4_11 rfl dX4_swaps_61 rfl⟩, ?_⟩
  refine ⟨⟨mo_ald, ok_aldn dX4_swaps_64 rfl rfl⟩, ?_⟩
  refine ⟨⟨mo_gI, ok_gI rfl fd_X4_259 rfl dX4_swaps_65 rfl⟩, ?_⟩
  refine ⟨⟨mo_alR, ok_aald rfl dX4_swaps_68 rfl⟩, ?_⟩
  refine ⟨⟨mo_ald, ok_aldn dX4_swaps_69 rfl rfl⟩, ?_⟩
  refine ⟨⟨mo_gR, ok_gR rfl fd_X4_28 rfl dX4_swaps_70 rfl⟩, ?_⟩
  refine ⟨⟨mo_cvV, ok_cvV mi_X5_takes lk_X4_106 q1380 q1381 rfl (Nat.le_of_ble_eq_true rfl) (iy_ro_le _) rfl rfl dX4_swaps_73 rfl⟩, ?_⟩
  refine ⟨⟨mo_ald, ok_aldn dX4_swaps_76 rfl rfl⟩, ?_⟩
  refine ⟨⟨mo_gR, ok_gR rfl fd_X4_17 rfl dX4_swaps_77 rfl⟩, ?_⟩
  refine ⟨⟨mo_ald, ok_aldn dX4_swaps_80 rfl rfl⟩, ?_⟩
  refine ⟨⟨mo_gI, ok_gI rfl fd_X4_214 rfl dX4_swaps_81 rfl⟩, ?_⟩
  refine ⟨⟨mo_ald, ok_aldn dX4_swaps_84 rfl rfl⟩, ?_⟩
  refine ⟨⟨mo_gI, ok_gI rfl fd_X4_259 rfl dX4_swaps_85 rfl⟩, ?_⟩
  refine ⟨⟨mo_asI, ok_iast dX4_swaps_88 rfl⟩, ?_⟩
  refine ⟨⟨mo_ald, ok_aldn dX4_swaps_89 rfl rfl⟩, ?_⟩
  refine ⟨⟨mo_gI, ok_gI rfl fd_X4_214 rfl dX4_swaps_90 rfl⟩, ?_⟩
  refine ⟨⟨mo_ine, ok_ine dX4_swaps_93 rfl rfl⟩, ?_⟩
  refine ⟨⟨mo_ald, ok_aldn dX4_swaps_96 rfl rfl⟩, ?_⟩
  refine ⟨⟨mo_cvI, ok_cvI mi_X6_goesOn lk_X4_246 q1477 q1478 rfl (Nat.le_of_ble_eq_true rfl) (iy_ro_le _) rfl rfl dX4_swaps_97 rfl⟩, ?_⟩
  refine ⟨⟨mo_iret, ok_iret rfl rfl dX4_swaps_100⟩, ?_⟩
  refine ⟨⟨mo_ald, ok_aldn dX4_swaps_101 rfl rfl⟩, ?_⟩
  refine ⟨⟨mo_gR, ok_gR rfl fd_X4_28 rfl dX4_swaps_102 rfl⟩, ?_⟩
  refine ⟨⟨mo_gI, ok_gI rfl fd_X4_120 rfl dX4_swaps_105 rfl⟩, ?_⟩
  refine ⟨⟨mo_ald, ok_aldn dX4_swaps_108 rfl rfl⟩, ?_⟩
  refine ⟨⟨mo_gI, ok_gI rfl fd_X4_52 rfl dX4_swaps_109 rfl⟩, ?_⟩
  refine ⟨⟨mo_cle, ok_cle dX4_swaps_112 rfl rfl⟩, ?_⟩
  refine ⟨⟨mo_push, ok_bipush dX4_swaps_115 iv_b6 rfl⟩, ?_⟩
  refine ⟨⟨mo_goto, ok_goto dX4_swaps_117 rfl⟩, ?_⟩
  refine ⟨⟨mo_ald, ok_aldn dX4_swaps_120 rfl rfl⟩, ?_⟩
  refine ⟨⟨mo_gR, ok_gR rfl fd_X4_28 rfl dX4_swaps_121 rfl⟩, ?_⟩
  refine ⟨⟨mo_gI, ok_gI rfl fd_X4_120 rfl dX4_swaps_124 rfl⟩, ?_⟩
  refine ⟨⟨mo_ald, ok_aldn dX4_swaps_127 rfl rfl⟩, ?_⟩
  refine ⟨⟨mo_gI, ok_gI rfl fd_X4_56 rfl dX4_swaps_128 rfl⟩, ?_⟩
  refine ⟨⟨mo_cge, ok_cge dX4_swaps_131 rfl rfl⟩, ?_⟩
  refine ⟨⟨mo_push, ok_bipush dX4_swaps_134 iv_b9 rfl⟩, ?_⟩
  refine ⟨⟨mo_goto, ok_goto dX4_swaps_136 rfl⟩, ?_⟩
  refine ⟨⟨mo_ald, ok_aldn dX4_swaps_139 rfl rfl⟩, ?_⟩
  refine ⟨⟨mo_cvI, ok_cvI mi_X6_goesOn lk_X4_246 q1477 q1478 rfl (Nat.le_of_ble_eq_true rfl) (iy_ro_le _) rfl rfl dX4_swaps_140 rfl⟩, ?_⟩
  refine ⟨⟨mo_keep, ok_keep rfl⟩, ?_⟩
  refine ⟨⟨mo_iret, ok_iret rfl rfl dX4_swaps_143⟩, ?_⟩
  exact trivial
set_option maxHeartbeats 4000000 in
theorem alX4_retires : iy_all (iy_calls iy_mi) RX4 "retires" cX4_retires 3 (none, []) pcX4_retires pcX4_retires stX4_retires := by
  refine ⟨⟨mo_ild, ok_ildn dX4_retires_0 rfl rfl⟩, ?_⟩
  refine ⟨⟨mo_ist, ok_istn dX4_retires_1 rfl (Nat.le_of_ble_eq_true rfl) rfl⟩, ?_⟩
  refine ⟨⟨mo_keep, ok_keep rfl⟩, ?_⟩
  refine ⟨⟨mo_ild, ok_ildn dX4_retires_2 rfl rfl⟩, ?_⟩
  refine ⟨⟨mo_ilt, ok_ilt dX4_retires_3 rfl rfl⟩, ?_⟩
  refine ⟨⟨mo_ald, ok_aldn dX4_retires_6 rfl rfl⟩, ?_⟩
  refine ⟨⟨mo_gR, ok_gR rfl fd_X4_11 rfl dX4_retires_7 rfl⟩, ?_⟩
  refine ⟨⟨mo_ild, ok_ildn dX4_retires_10 rfl rfl⟩, ?_⟩
  refine ⟨⟨mo_alR, ok_aald rfl dX4_retires_11 rfl⟩, ?_⟩
  refine ⟨⟨mo_ald, ok_aldn dX4_retires_12 rfl rfl⟩, ?_⟩
  refine ⟨⟨mo_gI, ok_gI rfl fd_X4_60 rfl dX4_retires_13 rfl⟩, ?_⟩
  refine ⟨⟨mo_pI, ok_pI rfl fd_X4_249 rfl (Or.inl rfl) dX4_retires_16 rfl⟩, ?_⟩
  refine ⟨⟨mo_ald, ok_aldn dX4_retires_19 rfl rfl⟩, ?_⟩
  refine ⟨⟨mo_gR, ok_gR rfl fd_X4_11 rfl dX4_retires_20 rfl⟩, ?_⟩
  refine ⟨⟨mo_ild, ok_ildn dX4_retires_23 rfl rfl⟩, ?_⟩
  refine ⟨⟨mo_alR, ok_aald rfl dX4_retires_24 rfl⟩, ?_⟩
  refine ⟨⟨mo_gI, ok_gI rfl fd_X4_96 rfl dX4_retires_25 rfl⟩, ?_⟩
  refine ⟨⟨mo_push, ok_iconst dX4_retires_28 iv_i5 rfl⟩, ?_⟩
  refine ⟨⟨mo_cne, ok_cne dX4_retires_29 rfl rfl⟩, ?_⟩
  refine ⟨⟨mo_ald, ok_aldn dX4_retires_32 rfl rfl⟩, ?_⟩
  refine ⟨⟨mo_gR, ok_gR rfl fd_X4_11 rfl dX4_retires_33 rfl⟩, ?_⟩
  refine ⟨⟨mo_ald, ok_aldn dX4_retires_36 rfl rfl⟩, ?_⟩
  refine ⟨⟨mo_gR, ok_gR rfl fd_X4_11 rfl dX4_retires_37 rfl⟩, ?_⟩
  refine ⟨⟨mo_ild, ok_ildn dX4_retires_40 rfl rfl⟩, ?_⟩
  refine ⟨⟨mo_alR, ok_aald rfl dX4_retires_41 rfl⟩, ?_⟩
  refine ⟨⟨mo_gI, ok_gI rfl fd_X4_252 rfl dX4_retires_42 rfl⟩, ?_⟩
  refine ⟨⟨mo_alR, ok_aald rfl dX4_retires_45 rfl⟩, ?_⟩
  refine ⟨⟨mo_ald, ok_aldn dX4_retires_46 rfl rfl⟩, ?_⟩
  refine ⟨⟨mo_gI, ok_gI rfl fd_X4_60 rfl dX4_retires_47 rfl⟩, ?_⟩
  refine ⟨⟨mo_pI, ok_pI rfl fd_X4_249 rfl (Or.inl rfl) dX4_retires_50 rfl⟩, ?_⟩
  refine ⟨⟨mo_keep, ok_keep rfl⟩, ?_⟩
  refine ⟨⟨mo_ald, ok_aldn dX4_retires_53 rfl rfl⟩, ?_⟩
  refine ⟨⟨mo_gR, ok_gR rfl fd_X4_11 rfl dX4_retires_54 rfl⟩, ?_⟩
  refine ⟨⟨mo_ild, ok_ildn dX4_retires_57 rfl rfl⟩, ?_⟩
  refine ⟨⟨mo_alR, ok_aald rfl dX4_retires_58 rfl⟩, ?_⟩
  refine ⟨⟨mo_gI, ok_gI rfl fd_X4_99 rfl dX4_retires_59 rfl⟩, ?_⟩
  refine ⟨⟨mo_ist, ok_istn dX4_retires_62 rfl (Nat.le_of_ble_eq_true rfl) rfl⟩, ?_⟩
  refine ⟨⟨mo_back, ok_back dX4_retires_63 rfl⟩, ?_⟩
  refine ⟨⟨mo_ret, ok_ret rfl dX4_retires_66⟩, ?_⟩
  exact trivial
set_option maxHeartbeats 4000000 in
theorem alX4_splits : iy_all (iy_calls iy_mi) RX4 "splits" cX4_splits 7 (some FieldType.int, []) pcX4_splits pcX4_splits stX4_splits := by
  refine ⟨⟨mo_ald, ok_aldn dX4_splits_0 rfl rfl⟩, ?_⟩
  refine ⟨⟨mo_gR, ok_gR rfl fd_X4_17 rfl dX4_splits_1 rfl⟩, ?_⟩
  refine ⟨⟨mo_ald, ok_aldn dX4_splits_4 rfl rfl⟩, ?_⟩
  refine ⟨⟨mo_gI, ok_gI rfl fd_X4_214 rfl dX4_splits_5 rfl⟩, ?_⟩
  refine ⟨⟨mo_alI, ok_iald dX4_splits_8 rfl⟩, ?_⟩
  refine ⟨⟨mo_ald, ok_aldn dX4_splits_9 rfl rfl⟩, ?_⟩
  refine ⟨⟨mo_gI, ok_gI rfl fd_X4_259 rfl dX4_splits_10 rfl⟩, ?_⟩
  refine ⟨⟨mo_cne, ok_cne dX4_splits_13 rfl rfl⟩, ?_⟩
  refine ⟨⟨mo_ald, ok_aldn dX4_splits_16 rfl rfl⟩, ?_⟩
  refine ⟨⟨mo_gI, ok_gI rfl fd_X4_77 rfl dX4_splits_17 rfl⟩, ?_⟩
  refine ⟨⟨mo_push, ok_bipush dX4_splits_20 iv_b32 rfl⟩, ?_⟩
  refine ⟨⟨mo_cne, ok_cne dX4_splits_22 rfl rfl⟩, ?_⟩
  refine ⟨⟨mo_keep, ok_keep rfl⟩, ?_⟩
  refine ⟨⟨mo_ald, ok_aldn dX4_splits_25 rfl rfl⟩, ?_⟩
  refine ⟨⟨mo_cvI, ok_cvI mi_X6_goesOn lk_X4_246 q1477 q1478 rfl (Nat.le_of_ble_eq_true rfl) (iy_ro_le _) rfl rfl dX4_splits_26 rfl⟩, ?_⟩
  refine ⟨⟨mo_iret, ok_iret rfl rfl dX4_splits_29⟩, ?_⟩
  refine ⟨⟨mo_ald, ok_aldn dX4_splits_30 rfl rfl⟩, ?_⟩
  refine ⟨⟨mo_gR, ok_gR rfl fd_X4_11 rfl dX4_splits_31 rfl⟩, ?_⟩
  refine ⟨⟨mo_ald, ok_aldn dX4_splits_34 rfl rfl⟩, ?_⟩
  refine ⟨⟨mo_gI, ok_gI rfl fd_X4_259 rfl dX4_splits_35 rfl⟩, ?_⟩
  refine ⟨⟨mo_alR, ok_aald rfl dX4_splits_38 rfl⟩, ?_⟩
  refine ⟨⟨mo_ast, ok_astn dX4_splits_39 rfl (Nat.le_of_ble_eq_true rfl) rfl⟩, ?_⟩
  refine ⟨⟨mo_ald, ok_aldn dX4_splits_40 rfl rfl⟩, ?_⟩
  refine ⟨⟨mo_gI, ok_gI rfl fd_X4_120 rfl dX4_splits_41 rfl⟩, ?_⟩
  refine ⟨⟨mo_push, ok_iconst dX4_splits_44 iv_i2 rfl⟩, ?_⟩
  refine ⟨⟨mo_div, ok_idiv dX4_splits_45 rfl⟩, ?_⟩
  refine ⟨⟨mo_ist, ok_istn dX4_splits_46 rfl (Nat.le_of_ble_eq_true rfl) rfl⟩, ?_⟩
  refine ⟨⟨mo_ald, ok_aldn dX4_splits_47 rfl rfl⟩, ?_⟩
  refine ⟨⟨mo_push, ok_iconst dX4_splits_48 iv_i0 rfl⟩, ?_⟩
  refine ⟨⟨mo_push, ok_bipush dX4_splits_49 iv_bm2 rfl⟩, ?_⟩
  refine ⟨⟨mo_push, ok_bipush dX4_splits_51 iv_bm2 rfl⟩, ?_⟩
  refine ⟨⟨mo_push, ok_bipush dX4_splits_53 iv_bm2 rfl⟩, ?_⟩
  refine ⟨⟨mo_cvI, ok_cvI mi_X4_makes lk_X4_66 q632 qs1 rfl (Nat.le_of_ble_eq_true rfl) (iy_ro_le _) rfl rfl dX4_splits_55 rfl⟩, ?_⟩
  refine ⟨⟨mo_ist, ok_ist dX4_splits_58 (Nat.le_of_ble_eq_true rfl) rfl⟩, ?_⟩
  refine ⟨⟨mo_ald, ok_aldn dX4_splits_60 rfl rfl⟩, ?_⟩
  refine ⟨⟨mo_gR, ok_gR rfl fd_X4_11 rfl dX4_splits_61 rfl⟩, ?_⟩
  refine ⟨⟨mo_ild, ok_ild dX4_splits_64 rfl⟩, ?_⟩
  refine ⟨⟨mo_alR, ok_aald rfl dX4_splits_66 rfl⟩, ?_⟩
  refine ⟨⟨mo_ast, ok_ast dX4_splits_67 (Nat.le_of_ble_eq_true rfl) rfl⟩, ?_⟩
  refine ⟨⟨mo_ild, ok_ildn dX4_splits_69 rfl rfl⟩, ?_⟩
  refine ⟨⟨mo_ist, ok_ist dX4_splits_70 (Nat.le_of_ble_eq_true rfl) rfl⟩, ?_⟩
  refine ⟨⟨mo_keep, ok_keep rfl⟩, ?_⟩
  refine ⟨⟨mo_ild, ok_ild dX4_splits_72 rfl⟩, ?_⟩
  refine ⟨⟨mo_ald, ok_aldn dX4_splits_74 rfl rfl⟩, ?_⟩
  refine ⟨⟨mo_gI, ok_gI rfl fd_X4_120 rfl dX4_splits_75 rfl⟩, ?_⟩
  refine ⟨⟨mo_cge, ok_cge dX4_splits_78 rfl rfl⟩, ?_⟩
  refine ⟨⟨mo_ald, ok_ald dX4_splits_81 rfl⟩, ?_⟩
  refine ⟨⟨mo_ald, ok_aldn dX4_splits_83 rfl rfl⟩, ?_⟩
  refine ⟨⟨mo_gR, ok_gR rfl fd_X4_126 rfl dX4_splits_84 rfl⟩, ?_⟩
  refine ⟨⟨mo_ild, ok_ild dX4_splits_87 rfl⟩, ?_⟩
  refine ⟨⟨mo_alI, ok_iald dX4_splits_89 rfl⟩, ?_⟩
  refine ⟨⟨mo_ald, ok_aldn dX4_splits_90 rfl rfl⟩, ?_⟩
  refine ⟨⟨mo_gR, ok_gR rfl fd_X4_123 rfl dX4_splits_91 rfl⟩, ?_⟩
  refine ⟨⟨mo_ild, ok_ild dX4_splits_94 rfl⟩, ?_⟩
  refine ⟨⟨mo_alI, ok_iald dX4_splits_96 rfl⟩, ?_⟩
  refine ⟨⟨mo_cvV, ok_cvV mi_X5_sets lk_X4_70 q639 q640 rfl (Nat.le_of_ble_eq_true rfl) (iy_ro_le _) rfl rfl dX4_splits_97 rfl⟩, ?_⟩
  refine ⟨⟨mo_inc, ok_inc dX4_splits_100 iv_i1 (Nat.le_of_ble_eq_true rfl) rfl⟩, ?_⟩
  refine ⟨⟨mo_back, ok_back dX4_splits_103 rfl⟩, ?_⟩
  refine ⟨⟨mo_ald, ok_ald dX4_splits_106 rfl⟩, ?_⟩
  refine ⟨⟨mo_ald, ok_aldn dX4_splits_108 rfl rfl⟩, ?_⟩
  refine ⟨⟨mo_gI, ok_gI rfl fd_X4_74 rfl dX4_splits_109 rfl⟩, ?_⟩
  refine ⟨⟨mo_pI, ok_pI rfl fd_X4_74 rfl (Or.inl rfl) dX4_splits_112 rfl⟩, ?_⟩
  refine ⟨⟨mo_ald, ok_ald dX4_splits_115 rfl⟩, ?_⟩
  refine ⟨⟨mo_ald, ok_aldn dX4_splits_117 rfl rfl⟩, ?_⟩
  refine ⟨⟨mo_gI, ok_gI rfl fd_X4_133 rfl dX4_splits_118 rfl⟩, ?_⟩
  refine ⟨⟨mo_pI, ok_pI rfl fd_X4_133 rfl (Or.inl rfl) dX4_splits_121 rfl⟩, ?_⟩
  refine ⟨⟨mo_ald, ok_aldn dX4_splits_124 rfl rfl⟩, ?_⟩
  refine ⟨⟨mo_gR, ok_gR rfl fd_X4_17 rfl dX4_splits_125 rfl⟩, ?_⟩
  refine ⟨⟨mo_ald, ok_aldn dX4_splits_128 rfl rfl⟩, ?_⟩
  refine ⟨⟨mo_gI, ok_gI rfl fd_X4_77 rfl dX4_splits_129 rfl⟩, ?_⟩
  refine ⟨⟨mo_ild, ok_ild dX4_splits_132 rfl⟩, ?_⟩
  refine ⟨⟨mo_asI, ok_iast dX4_splits_134 rfl⟩, ?_⟩
  refine ⟨⟨mo_ald, ok_aldn dX4_splits_135 rfl rfl⟩, ?_⟩
  refine ⟨⟨mo_dup, ok_dup dX4_splits_136 rfl⟩, ?_⟩
  refine ⟨⟨mo_gI, ok_gI rfl fd_X4_77 rfl dX4_splits_137 rfl⟩, ?_⟩
  refine ⟨⟨mo_push, ok_iconst dX4_splits_140 iv_i1 rfl⟩, ?_⟩
  refine ⟨⟨mo_bin, ok_iadd dX4_splits_141 rfl⟩, ?_⟩
  refine ⟨⟨mo_pI, ok_pI rfl fd_X4_77 rfl (Or.inl rfl) dX4_splits_142 rfl⟩, ?_⟩
  refine ⟨⟨mo_ald, ok_aldn dX4_splits_145 rfl rfl⟩, ?_⟩
  refine ⟨⟨mo_gR, ok_gR rfl fd_X4_17 rfl dX4_splits_146 rfl⟩, ?_⟩
  refine ⟨⟨mo_ald, ok_aldn dX4_splits_149 rfl rfl⟩, ?_⟩
  refine ⟨⟨mo_gI, ok_gI rfl fd_X4_214 rfl dX4_splits_150 rfl⟩, ?_⟩
  refine ⟨⟨mo_ald, ok_aldn dX4_splits_153 rfl rfl⟩, ?_⟩
  refine ⟨⟨mo_push, ok_iconst dX4_splits_154 iv_i3 rfl⟩, ?_⟩
  refine ⟨⟨mo_ald, ok_ald dX4_splits_155 rfl⟩, ?_⟩
  refine ⟨⟨mo_gR, ok_gR rfl fd_X4_126 rfl dX4_splits_157 rfl⟩, ?_⟩
  refine ⟨⟨mo_push, ok_iconst dX4_splits_160 iv_i0 rfl⟩, ?_⟩
  refine ⟨⟨mo_alI, ok_iald dX4_splits_161 rfl⟩, ?_⟩
  refine ⟨⟨mo_ald, ok_aldn dX4_splits_162 rfl rfl⟩, ?_⟩
  refine ⟨⟨mo_gI, ok_gI rfl fd_X4_77 rfl dX4_splits_163 rfl⟩, ?_⟩
  refine ⟨⟨mo_push, ok_iconst dX4_splits_166 iv_i1 rfl⟩, ?_⟩
  refine ⟨⟨mo_bin, ok_isub dX4_splits_167 rfl⟩, ?_⟩
  refine ⟨⟨mo_ald, ok_aldn dX4_splits_168 rfl rfl⟩, ?_⟩
  refine ⟨⟨mo_gI, ok_gI rfl fd_X4_259 rfl dX4_splits_169 rfl⟩, ?_⟩
  refine ⟨⟨mo_cvI, ok_cvI mi_X4_makes lk_X4_66 q632 qs1 rfl (Nat.le_of_ble_eq_true rfl) (iy_ro_le _) rfl rfl dX4_splits_172 rfl⟩, ?_⟩
  refine ⟨⟨mo_asI, ok_iast dX4_splits_175 rfl⟩, ?_⟩
  refine ⟨⟨mo_ald, ok_aldn dX4_splits_176 rfl rfl⟩, ?_⟩
  refine ⟨⟨mo_ald, ok_aldn dX4_splits_177 rfl rfl⟩, ?_⟩
  refine ⟨⟨mo_ald, ok_ald dX4_splits_178 rfl⟩, ?_⟩
  refine ⟨⟨mo_gR, ok_gR rfl fd_X4_126 rfl dX4_splits_180 rfl⟩, ?_⟩
  refine ⟨⟨mo_push, ok_iconst dX4_splits_183 iv_i0 rfl⟩, ?_⟩
  refine ⟨⟨mo_alI, ok_iald dX4_splits_184 rfl⟩, ?_⟩
  refine ⟨⟨mo_ald, ok_aldn dX4_splits_185 rfl rfl⟩, ?_⟩
  refine ⟨⟨mo_gI, ok_gI rfl fd_X4_77 rfl dX4_splits_186 rfl⟩, ?_⟩
  refine ⟨⟨mo_push, ok_iconst dX4_splits_189 iv_i1 rfl⟩, ?_⟩
  refine ⟨⟨mo_bin, ok_isub dX4_splits_190 rfl⟩, ?_⟩
  refine ⟨⟨mo_cvI, ok_cvI mi_X4_noting lk_X4_224 q1448 qs37 rfl (Nat.le_of_ble_eq_true rfl) (iy_ro_le _) rfl rfl dX4_splits_191 rfl⟩, ?_⟩
  refine ⟨⟨mo_iret, ok_iret rfl rfl dX4_splits_194⟩, ?_⟩
  exact trivial
set_option maxHeartbeats 4000000 in
theorem alX4_notes : iy_all (iy_calls iy_mi) RX4 "notes" cX4_notes 3 (some FieldType.int, []) pcX4_notes pcX4_notes stX4_notes := by
  refine ⟨⟨mo_ald, ok_aldn dX4_notes_0 rfl rfl⟩, ?_⟩
  refine ⟨⟨mo_cvR, ok_cvR mi_X4_bounds lk_X4_117 q1426 q1427 rfl (Nat.le_of_ble_eq_true rfl) (iy_ro_le _) rfl rfl dX4_notes_1 rfl⟩, ?_⟩
  refine ⟨⟨mo_ald, ok_aldn dX4_notes_4 rfl rfl⟩, ?_⟩
  refine ⟨⟨mo_gI, ok_gI rfl fd_X4_217 rfl dX4_notes_5 rfl⟩, ?_⟩
  refine ⟨⟨mo_cvI, ok_cvI mi_X5_at lk_X4_129 q643 q644 rfl (Nat.le_of_ble_eq_true rfl) (iy_ro_le _) rfl rfl dX4_notes_8 rfl⟩, ?_⟩
  refine ⟨⟨mo_ist, ok_istn dX4_notes_11 rfl (Nat.le_of_ble_eq_true rfl) rfl⟩, ?_⟩
  refine ⟨⟨mo_ild, ok_ildn dX4_notes_12 rfl rfl⟩, ?_⟩
  refine ⟨⟨mo_ilt, ok_ilt dX4_notes_13 rfl rfl⟩, ?_⟩
  refine ⟨⟨mo_ald, ok_aldn dX4_notes_16 rfl rfl⟩, ?_⟩
  refine ⟨⟨mo_gR, ok_gR rfl fd_X4_32 rfl dX4_notes_17 rfl⟩, ?_⟩
  refine ⟨⟨mo_gR, ok_gR rfl fd_X4_123 rfl dX4_notes_20 rfl⟩, ?_⟩
  refine ⟨⟨mo_ild, ok_ildn dX4_notes_23 rfl rfl⟩, ?_⟩
  refine ⟨⟨mo_alI, ok_iald dX4_notes_24 rfl⟩, ?_⟩
  refine ⟨⟨mo_ald, ok_aldn dX4_notes_25 rfl rfl⟩, ?_⟩
  refine ⟨⟨mo_gI, ok_gI rfl fd_X4_220 rfl dX4_notes_26 rfl⟩, ?_⟩
  refine ⟨⟨mo_cne, ok_cne dX4_notes_29 rfl rfl⟩, ?_⟩
  refine ⟨⟨mo_ald, ok_aldn dX4_notes_32 rfl rfl⟩, ?_⟩
  refine ⟨⟨mo_cvI, ok_cvI mi_X6_goesOn lk_X4_246 q1477 q1478 rfl (Nat.le_of_ble_eq_true rfl) (iy_ro_le _) rfl rfl dX4_notes_33 rfl⟩, ?_⟩
  refine ⟨⟨mo_iret, ok_iret rfl rfl dX4_notes_36⟩, ?_⟩
  refine ⟨⟨mo_keep, ok_keep rfl⟩, ?_⟩
  refine ⟨⟨mo_ild, ok_ildn dX4_notes_37 rfl rfl⟩, ?_⟩
  refine ⟨⟨mo_ilt, ok_ilt dX4_notes_38 rfl rfl⟩, ?_⟩
  refine ⟨⟨mo_ald, ok_aldn dX4_notes_41 rfl rfl⟩, ?_⟩
  refine ⟨⟨mo_ald, ok_aldn dX4_notes_42 rfl rfl⟩, ?_⟩
  refine ⟨⟨mo_gR, ok_gR rfl fd_X4_32 rfl dX4_notes_43 rfl⟩, ?_⟩
  refine ⟨⟨mo_gR, ok_gR rfl fd_X4_123 rfl dX4_notes_46 rfl⟩, ?_⟩
  refine ⟨⟨mo_ild, ok_ildn dX4_notes_49 rfl rfl⟩, ?_⟩
  refine ⟨⟨mo_alI, ok_iald dX4_notes_50 rfl⟩, ?_⟩
  refine ⟨⟨mo_pI, ok_pI rfl fd_X4_221 rfl (Or.inl rfl) dX4_notes_51 rfl⟩, ?_⟩
  refine ⟨⟨mo_push, ok_bipush dX4_notes_54 iv_b12 rfl⟩, ?_⟩
  refine ⟨⟨mo_iret, ok_iret rfl rfl dX4_notes_56⟩, ?_⟩
  refine ⟨⟨mo_ald, ok_aldn dX4_notes_57 rfl rfl⟩, ?_⟩
  refine ⟨⟨mo_ald, ok_aldn dX4_notes_58 rfl rfl⟩, ?_⟩
  refine ⟨⟨mo_gR, ok_gR rfl fd_X4_17 rfl dX4_notes_59 rfl⟩, ?_⟩
  refine ⟨⟨mo_push, ok_iconst dX4_notes_62 iv_i0 rfl⟩, ?_⟩
  refine ⟨⟨mo_alI, ok_iald dX4_notes_63 rfl⟩, ?_⟩
  refine ⟨⟨mo_pI, ok_pI rfl fd_X4_238 rfl (Or.inl rfl) dX4_notes_64 rfl⟩, ?_⟩
  refine ⟨⟨mo_push, ok_bipush dX4_notes_67 iv_b8 rfl⟩, ?_⟩
  refine ⟨⟨mo_iret, ok_iret rfl rfl dX4_notes_69⟩, ?_⟩
  exact trivial
set_option maxHeartbeats 4000000 in
theorem alX4_enters : iy_all (iy_calls iy_mi) RX4 "enters" cX4_enters 2 (some FieldType.int, []) pcX4_enters pcX4_enters stX4_enters := by
  refine ⟨⟨mo_ald, ok_aldn dX4_enters_0 rfl rfl⟩, ?_⟩
  refine ⟨⟨mo_gR, ok_gR rfl fd_X4_17 rfl dX4_enters_1 rfl⟩, ?_⟩
  refine ⟨⟨mo_push, ok_iconst dX4_enters_4 iv_i0 rfl⟩, ?_⟩
  refine ⟨⟨mo_alI, ok_iald dX4_enters_5 rfl⟩, ?_⟩
  refine ⟨⟨mo_ald, ok_aldn dX4_enters_6 rfl rfl⟩, ?_⟩
  refine ⟨⟨mo_gI, ok_gI rfl fd_X4_238 rfl dX4_enters_7 rfl⟩, ?_⟩
  refine ⟨⟨mo_ceq, ok_ceq dX4_enters_10 rfl rfl⟩, ?_⟩
  refine ⟨⟨mo_ald, ok_aldn dX4_enters_13 rfl rfl⟩, ?_⟩
  refine ⟨⟨mo_push, ok_bipush dX4_enters_14 iv_b7 rfl⟩, ?_⟩
  refine ⟨⟨mo_cvI, ok_cvI mi_X6_lost lk_X4_241 q1468 q1469 rfl (Nat.le_of_ble_eq_true rfl) (iy_ro_le _) rfl rfl dX4_enters_16 rfl⟩, ?_⟩
  refine ⟨⟨mo_iret, ok_iret rfl rfl dX4_enters_19⟩, ?_⟩
  refine ⟨⟨mo_ald, ok_aldn dX4_enters_20 rfl rfl⟩, ?_⟩
  refine ⟨⟨mo_gR, ok_gR rfl fd_X4_17 rfl dX4_enters_21 rfl⟩, ?_⟩
  refine ⟨⟨mo_push, ok_iconst dX4_enters_24 iv_i0 rfl⟩, ?_⟩
  refine ⟨⟨mo_ald, ok_aldn dX4_enters_25 rfl rfl⟩, ?_⟩
  refine ⟨⟨mo_push, ok_bipush dX4_enters_26 iv_b6 rfl⟩, ?_⟩
  refine ⟨⟨mo_ald, ok_aldn dX4_enters_28 rfl rfl⟩, ?_⟩
  refine ⟨⟨mo_gI, ok_gI rfl fd_X4_217 rfl dX4_enters_29 rfl⟩, ?_⟩
  refine ⟨⟨mo_ald, ok_aldn dX4_enters_32 rfl rfl⟩, ?_⟩
  refine ⟨⟨mo_gI, ok_gI rfl fd_X4_220 rfl dX4_enters_33 rfl⟩, ?_⟩
  refine ⟨⟨mo_ald, ok_aldn dX4_enters_36 rfl rfl⟩, ?_⟩
  refine ⟨⟨mo_gI, ok_gI rfl fd_X4_238 rfl dX4_enters_37 rfl⟩, ?_⟩
  refine ⟨⟨mo_cvI, ok_cvI mi_X4_makes lk_X4_66 q632 qs1 rfl (Nat.le_of_ble_eq_true rfl) (iy_ro_le _) rfl rfl dX4_enters_40 rfl⟩, ?_⟩
  refine ⟨⟨mo_asI, ok_iast dX4_enters_43 rfl⟩, ?_⟩
  refine ⟨⟨mo_ald, ok_aldn dX4_enters_44 rfl rfl⟩, ?_⟩
  refine ⟨⟨mo_ald, ok_aldn dX4_enters_45 rfl rfl⟩, ?_⟩
  refine ⟨⟨mo_cvI, ok_cvI mi_X4_noted lk_X4_260 q1502 qs45 rfl (Nat.le_of_ble_eq_true rfl) (iy_ro_le _) rfl rfl dX4_enters_46 rfl⟩, ?_⟩
  refine ⟨⟨mo_iret, ok_iret rfl rfl dX4_enters_49⟩, ?_⟩
  exact trivial
set_option maxHeartbeats 4000000 in
theorem alX4_noted : iy_all (iy_calls iy_mi) RX4 "noted" cX4_noted 2 (some FieldType.int, []) pcX4_noted pcX4_noted stX4_noted := by
  refine ⟨⟨mo_ald, ok_aldn dX4_noted_0 rfl rfl⟩, ?_⟩
  refine ⟨⟨mo_push, ok_iconst dX4_noted_1 iv_i0 rfl⟩, ?_⟩
  refine ⟨⟨mo_cvI, ok_cvI mi_X4_length lk_X4_231 q1459 q1460 rfl (Nat.le_of_ble_eq_true rfl) (iy_ro_le _) rfl rfl dX4_noted_2 rfl⟩, ?_⟩
  refine ⟨⟨mo_ald, ok_aldn dX4_noted_5 rfl rfl⟩, ?_⟩
  refine ⟨⟨mo_gI, ok_gI rfl fd_X4_48 rfl dX4_noted_6 rfl⟩, ?_⟩
  refine ⟨⟨mo_cgt, ok_cgt dX4_noted_9 rfl rfl⟩, ?_⟩
  refine ⟨⟨mo_ald, ok_aldn dX4_noted_12 rfl rfl⟩, ?_⟩
  refine ⟨⟨mo_cvI, ok_cvI mi_X6_goesOn lk_X4_246 q1477 q1478 rfl (Nat.le_of_ble_eq_true rfl) (iy_ro_le _) rfl rfl dX4_noted_13 rfl⟩, ?_⟩
  refine ⟨⟨mo_iret, ok_iret rfl rfl dX4_noted_16⟩, ?_⟩
  refine ⟨⟨mo_ald, ok_aldn dX4_noted_17 rfl rfl⟩, ?_⟩
  refine ⟨⟨mo_push, ok_iconst dX4_noted_18 iv_i0 rfl⟩, ?_⟩
  refine ⟨⟨mo_pI, ok_pI rfl fd_X4_214 rfl (Or.inl rfl) dX4_noted_19 rfl⟩, ?_⟩
  refine ⟨⟨mo_push, ok_iconst dX4_noted_22 iv_i4 rfl⟩, ?_⟩
  refine ⟨⟨mo_iret, ok_iret rfl rfl dX4_noted_23⟩, ?_⟩
  exact trivial
set_option maxHeartbeats 4000000 in
theorem alX4_removes : iy_all (iy_calls iy_mi) RX4 "removes" cX4_removes 2 (some FieldType.int, []) pcX4_removes pcX4_removes stX4_removes := by
  refine ⟨⟨mo_ald, ok_aldn dX4_removes_0 rfl rfl⟩, ?_⟩
  refine ⟨⟨mo_gR, ok_gR rfl fd_X4_17 rfl dX4_removes_1 rfl⟩, ?_⟩
  refine ⟨⟨mo_ald, ok_aldn dX4_removes_4 rfl rfl⟩, ?_⟩
  refine ⟨⟨mo_gI, ok_gI rfl fd_X4_214 rfl dX4_removes_5 rfl⟩, ?_⟩
  refine ⟨⟨mo_alI, ok_iald dX4_removes_8 rfl⟩, ?_⟩
  refine ⟨⟨mo_ald, ok_aldn dX4_removes_9 rfl rfl⟩, ?_⟩
  refine ⟨⟨mo_gI, ok_gI rfl fd_X4_259 rfl dX4_removes_10 rfl⟩, ?_⟩
  refine ⟨⟨mo_cne, ok_cne dX4_removes_13 rfl rfl⟩, ?_⟩
  refine ⟨⟨mo_ald, ok_aldn dX4_removes_16 rfl rfl⟩, ?_⟩
  refine ⟨⟨mo_ald, ok_aldn dX4_removes_17 rfl rfl⟩, ?_⟩
  refine ⟨⟨mo_gI, ok_gI rfl fd_X4_214 rfl dX4_removes_18 rfl⟩, ?_⟩
  refine ⟨⟨mo_cvI, ok_cvI mi_X4_boundOf lk_X4_263 q1509 q1510 rfl (Nat.le_of_ble_eq_true rfl) (iy_ro_le _) rfl rfl dX4_removes_21 rfl⟩, ?_⟩
  refine ⟨⟨mo_igt, ok_igt dX4_removes_24 rfl rfl⟩, ?_⟩
  refine ⟨⟨mo_keep, ok_keep rfl⟩, ?_⟩
  refine ⟨⟨mo_ald, ok_aldn dX4_removes_27 rfl rfl⟩, ?_⟩
  refine ⟨⟨mo_cvI, ok_cvI mi_X6_goesOn lk_X4_246 q1477 q1478 rfl (Nat.le_of_ble_eq_true rfl) (iy_ro_le _) rfl rfl dX4_removes_28 rfl⟩, ?_⟩
  refine ⟨⟨mo_iret, ok_iret rfl rfl dX4_removes_31⟩, ?_⟩
  refine ⟨⟨mo_ald, ok_aldn dX4_removes_32 rfl rfl⟩, ?_⟩
  refine ⟨⟨mo_gR, ok_gR rfl fd_X4_17 rfl dX4_removes_33 rfl⟩, ?_⟩
  refine ⟨⟨mo_ald, ok_aldn dX4_removes_36 rfl rfl⟩, ?_⟩
  refine ⟨⟨mo_gI, ok_gI rfl fd_X4_214 rfl dX4_removes_37 rfl⟩, ?_⟩
  refine ⟨⟨mo_ald, ok_aldn dX4_removes_40 rfl rfl⟩, ?_⟩
  refine ⟨⟨mo_push, ok_iconst dX4_removes_41 iv_i4 rfl⟩, ?_⟩
  refine ⟨⟨mo_push, ok_bipush dX4_removes_42 iv_bm2 rfl⟩, ?_⟩
  refine ⟨⟨mo_push, ok_bipush dX4_removes_44 iv_bm2 rfl⟩, ?_⟩
  refine ⟨⟨mo_ald, ok_aldn dX4_removes_46 rfl rfl⟩, ?_⟩
  refine ⟨⟨mo_gI, ok_gI rfl fd_X4_259 rfl dX4_removes_47 rfl⟩, ?_⟩
  refine ⟨⟨mo_cvI, ok_cvI mi_X4_makes lk_X4_66 q632 qs1 rfl (Nat.le_of_ble_eq_true rfl) (iy_ro_le _) rfl rfl dX4_removes_50 rfl⟩, ?_⟩
  refine ⟨⟨mo_asI, ok_iast dX4_removes_53 rfl⟩, ?_⟩
  refine ⟨⟨mo_ald, ok_aldn dX4_removes_54 rfl rfl⟩, ?_⟩
  refine ⟨⟨mo_ald, ok_aldn dX4_removes_55 rfl rfl⟩, ?_⟩
  refine ⟨⟨mo_gI, ok_gI rfl fd_X4_214 rfl dX4_removes_56 rfl⟩, ?_⟩
  refine ⟨⟨mo_pI, ok_pI rfl fd_X4_221 rfl (Or.inl rfl) dX4_removes_59 rfl⟩, ?_⟩
  refine ⟨⟨mo_push, ok_bipush dX4_removes_62 iv_b10 rfl⟩, ?_⟩
  refine ⟨⟨mo_iret, ok_iret rfl rfl dX4_removes_64⟩, ?_⟩
  exact trivial
set_option maxHeartbeats 4000000 in
theorem alX4_boundOf : iy_all (iy_calls iy_mi) RX4 "boundOf" cX4_boundOf 4 (some FieldType.int, []) pcX4_boundOf pcX4_boundOf stX4_boundOf := by
  refine ⟨⟨mo_ald, ok_aldn dX4_boundOf_0 rfl rfl⟩, ?_⟩
  refine ⟨⟨mo_cvR, ok_cvR mi_X4_bounds lk_X4_117 q1426 q1427 rfl (Nat.le_of_ble_eq_true rfl) (iy_ro_le _) rfl rfl dX4_boundOf_1 rfl⟩, ?_⟩
  refine ⟨⟨mo_ast, ok_astn dX4_boundOf_4 rfl (Nat.le_of_ble_eq_true rfl) rfl⟩, ?_⟩
  refine ⟨⟨mo_push, ok_iconst dX4_boundOf_5 iv_i0 rfl⟩, ?_⟩
  refine ⟨⟨mo_ist, ok_istn dX4_boundOf_6 rfl (Nat.le_of_ble_eq_true rfl) rfl⟩, ?_⟩
  refine ⟨⟨mo_keep, ok_keep rfl⟩, ?_⟩
  refine ⟨⟨mo_ild, ok_ildn dX4_boundOf_7 rfl rfl⟩, ?_⟩
  refine ⟨⟨mo_ald, ok_aldn dX4_boundOf_8 rfl rfl⟩, ?_⟩
  refine ⟨⟨mo_gI, ok_gI rfl fd_X4_120 rfl dX4_boundOf_9 rfl⟩, ?_⟩
  refine ⟨⟨mo_cge, ok_cge dX4_boundOf_12 rfl rfl⟩, ?_⟩
  refine ⟨⟨mo_ald, ok_aldn dX4_boundOf_15 rfl rfl⟩, ?_⟩
  refine ⟨⟨mo_gR, ok_gR rfl fd_X4_123 rfl dX4_boundOf_16 rfl⟩, ?_⟩
  refine ⟨⟨mo_ild, ok_ildn dX4_boundOf_19 rfl rfl⟩, ?_⟩
  refine ⟨⟨mo_alI, ok_iald dX4_boundOf_20 rfl⟩, ?_⟩
  refine ⟨⟨mo_ild, ok_ildn dX4_boundOf_21 rfl rfl⟩, ?_⟩
  refine ⟨⟨mo_cne, ok_cne dX4_boundOf_22 rfl rfl⟩, ?_⟩
  refine ⟨⟨mo_ald, ok_aldn dX4_boundOf_25 rfl rfl⟩, ?_⟩
  refine ⟨⟨mo_gR, ok_gR rfl fd_X4_126 rfl dX4_boundOf_26 rfl⟩, ?_⟩
  refine ⟨⟨mo_ild, ok_ildn dX4_boundOf_29 rfl rfl⟩, ?_⟩
  refine ⟨⟨mo_alI, ok_iald dX4_boundOf_30 rfl⟩, ?_⟩
  refine ⟨⟨mo_iret, ok_iret rfl rfl dX4_boundOf_31⟩, ?_⟩
  refine ⟨⟨mo_inc, ok_inc dX4_boundOf_32 iv_i1 (Nat.le_of_ble_eq_true rfl) rfl⟩, ?_⟩
  refine ⟨⟨mo_back, ok_back dX4_boundOf_35 rfl⟩, ?_⟩
  refine ⟨⟨mo_push, ok_iconst dX4_boundOf_38 iv_im1 rfl⟩, ?_⟩
  refine ⟨⟨mo_iret, ok_iret rfl rfl dX4_boundOf_39⟩, ?_⟩
  exact trivial
set_option maxHeartbeats 4000000 in
theorem alX4_looksLeft : iy_all (iy_calls iy_mi) RX4 "looksLeft" cX4_looksLeft 3 (some FieldType.int, []) pcX4_looksLeft pcX4_looksLeft stX4_looksLeft := by
  refine ⟨⟨mo_ald, ok_aldn dX4_looksLeft_0 rfl rfl⟩, ?_⟩
  refine ⟨⟨mo_ald, ok_aldn dX4_looksLeft_1 rfl rfl⟩, ?_⟩
  refine ⟨⟨mo_gI, ok_gI rfl fd_X4_221 rfl dX4_looksLeft_2 rfl⟩, ?_⟩
  refine ⟨⟨mo_cvI, ok_cvI mi_X4_boundOf lk_X4_263 q1509 q1510 rfl (Nat.le_of_ble_eq_true rfl) (iy_ro_le _) rfl rfl dX4_looksLeft_5 rfl⟩, ?_⟩
  refine ⟨⟨mo_ist, ok_istn dX4_looksLeft_8 rfl (Nat.le_of_ble_eq_true rfl) rfl⟩, ?_⟩
  refine ⟨⟨mo_ild, ok_ildn dX4_looksLeft_9 rfl rfl⟩, ?_⟩
  refine ⟨⟨mo_ige, ok_ige dX4_looksLeft_10 rfl rfl⟩, ?_⟩
  refine ⟨⟨mo_ald, ok_aldn dX4_looksLeft_13 rfl rfl⟩, ?_⟩
  refine ⟨⟨mo_cvI, ok_cvI mi_X6_goesOn lk_X4_246 q1477 q1478 rfl (Nat.le_of_ble_eq_true rfl) (iy_ro_le _) rfl rfl dX4_looksLeft_14 rfl⟩, ?_⟩
  refine ⟨⟨mo_iret, ok_iret rfl rfl dX4_looksLeft_17⟩, ?_⟩
  refine ⟨⟨mo_ald, ok_aldn dX4_looksLeft_18 rfl rfl⟩, ?_⟩
  refine ⟨⟨mo_ald, ok_aldn dX4_looksLeft_19 rfl rfl⟩, ?_⟩
  refine ⟨⟨mo_gR, ok_gR rfl fd_X4_32 rfl dX4_looksLeft_20 rfl⟩, ?_⟩
  refine ⟨⟨mo_gR, ok_gR rfl fd_X4_123 rfl dX4_looksLeft_23 rfl⟩, ?_⟩
  refine ⟨⟨mo_ald, ok_aldn dX4_looksLeft_26 rfl rfl⟩, ?_⟩
  refine ⟨⟨mo_gR, ok_gR rfl fd_X4_32 rfl dX4_looksLeft_27 rfl⟩, ?_⟩
  refine ⟨⟨mo_ild, ok_ildn dX4_looksLeft_30 rfl rfl⟩, ?_⟩
  refine ⟨⟨mo_cvI, ok_cvI mi_X5_at lk_X4_129 q643 q644 rfl (Nat.le_of_ble_eq_true rfl) (iy_ro_le _) rfl rfl dX4_looksLeft_31 rfl⟩, ?_⟩
  refine ⟨⟨mo_push, ok_iconst dX4_looksLeft_34 iv_i1 rfl⟩, ?_⟩
  refine ⟨⟨mo_bin, ok_isub dX4_looksLeft_35 rfl⟩, ?_⟩
  refine ⟨⟨mo_alI, ok_iald dX4_looksLeft_36 rfl⟩, ?_⟩
  refine ⟨⟨mo_pI, ok_pI rfl fd_X4_266 rfl (Or.inl rfl) dX4_looksLeft_37 rfl⟩, ?_⟩
  refine ⟨⟨mo_ald, ok_aldn dX4_looksLeft_40 rfl rfl⟩, ?_⟩
  refine ⟨⟨mo_ald, ok_aldn dX4_looksLeft_41 rfl rfl⟩, ?_⟩
  refine ⟨⟨mo_gI, ok_gI rfl fd_X4_266 rfl dX4_looksLeft_42 rfl⟩, ?_⟩
  refine ⟨⟨mo_cvI, ok_cvI mi_X4_isGone lk_X4_139 q1438 q1439 rfl (Nat.le_of_ble_eq_true rfl) (iy_ro_le _) rfl rfl dX4_looksLeft_45 rfl⟩, ?_⟩
  refine ⟨⟨mo_ieq, ok_ieq dX4_looksLeft_48 rfl rfl⟩, ?_⟩
  refine ⟨⟨mo_ald, ok_aldn dX4_looksLeft_51 rfl rfl⟩, ?_⟩
  refine ⟨⟨mo_ald, ok_aldn dX4_looksLeft_52 rfl rfl⟩, ?_⟩
  refine ⟨⟨mo_gI, ok_gI rfl fd_X4_266 rfl dX4_looksLeft_53 rfl⟩, ?_⟩
  refine ⟨⟨mo_pI, ok_pI rfl fd_X4_221 rfl (Or.inl rfl) dX4_looksLeft_56 rfl⟩, ?_⟩
  refine ⟨⟨mo_push, ok_bipush dX4_looksLeft_59 iv_b10 rfl⟩, ?_⟩
  refine ⟨⟨mo_iret, ok_iret rfl rfl dX4_looksLeft_61⟩, ?_⟩
  refine ⟨⟨mo_ald, ok_aldn dX4_looksLeft_62 rfl rfl⟩, ?_⟩
  refine ⟨⟨mo_ald, ok_aldn dX4_looksLeft_63 rfl rfl⟩, ?_⟩
  refine ⟨⟨mo_gI, ok_gI rfl fd_X4_266 rfl dX4_looksLeft_64 rfl⟩, ?_⟩
  refine ⟨⟨mo_ald, ok_aldn dX4_looksLeft_67 rfl rfl⟩, ?_⟩
  refine ⟨⟨mo_gR, ok_gR rfl fd_X4_28 rfl dX4_looksLeft_68 rfl⟩, ?_⟩
  refine ⟨⟨mo_cvV, ok_cvV mi_X4_lays lk_X4_113 q1372 q1373 rfl (Nat.le_of_ble_eq_true rfl) (iy_ro_le _) rfl rfl dX4_looksLeft_71 rfl⟩, ?_⟩
  refine ⟨⟨mo_ald, ok_aldn dX4_looksLeft_74 rfl rfl⟩, ?_⟩
  refine ⟨⟨mo_gR, ok_gR rfl fd_X4_28 rfl dX4_looksLeft_75 rfl⟩, ?_⟩
  refine ⟨⟨mo_gI, ok_gI rfl fd_X4_74 rfl dX4_looksLeft_78 rfl⟩, ?_⟩
  refine ⟨⟨mo_ild, ok_ildn dX4_looksLeft_81 rfl rfl⟩, ?_⟩
  refine ⟨⟨mo_cge, ok_cge dX4_looksLeft_82 rfl rfl⟩, ?_⟩
  refine ⟨⟨mo_ald, ok_aldn dX4_looksLeft_85 rfl rfl⟩, ?_⟩
  refine ⟨⟨mo_ald, ok_aldn dX4_looksLeft_86 rfl rfl⟩, ?_⟩
  refine ⟨⟨mo_ald, ok_aldn dX4_looksLeft_87 rfl rfl⟩, ?_⟩
  refine ⟨⟨mo_gR, ok_gR rfl fd_X4_28 rfl dX4_looksLeft_88 rfl⟩, ?_⟩
  refine ⟨⟨mo_gI, ok_gI rfl fd_X4_74 rfl dX4_looksLeft_91 rfl⟩, ?_⟩
  refine ⟨⟨mo_ald, ok_aldn dX4_looksLeft_94 rfl rfl⟩, ?_⟩
  refine ⟨⟨mo_gR, ok_gR rfl fd_X4_28 rfl dX4_looksLeft_95 rfl⟩, ?_⟩
  refine ⟨⟨mo_gI, ok_gI rfl fd_X4_133 rfl dX4_looksLeft_98 rfl⟩, ?_⟩
  refine ⟨⟨mo_cvI, ok_cvI mi_X4_noting lk_X4_224 q1448 qs37 rfl (Nat.le_of_ble_eq_true rfl) (iy_ro_le _) rfl rfl dX4_looksLeft_101 rfl⟩, ?_⟩
  refine ⟨⟨mo_iret, ok_iret rfl rfl dX4_looksLeft_104⟩, ?_⟩
  refine ⟨⟨mo_ald, ok_aldn dX4_looksLeft_105 rfl rfl⟩, ?_⟩
  refine ⟨⟨mo_gR, ok_gR rfl fd_X4_28 rfl dX4_looksLeft_106 rfl⟩, ?_⟩
  refine ⟨⟨mo_gI, ok_gI rfl fd_X4_74 rfl dX4_looksLeft_109 rfl⟩, ?_⟩
  refine ⟨⟨mo_ild, ok_ildn dX4_looksLeft_112 rfl rfl⟩, ?_⟩
  refine ⟨⟨mo_cgt, ok_cgt dX4_looksLeft_113 rfl rfl⟩, ?_⟩
  refine ⟨⟨mo_ald, ok_aldn dX4_looksLeft_116 rfl rfl⟩, ?_⟩
  refine ⟨⟨mo_gR, ok_gR rfl fd_X4_28 rfl dX4_looksLeft_117 rfl⟩, ?_⟩
  refine ⟨⟨mo_gI, ok_gI rfl fd_X4_133 rfl dX4_looksLeft_120 rfl⟩, ?_⟩
  refine ⟨⟨mo_ald, ok_aldn dX4_looksLeft_123 rfl rfl⟩, ?_⟩
  refine ⟨⟨mo_gI, ok_gI rfl fd_X4_221 rfl dX4_looksLeft_124 rfl⟩, ?_⟩
  refine ⟨⟨mo_ceq, ok_ceq dX4_looksLeft_127 rfl rfl⟩, ?_⟩
  refine ⟨⟨mo_keep, ok_keep rfl⟩, ?_⟩
  refine ⟨⟨mo_push, ok_bipush dX4_looksLeft_130 iv_b12 rfl⟩, ?_⟩
  refine ⟨⟨mo_iret, ok_iret rfl rfl dX4_looksLeft_132⟩, ?_⟩
  refine ⟨⟨mo_ald, ok_aldn dX4_looksLeft_133 rfl rfl⟩, ?_⟩
  refine ⟨⟨mo_ild, ok_ildn dX4_looksLeft_134 rfl rfl⟩, ?_⟩
  refine ⟨⟨mo_pI, ok_pI rfl fd_X4_217 rfl (Or.inl rfl) dX4_looksLeft_135 rfl⟩, ?_⟩
  refine ⟨⟨mo_ald, ok_aldn dX4_looksLeft_138 rfl rfl⟩, ?_⟩
  refine ⟨⟨mo_ald, ok_aldn dX4_looksLeft_139 rfl rfl⟩, ?_⟩
  refine ⟨⟨mo_gR, ok_gR rfl fd_X4_17 rfl dX4_looksLeft_140 rfl⟩, ?_⟩
  refine ⟨⟨mo_ald, ok_aldn dX4_looksLeft_143 rfl rfl⟩, ?_⟩
  refine ⟨⟨mo_gI, ok_gI rfl fd_X4_266 rfl dX4_looksLeft_144 rfl⟩, ?_⟩
  refine ⟨⟨mo_alI, ok_iald dX4_looksLeft_147 rfl⟩, ?_⟩
  refine ⟨⟨mo_pI, ok_pI rfl fd_X4_238 rfl (Or.inl rfl) dX4_looksLeft_148 rfl⟩, ?_⟩
  refine ⟨⟨mo_push, ok_bipush dX4_looksLeft_151 iv_b11 rfl⟩, ?_⟩
  refine ⟨⟨mo_iret, ok_iret rfl rfl dX4_looksLeft_153⟩, ?_⟩
  exact trivial
set_option maxHeartbeats 4000000 in
theorem alX4_joins : iy_all (iy_calls iy_mi) RX4 "joins" cX4_joins 3 (some FieldType.int, []) pcX4_joins pcX4_joins stX4_joins := by
  refine ⟨⟨mo_ald, ok_aldn dX4_joins_0 rfl rfl⟩, ?_⟩
  refine ⟨⟨mo_gR, ok_gR rfl fd_X4_17 rfl dX4_joins_1 rfl⟩, ?_⟩
  refine ⟨⟨mo_ald, ok_aldn dX4_joins_4 rfl rfl⟩, ?_⟩
  refine ⟨⟨mo_gI, ok_gI rfl fd_X4_266 rfl dX4_joins_5 rfl⟩, ?_⟩
  refine ⟨⟨mo_alI, ok_iald dX4_joins_8 rfl⟩, ?_⟩
  refine ⟨⟨mo_ald, ok_aldn dX4_joins_9 rfl rfl⟩, ?_⟩
  refine ⟨⟨mo_gI, ok_gI rfl fd_X4_238 rfl dX4_joins_10 rfl⟩, ?_⟩
  refine ⟨⟨mo_ceq, ok_ceq dX4_joins_13 rfl rfl⟩, ?_⟩
  refine ⟨⟨mo_ald, ok_aldn dX4_joins_16 rfl rfl⟩, ?_⟩
  refine ⟨⟨mo_push, ok_bipush dX4_joins_17 iv_b10 rfl⟩, ?_⟩
  refine ⟨⟨mo_cvI, ok_cvI mi_X6_lost lk_X4_241 q1468 q1469 rfl (Nat.le_of_ble_eq_true rfl) (iy_ro_le _) rfl rfl dX4_joins_19 rfl⟩, ?_⟩
  refine ⟨⟨mo_iret, ok_iret rfl rfl dX4_joins_22⟩, ?_⟩
  refine ⟨⟨mo_ald, ok_aldn dX4_joins_23 rfl rfl⟩, ?_⟩
  refine ⟨⟨mo_push, ok_iconst dX4_joins_24 iv_i5 rfl⟩, ?_⟩
  refine ⟨⟨mo_ald, ok_aldn dX4_joins_25 rfl rfl⟩, ?_⟩
  refine ⟨⟨mo_gI, ok_gI rfl fd_X4_217 rfl dX4_joins_26 rfl⟩, ?_⟩
  refine ⟨⟨mo_ald, ok_aldn dX4_joins_29 rfl rfl⟩, ?_⟩
  refine ⟨⟨mo_gI, ok_gI rfl fd_X4_221 rfl dX4_joins_30 rfl⟩, ?_⟩
  refine ⟨⟨mo_ald, ok_aldn dX4_joins_33 rfl rfl⟩, ?_⟩
  refine ⟨⟨mo_gI, ok_gI rfl fd_X4_238 rfl dX4_joins_34 rfl⟩, ?_⟩
  refine ⟨⟨mo_cvI, ok_cvI mi_X4_makes lk_X4_66 q632 qs1 rfl (Nat.le_of_ble_eq_true rfl) (iy_ro_le _) rfl rfl dX4_joins_37 rfl⟩, ?_⟩
  refine ⟨⟨mo_ist, ok_istn dX4_joins_40 rfl (Nat.le_of_ble_eq_true rfl) rfl⟩, ?_⟩
  refine ⟨⟨mo_ald, ok_aldn dX4_joins_41 rfl rfl⟩, ?_⟩
  refine ⟨⟨mo_gR, ok_gR rfl fd_X4_11 rfl dX4_joins_42 rfl⟩, ?_⟩
  refine ⟨⟨mo_ild, ok_ildn dX4_joins_45 rfl rfl⟩, ?_⟩
  refine ⟨⟨mo_alR, ok_aald rfl dX4_joins_46 rfl⟩, ?_⟩
  refine ⟨⟨mo_ald, ok_aldn dX4_joins_47 rfl rfl⟩, ?_⟩
  refine ⟨⟨mo_gR, ok_gR rfl fd_X4_11 rfl dX4_joins_48 rfl⟩, ?_⟩
  refine ⟨⟨mo_ald, ok_aldn dX4_joins_51 rfl rfl⟩, ?_⟩
  refine ⟨⟨mo_gR, ok_gR rfl fd_X4_17 rfl dX4_joins_52 rfl⟩, ?_⟩
  refine ⟨⟨mo_ald, ok_aldn dX4_joins_55 rfl rfl⟩, ?_⟩
  refine ⟨⟨mo_gI, ok_gI rfl fd_X4_221 rfl dX4_joins_56 rfl⟩, ?_⟩
  refine ⟨⟨mo_alI, ok_iald dX4_joins_59 rfl⟩, ?_⟩
  refine ⟨⟨mo_alR, ok_aald rfl dX4_joins_60 rfl⟩, ?_⟩
  refine ⟨⟨mo_gI, ok_gI rfl fd_X4_99 rfl dX4_joins_61 rfl⟩, ?_⟩
  refine ⟨⟨mo_pI, ok_pI rfl fd_X4_252 rfl (Or.inl rfl) dX4_joins_64 rfl⟩, ?_⟩
  refine ⟨⟨mo_ald, ok_aldn dX4_joins_67 rfl rfl⟩, ?_⟩
  refine ⟨⟨mo_gR, ok_gR rfl fd_X4_17 rfl dX4_joins_68 rfl⟩, ?_⟩
  refine ⟨⟨mo_ald, ok_aldn dX4_joins_71 rfl rfl⟩, ?_⟩
  refine ⟨⟨mo_gI, ok_gI rfl fd_X4_266 rfl dX4_joins_72 rfl⟩, ?_⟩
  refine ⟨⟨mo_ild, ok_ildn dX4_joins_75 rfl rfl⟩, ?_⟩
  refine ⟨⟨mo_asI, ok_iast dX4_joins_76 rfl⟩, ?_⟩
  refine ⟨⟨mo_push, ok_bipush dX4_joins_77 iv_b12 rfl⟩, ?_⟩
  refine ⟨⟨mo_iret, ok_iret rfl rfl dX4_joins_79⟩, ?_⟩
  exact trivial
set_option maxHeartbeats 4000000 in
theorem alX4_looks : iy_all (iy_calls iy_mi) RX4 "looks" cX4_looks 2 (some FieldType.int, []) pcX4_looks pcX4_looks stX4_looks := by
  refine ⟨⟨mo_ald, ok_aldn dX4_looks_0 rfl rfl⟩, ?_⟩
  refine ⟨⟨mo_ald, ok_aldn dX4_looks_1 rfl rfl⟩, ?_⟩
  refine ⟨⟨mo_gI, ok_gI rfl fd_X4_221 rfl dX4_looks_2 rfl⟩, ?_⟩
  refine ⟨⟨mo_cvI, ok_cvI mi_X4_boundOf lk_X4_263 q1509 q1510 rfl (Nat.le_of_ble_eq_true rfl) (iy_ro_le _) rfl rfl dX4_looks_5 rfl⟩, ?_⟩
  refine ⟨⟨mo_ige, ok_ige dX4_looks_8 rfl rfl⟩, ?_⟩
  refine ⟨⟨mo_ald, ok_aldn dX4_looks_11 rfl rfl⟩, ?_⟩
  refine ⟨⟨mo_cvI, ok_cvI mi_X6_goesOn lk_X4_246 q1477 q1478 rfl (Nat.le_of_ble_eq_true rfl) (iy_ro_le _) rfl rfl dX4_looks_12 rfl⟩, ?_⟩
  refine ⟨⟨mo_iret, ok_iret rfl rfl dX4_looks_15⟩, ?_⟩
  refine ⟨⟨mo_ald, ok_aldn dX4_looks_16 rfl rfl⟩, ?_⟩
  refine ⟨⟨mo_ald, ok_aldn dX4_looks_17 rfl rfl⟩, ?_⟩
  refine ⟨⟨mo_gR, ok_gR rfl fd_X4_17 rfl dX4_looks_18 rfl⟩, ?_⟩
  refine ⟨⟨mo_push, ok_iconst dX4_looks_21 iv_i0 rfl⟩, ?_⟩
  refine ⟨⟨mo_alI, ok_iald dX4_looks_22 rfl⟩, ?_⟩
  refine ⟨⟨mo_pI, ok_pI rfl fd_X4_238 rfl (Or.inl rfl) dX4_looks_23 rfl⟩, ?_⟩
  refine ⟨⟨mo_push, ok_bipush dX4_looks_26 iv_b13 rfl⟩, ?_⟩
  refine ⟨⟨mo_iret, ok_iret rfl rfl dX4_looks_28⟩, ?_⟩
  exact trivial
set_option maxHeartbeats 4000000 in
theorem alX4_strikes : iy_all (iy_calls iy_mi) RX4 "strikes" cX4_strikes 2 (some FieldType.int, []) pcX4_strikes pcX4_strikes stX4_strikes := by
  refine ⟨⟨mo_ald, ok_aldn dX4_strikes_0 rfl rfl⟩, ?_⟩
  refine ⟨⟨mo_gR, ok_gR rfl fd_X4_17 rfl dX4_strikes_1 rfl⟩, ?_⟩
  refine ⟨⟨mo_push, ok_iconst dX4_strikes_4 iv_i0 rfl⟩, ?_⟩
  refine ⟨⟨mo_alI, ok_iald dX4_strikes_5 rfl⟩, ?_⟩
  refine ⟨⟨mo_ald, ok_aldn dX4_strikes_6 rfl rfl⟩, ?_⟩
  refine ⟨⟨mo_gI, ok_gI rfl fd_X4_238 rfl dX4_strikes_7 rfl⟩, ?_⟩
  refine ⟨⟨mo_ceq, ok_ceq dX4_strikes_10 rfl rfl⟩, ?_⟩
  refine ⟨⟨mo_ald, ok_aldn dX4_strikes_13 rfl rfl⟩, ?_⟩
  refine ⟨⟨mo_push, ok_bipush dX4_strikes_14 iv_b12 rfl⟩, ?_⟩
  refine ⟨⟨mo_cvI, ok_cvI mi_X6_lost lk_X4_241 q1468 q1469 rfl (Nat.le_of_ble_eq_true rfl) (iy_ro_le _) rfl rfl dX4_strikes_16 rfl⟩, ?_⟩
  refine ⟨⟨mo_iret, ok_iret rfl rfl dX4_strikes_19⟩, ?_⟩
  refine ⟨⟨mo_ald, ok_aldn dX4_strikes_20 rfl rfl⟩, ?_⟩
  refine ⟨⟨mo_gR, ok_gR rfl fd_X4_17 rfl dX4_strikes_21 rfl⟩, ?_⟩
  refine ⟨⟨mo_push, ok_iconst dX4_strikes_24 iv_i0 rfl⟩, ?_⟩
  refine ⟨⟨mo_ald, ok_aldn dX4_strikes_25 rfl rfl⟩, ?_⟩
  refine ⟨⟨mo_push, ok_bipush dX4_strikes_26 iv_b7 rfl⟩, ?_⟩
  refine ⟨⟨mo_ald, ok_aldn dX4_strikes_28 rfl rfl⟩, ?_⟩
  refine ⟨⟨mo_ald, ok_aldn dX4_strikes_29 rfl rfl⟩, ?_⟩
  refine ⟨⟨mo_gI, ok_gI rfl fd_X4_221 rfl dX4_strikes_30 rfl⟩, ?_⟩
  refine ⟨⟨mo_cvI, ok_cvI mi_X4_boundOf lk_X4_263 q1509 q1510 rfl (Nat.le_of_ble_eq_true rfl) (iy_ro_le _) rfl rfl dX4_strikes_33 rfl⟩, ?_⟩
  refine ⟨⟨mo_push, ok_bipush dX4_strikes_36 iv_bm2 rfl⟩, ?_⟩
  refine ⟨⟨mo_ald, ok_aldn dX4_strikes_38 rfl rfl⟩, ?_⟩
  refine ⟨⟨mo_gI, ok_gI rfl fd_X4_238 rfl dX4_strikes_39 rfl⟩, ?_⟩
  refine ⟨⟨mo_cvI, ok_cvI mi_X4_makes lk_X4_66 q632 qs1 rfl (Nat.le_of_ble_eq_true rfl) (iy_ro_le _) rfl rfl dX4_strikes_42 rfl⟩, ?_⟩
  refine ⟨⟨mo_asI, ok_iast dX4_strikes_45 rfl⟩, ?_⟩
  refine ⟨⟨mo_ald, ok_aldn dX4_strikes_46 rfl rfl⟩, ?_⟩
  refine ⟨⟨mo_ald, ok_aldn dX4_strikes_47 rfl rfl⟩, ?_⟩
  refine ⟨⟨mo_gI, ok_gI rfl fd_X4_221 rfl dX4_strikes_48 rfl⟩, ?_⟩
  refine ⟨⟨mo_cvI, ok_cvI mi_X4_isGone lk_X4_139 q1438 q1439 rfl (Nat.le_of_ble_eq_true rfl) (iy_ro_le _) rfl rfl dX4_strikes_51 rfl⟩, ?_⟩
  refine ⟨⟨mo_ieq, ok_ieq dX4_strikes_54 rfl rfl⟩, ?_⟩
  refine ⟨⟨mo_ald, ok_aldn dX4_strikes_57 rfl rfl⟩, ?_⟩
  refine ⟨⟨mo_gR, ok_gR rfl fd_X4_11 rfl dX4_strikes_58 rfl⟩, ?_⟩
  refine ⟨⟨mo_ald, ok_aldn dX4_strikes_61 rfl rfl⟩, ?_⟩
  refine ⟨⟨mo_gR, ok_gR rfl fd_X4_17 rfl dX4_strikes_62 rfl⟩, ?_⟩
  refine ⟨⟨mo_ald, ok_aldn dX4_strikes_65 rfl rfl⟩, ?_⟩
  refine ⟨⟨mo_gI, ok_gI rfl fd_X4_221 rfl dX4_strikes_66 rfl⟩, ?_⟩
  refine ⟨⟨mo_alI, ok_iald dX4_strikes_69 rfl⟩, ?_⟩
  refine ⟨⟨mo_alR, ok_aald rfl dX4_strikes_70 rfl⟩, ?_⟩
  refine ⟨⟨mo_ald, ok_aldn dX4_strikes_71 rfl rfl⟩, ?_⟩
  refine ⟨⟨mo_gI, ok_gI rfl fd_X4_60 rfl dX4_strikes_72 rfl⟩, ?_⟩
  refine ⟨⟨mo_pI, ok_pI rfl fd_X4_249 rfl (Or.inl rfl) dX4_strikes_75 rfl⟩, ?_⟩
  refine ⟨⟨mo_keep, ok_keep rfl⟩, ?_⟩
  refine ⟨⟨mo_ald, ok_aldn dX4_strikes_78 rfl rfl⟩, ?_⟩
  refine ⟨⟨mo_ald, ok_aldn dX4_strikes_79 rfl rfl⟩, ?_⟩
  refine ⟨⟨mo_cvI, ok_cvI mi_X4_noted lk_X4_260 q1502 qs45 rfl (Nat.le_of_ble_eq_true rfl) (iy_ro_le _) rfl rfl dX4_strikes_80 rfl⟩, ?_⟩
  refine ⟨⟨mo_iret, ok_iret rfl rfl dX4_strikes_83⟩, ?_⟩
  exact trivial
set_option maxHeartbeats 4000000 in
theorem alX4_sweeps : iy_all (iy_calls iy_mi) RX4 "sweeps" cX4_sweeps 5 (some FieldType.int, []) pcX4_sweeps pcX4_sweeps stX4_sweeps := by
  refine ⟨⟨mo_push, ok_iconst dX4_sweeps_0 iv_i0 rfl⟩, ?_⟩
  refine ⟨⟨mo_ist, ok_istn dX4_sweeps_1 rfl (Nat.le_of_ble_eq_true rfl) rfl⟩, ?_⟩
  refine ⟨⟨mo_ald, ok_aldn dX4_sweeps_2 rfl rfl⟩, ?_⟩
  refine ⟨⟨mo_gI, ok_gI rfl fd_X4_60 rfl dX4_sweeps_3 rfl⟩, ?_⟩
  refine ⟨⟨mo_push, ok_iconst dX4_sweeps_6 iv_i1 rfl⟩, ?_⟩
  refine ⟨⟨mo_bin, ok_iadd dX4_sweeps_7 rfl⟩, ?_⟩
  refine ⟨⟨mo_ist, ok_istn dX4_sweeps_8 rfl (Nat.le_of_ble_eq_true rfl) rfl⟩, ?_⟩
  refine ⟨⟨mo_ald, ok_aldn dX4_sweeps_9 rfl rfl⟩, ?_⟩
  refine ⟨⟨mo_dup, ok_dup dX4_sweeps_10 rfl⟩, ?_⟩
  refine ⟨⟨mo_gI, ok_gI rfl fd_X4_60 rfl dX4_sweeps_11 rfl⟩, ?_⟩
  refine ⟨⟨mo_push, ok_iconst dX4_sweeps_14 iv_i1 rfl⟩, ?_⟩
  refine ⟨⟨mo_bin, ok_iadd dX4_sweeps_15 rfl⟩, ?_⟩
  refine ⟨⟨mo_pI, ok_pI rfl fd_X4_60 rfl (Or.inl rfl) dX4_sweeps_16 rfl⟩, ?_⟩
  refine ⟨⟨mo_push, ok_iconst dX4_sweeps_19 iv_i0 rfl⟩, ?_⟩
  refine ⟨⟨mo_ist, ok_istn dX4_sweeps_20 rfl (Nat.le_of_ble_eq_true rfl) rfl⟩, ?_⟩
  refine ⟨⟨mo_keep, ok_keep rfl⟩, ?_⟩
  refine ⟨⟨mo_ild, ok_ildn dX4_sweeps_21 rfl rfl⟩, ?_⟩
  refine ⟨⟨mo_push, ok_iconst dX4_sweeps_22 iv_i4 rfl⟩, ?_⟩
  refine ⟨⟨mo_cge, ok_cge dX4_sweeps_23 rfl rfl⟩, ?_⟩
  refine ⟨⟨mo_ald, ok_aldn dX4_sweeps_26 rfl rfl⟩, ?_⟩
  refine ⟨⟨mo_gR, ok_gR rfl fd_X4_23 rfl dX4_sweeps_27 rfl⟩, ?_⟩
  refine ⟨⟨mo_ild, ok_ildn dX4_sweeps_30 rfl rfl⟩, ?_⟩
  refine ⟨⟨mo_alR, ok_aald rfl dX4_sweeps_31 rfl⟩, ?_⟩
  refine ⟨⟨mo_gI, ok_gI rfl fd_X4_147 rfl dX4_sweeps_32 rfl⟩, ?_⟩
  refine ⟨⟨mo_ieq, ok_ieq dX4_sweeps_35 rfl rfl⟩, ?_⟩
  refine ⟨⟨mo_ild, ok_ildn dX4_sweeps_38 rfl rfl⟩, ?_⟩
  refine ⟨⟨mo_ald, ok_aldn dX4_sweeps_39 rfl rfl⟩, ?_⟩
  refine ⟨⟨mo_gR, ok_gR rfl fd_X4_23 rfl dX4_sweeps_40 rfl⟩, ?_⟩
  refine ⟨⟨mo_ild, ok_ildn dX4_sweeps_43 rfl rfl⟩, ?_⟩
  refine ⟨⟨mo_alR, ok_aald rfl dX4_sweeps_44 rfl⟩, ?_⟩
  refine ⟨⟨mo_gI, ok_gI rfl fd_X4_165 rfl dX4_sweeps_45 rfl⟩, ?_⟩
  refine ⟨⟨mo_csI, ok_csI mi_J13_min lk_X4_269 q883 dX4_sweeps_48 rfl⟩, ?_⟩
  refine ⟨⟨mo_ist, ok_istn dX4_sweeps_51 rfl (Nat.le_of_ble_eq_true rfl) rfl⟩, ?_⟩
  refine ⟨⟨mo_keep, ok_keep rfl⟩, ?_⟩
  refine ⟨⟨mo_inc, ok_inc dX4_sweeps_52 iv_i1 (Nat.le_of_ble_eq_true rfl) rfl⟩, ?_⟩
  refine ⟨⟨mo_back, ok_back dX4_sweeps_55 rfl⟩, ?_⟩
  refine ⟨⟨mo_push, ok_iconst dX4_sweeps_58 iv_i0 rfl⟩, ?_⟩
  refine ⟨⟨mo_ist, ok_istn dX4_sweeps_59 rfl (Nat.le_of_ble_eq_true rfl) rfl⟩, ?_⟩
  refine ⟨⟨mo_keep, ok_keep rfl⟩, ?_⟩
  refine ⟨⟨mo_ild, ok_ildn dX4_sweeps_60 rfl rfl⟩, ?_⟩
  refine ⟨⟨mo_ald, ok_aldn dX4_sweeps_61 rfl rfl⟩, ?_⟩
  refine ⟨⟨mo_gI, ok_gI rfl fd_X4_57 rfl dX4_sweeps_62 rfl⟩, ?_⟩
  refine ⟨⟨mo_cge, ok_cge dX4_sweeps_65 rfl rfl⟩, ?_⟩
  refine ⟨⟨mo_ald, ok_aldn dX4_sweeps_68 rfl rfl⟩, ?_⟩
  refine ⟨⟨mo_gR, ok_gR rfl fd_X4_11 rfl dX4_sweeps_69 rfl⟩, ?_⟩
  refine ⟨⟨mo_ild, ok_ildn dX4_sweeps_72 rfl rfl⟩, ?_⟩
  refine ⟨⟨mo_alR, ok_aald rfl dX4_sweeps_73 rfl⟩, ?_⟩
  refine ⟨⟨mo_ast, ok_ast dX4_sweeps_74 (Nat.le_of_ble_eq_true rfl) rfl⟩, ?_⟩
  refine ⟨⟨mo_ald, ok_ald dX4_sweeps_76 rfl⟩, ?_⟩
  refine ⟨⟨mo_gI, ok_gI rfl fd_X4_275 rfl dX4_sweeps_78 rfl⟩, ?_⟩
  refine ⟨⟨mo_ine, ok_ine dX4_sweeps_81 rfl rfl⟩, ?_⟩
  refine ⟨⟨mo_ald, ok_ald dX4_sweeps_84 rfl⟩, ?_⟩
  refine ⟨⟨mo_gI, ok_gI rfl fd_X4_249 rfl dX4_sweeps_86 rfl⟩, ?_⟩
  refine ⟨⟨mo_ilt, ok_ilt dX4_sweeps_89 rfl rfl⟩, ?_⟩
  refine ⟨⟨mo_ald, ok_ald dX4_sweeps_92 rfl⟩, ?_⟩
  refine ⟨⟨mo_gI, ok_gI rfl fd_X4_249 rfl dX4_sweeps_94 rfl⟩, ?_⟩
  refine ⟨⟨mo_ild, ok_ildn dX4_sweeps_97 rfl rfl⟩, ?_⟩
  refine ⟨⟨mo_clt, ok_clt dX4_sweeps_98 rfl rfl⟩, ?_⟩
  refine ⟨⟨mo_goto, ok_goto dX4_sweeps_101 rfl⟩, ?_⟩
  refine ⟨⟨mo_ald, ok_ald dX4_sweeps_104 rfl⟩, ?_⟩
  refine ⟨⟨mo_push, ok_iconst dX4_sweeps_106 iv_i1 rfl⟩, ?_⟩
  refine ⟨⟨mo_pI, ok_pI rfl fd_X4_275 rfl (Or.inl rfl) dX4_sweeps_107 rfl⟩, ?_⟩
  refine ⟨⟨mo_inc, ok_inc dX4_sweeps_110 iv_i1 (Nat.le_of_ble_eq_true rfl) rfl⟩, ?_⟩
  refine ⟨⟨mo_keep, ok_keep rfl⟩, ?_⟩
  refine ⟨⟨mo_inc, ok_inc dX4_sweeps_113 iv_i1 (Nat.le_of_ble_eq_true rfl) rfl⟩, ?_⟩
  refine ⟨⟨mo_back, ok_back dX4_sweeps_116 rfl⟩, ?_⟩
  refine ⟨⟨mo_ild, ok_ildn dX4_sweeps_119 rfl rfl⟩, ?_⟩
  refine ⟨⟨mo_iret, ok_iret rfl rfl dX4_sweeps_120⟩, ?_⟩
  exact trivial
set_option maxHeartbeats 4000000 in
theorem alX4_all : iy_all (iy_calls iy_mi) RX4 "all" cX4_all 6 (some FieldType.int, []) pcX4_all pcX4_all stX4_all := by
  refine ⟨⟨mo_push, ok_iconst dX4_all_0 iv_i0 rfl⟩, ?_⟩
  refine ⟨⟨mo_ist, ok_istn dX4_all_1 rfl (Nat.le_of_ble_eq_true rfl) rfl⟩, ?_⟩
  refine ⟨⟨mo_push, ok_iconst dX4_all_2 iv_i1 rfl⟩, ?_⟩
  refine ⟨⟨mo_ist, ok_ist dX4_all_3 (Nat.le_of_ble_eq_true rfl) rfl⟩, ?_⟩
  refine ⟨⟨mo_keep, ok_keep rfl⟩, ?_⟩
  refine ⟨⟨mo_ild, ok_ild dX4_all_5 rfl⟩, ?_⟩
  refine ⟨⟨mo_ilt, ok_ilt dX4_all_7 rfl rfl⟩, ?_⟩
  refine ⟨⟨mo_ald, ok_aldn dX4_all_10 rfl rfl⟩, ?_⟩
  refine ⟨⟨mo_ild, ok_ild dX4_all_11 rfl⟩, ?_⟩
  refine ⟨⟨mo_ald, ok_aldn dX4_all_13 rfl rfl⟩, ?_⟩
  refine ⟨⟨mo_gR, ok_gR rfl fd_X4_35 rfl dX4_all_14 rfl⟩, ?_⟩
  refine ⟨⟨mo_cvV, ok_cvV mi_X4_lays lk_X4_113 q1372 q1373 rfl (Nat.le_of_ble_eq_true rfl) (iy_ro_le _) rfl rfl dX4_all_17 rfl⟩, ?_⟩
  refine ⟨⟨mo_push, ok_iconst dX4_all_20 iv_i0 rfl⟩, ?_⟩
  refine ⟨⟨mo_ist, ok_ist dX4_all_21 (Nat.le_of_ble_eq_true rfl) rfl⟩, ?_⟩
  refine ⟨⟨mo_keep, ok_keep rfl⟩, ?_⟩
  refine ⟨⟨mo_ild, ok_ild dX4_all_23 rfl⟩, ?_⟩
  refine ⟨⟨mo_ald, ok_aldn dX4_all_25 rfl rfl⟩, ?_⟩
  refine ⟨⟨mo_gR, ok_gR rfl fd_X4_35 rfl dX4_all_26 rfl⟩, ?_⟩
  refine ⟨⟨mo_gI, ok_gI rfl fd_X4_120 rfl dX4_all_29 rfl⟩, ?_⟩
  refine ⟨⟨mo_cge, ok_cge dX4_all_32 rfl rfl⟩, ?_⟩
  refine ⟨⟨mo_ald, ok_aldn dX4_all_35 rfl rfl⟩, ?_⟩
  refine ⟨⟨mo_ild, ok_ildn dX4_all_36 rfl rfl⟩, ?_⟩
  refine ⟨⟨mo_ald, ok_aldn dX4_all_37 rfl rfl⟩, ?_⟩
  refine ⟨⟨mo_gR, ok_gR rfl fd_X4_35 rfl dX4_all_38 rfl⟩, ?_⟩
  refine ⟨⟨mo_gR, ok_gR rfl fd_X4_126 rfl dX4_all_41 rfl⟩, ?_⟩
  refine ⟨⟨mo_ild, ok_ild dX4_all_44 rfl⟩, ?_⟩
  refine ⟨⟨mo_alI, ok_iald dX4_all_46 rfl⟩, ?_⟩
  refine ⟨⟨mo_asI, ok_iast dX4_all_47 rfl⟩, ?_⟩
  refine ⟨⟨mo_ald, ok_aldn dX4_all_48 rfl rfl⟩, ?_⟩
  refine ⟨⟨mo_ild, ok_ildn dX4_all_49 rfl rfl⟩, ?_⟩
  refine ⟨⟨mo_ald, ok_aldn dX4_all_50 rfl rfl⟩, ?_⟩
  refine ⟨⟨mo_gR, ok_gR rfl fd_X4_35 rfl dX4_all_51 rfl⟩, ?_⟩
  refine ⟨⟨mo_gR, ok_gR rfl fd_X4_123 rfl dX4_all_54 rfl⟩, ?_⟩
  refine ⟨⟨mo_ild, ok_ild dX4_all_57 rfl⟩, ?_⟩
  refine ⟨⟨mo_alI, ok_iald dX4_all_59 rfl⟩, ?_⟩
  refine ⟨⟨mo_asI, ok_iast dX4_all_60 rfl⟩, ?_⟩
  refine ⟨⟨mo_inc, ok_inc dX4_all_61 iv_i1 (Nat.le_of_ble_eq_true rfl) rfl⟩, ?_⟩
  refine ⟨⟨mo_inc, ok_inc dX4_all_64 iv_i1 (Nat.le_of_ble_eq_true rfl) rfl⟩, ?_⟩
  refine ⟨⟨mo_back, ok_back dX4_all_67 rfl⟩, ?_⟩
  refine ⟨⟨mo_ald, ok_aldn dX4_all_70 rfl rfl⟩, ?_⟩
  refine ⟨⟨mo_gR, ok_gR rfl fd_X4_35 rfl dX4_all_71 rfl⟩, ?_⟩
  refine ⟨⟨mo_gI, ok_gI rfl fd_X4_133 rfl dX4_all_74 rfl⟩, ?_⟩
  refine ⟨⟨mo_ist, ok_ist dX4_all_77 (Nat.le_of_ble_eq_true rfl) rfl⟩, ?_⟩
  refine ⟨⟨mo_back, ok_back dX4_all_79 rfl⟩, ?_⟩
  refine ⟨⟨mo_ild, ok_ildn dX4_all_82 rfl rfl⟩, ?_⟩
  refine ⟨⟨mo_iret, ok_iret rfl rfl dX4_all_83⟩, ?_⟩
  exact trivial
set_option maxHeartbeats 4000000 in
theorem alX4_splitsLeft : iy_all (iy_calls iy_mi) RX4 "splitsLeft" cX4_splitsLeft 3 (some FieldType.int, []) pcX4_splitsLeft pcX4_splitsLeft stX4_splitsLeft := by
  refine ⟨⟨mo_push, ok_iconst dX4_splitsLeft_0 iv_i0 rfl⟩, ?_⟩
  refine ⟨⟨mo_ist, ok_istn dX4_splitsLeft_1 rfl (Nat.le_of_ble_eq_true rfl) rfl⟩, ?_⟩
  refine ⟨⟨mo_push, ok_iconst dX4_splitsLeft_2 iv_i1 rfl⟩, ?_⟩
  refine ⟨⟨mo_ist, ok_istn dX4_splitsLeft_3 rfl (Nat.le_of_ble_eq_true rfl) rfl⟩, ?_⟩
  refine ⟨⟨mo_keep, ok_keep rfl⟩, ?_⟩
  refine ⟨⟨mo_ild, ok_ildn dX4_splitsLeft_4 rfl rfl⟩, ?_⟩
  refine ⟨⟨mo_ilt, ok_ilt dX4_splitsLeft_5 rfl rfl⟩, ?_⟩
  refine ⟨⟨mo_ald, ok_aldn dX4_splitsLeft_8 rfl rfl⟩, ?_⟩
  refine ⟨⟨mo_ild, ok_ildn dX4_splitsLeft_9 rfl rfl⟩, ?_⟩
  refine ⟨⟨mo_ald, ok_aldn dX4_splitsLeft_10 rfl rfl⟩, ?_⟩
  refine ⟨⟨mo_gR, ok_gR rfl fd_X4_35 rfl dX4_splitsLeft_11 rfl⟩, ?_⟩
  refine ⟨⟨mo_cvV, ok_cvV mi_X4_lays lk_X4_113 q1372 q1373 rfl (Nat.le_of_ble_eq_true rfl) (iy_ro_le _) rfl rfl dX4_splitsLeft_14 rfl⟩, ?_⟩
  refine ⟨⟨mo_ald, ok_aldn dX4_splitsLeft_17 rfl rfl⟩, ?_⟩
  refine ⟨⟨mo_gR, ok_gR rfl fd_X4_35 rfl dX4_splitsLeft_18 rfl⟩, ?_⟩
  refine ⟨⟨mo_gI, ok_gI rfl fd_X4_133 rfl dX4_splitsLeft_21 rfl⟩, ?_⟩
  refine ⟨⟨mo_ilt, ok_ilt dX4_splitsLeft_24 rfl rfl⟩, ?_⟩
  refine ⟨⟨mo_ald, ok_aldn dX4_splitsLeft_27 rfl rfl⟩, ?_⟩
  refine ⟨⟨mo_ild, ok_ildn dX4_splitsLeft_28 rfl rfl⟩, ?_⟩
  refine ⟨⟨mo_cvI, ok_cvI mi_X4_isGone lk_X4_139 q1438 q1439 rfl (Nat.le_of_ble_eq_true rfl) (iy_ro_le _) rfl rfl dX4_splitsLeft_29 rfl⟩, ?_⟩
  refine ⟨⟨mo_ine, ok_ine dX4_splitsLeft_32 rfl rfl⟩, ?_⟩
  refine ⟨⟨mo_ald, ok_aldn dX4_splitsLeft_35 rfl rfl⟩, ?_⟩
  refine ⟨⟨mo_ald, ok_aldn dX4_splitsLeft_36 rfl rfl⟩, ?_⟩
  refine ⟨⟨mo_gR, ok_gR rfl fd_X4_35 rfl dX4_splitsLeft_37 rfl⟩, ?_⟩
  refine ⟨⟨mo_gI, ok_gI rfl fd_X4_74 rfl dX4_splitsLeft_40 rfl⟩, ?_⟩
  refine ⟨⟨mo_ald, ok_aldn dX4_splitsLeft_43 rfl rfl⟩, ?_⟩
  refine ⟨⟨mo_gR, ok_gR rfl fd_X4_35 rfl dX4_splitsLeft_44 rfl⟩, ?_⟩
  refine ⟨⟨mo_gI, ok_gI rfl fd_X4_133 rfl dX4_splitsLeft_47 rfl⟩, ?_⟩
  refine ⟨⟨mo_cvI, ok_cvI mi_X4_isNoted lk_X4_143 q1443 qs36 rfl (Nat.le_of_ble_eq_true rfl) (iy_ro_le _) rfl rfl dX4_splitsLeft_50 rfl⟩, ?_⟩
  refine ⟨⟨mo_ine, ok_ine dX4_splitsLeft_53 rfl rfl⟩, ?_⟩
  refine ⟨⟨mo_inc, ok_inc dX4_splitsLeft_56 iv_i1 (Nat.le_of_ble_eq_true rfl) rfl⟩, ?_⟩
  refine ⟨⟨mo_keep, ok_keep rfl⟩, ?_⟩
  refine ⟨⟨mo_ald, ok_aldn dX4_splitsLeft_59 rfl rfl⟩, ?_⟩
  refine ⟨⟨mo_gR, ok_gR rfl fd_X4_35 rfl dX4_splitsLeft_60 rfl⟩, ?_⟩
  refine ⟨⟨mo_gI, ok_gI rfl fd_X4_133 rfl dX4_splitsLeft_63 rfl⟩, ?_⟩
  refine ⟨⟨mo_ist, ok_istn dX4_splitsLeft_66 rfl (Nat.le_of_ble_eq_true rfl) rfl⟩, ?_⟩
  refine ⟨⟨mo_back, ok_back dX4_splitsLeft_67 rfl⟩, ?_⟩
  refine ⟨⟨mo_ild, ok_ildn dX4_splitsLeft_70 rfl rfl⟩, ?_⟩
  refine ⟨⟨mo_iret, ok_iret rfl rfl dX4_splitsLeft_71⟩, ?_⟩
  exact trivial
set_option maxHeartbeats 4000000 in
theorem alX4_goneLeft : iy_all (iy_calls iy_mi) RX4 "goneLeft" cX4_goneLeft 4 (some FieldType.int, []) pcX4_goneLeft pcX4_goneLeft stX4_goneLeft := by
  refine ⟨⟨mo_push, ok_iconst dX4_goneLeft_0 iv_i0 rfl⟩, ?_⟩
  refine ⟨⟨mo_ist, ok_istn dX4_goneLeft_1 rfl (Nat.le_of_ble_eq_true rfl) rfl⟩, ?_⟩
  refine ⟨⟨mo_ald, ok_aldn dX4_goneLeft_2 rfl rfl⟩, ?_⟩
  refine ⟨⟨mo_cvR, ok_cvR mi_X4_bounds lk_X4_117 q1426 q1427 rfl (Nat.le_of_ble_eq_true rfl) (iy_ro_le _) rfl rfl dX4_goneLeft_3 rfl⟩, ?_⟩
  refine ⟨⟨mo_ast, ok_astn dX4_goneLeft_6 rfl (Nat.le_of_ble_eq_true rfl) rfl⟩, ?_⟩
  refine ⟨⟨mo_push, ok_iconst dX4_goneLeft_7 iv_i0 rfl⟩, ?_⟩
  refine ⟨⟨mo_ist, ok_istn dX4_goneLeft_8 rfl (Nat.le_of_ble_eq_true rfl) rfl⟩, ?_⟩
  refine ⟨⟨mo_keep, ok_keep rfl⟩, ?_⟩
  refine ⟨⟨mo_ild, ok_ildn dX4_goneLeft_9 rfl rfl⟩, ?_⟩
  refine ⟨⟨mo_ald, ok_aldn dX4_goneLeft_10 rfl rfl⟩, ?_⟩
  refine ⟨⟨mo_gI, ok_gI rfl fd_X4_120 rfl dX4_goneLeft_11 rfl⟩, ?_⟩
  refine ⟨⟨mo_cge, ok_cge dX4_goneLeft_14 rfl rfl⟩, ?_⟩
  refine ⟨⟨mo_ild, ok_ildn dX4_goneLeft_17 rfl rfl⟩, ?_⟩
  refine ⟨⟨mo_ald, ok_aldn dX4_goneLeft_18 rfl rfl⟩, ?_⟩
  refine ⟨⟨mo_ald, ok_aldn dX4_goneLeft_19 rfl rfl⟩, ?_⟩
  refine ⟨⟨mo_gR, ok_gR rfl fd_X4_123 rfl dX4_goneLeft_20 rfl⟩, ?_⟩
  refine ⟨⟨mo_ild, ok_ildn dX4_goneLeft_23 rfl rfl⟩, ?_⟩
  refine ⟨⟨mo_alI, ok_iald dX4_goneLeft_24 rfl⟩, ?_⟩
  refine ⟨⟨mo_cvI, ok_cvI mi_X4_isGone lk_X4_139 q1438 q1439 rfl (Nat.le_of_ble_eq_true rfl) (iy_ro_le _) rfl rfl dX4_goneLeft_25 rfl⟩, ?_⟩
  refine ⟨⟨mo_ieq, ok_ieq dX4_goneLeft_28 rfl rfl⟩, ?_⟩
  refine ⟨⟨mo_push, ok_iconst dX4_goneLeft_31 iv_i1 rfl⟩, ?_⟩
  refine ⟨⟨mo_goto, ok_goto dX4_goneLeft_32 rfl⟩, ?_⟩
  refine ⟨⟨mo_push, ok_iconst dX4_goneLeft_35 iv_i0 rfl⟩, ?_⟩
  refine ⟨⟨mo_keep, ok_keep rfl⟩, ?_⟩
  refine ⟨⟨mo_bin, ok_iadd dX4_goneLeft_36 rfl⟩, ?_⟩
  refine ⟨⟨mo_ist, ok_istn dX4_goneLeft_37 rfl (Nat.le_of_ble_eq_true rfl) rfl⟩, ?_⟩
  refine ⟨⟨mo_inc, ok_inc dX4_goneLeft_38 iv_i1 (Nat.le_of_ble_eq_true rfl) rfl⟩, ?_⟩
  refine ⟨⟨mo_back, ok_back dX4_goneLeft_41 rfl⟩, ?_⟩
  refine ⟨⟨mo_ild, ok_ildn dX4_goneLeft_44 rfl rfl⟩, ?_⟩
  refine ⟨⟨mo_iret, ok_iret rfl rfl dX4_goneLeft_45⟩, ?_⟩
  exact trivial
set_option maxHeartbeats 4000000 in
theorem alX4_becomes : iy_all (iy_calls iy_mi) RX4 "becomes" cX4_becomes 3 (none, []) pcX4_becomes pcX4_becomes stX4_becomes := by
  refine ⟨⟨mo_ald, ok_aldn dX4_becomes_0 rfl rfl⟩, ?_⟩
  refine ⟨⟨mo_ald, ok_aldn dX4_becomes_1 rfl rfl⟩, ?_⟩
  refine ⟨⟨mo_gI, ok_gI rfl fd_X4_48 rfl dX4_becomes_2 rfl⟩, ?_⟩
  refine ⟨⟨mo_pI, ok_pI rfl fd_X4_48 rfl (Or.inl rfl) dX4_becomes_5 rfl⟩, ?_⟩
  refine ⟨⟨mo_ald, ok_aldn dX4_becomes_8 rfl rfl⟩, ?_⟩
  refine ⟨⟨mo_ald, ok_aldn dX4_becomes_9 rfl rfl⟩, ?_⟩
  refine ⟨⟨mo_gI, ok_gI rfl fd_X4_52 rfl dX4_becomes_10 rfl⟩, ?_⟩
  refine ⟨⟨mo_pI, ok_pI rfl fd_X4_52 rfl (Or.inl rfl) dX4_becomes_13 rfl⟩, ?_⟩
  refine ⟨⟨mo_ald, ok_aldn dX4_becomes_16 rfl rfl⟩, ?_⟩
  refine ⟨⟨mo_ald, ok_aldn dX4_becomes_17 rfl rfl⟩, ?_⟩
  refine ⟨⟨mo_gI, ok_gI rfl fd_X4_56 rfl dX4_becomes_18 rfl⟩, ?_⟩
  refine ⟨⟨mo_pI, ok_pI rfl fd_X4_56 rfl (Or.inl rfl) dX4_becomes_21 rfl⟩, ?_⟩
  refine ⟨⟨mo_ald, ok_aldn dX4_becomes_24 rfl rfl⟩, ?_⟩
  refine ⟨⟨mo_ald, ok_aldn dX4_becomes_25 rfl rfl⟩, ?_⟩
  refine ⟨⟨mo_gI, ok_gI rfl fd_X4_57 rfl dX4_becomes_26 rfl⟩, ?_⟩
  refine ⟨⟨mo_pI, ok_pI rfl fd_X4_57 rfl (Or.inl rfl) dX4_becomes_29 rfl⟩, ?_⟩
  refine ⟨⟨mo_ald, ok_aldn dX4_becomes_32 rfl rfl⟩, ?_⟩
  refine ⟨⟨mo_ald, ok_aldn dX4_becomes_33 rfl rfl⟩, ?_⟩
  refine ⟨⟨mo_gI, ok_gI rfl fd_X4_77 rfl dX4_becomes_34 rfl⟩, ?_⟩
  refine ⟨⟨mo_pI, ok_pI rfl fd_X4_77 rfl (Or.inl rfl) dX4_becomes_37 rfl⟩, ?_⟩
  refine ⟨⟨mo_ald, ok_aldn dX4_becomes_40 rfl rfl⟩, ?_⟩
  refine ⟨⟨mo_ald, ok_aldn dX4_becomes_41 rfl rfl⟩, ?_⟩
  refine ⟨⟨mo_gI, ok_gI rfl fd_X4_60 rfl dX4_becomes_42 rfl⟩, ?_⟩
  refine ⟨⟨mo_pI, ok_pI rfl fd_X4_60 rfl (Or.inl rfl) dX4_becomes_45 rfl⟩, ?_⟩
  refine ⟨⟨mo_push, ok_iconst dX4_becomes_48 iv_i0 rfl⟩, ?_⟩
  refine ⟨⟨mo_ist, ok_istn dX4_becomes_49 rfl (Nat.le_of_ble_eq_true rfl) rfl⟩, ?_⟩
  refine ⟨⟨mo_keep, ok_keep rfl⟩, ?_⟩
  refine ⟨⟨mo_ild, ok_ildn dX4_becomes_50 rfl rfl⟩, ?_⟩
  refine ⟨⟨mo_ald, ok_aldn dX4_becomes_51 rfl rfl⟩, ?_⟩
  refine ⟨⟨mo_gI, ok_gI rfl fd_X4_57 rfl dX4_becomes_52 rfl⟩, ?_⟩
  refine ⟨⟨mo_cge, ok_cge dX4_becomes_55 rfl rfl⟩, ?_⟩
  refine ⟨⟨mo_ald, ok_aldn dX4_becomes_58 rfl rfl⟩, ?_⟩
  refine ⟨⟨mo_gR, ok_gR rfl fd_X4_11 rfl dX4_becomes_59 rfl⟩, ?_⟩
  refine ⟨⟨mo_ild, ok_ildn dX4_becomes_62 rfl rfl⟩, ?_⟩
  refine ⟨⟨mo_alR, ok_aald rfl dX4_becomes_63 rfl⟩, ?_⟩
  refine ⟨⟨mo_nnul, ok_nnul dX4_becomes_64 rfl rfl⟩, ?_⟩
  refine ⟨⟨mo_ald, ok_aldn dX4_becomes_67 rfl rfl⟩, ?_⟩
  refine ⟨⟨mo_gR, ok_gR rfl fd_X4_11 rfl dX4_becomes_68 rfl⟩, ?_⟩
  refine ⟨⟨mo_ild, ok_ildn dX4_becomes_71 rfl rfl⟩, ?_⟩
  refine ⟨⟨mo_new, ok_new (r := (RX5, TX5, 12)) rfl rfl (Nat.le_of_ble_eq_true rfl) rfl rfl q355 q359 q151 dX4_becomes_72 rfl⟩, ?_⟩
  refine ⟨⟨mo_dup, ok_dup dX4_becomes_75 rfl⟩, ?_⟩
  refine ⟨⟨mo_cvV, ok_cn mi_X5_init q360 q151 q362 ⟨nmh_X5.1, nmh_X5.2, pmd_yX5_init⟩ (Nat.le_of_ble_eq_true rfl) q361 rfl dX4_becomes_76 rfl⟩, ?_⟩
  refine ⟨⟨mo_asR, ok_asR rfl can_DeltaIndex_Record_6 dX4_becomes_79 rfl⟩, ?_⟩
  refine ⟨⟨mo_keep, ok_keep rfl⟩, ?_⟩
  refine ⟨⟨mo_ald, ok_aldn dX4_becomes_80 rfl rfl⟩, ?_⟩
  refine ⟨⟨mo_gR, ok_gR rfl fd_X4_11 rfl dX4_becomes_81 rfl⟩, ?_⟩
  refine ⟨⟨mo_ild, ok_ildn dX4_becomes_84 rfl rfl⟩, ?_⟩
  refine ⟨⟨mo_alR, ok_aald rfl dX4_becomes_85 rfl⟩, ?_⟩
  refine ⟨⟨mo_ald, ok_aldn dX4_becomes_86 rfl rfl⟩, ?_⟩
  refine ⟨⟨mo_gR, ok_gR rfl fd_X4_11 rfl dX4_becomes_87 rfl⟩, ?_⟩
  refine ⟨⟨mo_ild, ok_ildn dX4_becomes_90 rfl rfl⟩, ?_⟩
  refine ⟨⟨mo_alR, ok_aald rfl dX4_becomes_91 rfl⟩, ?_⟩
  refine ⟨⟨mo_cvV, ok_cvV mi_X5_becomes lk_X4_80 q1673 q1674 rfl (Nat.le_of_ble_eq_true rfl) (iy_ro_le _) rfl rfl dX4_becomes_92 rfl⟩, ?_⟩
  refine ⟨⟨mo_inc, ok_inc dX4_becomes_95 iv_i1 (Nat.le_of_ble_eq_true rfl) rfl⟩, ?_⟩
  refine ⟨⟨mo_back, ok_back dX4_becomes_98 rfl⟩, ?_⟩
  refine ⟨⟨mo_ald, ok_aldn dX4_becomes_101 rfl rfl⟩, ?_⟩
  refine ⟨⟨mo_gR, ok_gR rfl fd_X4_17 rfl dX4_becomes_102 rfl⟩, ?_⟩
  refine ⟨⟨mo_push, ok_iconst dX4_becomes_105 iv_i0 rfl⟩, ?_⟩
  refine ⟨⟨mo_ald, ok_aldn dX4_becomes_106 rfl rfl⟩, ?_⟩
  refine ⟨⟨mo_gR, ok_gR rfl fd_X4_17 rfl dX4_becomes_107 rfl⟩, ?_⟩
  refine ⟨⟨mo_push, ok_iconst dX4_becomes_110 iv_i0 rfl⟩, ?_⟩
  refine ⟨⟨mo_ald, ok_aldn dX4_becomes_111 rfl rfl⟩, ?_⟩
  refine ⟨⟨mo_gI, ok_gI rfl fd_X4_77 rfl dX4_becomes_112 rfl⟩, ?_⟩
  refine ⟨⟨mo_cpyI, ok_cpyI rfl rfl cpw_X4_84 dX4_becomes_115 rfl⟩, ?_⟩
  refine ⟨⟨mo_push, ok_iconst dX4_becomes_118 iv_i0 rfl⟩, ?_⟩
  refine ⟨⟨mo_ist, ok_istn dX4_becomes_119 rfl (Nat.le_of_ble_eq_true rfl) rfl⟩, ?_⟩
  refine ⟨⟨mo_keep, ok_keep rfl⟩, ?_⟩
  refine ⟨⟨mo_ild, ok_ildn dX4_becomes_120 rfl rfl⟩, ?_⟩
  refine ⟨⟨mo_push, ok_iconst dX4_becomes_121 iv_i4 rfl⟩, ?_⟩
  refine ⟨⟨mo_cge, ok_cge dX4_becomes_122 rfl rfl⟩, ?_⟩
  refine ⟨⟨mo_ald, ok_aldn dX4_becomes_125 rfl rfl⟩, ?_⟩
  refine ⟨⟨mo_gR, ok_gR rfl fd_X4_23 rfl dX4_becomes_126 rfl⟩, ?_⟩
  refine ⟨⟨mo_ild, ok_ildn dX4_becomes_129 rfl rfl⟩, ?_⟩
  refine ⟨⟨mo_alR, ok_aald rfl dX4_becomes_130 rfl⟩, ?_⟩
  refine ⟨⟨mo_ald, ok_aldn dX4_becomes_131 rfl rfl⟩, ?_⟩
  refine ⟨⟨mo_gR, ok_gR rfl fd_X4_23 rfl dX4_becomes_132 rfl⟩, ?_⟩
  refine ⟨⟨mo_ild, ok_ildn dX4_becomes_135 rfl rfl⟩, ?_⟩
  refine ⟨⟨mo_alR, ok_aald rfl dX4_becomes_136 rfl⟩, ?_⟩
  refine ⟨⟨mo_cvV, ok_cvV mi_X6_becomes lk_X4_90 q1680 q1681 rfl (Nat.le_of_ble_eq_true rfl) (iy_ro_le _) rfl rfl dX4_becomes_137 rfl⟩, ?_⟩
  refine ⟨⟨mo_inc, ok_inc dX4_becomes_140 iv_i1 (Nat.le_of_ble_eq_true rfl) rfl⟩, ?_⟩
  refine ⟨⟨mo_back, ok_back dX4_becomes_143 rfl⟩, ?_⟩
  refine ⟨⟨mo_ret, ok_ret rfl dX4_becomes_146⟩, ?_⟩
  exact trivial
