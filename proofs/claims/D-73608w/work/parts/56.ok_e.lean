/-! SOUND STEPS. Written by gen_code.py -/
set_option maxRecDepth 100000
set_option maxHeartbeats 4000000 in
theorem alX0_init : iy_all (iy_calls iy_mi) RX0 "<init>" cX0_init 1 (none, []) pcX0_init pcX0_init stX0_init := by
  refine ⟨⟨mo_ald, ok_aldn dX0_init_0 rfl rfl⟩, ?_⟩
  refine ⟨⟨mo_oin, ok_oin q184 q185 q186 dX0_init_1 rfl⟩, ?_⟩
  refine ⟨⟨mo_ald, ok_aldn dX0_init_4 rfl rfl⟩, ?_⟩
  refine ⟨⟨mo_new, ok_new (r := (RX1, TX1, 8)) rfl rfl (Nat.le_of_ble_eq_true rfl) rfl rfl q187 q188 q147 dX0_init_5 rfl⟩, ?_⟩
  refine ⟨⟨mo_dup, ok_dup dX0_init_8 rfl⟩, ?_⟩
  refine ⟨⟨mo_cvV, ok_ci mi_X1_init lk_X0_9 q227 rfl dX0_init_9 rfl⟩, ?_⟩
  refine ⟨⟨mo_pR, ok_pR rfl fd_X0_10 rfl (Or.inr ⟨rfl, rfl, rfl⟩) dX0_init_12 rfl⟩, ?_⟩
  refine ⟨⟨mo_ald, ok_aldn dX0_init_15 rfl rfl⟩, ?_⟩
  refine ⟨⟨mo_new, ok_new (r := (RX2, TX2, 8)) rfl rfl (Nat.le_of_ble_eq_true rfl) rfl rfl q261 q262 q148 dX0_init_16 rfl⟩, ?_⟩
  refine ⟨⟨mo_dup, ok_dup dX0_init_19 rfl⟩, ?_⟩
  refine ⟨⟨mo_cvV, ok_cn mi_X2_init q263 q148 q265 ⟨nmh_X2.1, nmh_X2.2, pmd_yX2_init⟩ (Nat.le_of_ble_eq_true rfl) q264 rfl dX0_init_20 rfl⟩, ?_⟩
  refine ⟨⟨mo_pR, ok_pR rfl fd_X0_19 rfl (Or.inr ⟨rfl, rfl, rfl⟩) dX0_init_23 rfl⟩, ?_⟩
  refine ⟨⟨mo_ald, ok_aldn dX0_init_26 rfl rfl⟩, ?_⟩
  refine ⟨⟨mo_new, ok_new (r := (RX3, TX3, 8)) rfl rfl (Nat.le_of_ble_eq_true rfl) rfl rfl q318 q319 q149 dX0_init_27 rfl⟩, ?_⟩
  refine ⟨⟨mo_dup, ok_dup dX0_init_30 rfl⟩, ?_⟩
  refine ⟨⟨mo_ald, ok_aldn dX0_init_31 rfl rfl⟩, ?_⟩
  refine ⟨⟨mo_gR, ok_gR rfl fd_X0_19 rfl dX0_init_32 rfl⟩, ?_⟩
  refine ⟨⟨mo_ald, ok_aldn dX0_init_35 rfl rfl⟩, ?_⟩
  refine ⟨⟨mo_gR, ok_gR rfl fd_X0_10 rfl dX0_init_36 rfl⟩, ?_⟩
  refine ⟨⟨mo_cvV, ok_ci mi_X3_init lk_X0_25 q321 rfl dX0_init_39 rfl⟩, ?_⟩
  refine ⟨⟨mo_pR, ok_pR rfl fd_X0_28 rfl (Or.inr ⟨rfl, rfl, rfl⟩) dX0_init_42 rfl⟩, ?_⟩
  refine ⟨⟨mo_ald, ok_aldn dX0_init_45 rfl rfl⟩, ?_⟩
  refine ⟨⟨mo_push, ok_iconst dX0_init_46 iv_im1 rfl⟩, ?_⟩
  refine ⟨⟨mo_pI, ok_pI rfl fd_X0_32 rfl (Or.inl rfl) dX0_init_47 rfl⟩, ?_⟩
  refine ⟨⟨mo_ald, ok_aldn dX0_init_50 rfl rfl⟩, ?_⟩
  refine ⟨⟨mo_new, ok_new (r := (RX4, TX4, 13)) rfl rfl (Nat.le_of_ble_eq_true rfl) rfl rfl q349 q350 q150 dX0_init_51 rfl⟩, ?_⟩
  refine ⟨⟨mo_dup, ok_dup dX0_init_54 rfl⟩, ?_⟩
  refine ⟨⟨mo_cvV, ok_ci mi_X4_init lk_X0_38 q352 rfl dX0_init_55 rfl⟩, ?_⟩
  refine ⟨⟨mo_pR, ok_pR rfl fd_X0_39 rfl (Or.inr ⟨rfl, rfl, rfl⟩) dX0_init_58 rfl⟩, ?_⟩
  refine ⟨⟨mo_ald, ok_aldn dX0_init_61 rfl rfl⟩, ?_⟩
  refine ⟨⟨mo_new, ok_new (r := (RX4, TX4, 13)) rfl rfl (Nat.le_of_ble_eq_true rfl) rfl rfl q349 q350 q150 dX0_init_62 rfl⟩, ?_⟩
  refine ⟨⟨mo_dup, ok_dup dX0_init_65 rfl⟩, ?_⟩
  refine ⟨⟨mo_cvV, ok_ci mi_X4_init lk_X0_38 q352 rfl dX0_init_66 rfl⟩, ?_⟩
  refine ⟨⟨mo_pR, ok_pR rfl fd_X0_43 rfl (Or.inr ⟨rfl, rfl, rfl⟩) dX0_init_69 rfl⟩, ?_⟩
  refine ⟨⟨mo_ald, ok_aldn dX0_init_72 rfl rfl⟩, ?_⟩
  refine ⟨⟨mo_push, ok_iconst dX0_init_73 iv_i3 rfl⟩, ?_⟩
  refine ⟨⟨mo_newA, ok_newR rfl q349 q551 dX0_init_74 rfl⟩, ?_⟩
  refine ⟨⟨mo_dup, ok_dup dX0_init_77 rfl⟩, ?_⟩
  refine ⟨⟨mo_push, ok_iconst dX0_init_78 iv_i0 rfl⟩, ?_⟩
  refine ⟨⟨mo_new, ok_new (r := (RX4, TX4, 13)) rfl rfl (Nat.le_of_ble_eq_true rfl) rfl rfl q349 q350 q150 dX0_init_79 rfl⟩, ?_⟩
  refine ⟨⟨mo_dup, ok_dup dX0_init_82 rfl⟩, ?_⟩
  refine ⟨⟨mo_cvV, ok_ci mi_X4_init lk_X0_38 q352 rfl dX0_init_83 rfl⟩, ?_⟩
  refine ⟨⟨mo_asR, ok_asR rfl can_DeltaIndex_Store_5 dX0_init_86 rfl⟩, ?_⟩
  refine ⟨⟨mo_dup, ok_dup dX0_init_87 rfl⟩, ?_⟩
  refine ⟨⟨mo_push, ok_iconst dX0_init_88 iv_i1 rfl⟩, ?_⟩
  refine ⟨⟨mo_new, ok_new (r := (RX4, TX4, 13)) rfl rfl (Nat.le_of_ble_eq_true rfl) rfl rfl q349 q350 q150 dX0_init_89 rfl⟩, ?_⟩
  refine ⟨⟨mo_dup, ok_dup dX0_init_92 rfl⟩, ?_⟩
  refine ⟨⟨mo_cvV, ok_ci mi_X4_init lk_X0_38 q352 rfl dX0_init_93 rfl⟩, ?_⟩
  refine ⟨⟨mo_asR, ok_asR rfl can_DeltaIndex_Store_5 dX0_init_96 rfl⟩, ?_⟩
  refine ⟨⟨mo_dup, ok_dup dX0_init_97 rfl⟩, ?_⟩
  refine ⟨⟨mo_push, ok_iconst dX0_init_98 iv_i2 rfl⟩, ?_⟩
  refine ⟨⟨mo_new, ok_new (r := (RX4, TX4, 13)) rfl rfl (Nat.le_of_ble_eq_true rfl) rfl rfl q349 q350 q150 dX0_init_99 rfl⟩, ?_⟩
  refine ⟨⟨mo_dup, ok_dup dX0_init_102 rfl⟩, ?_⟩
  refine ⟨⟨mo_cvV, ok_ci mi_X4_init lk_X0_38 q352 rfl dX0_init_103 rfl⟩, ?_⟩
  refine ⟨⟨mo_asR, ok_asR rfl can_DeltaIndex_Store_5 dX0_init_106 rfl⟩, ?_⟩
  refine ⟨⟨mo_pR, ok_pR rfl fd_X0_46 rfl (Or.inr ⟨rfl, rfl, rfl⟩) dX0_init_107 rfl⟩, ?_⟩
  refine ⟨⟨mo_ald, ok_aldn dX0_init_110 rfl rfl⟩, ?_⟩
  refine ⟨⟨mo_new, ok_new (r := (RX5, TX5, 12)) rfl rfl (Nat.le_of_ble_eq_true rfl) rfl rfl q552 q359 q151 dX0_init_111 rfl⟩, ?_⟩
  refine ⟨⟨mo_dup, ok_dup dX0_init_114 rfl⟩, ?_⟩
  refine ⟨⟨mo_cvV, ok_cn mi_X5_init q553 q151 q362 ⟨nmh_X5.1, nmh_X5.2, pmd_yX5_init⟩ (Nat.le_of_ble_eq_true rfl) q361 rfl dX0_init_115 rfl⟩, ?_⟩
  refine ⟨⟨mo_pR, ok_pR rfl fd_X0_53 rfl (Or.inr ⟨rfl, rfl, rfl⟩) dX0_init_118 rfl⟩, ?_⟩
  refine ⟨⟨mo_ald, ok_aldn dX0_init_121 rfl rfl⟩, ?_⟩
  refine ⟨⟨mo_push, ok_iconst dX0_init_122 iv_i3 rfl⟩, ?_⟩
  refine ⟨⟨mo_newA, ok_newA rfl rfl q592 dX0_init_123 rfl rfl⟩, ?_⟩
  refine ⟨⟨mo_pR, ok_pR rfl fd_X0_57 rfl (Or.inr ⟨rfl, rfl, rfl⟩) dX0_init_125 rfl⟩, ?_⟩
  refine ⟨⟨mo_ald, ok_aldn dX0_init_128 rfl rfl⟩, ?_⟩
  refine ⟨⟨mo_push, ok_sipush dX0_init_129 iv_s1000 rfl⟩, ?_⟩
  refine ⟨⟨mo_newA, ok_newA rfl rfl q422 dX0_init_132 rfl rfl⟩, ?_⟩
  refine ⟨⟨mo_pR, ok_pR rfl fd_X0_61 rfl (Or.inr ⟨rfl, rfl, rfl⟩) dX0_init_134 rfl⟩, ?_⟩
  refine ⟨⟨mo_ald, ok_aldn dX0_init_137 rfl rfl⟩, ?_⟩
  refine ⟨⟨mo_push, ok_sipush dX0_init_138 iv_s1000 rfl⟩, ?_⟩
  refine ⟨⟨mo_newA, ok_newA rfl rfl q422 dX0_init_141 rfl rfl⟩, ?_⟩
  refine ⟨⟨mo_pR, ok_pR rfl fd_X0_65 rfl (Or.inr ⟨rfl, rfl, rfl⟩) dX0_init_143 rfl⟩, ?_⟩
  refine ⟨⟨mo_ald, ok_aldn dX0_init_146 rfl rfl⟩, ?_⟩
  refine ⟨⟨mo_push, ok_sipush dX0_init_147 iv_s1000 rfl⟩, ?_⟩
  refine ⟨⟨mo_newA, ok_newA rfl rfl q422 dX0_init_150 rfl rfl⟩, ?_⟩
  refine ⟨⟨mo_pR, ok_pR rfl fd_X0_68 rfl (Or.inr ⟨rfl, rfl, rfl⟩) dX0_init_152 rfl⟩, ?_⟩
  refine ⟨⟨mo_ald, ok_aldn dX0_init_155 rfl rfl⟩, ?_⟩
  refine ⟨⟨mo_push, ok_sipush dX0_init_156 iv_s1000 rfl⟩, ?_⟩
  refine ⟨⟨mo_newA, ok_newA rfl rfl q422 dX0_init_159 rfl rfl⟩, ?_⟩
  refine ⟨⟨mo_pR, ok_pR rfl fd_X0_71 rfl (Or.inr ⟨rfl, rfl, rfl⟩) dX0_init_161 rfl⟩, ?_⟩
  refine ⟨⟨mo_ald, ok_aldn dX0_init_164 rfl rfl⟩, ?_⟩
  refine ⟨⟨mo_gR, ok_gR rfl fd_X0_39 rfl dX0_init_165 rfl⟩, ?_⟩
  refine ⟨⟨mo_new, ok_new (r := (RX7, TX7, 4)) rfl rfl (Nat.le_of_ble_eq_true rfl) rfl rfl q554 q555 q153 dX0_init_168 rfl⟩, ?_⟩
  refine ⟨⟨mo_dup, ok_dup dX0_init_171 rfl⟩, ?_⟩
  refine ⟨⟨mo_cvV, ok_cn mi_X7_init q556 q153 q558 ⟨nmh_X7.1, nmh_X7.2, pmd_yX7_init⟩ (Nat.le_of_ble_eq_true rfl) q557 rfl dX0_init_172 rfl⟩, ?_⟩
  refine ⟨⟨mo_cvV, ok_cvV mi_X4_begins lk_X0_77 q623 q624 rfl (Nat.le_of_ble_eq_true rfl) (iy_ro_le _) rfl rfl dX0_init_175 rfl⟩, ?_⟩
  refine ⟨⟨mo_ret, ok_ret rfl dX0_init_178⟩, ?_⟩
  exact trivial
set_option maxHeartbeats 4000000 in
theorem alX0_feed : iy_all (iy_calls iy_mi) RX0 "feed" cX0_feed 6 (some FieldType.int, []) pcX0_feed pcX0_feed stX0_feed := by
  refine ⟨⟨mo_ald, ok_aldn dX0_feed_0 rfl rfl⟩, ?_⟩
  refine ⟨⟨mo_gR, ok_gR rfl fd_X0_19 rfl dX0_feed_1 rfl⟩, ?_⟩
  refine ⟨⟨mo_gI, ok_gI rfl fd_X0_81 rfl dX0_feed_4 rfl⟩, ?_⟩
  refine ⟨⟨mo_push, ok_bipush dX0_feed_7 iv_b20 rfl⟩, ?_⟩
  refine ⟨⟨mo_bin, ok_iadd dX0_feed_9 rfl⟩, ?_⟩
  refine ⟨⟨mo_push, ok_sipush dX0_feed_10 iv_s2000 rfl⟩, ?_⟩
  refine ⟨⟨mo_cle, ok_cle dX0_feed_13 rfl rfl⟩, ?_⟩
  refine ⟨⟨mo_push, ok_iconst dX0_feed_16 iv_im1 rfl⟩, ?_⟩
  refine ⟨⟨mo_iret, ok_iret rfl rfl dX0_feed_17⟩, ?_⟩
  refine ⟨⟨mo_ald, ok_aldn dX0_feed_18 rfl rfl⟩, ?_⟩
  refine ⟨⟨mo_ild, ok_ildn dX0_feed_19 rfl rfl⟩, ?_⟩
  refine ⟨⟨mo_cvV, ok_cvV mi_X0_typed lk_X0_84 q695 qs2 rfl (Nat.le_of_ble_eq_true rfl) (iy_ro_le _) rfl rfl dX0_feed_20 rfl⟩, ?_⟩
  refine ⟨⟨mo_ald, ok_aldn dX0_feed_23 rfl rfl⟩, ?_⟩
  refine ⟨⟨mo_ild, ok_ildn dX0_feed_24 rfl rfl⟩, ?_⟩
  refine ⟨⟨mo_cvV, ok_cvV mi_X0_typed lk_X0_84 q695 qs2 rfl (Nat.le_of_ble_eq_true rfl) (iy_ro_le _) rfl rfl dX0_feed_25 rfl⟩, ?_⟩
  refine ⟨⟨mo_ald, ok_aldn dX0_feed_28 rfl rfl⟩, ?_⟩
  refine ⟨⟨mo_ild, ok_ildn dX0_feed_29 rfl rfl⟩, ?_⟩
  refine ⟨⟨mo_cvV, ok_cvV mi_X0_typed lk_X0_84 q695 qs2 rfl (Nat.le_of_ble_eq_true rfl) (iy_ro_le _) rfl rfl dX0_feed_30 rfl⟩, ?_⟩
  refine ⟨⟨mo_ald, ok_aldn dX0_feed_33 rfl rfl⟩, ?_⟩
  refine ⟨⟨mo_ild, ok_ild dX0_feed_34 rfl⟩, ?_⟩
  refine ⟨⟨mo_cvV, ok_cvV mi_X0_typed lk_X0_84 q695 qs2 rfl (Nat.le_of_ble_eq_true rfl) (iy_ro_le _) rfl rfl dX0_feed_36 rfl⟩, ?_⟩
  refine ⟨⟨mo_ald, ok_aldn dX0_feed_39 rfl rfl⟩, ?_⟩
  refine ⟨⟨mo_ild, ok_ild dX0_feed_40 rfl⟩, ?_⟩
  refine ⟨⟨mo_cvV, ok_cvV mi_X0_typed lk_X0_84 q695 qs2 rfl (Nat.le_of_ble_eq_true rfl) (iy_ro_le _) rfl rfl dX0_feed_42 rfl⟩, ?_⟩
  refine ⟨⟨mo_ald, ok_aldn dX0_feed_45 rfl rfl⟩, ?_⟩
  refine ⟨⟨mo_gR, ok_gR rfl fd_X0_19 rfl dX0_feed_46 rfl⟩, ?_⟩
  refine ⟨⟨mo_gI, ok_gI rfl fd_X0_81 rfl dX0_feed_49 rfl⟩, ?_⟩
  refine ⟨⟨mo_iret, ok_iret rfl rfl dX0_feed_52⟩, ?_⟩
  exact trivial
set_option maxHeartbeats 4000000 in
theorem alX0_typed : iy_all (iy_calls iy_mi) RX0 "typed" cX0_typed 3 (none, []) pcX0_typed pcX0_typed stX0_typed := by
  refine ⟨⟨mo_push, ok_bipush dX0_typed_0 iv_b24 rfl⟩, ?_⟩
  refine ⟨⟨mo_ist, ok_istn dX0_typed_2 rfl (Nat.le_of_ble_eq_true rfl) rfl⟩, ?_⟩
  refine ⟨⟨mo_keep, ok_keep rfl⟩, ?_⟩
  refine ⟨⟨mo_ild, ok_ildn dX0_typed_3 rfl rfl⟩, ?_⟩
  refine ⟨⟨mo_ilt, ok_ilt dX0_typed_4 rfl rfl⟩, ?_⟩
  refine ⟨⟨mo_ald, ok_aldn dX0_typed_7 rfl rfl⟩, ?_⟩
  refine ⟨⟨mo_gR, ok_gR rfl fd_X0_19 rfl dX0_typed_8 rfl⟩, ?_⟩
  refine ⟨⟨mo_gR, ok_gR rfl fd_X0_88 rfl dX0_typed_11 rfl⟩, ?_⟩
  refine ⟨⟨mo_ald, ok_aldn dX0_typed_14 rfl rfl⟩, ?_⟩
  refine ⟨⟨mo_gR, ok_gR rfl fd_X0_19 rfl dX0_typed_15 rfl⟩, ?_⟩
  refine ⟨⟨mo_gI, ok_gI rfl fd_X0_81 rfl dX0_typed_18 rfl⟩, ?_⟩
  refine ⟨⟨mo_ild, ok_ildn dX0_typed_21 rfl rfl⟩, ?_⟩
  refine ⟨⟨mo_ild, ok_ildn dX0_typed_22 rfl rfl⟩, ?_⟩
  refine ⟨⟨mo_bin, ok_ishr dX0_typed_23 rfl⟩, ?_⟩
  refine ⟨⟨mo_un, ok_i2b dX0_typed_24 rfl⟩, ?_⟩
  refine ⟨⟨mo_asI, ok_bast dX0_typed_25 rfl⟩, ?_⟩
  refine ⟨⟨mo_ald, ok_aldn dX0_typed_26 rfl rfl⟩, ?_⟩
  refine ⟨⟨mo_gR, ok_gR rfl fd_X0_19 rfl dX0_typed_27 rfl⟩, ?_⟩
  refine ⟨⟨mo_dup, ok_dup dX0_typed_30 rfl⟩, ?_⟩
  refine ⟨⟨mo_gI, ok_gI rfl fd_X0_81 rfl dX0_typed_31 rfl⟩, ?_⟩
  refine ⟨⟨mo_push, ok_iconst dX0_typed_34 iv_i1 rfl⟩, ?_⟩
  refine ⟨⟨mo_bin, ok_iadd dX0_typed_35 rfl⟩, ?_⟩
  refine ⟨⟨mo_pI, ok_pI rfl fd_X0_81 rfl (Or.inl rfl) dX0_typed_36 rfl⟩, ?_⟩
  refine ⟨⟨mo_inc, ok_inc dX0_typed_39 iv_im8 (Nat.le_of_ble_eq_true rfl) rfl⟩, ?_⟩
  refine ⟨⟨mo_back, ok_back dX0_typed_42 rfl⟩, ?_⟩
  refine ⟨⟨mo_ret, ok_ret rfl dX0_typed_45⟩, ?_⟩
  exact trivial
set_option maxHeartbeats 4000000 in
theorem alX0_back : iy_all (iy_calls iy_mi) RX0 "back" cX0_back 2 (some FieldType.int, []) pcX0_back pcX0_back stX0_back := by
  refine ⟨⟨mo_ild, ok_ildn dX0_back_0 rfl rfl⟩, ?_⟩
  refine ⟨⟨mo_ilt, ok_ilt dX0_back_1 rfl rfl⟩, ?_⟩
  refine ⟨⟨mo_ild, ok_ildn dX0_back_4 rfl rfl⟩, ?_⟩
  refine ⟨⟨mo_ald, ok_aldn dX0_back_5 rfl rfl⟩, ?_⟩
  refine ⟨⟨mo_gR, ok_gR rfl fd_X0_19 rfl dX0_back_6 rfl⟩, ?_⟩
  refine ⟨⟨mo_gI, ok_gI rfl fd_X0_81 rfl dX0_back_9 rfl⟩, ?_⟩
  refine ⟨⟨mo_cle, ok_cle dX0_back_12 rfl rfl⟩, ?_⟩
  refine ⟨⟨mo_keep, ok_keep rfl⟩, ?_⟩
  refine ⟨⟨mo_push, ok_iconst dX0_back_15 iv_im1 rfl⟩, ?_⟩
  refine ⟨⟨mo_iret, ok_iret rfl rfl dX0_back_16⟩, ?_⟩
  refine ⟨⟨mo_ald, ok_aldn dX0_back_17 rfl rfl⟩, ?_⟩
  refine ⟨⟨mo_gR, ok_gR rfl fd_X0_19 rfl dX0_back_18 rfl⟩, ?_⟩
  refine ⟨⟨mo_dup, ok_dup dX0_back_21 rfl⟩, ?_⟩
  refine ⟨⟨mo_gI, ok_gI rfl fd_X0_81 rfl dX0_back_22 rfl⟩, ?_⟩
  refine ⟨⟨mo_ild, ok_ildn dX0_back_25 rfl rfl⟩, ?_⟩
  refine ⟨⟨mo_bin, ok_isub dX0_back_26 rfl⟩, ?_⟩
  refine ⟨⟨mo_pI, ok_pI rfl fd_X0_81 rfl (Or.inl rfl) dX0_back_27 rfl⟩, ?_⟩
  refine ⟨⟨mo_ald, ok_aldn dX0_back_30 rfl rfl⟩, ?_⟩
  refine ⟨⟨mo_gR, ok_gR rfl fd_X0_19 rfl dX0_back_31 rfl⟩, ?_⟩
  refine ⟨⟨mo_gI, ok_gI rfl fd_X0_81 rfl dX0_back_34 rfl⟩, ?_⟩
  refine ⟨⟨mo_iret, ok_iret rfl rfl dX0_back_37⟩, ?_⟩
  exact trivial
set_option maxHeartbeats 4000000 in
theorem alX0_read : iy_all (iy_calls iy_mi) RX0 "read" cX0_read 3 (some FieldType.int, [((7 : Nat), (18 : Nat), (21 : Nat), (7 : Nat))]) pcX0_read pcX0_read stX0_read := by
  refine ⟨⟨mo_push, ok_iconst dX0_read_0 iv_i0 rfl⟩, ?_⟩
  refine ⟨⟨mo_ist, ok_istn dX0_read_1 rfl (Nat.le_of_ble_eq_true rfl) rfl⟩, ?_⟩
  refine ⟨⟨mo_ald, ok_aldn dX0_read_2 rfl rfl⟩, ?_⟩
  refine ⟨⟨mo_push, ok_iconst dX0_read_3 iv_im1 rfl⟩, ?_⟩
  refine ⟨⟨mo_pI, ok_pI rfl fd_X0_32 rfl (Or.inl rfl) dX0_read_4 rfl⟩, ?_⟩
  refine ⟨⟨mo_ald, ok_aldn dX0_read_7 rfl rfl⟩, ?_⟩
  refine ⟨⟨mo_ald, ok_aldn dX0_read_8 rfl rfl⟩, ?_⟩
  refine ⟨⟨mo_gR, ok_gR rfl fd_X0_28 rfl dX0_read_9 rfl⟩, ?_⟩
  refine ⟨⟨mo_chR, ok_chR mi_X3_read lk_X0_110 q706 q707 rfl (Nat.le_of_ble_eq_true rfl) (iy_ro_le _) rfl rfl dX0_read_12 rfl rfl rfl (by decide) q187 q189 rfl⟩, ?_⟩
  refine ⟨⟨mo_cvV, ok_cvV mi_X0_goesThrough lk_X0_114 q1262 qs33 rfl (Nat.le_of_ble_eq_true rfl) (iy_ro_le _) rfl rfl dX0_read_15 rfl⟩, ?_⟩
  refine ⟨⟨mo_goto, ok_goto dX0_read_18 rfl⟩, ?_⟩
  refine ⟨⟨mo_keep, ok_keep rfl⟩, ?_⟩
  refine ⟨⟨mo_ast, ok_astn dX0_read_21 rfl (Nat.le_of_ble_eq_true rfl) rfl⟩, ?_⟩
  refine ⟨⟨mo_ald, ok_aldn dX0_read_22 rfl rfl⟩, ?_⟩
  refine ⟨⟨mo_gI, ok_gI rfl fd_X0_117 rfl dX0_read_23 rfl⟩, ?_⟩
  refine ⟨⟨mo_ist, ok_istn dX0_read_26 rfl (Nat.le_of_ble_eq_true rfl) rfl⟩, ?_⟩
  refine ⟨⟨mo_ald, ok_aldn dX0_read_27 rfl rfl⟩, ?_⟩
  refine ⟨⟨mo_ald, ok_aldn dX0_read_28 rfl rfl⟩, ?_⟩
  refine ⟨⟨mo_gI, ok_gI rfl fd_X0_120 rfl dX0_read_29 rfl⟩, ?_⟩
  refine ⟨⟨mo_pI, ok_pI rfl fd_X0_32 rfl (Or.inl rfl) dX0_read_32 rfl⟩, ?_⟩
  refine ⟨⟨mo_keep, ok_keep rfl⟩, ?_⟩
  refine ⟨⟨mo_ald, ok_aldn dX0_read_35 rfl rfl⟩, ?_⟩
  refine ⟨⟨mo_gR, ok_gR rfl fd_X0_19 rfl dX0_read_36 rfl⟩, ?_⟩
  refine ⟨⟨mo_push, ok_iconst dX0_read_39 iv_i0 rfl⟩, ?_⟩
  refine ⟨⟨mo_pI, ok_pI rfl fd_X0_81 rfl (Or.inl rfl) dX0_read_40 rfl⟩, ?_⟩
  refine ⟨⟨mo_ild, ok_ildn dX0_read_43 rfl rfl⟩, ?_⟩
  refine ⟨⟨mo_iret, ok_iret rfl rfl dX0_read_44⟩, ?_⟩
  exact trivial
set_option maxHeartbeats 4000000 in
theorem alX0_goesThrough : iy_all (iy_calls iy_mi) RX0 "goesThrough" cX0_goesThrough 4 (none, []) pcX0_goesThrough pcX0_goesThrough stX0_goesThrough := by
  refine ⟨⟨mo_ald, ok_aldn dX0_goesThrough_0 rfl rfl⟩, ?_⟩
  refine ⟨⟨mo_gR, ok_gR rfl fd_X0_39 rfl dX0_goesThrough_1 rfl⟩, ?_⟩
  refine ⟨⟨mo_ald, ok_aldn dX0_goesThrough_4 rfl rfl⟩, ?_⟩
  refine ⟨⟨mo_cvV, ok_cvV mi_X4_begins lk_X0_77 q623 q624 rfl (Nat.le_of_ble_eq_true rfl) (iy_ro_le _) rfl rfl dX0_goesThrough_5 rfl⟩, ?_⟩
  refine ⟨⟨mo_new, ok_new (r := (RX18, TX18, 5)) rfl rfl (Nat.le_of_ble_eq_true rfl) rfl rfl q1264 q1265 q177 dX0_goesThrough_8 rfl⟩, ?_⟩
  refine ⟨⟨mo_dup, ok_dup dX0_goesThrough_11 rfl⟩, ?_⟩
  refine ⟨⟨mo_ald, ok_aldn dX0_goesThrough_12 rfl rfl⟩, ?_⟩
  refine ⟨⟨mo_gR, ok_gR rfl fd_X0_39 rfl dX0_goesThrough_13 rfl⟩, ?_⟩
  refine ⟨⟨mo_cvV, ok_ci mi_X18_init lk_X0_94 q1267 rfl dX0_goesThrough_16 rfl⟩, ?_⟩
  refine ⟨⟨mo_ast, ok_astn dX0_goesThrough_19 rfl (Nat.le_of_ble_eq_true rfl) rfl⟩, ?_⟩
  refine ⟨⟨mo_ald, ok_aldn dX0_goesThrough_20 rfl rfl⟩, ?_⟩
  refine ⟨⟨mo_gR, ok_gR rfl fd_X0_97 rfl dX0_goesThrough_21 rfl⟩, ?_⟩
  refine ⟨⟨mo_ald, ok_aldn dX0_goesThrough_24 rfl rfl⟩, ?_⟩
  refine ⟨⟨mo_cvV, ok_cvV mi_X8_all lk_X0_101 q1296 q1297 rfl (Nat.le_of_ble_eq_true rfl) (iy_ro_le _) rfl rfl dX0_goesThrough_25 rfl⟩, ?_⟩
  refine ⟨⟨mo_ald, ok_aldn dX0_goesThrough_28 rfl rfl⟩, ?_⟩
  refine ⟨⟨mo_ald, ok_aldn dX0_goesThrough_29 rfl rfl⟩, ?_⟩
  refine ⟨⟨mo_gI, ok_gI rfl fd_X0_106 rfl dX0_goesThrough_30 rfl⟩, ?_⟩
  refine ⟨⟨mo_pI, ok_pI rfl fd_X0_109 rfl (Or.inl rfl) dX0_goesThrough_33 rfl⟩, ?_⟩
  refine ⟨⟨mo_push, ok_iconst dX0_goesThrough_36 iv_i0 rfl⟩, ?_⟩
  refine ⟨⟨mo_ist, ok_istn dX0_goesThrough_37 rfl (Nat.le_of_ble_eq_true rfl) rfl⟩, ?_⟩
  refine ⟨⟨mo_keep, ok_keep rfl⟩, ?_⟩
  refine ⟨⟨mo_ild, ok_ildn dX0_goesThrough_38 rfl rfl⟩, ?_⟩
  refine ⟨⟨mo_push, ok_iconst dX0_goesThrough_39 iv_i3 rfl⟩, ?_⟩
  refine ⟨⟨mo_cge, ok_cge dX0_goesThrough_40 rfl rfl⟩, ?_⟩
  refine ⟨⟨mo_ald, ok_aldn dX0_goesThrough_43 rfl rfl⟩, ?_⟩
  refine ⟨⟨mo_gR, ok_gR rfl fd_X0_57 rfl dX0_goesThrough_44 rfl⟩, ?_⟩
  refine ⟨⟨mo_ild, ok_ildn dX0_goesThrough_47 rfl rfl⟩, ?_⟩
  refine ⟨⟨mo_push, ok_iconst dX0_goesThrough_48 iv_i0 rfl⟩, ?_⟩
  refine ⟨⟨mo_asI, ok_zast dX0_goesThrough_49 rfl⟩, ?_⟩
  refine ⟨⟨mo_inc, ok_inc dX0_goesThrough_50 iv_i1 (Nat.le_of_ble_eq_true rfl) rfl⟩, ?_⟩
  refine ⟨⟨mo_back, ok_back dX0_goesThrough_53 rfl⟩, ?_⟩
  refine ⟨⟨mo_ret, ok_ret rfl dX0_goesThrough_56⟩, ?_⟩
  exact trivial
set_option maxHeartbeats 4000000 in
theorem alX0_place : iy_all (iy_calls iy_mi) RX0 "place" cX0_place 1 (some FieldType.int, []) pcX0_place pcX0_place stX0_place := by
  refine ⟨⟨mo_ald, ok_aldn dX0_place_0 rfl rfl⟩, ?_⟩
  refine ⟨⟨mo_gI, ok_gI rfl fd_X0_32 rfl dX0_place_1 rfl⟩, ?_⟩
  refine ⟨⟨mo_iret, ok_iret rfl rfl dX0_place_4⟩, ?_⟩
  exact trivial
set_option maxHeartbeats 4000000 in
theorem alX0_begin : iy_all (iy_calls iy_mi) RX0 "begin" cX0_begin 5 (some FieldType.boolean, []) pcX0_begin pcX0_begin stX0_begin := by
  refine ⟨⟨mo_ild, ok_ildn dX0_begin_0 rfl rfl⟩, ?_⟩
  refine ⟨⟨mo_csI, ok_csI mi_X0_isHand lk_X0_131 q1560 dX0_begin_1 rfl⟩, ?_⟩
  refine ⟨⟨mo_ieq, ok_ieq dX0_begin_4 rfl rfl⟩, ?_⟩
  refine ⟨⟨mo_ild, ok_ildn dX0_begin_7 rfl rfl⟩, ?_⟩
  refine ⟨⟨mo_push, ok_iconst dX0_begin_8 iv_i1 rfl⟩, ?_⟩
  refine ⟨⟨mo_push, ok_iconst dX0_begin_9 iv_i3 rfl⟩, ?_⟩
  refine ⟨⟨mo_csI, ok_csI mi_X0_isIn lk_X0_121 q1563 dX0_begin_10 rfl⟩, ?_⟩
  refine ⟨⟨mo_ieq, ok_ieq dX0_begin_13 rfl rfl⟩, ?_⟩
  refine ⟨⟨mo_ild, ok_ildn dX0_begin_16 rfl rfl⟩, ?_⟩
  refine ⟨⟨mo_csI, ok_csI mi_X0_isKey lk_X0_135 q1566 dX0_begin_17 rfl⟩, ?_⟩
  refine ⟨⟨mo_ieq, ok_ieq dX0_begin_20 rfl rfl⟩, ?_⟩
  refine ⟨⟨mo_ald, ok_aldn dX0_begin_23 rfl rfl⟩, ?_⟩
  refine ⟨⟨mo_gR, ok_gR rfl fd_X0_39 rfl dX0_begin_24 rfl⟩, ?_⟩
  refine ⟨⟨mo_ild, ok_ildn dX0_begin_27 rfl rfl⟩, ?_⟩
  refine ⟨⟨mo_ild, ok_ildn dX0_begin_28 rfl rfl⟩, ?_⟩
  refine ⟨⟨mo_ild, ok_ildn dX0_begin_29 rfl rfl⟩, ?_⟩
  refine ⟨⟨mo_ild, ok_ild dX0_begin_30 rfl⟩, ?_⟩
  refine ⟨⟨mo_cvI, ok_cvI mi_X4_takesUp lk_X0_138 q1410 q1411 rfl (Nat.le_of_ble_eq_true rfl) (iy_ro_le _) rfl rfl dX0_begin_32 rfl⟩, ?_⟩
  refine ⟨⟨mo_ieq, ok_ieq dX0_begin_35 rfl rfl⟩, ?_⟩
  refine ⟨⟨mo_push, ok_iconst dX0_begin_38 iv_i1 rfl⟩, ?_⟩
  refine ⟨⟨mo_goto, ok_goto dX0_begin_39 rfl⟩, ?_⟩
  refine ⟨⟨mo_keep, ok_keep rfl⟩, ?_⟩
  refine ⟨⟨mo_push, ok_iconst dX0_begin_42 iv_i0 rfl⟩, ?_⟩
  refine ⟨⟨mo_keep, ok_keep rfl⟩, ?_⟩
  refine ⟨⟨mo_iret, ok_iret rfl rfl dX0_begin_43⟩, ?_⟩
  exact trivial
set_option maxHeartbeats 4000000 in
theorem alX0_isHand : iy_all (iy_calls iy_mi) RX0 "isHand" cX0_isHand 1 (some FieldType.boolean, []) pcX0_isHand pcX0_isHand stX0_isHand := by
  refine ⟨⟨mo_ild, ok_ildn dX0_isHand_0 rfl rfl⟩, ?_⟩
  refine ⟨⟨mo_push, ok_iconst dX0_isHand_1 iv_i0 rfl⟩, ?_⟩
  refine ⟨⟨mo_push, ok_iconst dX0_isHand_2 iv_i3 rfl⟩, ?_⟩
  refine ⟨⟨mo_csI, ok_csI mi_X0_isIn lk_X0_121 q1563 dX0_isHand_3 rfl⟩, ?_⟩
  refine ⟨⟨mo_iret, ok_iret rfl rfl dX0_isHand_6⟩, ?_⟩
  exact trivial
set_option maxHeartbeats 4000000 in
theorem alX0_isIn : iy_all (iy_calls iy_mi) RX0 "isIn" cX0_isIn 3 (some FieldType.boolean, []) pcX0_isIn pcX0_isIn stX0_isIn := by
  refine ⟨⟨mo_ild, ok_ildn dX0_isIn_0 rfl rfl⟩, ?_⟩
  refine ⟨⟨mo_ild, ok_ildn dX0_isIn_1 rfl rfl⟩, ?_⟩
  refine ⟨⟨mo_clt, ok_clt dX0_isIn_2 rfl rfl⟩, ?_⟩
  refine ⟨⟨mo_ild, ok_ildn dX0_isIn_5 rfl rfl⟩, ?_⟩
  refine ⟨⟨mo_ild, ok_ildn dX0_isIn_6 rfl rfl⟩, ?_⟩
  refine ⟨⟨mo_cgt, ok_cgt dX0_isIn_7 rfl rfl⟩, ?_⟩
  refine ⟨⟨mo_push, ok_iconst dX0_isIn_10 iv_i1 rfl⟩, ?_⟩
  refine ⟨⟨mo_goto, ok_goto dX0_isIn_11 rfl⟩, ?_⟩
  refine ⟨⟨mo_keep, ok_keep rfl⟩, ?_⟩
  refine ⟨⟨mo_push, ok_iconst dX0_isIn_14 iv_i0 rfl⟩, ?_⟩
  refine ⟨⟨mo_keep, ok_keep rfl⟩, ?_⟩
  refine ⟨⟨mo_iret, ok_iret rfl rfl dX0_isIn_15⟩, ?_⟩
  exact trivial
set_option maxHeartbeats 4000000 in
theorem alX0_isKey : iy_all (iy_calls iy_mi) RX0 "isKey" cX0_isKey 1 (some FieldType.boolean, []) pcX0_isKey pcX0_isKey stX0_isKey := by
  refine ⟨⟨mo_ild, ok_ildn dX0_isKey_0 rfl rfl⟩, ?_⟩
  refine ⟨⟨mo_push, ok_iconst dX0_isKey_1 iv_i0 rfl⟩, ?_⟩
  refine ⟨⟨mo_push, ok_sipush dX0_isKey_2 iv_s999 rfl⟩, ?_⟩
  refine ⟨⟨mo_csI, ok_csI mi_X0_isIn lk_X0_121 q1563 dX0_isKey_5 rfl⟩, ?_⟩
  refine ⟨⟨mo_iret, ok_iret rfl rfl dX0_isKey_8⟩, ?_⟩
  exact trivial
set_option maxHeartbeats 4000000 in
theorem alX0_step : iy_all (iy_calls iy_mi) RX0 "step" cX0_step 2 (some FieldType.int, []) pcX0_step pcX0_step stX0_step := by
  refine ⟨⟨mo_ild, ok_ildn dX0_step_0 rfl rfl⟩, ?_⟩
  refine ⟨⟨mo_csI, ok_csI mi_X0_isHand lk_X0_131 q1560 dX0_step_1 rfl⟩, ?_⟩
  refine ⟨⟨mo_ieq, ok_ieq dX0_step_4 rfl rfl⟩, ?_⟩
  refine ⟨⟨mo_ald, ok_aldn dX0_step_7 rfl rfl⟩, ?_⟩
  refine ⟨⟨mo_gR, ok_gR rfl fd_X0_39 rfl dX0_step_8 rfl⟩, ?_⟩
  refine ⟨⟨mo_ild, ok_ildn dX0_step_11 rfl rfl⟩, ?_⟩
  refine ⟨⟨mo_cvI, ok_cvI mi_X4_steps lk_X0_142 q1418 q1419 rfl (Nat.le_of_ble_eq_true rfl) (iy_ro_le _) rfl rfl dX0_step_12 rfl⟩, ?_⟩
  refine ⟨⟨mo_goto, ok_goto dX0_step_15 rfl⟩, ?_⟩
  refine ⟨⟨mo_push, ok_iconst dX0_step_18 iv_im1 rfl⟩, ?_⟩
  refine ⟨⟨mo_keep, ok_keep rfl⟩, ?_⟩
  refine ⟨⟨mo_iret, ok_iret rfl rfl dX0_step_19⟩, ?_⟩
  exact trivial
set_option maxHeartbeats 4000000 in
theorem alX0_close : iy_all (iy_calls iy_mi) RX0 "close" cX0_close 2 (some FieldType.int, []) pcX0_close pcX0_close stX0_close := by
  refine ⟨⟨mo_ild, ok_ildn dX0_close_0 rfl rfl⟩, ?_⟩
  refine ⟨⟨mo_csI, ok_csI mi_X0_isHand lk_X0_131 q1560 dX0_close_1 rfl⟩, ?_⟩
  refine ⟨⟨mo_ieq, ok_ieq dX0_close_4 rfl rfl⟩, ?_⟩
  refine ⟨⟨mo_ald, ok_aldn dX0_close_7 rfl rfl⟩, ?_⟩
  refine ⟨⟨mo_gR, ok_gR rfl fd_X0_39 rfl dX0_close_8 rfl⟩, ?_⟩
  refine ⟨⟨mo_ild, ok_ildn dX0_close_11 rfl rfl⟩, ?_⟩
  refine ⟨⟨mo_cvI, ok_cvI mi_X4_closes lk_X0_146 q1414 q1415 rfl (Nat.le_of_ble_eq_true rfl) (iy_ro_le _) rfl rfl dX0_close_12 rfl⟩, ?_⟩
  refine ⟨⟨mo_goto, ok_goto dX0_close_15 rfl⟩, ?_⟩
  refine ⟨⟨mo_push, ok_iconst dX0_close_18 iv_im1 rfl⟩, ?_⟩
  refine ⟨⟨mo_keep, ok_keep rfl⟩, ?_⟩
  refine ⟨⟨mo_iret, ok_iret rfl rfl dX0_close_19⟩, ?_⟩
  exact trivial
set_option maxHeartbeats 4000000 in
theorem alX0_sweep : iy_all (iy_calls iy_mi) RX0 "sweep" cX0_sweep 1 (some FieldType.int, []) pcX0_sweep pcX0_sweep stX0_sweep := by
  refine ⟨⟨mo_ald, ok_aldn dX0_sweep_0 rfl rfl⟩, ?_⟩
  refine ⟨⟨mo_gR, ok_gR rfl fd_X0_39 rfl dX0_sweep_1 rfl⟩, ?_⟩
  refine ⟨⟨mo_cvI, ok_cvI mi_X4_sweeps lk_X0_149 q1547 q1548 rfl (Nat.le_of_ble_eq_true rfl) (iy_ro_le _) rfl rfl dX0_sweep_4 rfl⟩, ?_⟩
  refine ⟨⟨mo_iret, ok_iret rfl rfl dX0_sweep_7⟩, ?_⟩
  exact trivial
set_option maxHeartbeats 4000000 in
theorem alX0_has : iy_all (iy_calls iy_mi) RX0 "has" cX0_has 2 (some FieldType.int, []) pcX0_has pcX0_has stX0_has := by
  refine ⟨⟨mo_ild, ok_ildn dX0_has_0 rfl rfl⟩, ?_⟩
  refine ⟨⟨mo_csI, ok_csI mi_X0_isKey lk_X0_135 q1566 dX0_has_1 rfl⟩, ?_⟩
  refine ⟨⟨mo_ine, ok_ine dX0_has_4 rfl rfl⟩, ?_⟩
  refine ⟨⟨mo_push, ok_iconst dX0_has_7 iv_im1 rfl⟩, ?_⟩
  refine ⟨⟨mo_goto, ok_goto dX0_has_8 rfl⟩, ?_⟩
  refine ⟨⟨mo_ald, ok_aldn dX0_has_11 rfl rfl⟩, ?_⟩
  refine ⟨⟨mo_ild, ok_ildn dX0_has_12 rfl rfl⟩, ?_⟩
  refine ⟨⟨mo_cvI, ok_cvI mi_X0_placeOf lk_X0_156 q1590 qs51 rfl (Nat.le_of_ble_eq_true rfl) (iy_ro_le _) rfl rfl dX0_has_13 rfl⟩, ?_⟩
  refine ⟨⟨mo_ige, ok_ige dX0_has_16 rfl rfl⟩, ?_⟩
  refine ⟨⟨mo_push, ok_iconst dX0_has_19 iv_i0 rfl⟩, ?_⟩
  refine ⟨⟨mo_goto, ok_goto dX0_has_20 rfl⟩, ?_⟩
  refine ⟨⟨mo_push, ok_iconst dX0_has_23 iv_i1 rfl⟩, ?_⟩
  refine ⟨⟨mo_keep, ok_keep rfl⟩, ?_⟩
  refine ⟨⟨mo_iret, ok_iret rfl rfl dX0_has_24⟩, ?_⟩
  exact trivial
set_option maxHeartbeats 4000000 in
theorem alX0_placeOf : iy_all (iy_calls iy_mi) RX0 "placeOf" cX0_placeOf 4 (some FieldType.int, []) pcX0_placeOf pcX0_placeOf stX0_placeOf := by
  refine ⟨⟨mo_ald, ok_aldn dX0_placeOf_0 rfl rfl⟩, ?_⟩
  refine ⟨⟨mo_gR, ok_gR rfl fd_X0_39 rfl dX0_placeOf_1 rfl⟩, ?_⟩
  refine ⟨⟨mo_ald, ok_aldn dX0_placeOf_4 rfl rfl⟩, ?_⟩
  refine ⟨⟨mo_gR, ok_gR rfl fd_X0_61 rfl dX0_placeOf_5 rfl⟩, ?_⟩
  refine ⟨⟨mo_ald, ok_aldn dX0_placeOf_8 rfl rfl⟩, ?_⟩
  refine ⟨⟨mo_gR, ok_gR rfl fd_X0_65 rfl dX0_placeOf_9 rfl⟩, ?_⟩
  refine ⟨⟨mo_cvI, ok_cvI mi_X4_all lk_X0_153 q1593 q1594 rfl (Nat.le_of_ble_eq_true rfl) (iy_ro_le _) rfl rfl dX0_placeOf_12 rfl⟩, ?_⟩
  refine ⟨⟨mo_ist, ok_istn dX0_placeOf_15 rfl (Nat.le_of_ble_eq_true rfl) rfl⟩, ?_⟩
  refine ⟨⟨mo_push, ok_iconst dX0_placeOf_16 iv_i0 rfl⟩, ?_⟩
  refine ⟨⟨mo_ist, ok_istn dX0_placeOf_17 rfl (Nat.le_of_ble_eq_true rfl) rfl⟩, ?_⟩
  refine ⟨⟨mo_keep, ok_keep rfl⟩, ?_⟩
  refine ⟨⟨mo_ild, ok_ildn dX0_placeOf_18 rfl rfl⟩, ?_⟩
  refine ⟨⟨mo_ild, ok_ildn dX0_placeOf_19 rfl rfl⟩, ?_⟩
  refine ⟨⟨mo_cge, ok_cge dX0_placeOf_20 rfl rfl⟩, ?_⟩
  refine ⟨⟨mo_ald, ok_aldn dX0_placeOf_23 rfl rfl⟩, ?_⟩
  refine ⟨⟨mo_gR, ok_gR rfl fd_X0_61 rfl dX0_placeOf_24 rfl⟩, ?_⟩
  refine ⟨⟨mo_ild, ok_ildn dX0_placeOf_27 rfl rfl⟩, ?_⟩
  refine ⟨⟨mo_alI, ok_iald dX0_placeOf_28 rfl⟩, ?_⟩
  refine ⟨⟨mo_ild, ok_ildn dX0_placeOf_29 rfl rfl⟩, ?_⟩
  refine ⟨⟨mo_cne, ok_cne dX0_placeOf_30 rfl rfl⟩, ?_⟩
  refine ⟨⟨mo_ild, ok_ildn dX0_placeOf_33 rfl rfl⟩, ?_⟩
  refine ⟨⟨mo_iret, ok_iret rfl rfl dX0_placeOf_34⟩, ?_⟩
  refine ⟨⟨mo_inc, ok_inc dX0_placeOf_35 iv_i1 (Nat.le_of_ble_eq_true rfl) rfl⟩, ?_⟩
  refine ⟨⟨mo_back, ok_back dX0_placeOf_38 rfl⟩, ?_⟩
  refine ⟨⟨mo_push, ok_iconst dX0_placeOf_41 iv_im1 rfl⟩, ?_⟩
  refine ⟨⟨mo_iret, ok_iret rfl rfl dX0_placeOf_42⟩, ?_⟩
  exact trivial
set_option maxHeartbeats 4000000 in
theorem alX0_value : iy_all (iy_calls iy_mi) RX0 "value" cX0_value 3 (some FieldType.int, []) pcX0_value pcX0_value stX0_value := by
  refine ⟨⟨mo_ald, ok_aldn dX0_value_0 rfl rfl⟩, ?_⟩
  refine ⟨⟨mo_ild, ok_ildn dX0_value_1 rfl rfl⟩, ?_⟩
  refine ⟨⟨mo_cvI, ok_cvI mi_X0_placeOf lk_X0_156 q1590 qs51 rfl (Nat.le_of_ble_eq_true rfl) (iy_ro_le _) rfl rfl dX0_value_2 rfl⟩, ?_⟩
  refine ⟨⟨mo_ist, ok_istn dX0_value_5 rfl (Nat.le_of_ble_eq_true rfl) rfl⟩, ?_⟩
  refine ⟨⟨mo_ild, ok_ildn dX0_value_6 rfl rfl⟩, ?_⟩
  refine ⟨⟨mo_ige, ok_ige dX0_value_7 rfl rfl⟩, ?_⟩
  refine ⟨⟨mo_push, ok_iconst dX0_value_10 iv_i0 rfl⟩, ?_⟩
  refine ⟨⟨mo_goto, ok_goto dX0_value_11 rfl⟩, ?_⟩
  refine ⟨⟨mo_ald, ok_aldn dX0_value_14 rfl rfl⟩, ?_⟩
  refine ⟨⟨mo_gR, ok_gR rfl fd_X0_65 rfl dX0_value_15 rfl⟩, ?_⟩
  refine ⟨⟨mo_ild, ok_ildn dX0_value_18 rfl rfl⟩, ?_⟩
  refine ⟨⟨mo_alI, ok_iald dX0_value_19 rfl⟩, ?_⟩
  refine ⟨⟨mo_keep, ok_keep rfl⟩, ?_⟩
  refine ⟨⟨mo_iret, ok_iret rfl rfl dX0_value_20⟩, ?_⟩
  exact trivial
set_option maxHeartbeats 4000000 in
theorem alX0_many : iy_all (iy_calls iy_mi) RX0 "many" cX0_many 6 (some FieldType.int, []) pcX0_many pcX0_many stX0_many := by
  refine ⟨⟨mo_ild, ok_ildn dX0_many_0 rfl rfl⟩, ?_⟩
  refine ⟨⟨mo_csI, ok_csI mi_X0_isKey lk_X0_135 q1566 dX0_many_1 rfl⟩, ?_⟩
  refine ⟨⟨mo_ieq, ok_ieq dX0_many_4 rfl rfl⟩, ?_⟩
  refine ⟨⟨mo_ild, ok_ildn dX0_many_7 rfl rfl⟩, ?_⟩
  refine ⟨⟨mo_csI, ok_csI mi_X0_isKey lk_X0_135 q1566 dX0_many_8 rfl⟩, ?_⟩
  refine ⟨⟨mo_ine, ok_ine dX0_many_11 rfl rfl⟩, ?_⟩
  refine ⟨⟨mo_keep, ok_keep rfl⟩, ?_⟩
  refine ⟨⟨mo_push, ok_iconst dX0_many_14 iv_im1 rfl⟩, ?_⟩
  refine ⟨⟨mo_iret, ok_iret rfl rfl dX0_many_15⟩, ?_⟩
  refine ⟨⟨mo_ald, ok_aldn dX0_many_16 rfl rfl⟩, ?_⟩
  refine ⟨⟨mo_gR, ok_gR rfl fd_X0_39 rfl dX0_many_17 rfl⟩, ?_⟩
  refine ⟨⟨mo_ald, ok_aldn dX0_many_20 rfl rfl⟩, ?_⟩
  refine ⟨⟨mo_gR, ok_gR rfl fd_X0_61 rfl dX0_many_21 rfl⟩, ?_⟩
  refine ⟨⟨mo_ald, ok_aldn dX0_many_24 rfl rfl⟩, ?_⟩
  refine ⟨⟨mo_gR, ok_gR rfl fd_X0_65 rfl dX0_many_25 rfl⟩, ?_⟩
  refine ⟨⟨mo_cvI, ok_cvI mi_X4_all lk_X0_153 q1593 q1594 rfl (Nat.le_of_ble_eq_true rfl) (iy_ro_le _) rfl rfl dX0_many_28 rfl⟩, ?_⟩
  refine ⟨⟨mo_ist, ok_istn dX0_many_31 rfl (Nat.le_of_ble_eq_true rfl) rfl⟩, ?_⟩
  refine ⟨⟨mo_push, ok_iconst dX0_many_32 iv_i0 rfl⟩, ?_⟩
  refine ⟨⟨mo_ist, ok_ist dX0_many_33 (Nat.le_of_ble_eq_true rfl) rfl⟩, ?_⟩
  refine ⟨⟨mo_push, ok_iconst dX0_many_35 iv_i0 rfl⟩, ?_⟩
  refine ⟨⟨mo_ist, ok_ist dX0_many_36 (Nat.le_of_ble_eq_true rfl) rfl⟩, ?_⟩
  refine ⟨⟨mo_keep, ok_keep rfl⟩, ?_⟩
  refine ⟨⟨mo_ild, ok_ild dX0_many_38 rfl⟩, ?_⟩
  refine ⟨⟨mo_ild, ok_ildn dX0_many_40 rfl rfl⟩, ?_⟩
  refine ⟨⟨mo_cge, ok_cge dX0_many_41 rfl rfl⟩, ?_⟩
  refine ⟨⟨mo_ild, ok_ild dX0_many_44 rfl⟩, ?_⟩
  refine ⟨⟨mo_ald, ok_aldn dX0_many_46 rfl rfl⟩, ?_⟩
  refine ⟨⟨mo_gR, ok_gR rfl fd_X0_61 rfl dX0_many_47 rfl⟩, ?_⟩
  refine ⟨⟨mo_ild, ok_ild dX0_many_50 rfl⟩, ?_⟩
  refine ⟨⟨mo_alI, ok_iald dX0_many_52 rfl⟩, ?_⟩
  refine ⟨⟨mo_ild, ok_ildn dX0_many_53 rfl rfl⟩, ?_⟩
  refine ⟨⟨mo_ild, ok_ildn dX0_many_54 rfl rfl⟩, ?_⟩
  refine ⟨⟨mo_csI, ok_csI mi_X0_isIn lk_X0_121 q1563 dX0_many_55 rfl⟩, ?_⟩
  refine ⟨⟨mo_ieq, ok_ieq dX0_many_58 rfl rfl⟩, ?_⟩
  refine ⟨⟨mo_push, ok_iconst dX0_many_61 iv_i1 rfl⟩, ?_⟩
  refine ⟨⟨mo_goto, ok_goto dX0_many_62 rfl⟩, ?_⟩
  refine ⟨⟨mo_push, ok_iconst dX0_many_65 iv_i0 rfl⟩, ?_⟩
  refine ⟨⟨mo_keep, ok_keep rfl⟩, ?_⟩
  refine ⟨⟨mo_bin, ok_iadd dX0_many_66 rfl⟩, ?_⟩
  refine ⟨⟨mo_ist, ok_ist dX0_many_67 (Nat.le_of_ble_eq_true rfl) rfl⟩, ?_⟩
  refine ⟨⟨mo_inc, ok_inc dX0_many_69 iv_i1 (Nat.le_of_ble_eq_true rfl) rfl⟩, ?_⟩
  refine ⟨⟨mo_back, ok_back dX0_many_72 rfl⟩, ?_⟩
  refine ⟨⟨mo_ild, ok_ild dX0_many_75 rfl⟩, ?_⟩
  refine ⟨⟨mo_iret, ok_iret rfl rfl dX0_many_77⟩, ?_⟩
  exact trivial
set_option maxHeartbeats 4000000 in
theorem alX0_sum : iy_all (iy_calls iy_mi) RX0 "sum" cX0_sum 6 (some FieldType.int, []) pcX0_sum pcX0_sum stX0_sum := by
  refine ⟨⟨mo_ild, ok_ildn dX0_sum_0 rfl rfl⟩, ?_⟩
  refine ⟨⟨mo_csI, ok_csI mi_X0_isKey lk_X0_135 q1566 dX0_sum_1 rfl⟩, ?_⟩
  refine ⟨⟨mo_ieq, ok_ieq dX0_sum_4 rfl rfl⟩, ?_⟩
  refine ⟨⟨mo_ild, ok_ildn dX0_sum_7 rfl rfl⟩, ?_⟩
  refine ⟨⟨mo_csI, ok_csI mi_X0_isKey lk_X0_135 q1566 dX0_sum_8 rfl⟩, ?_⟩
  refine ⟨⟨mo_ine, ok_ine dX0_sum_11 rfl rfl⟩, ?_⟩
  refine ⟨⟨mo_keep, ok_keep rfl⟩, ?_⟩
  refine ⟨⟨mo_push, ok_iconst dX0_sum_14 iv_i0 rfl⟩, ?_⟩
  refine ⟨⟨mo_iret, ok_iret rfl rfl dX0_sum_15⟩, ?_⟩
  refine ⟨⟨mo_ald, ok_aldn dX0_sum_16 rfl rfl⟩, ?_⟩
  refine ⟨⟨mo_gR, ok_gR rfl fd_X0_39 rfl dX0_sum_17 rfl⟩, ?_⟩
  refine ⟨⟨mo_ald, ok_aldn dX0_sum_20 rfl rfl⟩, ?_⟩
  refine ⟨⟨mo_gR, ok_gR rfl fd_X0_61 rfl dX0_sum_21 rfl⟩, ?_⟩
  refine ⟨⟨mo_ald, ok_aldn dX0_sum_24 rfl rfl⟩, ?_⟩
  refine ⟨⟨mo_gR, ok_gR rfl fd_X0_65 rfl dX0_sum_25 rfl⟩, ?_⟩
  refine ⟨⟨mo_cvI, ok_cvI mi_X4_all lk_X0_153 q1593 q1594 rfl (Nat.le_of_ble_eq_true rfl) (iy_ro_le _) rfl rfl dX0_sum_28 rfl⟩, ?_⟩
  refine ⟨⟨mo_ist, ok_istn dX0_sum_31 rfl (Nat.le_of_ble_eq_true rfl) rfl⟩, ?_⟩
  refine ⟨⟨mo_push, ok_iconst dX0_sum_32 iv_i0 rfl⟩, ?_⟩
  refine ⟨⟨mo_ist, ok_ist dX0_sum_33 (Nat.le_of_ble_eq_true rfl) rfl⟩, ?_⟩
  refine ⟨⟨mo_push, ok_iconst dX0_sum_35 iv_i0 rfl⟩, ?_⟩
  refine ⟨⟨mo_ist, ok_ist dX0_sum_36 (Nat.le_of_ble_eq_true rfl) rfl⟩, ?_⟩
  refine ⟨⟨mo_keep, ok_keep rfl⟩, ?_⟩
  refine ⟨⟨mo_ild, ok_ild dX0_sum_38 rfl⟩, ?_⟩
  refine ⟨⟨mo_ild, ok_ildn dX0_sum_40 rfl rfl⟩, ?_⟩
  refine ⟨⟨mo_cge, ok_cge dX0_sum_41 rfl rfl⟩, ?_⟩
  refine ⟨⟨mo_ild, ok_ild dX0_sum_44 rfl⟩, ?_⟩
  refine ⟨⟨mo_ald, ok_aldn dX0_sum_46 rfl rfl⟩, ?_⟩
  refine ⟨⟨mo_gR, ok_gR rfl fd_X0_61 rfl dX0_sum_47 rfl⟩, ?_⟩
  refine ⟨⟨mo_ild, ok_ild dX0_sum_50 rfl⟩, ?_⟩
  refine ⟨⟨mo_alI, ok_iald dX0_sum_52 rfl⟩, ?_⟩
  refine ⟨⟨mo_ild, ok_ildn dX0_sum_53 rfl rfl⟩, ?_⟩
  refine ⟨⟨mo_ild, ok_ildn dX0_sum_54 rfl rfl⟩, ?_⟩
  refine ⟨⟨mo_csI, ok_csI mi_X0_isIn lk_X0_121 q1563 dX0_sum_55 rfl⟩, ?_⟩
  refine ⟨⟨mo_ieq, ok_ieq dX0_sum_58 rfl rfl⟩, ?_⟩
  refine ⟨⟨mo_ald, ok_aldn dX0_sum_61 rfl rfl⟩, ?_⟩
  refine ⟨⟨mo_gR, ok_gR rfl fd_X0_65 rfl dX0_sum_62 rfl⟩, ?_⟩
  refine ⟨⟨mo_ild, ok_ild dX0_sum_65 rfl⟩, ?_⟩
  refine ⟨⟨mo_alI, ok_iald dX0_sum_67 rfl⟩, ?_⟩
  refine ⟨⟨mo_goto, ok_goto dX0_sum_68 rfl⟩, ?_⟩
  refine ⟨⟨mo_push, ok_iconst dX0_sum_71 iv_i0 rfl⟩, ?_⟩
  refine ⟨⟨mo_keep, ok_keep rfl⟩, ?_⟩
  refine ⟨⟨mo_bin, ok_iadd dX0_sum_72 rfl⟩, ?_⟩
  refine ⟨⟨mo_ist, ok_ist dX0_sum_73 (Nat.le_of_ble_eq_true rfl) rfl⟩, ?_⟩
  refine ⟨⟨mo_inc, ok_inc dX0_sum_75 iv_i1 (Nat.le_of_ble_eq_true rfl) rfl⟩, ?_⟩
  refine ⟨⟨mo_back, ok_back dX0_sum_78 rfl⟩, ?_⟩
  refine ⟨⟨mo_ild, ok_ild dX0_sum_81 rfl⟩, ?_⟩
  refine ⟨⟨mo_iret, ok_iret rfl rfl dX0_sum_83⟩, ?_⟩
  exact trivial
set_option maxHeartbeats 4000000 in
theorem alX0_nth : iy_all (iy_calls iy_mi) RX0 "nth" cX0_nth 3 (some FieldType.int, []) pcX0_nth pcX0_nth stX0_nth := by
  refine ⟨⟨mo_ild, ok_ildn dX0_nth_0 rfl rfl⟩, ?_⟩
  refine ⟨⟨mo_ige, ok_ige dX0_nth_1 rfl rfl⟩, ?_⟩
  refine ⟨⟨mo_push, ok_iconst dX0_nth_4 iv_im1 rfl⟩, ?_⟩
  refine ⟨⟨mo_iret, ok_iret rfl rfl dX0_nth_5⟩, ?_⟩
  refine ⟨⟨mo_ald, ok_aldn dX0_nth_6 rfl rfl⟩, ?_⟩
  refine ⟨⟨mo_gR, ok_gR rfl fd_X0_39 rfl dX0_nth_7 rfl⟩, ?_⟩
  refine ⟨⟨mo_ald, ok_aldn dX0_nth_10 rfl rfl⟩, ?_⟩
  refine ⟨⟨mo_gR, ok_gR rfl fd_X0_61 rfl dX0_nth_11 rfl⟩, ?_⟩
  refine ⟨⟨mo_ald, ok_aldn dX0_nth_14 rfl rfl⟩, ?_⟩
  refine ⟨⟨mo_gR, ok_gR rfl fd_X0_65 rfl dX0_nth_15 rfl⟩, ?_⟩
  refine ⟨⟨mo_cvI, ok_cvI mi_X4_all lk_X0_153 q1593 q1594 rfl (Nat.le_of_ble_eq_true rfl) (iy_ro_le _) rfl rfl dX0_nth_18 rfl⟩, ?_⟩
  refine ⟨⟨mo_ist, ok_istn dX0_nth_21 rfl (Nat.le_of_ble_eq_true rfl) rfl⟩, ?_⟩
  refine ⟨⟨mo_ild, ok_ildn dX0_nth_22 rfl rfl⟩, ?_⟩
  refine ⟨⟨mo_ild, ok_ildn dX0_nth_23 rfl rfl⟩, ?_⟩
  refine ⟨⟨mo_cge, ok_cge dX0_nth_24 rfl rfl⟩, ?_⟩
  refine ⟨⟨mo_ald, ok_aldn dX0_nth_27 rfl rfl⟩, ?_⟩
  refine ⟨⟨mo_gR, ok_gR rfl fd_X0_61 rfl dX0_nth_28 rfl⟩, ?_⟩
  refine ⟨⟨mo_ild, ok_ildn dX0_nth_31 rfl rfl⟩, ?_⟩
  refine ⟨⟨mo_alI, ok_iald dX0_nth_32 rfl⟩, ?_⟩
  refine ⟨⟨mo_goto, ok_goto dX0_nth_33 rfl⟩, ?_⟩
  refine ⟨⟨mo_push, ok_bipush dX0_nth_36 iv_bm2 rfl⟩, ?_⟩
  refine ⟨⟨mo_keep, ok_keep rfl⟩, ?_⟩
  refine ⟨⟨mo_iret, ok_iret rfl rfl dX0_nth_38⟩, ?_⟩
  exact trivial
set_option maxHeartbeats 4000000 in
theorem alX0_page : iy_all (iy_calls iy_mi) RX0 "page" cX0_page 5 (some FieldType.int, []) pcX0_page pcX0_page stX0_page := by
  refine ⟨⟨mo_ald, ok_aldn dX0_page_0 rfl rfl⟩, ?_⟩
  refine ⟨⟨mo_ild, ok_ildn dX0_page_1 rfl rfl⟩, ?_⟩
  refine ⟨⟨mo_cvI, ok_cvI mi_X0_isPage lk_X0_159 q1618 qs52 rfl (Nat.le_of_ble_eq_true rfl) (iy_ro_le _) rfl rfl dX0_page_2 rfl⟩, ?_⟩
  refine ⟨⟨mo_ine, ok_ine dX0_page_5 rfl rfl⟩, ?_⟩
  refine ⟨⟨mo_push, ok_iconst dX0_page_8 iv_im1 rfl⟩, ?_⟩
  refine ⟨⟨mo_iret, ok_iret rfl rfl dX0_page_9⟩, ?_⟩
  refine ⟨⟨mo_ald, ok_aldn dX0_page_10 rfl rfl⟩, ?_⟩
  refine ⟨⟨mo_gR, ok_gR rfl fd_X0_39 rfl dX0_page_11 rfl⟩, ?_⟩
  refine ⟨⟨mo_ild, ok_ildn dX0_page_14 rfl rfl⟩, ?_⟩
  refine ⟨⟨mo_cvI, ok_cvI mi_X4_isGone lk_X0_162 q1438 q1439 rfl (Nat.le_of_ble_eq_true rfl) (iy_ro_le _) rfl rfl dX0_page_15 rfl⟩, ?_⟩
  refine ⟨⟨mo_ist, ok_istn dX0_page_18 rfl (Nat.le_of_ble_eq_true rfl) rfl⟩, ?_⟩
  refine ⟨⟨mo_ild, ok_ildn dX0_page_19 rfl rfl⟩, ?_⟩
  refine ⟨⟨mo_ieq, ok_ieq dX0_page_20 rfl rfl⟩, ?_⟩
  refine ⟨⟨mo_ild, ok_ildn dX0_page_23 rfl rfl⟩, ?_⟩
  refine ⟨⟨mo_ieq, ok_ieq dX0_page_24 rfl rfl⟩, ?_⟩
  refine ⟨⟨mo_keep, ok_keep rfl⟩, ?_⟩
  refine ⟨⟨mo_push, ok_iconst dX0_page_27 iv_i1 rfl⟩, ?_⟩
  refine ⟨⟨mo_goto, ok_goto dX0_page_28 rfl⟩, ?_⟩
  refine ⟨⟨mo_push, ok_iconst dX0_page_31 iv_i0 rfl⟩, ?_⟩
  refine ⟨⟨mo_keep, ok_keep rfl⟩, ?_⟩
  refine ⟨⟨mo_ist, ok_ist dX0_page_32 (Nat.le_of_ble_eq_true rfl) rfl⟩, ?_⟩
  refine ⟨⟨mo_ald, ok_aldn dX0_page_34 rfl rfl⟩, ?_⟩
  refine ⟨⟨mo_gR, ok_gR rfl fd_X0_39 rfl dX0_page_35 rfl⟩, ?_⟩
  refine ⟨⟨mo_ild, ok_ildn dX0_page_38 rfl rfl⟩, ?_⟩
  refine ⟨⟨mo_ald, ok_aldn dX0_page_39 rfl rfl⟩, ?_⟩
  refine ⟨⟨mo_gR, ok_gR rfl fd_X0_53 rfl dX0_page_40 rfl⟩, ?_⟩
  refine ⟨⟨mo_cvV, ok_cvV mi_X4_lays lk_X0_165 q1372 q1373 rfl (Nat.le_of_ble_eq_true rfl) (iy_ro_le _) rfl rfl dX0_page_43 rfl⟩, ?_⟩
  refine ⟨⟨mo_ild, ok_ildn dX0_page_46 rfl rfl⟩, ?_⟩
  refine ⟨⟨mo_sw, ok_tsw dX0_page_47 rfl rfl (by decide +kernel)⟩, ?_⟩
  refine ⟨⟨mo_ald, ok_aldn dX0_page_84 rfl rfl⟩, ?_⟩
  refine ⟨⟨mo_gR, ok_gR rfl fd_X0_39 rfl dX0_page_85 rfl⟩, ?_⟩
  refine ⟨⟨mo_gR, ok_gR rfl fd_X0_169 rfl dX0_page_88 rfl⟩, ?_⟩
  refine ⟨⟨mo_ild, ok_ildn dX0_page_91 rfl rfl⟩, ?_⟩
  refine ⟨⟨mo_alI, ok_iald dX0_page_92 rfl⟩, ?_⟩
  refine ⟨⟨mo_goto, ok_goto dX0_page_93 rfl⟩, ?_⟩
  refine ⟨⟨mo_ald, ok_aldn dX0_page_96 rfl rfl⟩, ?_⟩
  refine ⟨⟨mo_gR, ok_gR rfl fd_X0_39 rfl dX0_page_97 rfl⟩, ?_⟩
  refine ⟨⟨mo_ild, ok_ildn dX0_page_100 rfl rfl⟩, ?_⟩
  refine ⟨⟨mo_cvI, ok_cvI mi_X4_length lk_X0_172 q1459 q1460 rfl (Nat.le_of_ble_eq_true rfl) (iy_ro_le _) rfl rfl dX0_page_101 rfl⟩, ?_⟩
  refine ⟨⟨mo_goto, ok_goto dX0_page_104 rfl⟩, ?_⟩
  refine ⟨⟨mo_ild, ok_ildn dX0_page_107 rfl rfl⟩, ?_⟩
  refine ⟨⟨mo_ieq, ok_ieq dX0_page_108 rfl rfl⟩, ?_⟩
  refine ⟨⟨mo_push, ok_iconst dX0_page_111 iv_i0 rfl⟩, ?_⟩
  refine ⟨⟨mo_goto, ok_goto dX0_page_112 rfl⟩, ?_⟩
  refine ⟨⟨mo_ald, ok_aldn dX0_page_115 rfl rfl⟩, ?_⟩
  refine ⟨⟨mo_gR, ok_gR rfl fd_X0_53 rfl dX0_page_116 rfl⟩, ?_⟩
  refine ⟨⟨mo_gI, ok_gI rfl fd_X0_175 rfl dX0_page_119 rfl⟩, ?_⟩
  refine ⟨⟨mo_goto, ok_goto dX0_page_122 rfl⟩, ?_⟩
  refine ⟨⟨mo_ild, ok_ild dX0_page_125 rfl⟩, ?_⟩
  refine ⟨⟨mo_ieq, ok_ieq dX0_page_127 rfl rfl⟩, ?_⟩
  refine ⟨⟨mo_push, ok_iconst dX0_page_130 iv_i0 rfl⟩, ?_⟩
  refine ⟨⟨mo_goto, ok_goto dX0_page_131 rfl⟩, ?_⟩
  refine ⟨⟨mo_ald, ok_aldn dX0_page_134 rfl rfl⟩, ?_⟩
  refine ⟨⟨mo_gR, ok_gR rfl fd_X0_53 rfl dX0_page_135 rfl⟩, ?_⟩
  refine ⟨⟨mo_gI, ok_gI rfl fd_X0_178 rfl dX0_page_138 rfl⟩, ?_⟩
  refine ⟨⟨mo_goto, ok_goto dX0_page_141 rfl⟩, ?_⟩
  refine ⟨⟨mo_ild, ok_ild dX0_page_144 rfl⟩, ?_⟩
  refine ⟨⟨mo_ieq, ok_ieq dX0_page_146 rfl rfl⟩, ?_⟩
  refine ⟨⟨mo_push, ok_bipush dX0_page_149 iv_bm2 rfl⟩, ?_⟩
  refine ⟨⟨mo_goto, ok_goto dX0_page_151 rfl⟩, ?_⟩
  refine ⟨⟨mo_ald, ok_aldn dX0_page_154 rfl rfl⟩, ?_⟩
  refine ⟨⟨mo_gR, ok_gR rfl fd_X0_53 rfl dX0_page_155 rfl⟩, ?_⟩
  refine ⟨⟨mo_gI, ok_gI rfl fd_X0_181 rfl dX0_page_158 rfl⟩, ?_⟩
  refine ⟨⟨mo_goto, ok_goto dX0_page_161 rfl⟩, ?_⟩
  refine ⟨⟨mo_ild, ok_ildn dX0_page_164 rfl rfl⟩, ?_⟩
  refine ⟨⟨mo_ieq, ok_ieq dX0_page_165 rfl rfl⟩, ?_⟩
  refine ⟨⟨mo_push, ok_iconst dX0_page_168 iv_i1 rfl⟩, ?_⟩
  refine ⟨⟨mo_goto, ok_goto dX0_page_169 rfl⟩, ?_⟩
  refine ⟨⟨mo_push, ok_iconst dX0_page_172 iv_i0 rfl⟩, ?_⟩
  refine ⟨⟨mo_goto, ok_goto dX0_page_173 rfl⟩, ?_⟩
  refine ⟨⟨mo_push, ok_iconst dX0_page_176 iv_im1 rfl⟩, ?_⟩
  refine ⟨⟨mo_keep, ok_keep rfl⟩, ?_⟩
  refine ⟨⟨mo_iret, ok_iret rfl rfl dX0_page_177⟩, ?_⟩
  exact trivial
set_option maxHeartbeats 4000000 in
theorem alX0_isPage : iy_all (iy_calls iy_mi) RX0 "isPage" cX0_isPage 2 (some FieldType.boolean, []) pcX0_isPage pcX0_isPage stX0_isPage := by
  refine ⟨⟨mo_ild, ok_ildn dX0_isPage_0 rfl rfl⟩, ?_⟩
  refine ⟨⟨mo_push, ok_iconst dX0_isPage_1 iv_i0 rfl⟩, ?_⟩
  refine ⟨⟨mo_ald, ok_aldn dX0_isPage_2 rfl rfl⟩, ?_⟩
  refine ⟨⟨mo_gR, ok_gR rfl fd_X0_39 rfl dX0_isPage_3 rfl⟩, ?_⟩
  refine ⟨⟨mo_gI, ok_gI rfl fd_X0_125 rfl dX0_isPage_6 rfl⟩, ?_⟩
  refine ⟨⟨mo_push, ok_iconst dX0_isPage_9 iv_i1 rfl⟩, ?_⟩
  refine ⟨⟨mo_bin, ok_isub dX0_isPage_10 rfl⟩, ?_⟩
  refine ⟨⟨mo_csI, ok_csI mi_X0_isIn lk_X0_121 q1563 dX0_isPage_11 rfl⟩, ?_⟩
  refine ⟨⟨mo_iret, ok_iret rfl rfl dX0_isPage_14⟩, ?_⟩
  exact trivial
set_option maxHeartbeats 4000000 in
theorem alX0_bound : iy_all (iy_calls iy_mi) RX0 "bound" cX0_bound 4 (some FieldType.int, []) pcX0_bound pcX0_bound stX0_bound := by
  refine ⟨⟨mo_ald, ok_aldn dX0_bound_0 rfl rfl⟩, ?_⟩
  refine ⟨⟨mo_gR, ok_gR rfl fd_X0_39 rfl dX0_bound_1 rfl⟩, ?_⟩
  refine ⟨⟨mo_cvR, ok_cvR mi_X4_bounds lk_X0_184 q1426 q1427 rfl (Nat.le_of_ble_eq_true rfl) (iy_ro_le _) rfl rfl dX0_bound_4 rfl⟩, ?_⟩
  refine ⟨⟨mo_ast, ok_astn dX0_bound_7 rfl (Nat.le_of_ble_eq_true rfl) rfl⟩, ?_⟩
  refine ⟨⟨mo_ild, ok_ildn dX0_bound_8 rfl rfl⟩, ?_⟩
  refine ⟨⟨mo_push, ok_iconst dX0_bound_9 iv_i0 rfl⟩, ?_⟩
  refine ⟨⟨mo_ald, ok_aldn dX0_bound_10 rfl rfl⟩, ?_⟩
  refine ⟨⟨mo_gI, ok_gI rfl fd_X0_175 rfl dX0_bound_11 rfl⟩, ?_⟩
  refine ⟨⟨mo_push, ok_iconst dX0_bound_14 iv_i1 rfl⟩, ?_⟩
  refine ⟨⟨mo_bin, ok_isub dX0_bound_15 rfl⟩, ?_⟩
  refine ⟨⟨mo_csI, ok_csI mi_X0_isIn lk_X0_121 q1563 dX0_bound_16 rfl⟩, ?_⟩
  refine ⟨⟨mo_ine, ok_ine dX0_bound_19 rfl rfl⟩, ?_⟩
  refine ⟨⟨mo_push, ok_iconst dX0_bound_22 iv_im1 rfl⟩, ?_⟩
  refine ⟨⟨mo_goto, ok_goto dX0_bound_23 rfl⟩, ?_⟩
  refine ⟨⟨mo_ild, ok_ildn dX0_bound_26 rfl rfl⟩, ?_⟩
  refine ⟨⟨mo_ine, ok_ine dX0_bound_27 rfl rfl⟩, ?_⟩
  refine ⟨⟨mo_ald, ok_aldn dX0_bound_30 rfl rfl⟩, ?_⟩
  refine ⟨⟨mo_gR, ok_gR rfl fd_X0_188 rfl dX0_bound_31 rfl⟩, ?_⟩
  refine ⟨⟨mo_ild, ok_ildn dX0_bound_34 rfl rfl⟩, ?_⟩
  refine ⟨⟨mo_alI, ok_iald dX0_bound_35 rfl⟩, ?_⟩
  refine ⟨⟨mo_goto, ok_goto dX0_bound_36 rfl⟩, ?_⟩
  refine ⟨⟨mo_ild, ok_ildn dX0_bound_39 rfl rfl⟩, ?_⟩
  refine ⟨⟨mo_push, ok_iconst dX0_bound_40 iv_i1 rfl⟩, ?_⟩
  refine ⟨⟨mo_cne, ok_cne dX0_bound_41 rfl rfl⟩, ?_⟩
  refine ⟨⟨mo_ald, ok_aldn dX0_bound_44 rfl rfl⟩, ?_⟩
  refine ⟨⟨mo_gR, ok_gR rfl fd_X0_189 rfl dX0_bound_45 rfl⟩, ?_⟩
  refine ⟨⟨mo_ild, ok_ildn dX0_bound_48 rfl rfl⟩, ?_⟩
  refine ⟨⟨mo_alI, ok_iald dX0_bound_49 rfl⟩, ?_⟩
  refine ⟨⟨mo_goto, ok_goto dX0_bound_50 rfl⟩, ?_⟩
  refine ⟨⟨mo_push, ok_iconst dX0_bound_53 iv_im1 rfl⟩, ?_⟩
  refine ⟨⟨mo_keep, ok_keep rfl⟩, ?_⟩
  refine ⟨⟨mo_iret, ok_iret rfl rfl dX0_bound_54⟩, ?_⟩
  exact trivial
set_option maxHeartbeats 4000000 in
theorem alX0_record : iy_all (iy_calls iy_mi) RX0 "record" cX0_record 4 (some FieldType.int, []) pcX0_record pcX0_record stX0_record := by
  refine ⟨⟨mo_ald, ok_aldn dX0_record_0 rfl rfl⟩, ?_⟩
  refine ⟨⟨mo_ild, ok_ildn dX0_record_1 rfl rfl⟩, ?_⟩
  refine ⟨⟨mo_cvI, ok_cvI mi_X0_isRecord lk_X0_192 q1634 qs53 rfl (Nat.le_of_ble_eq_true rfl) (iy_ro_le _) rfl rfl dX0_record_2 rfl⟩, ?_⟩
  refine ⟨⟨mo_ine, ok_ine dX0_record_5 rfl rfl⟩, ?_⟩
  refine ⟨⟨mo_push, ok_sipush dX0_record_8 iv_sm1000 rfl⟩, ?_⟩
  refine ⟨⟨mo_iret, ok_iret rfl rfl dX0_record_11⟩, ?_⟩
  refine ⟨⟨mo_ald, ok_aldn dX0_record_12 rfl rfl⟩, ?_⟩
  refine ⟨⟨mo_gR, ok_gR rfl fd_X0_39 rfl dX0_record_13 rfl⟩, ?_⟩
  refine ⟨⟨mo_gR, ok_gR rfl fd_X0_195 rfl dX0_record_16 rfl⟩, ?_⟩
  refine ⟨⟨mo_ild, ok_ildn dX0_record_19 rfl rfl⟩, ?_⟩
  refine ⟨⟨mo_alR, ok_aald rfl dX0_record_20 rfl⟩, ?_⟩
  refine ⟨⟨mo_ast, ok_astn dX0_record_21 rfl (Nat.le_of_ble_eq_true rfl) rfl⟩, ?_⟩
  refine ⟨⟨mo_ild, ok_ildn dX0_record_22 rfl rfl⟩, ?_⟩
  refine ⟨⟨mo_sw, ok_tsw dX0_record_23 rfl rfl (by decide +kernel)⟩, ?_⟩
  refine ⟨⟨mo_ald, ok_aldn dX0_record_64 rfl rfl⟩, ?_⟩
  refine ⟨⟨mo_gI, ok_gI rfl fd_X0_199 rfl dX0_record_65 rfl⟩, ?_⟩
  refine ⟨⟨mo_goto, ok_goto dX0_record_68 rfl⟩, ?_⟩
  refine ⟨⟨mo_ald, ok_aldn dX0_record_71 rfl rfl⟩, ?_⟩
  refine ⟨⟨mo_gI, ok_gI rfl fd_X0_202 rfl dX0_record_72 rfl⟩, ?_⟩
  refine ⟨⟨mo_goto, ok_goto dX0_record_75 rfl⟩, ?_⟩
  refine ⟨⟨mo_ald, ok_aldn dX0_record_78 rfl rfl⟩, ?_⟩
  refine ⟨⟨mo_gI, ok_gI rfl fd_X0_205 rfl dX0_record_79 rfl⟩, ?_⟩
  refine ⟨⟨mo_goto, ok_goto dX0_record_82 rfl⟩, ?_⟩
  refine ⟨⟨mo_ald, ok_aldn dX0_record_85 rfl rfl⟩, ?_⟩
  refine ⟨⟨mo_gI, ok_gI rfl fd_X0_208 rfl dX0_record_86 rfl⟩, ?_⟩
  refine ⟨⟨mo_goto, ok_goto dX0_record_89 rfl⟩, ?_⟩
  refine ⟨⟨mo_ald, ok_aldn dX0_record_92 rfl rfl⟩, ?_⟩
  refine ⟨⟨mo_gI, ok_gI rfl fd_X0_211 rfl dX0_record_93 rfl⟩, ?_⟩
  refine ⟨⟨mo_goto, ok_goto dX0_record_96 rfl⟩, ?_⟩
  refine ⟨⟨mo_ald, ok_aldn dX0_record_99 rfl rfl⟩, ?_⟩
  refine ⟨⟨mo_gI, ok_gI rfl fd_X0_214 rfl dX0_record_100 rfl⟩, ?_⟩
  refine ⟨⟨mo_ieq, ok_ieq dX0_record_103 rfl rfl⟩, ?_⟩
  refine ⟨⟨mo_push, ok_iconst dX0_record_106 iv_i1 rfl⟩, ?_⟩
  refine ⟨⟨mo_goto, ok_goto dX0_record_107 rfl⟩, ?_⟩
  refine ⟨⟨mo_push, ok_iconst dX0_record_110 iv_i0 rfl⟩, ?_⟩
  refine ⟨⟨mo_goto, ok_goto dX0_record_111 rfl⟩, ?_⟩
  refine ⟨⟨mo_ald, ok_aldn dX0_record_114 rfl rfl⟩, ?_⟩
  refine ⟨⟨mo_gI, ok_gI rfl fd_X0_175 rfl dX0_record_115 rfl⟩, ?_⟩
  refine ⟨⟨mo_goto, ok_goto dX0_record_118 rfl⟩, ?_⟩
  refine ⟨⟨mo_push, ok_sipush dX0_record_121 iv_sm1000 rfl⟩, ?_⟩
  refine ⟨⟨mo_keep, ok_keep rfl⟩, ?_⟩
  refine ⟨⟨mo_iret, ok_iret rfl rfl dX0_record_124⟩, ?_⟩
  exact trivial
set_option maxHeartbeats 4000000 in
theorem alX0_isRecord : iy_all (iy_calls iy_mi) RX0 "isRecord" cX0_isRecord 2 (some FieldType.boolean, []) pcX0_isRecord pcX0_isRecord stX0_isRecord := by
  refine ⟨⟨mo_ild, ok_ildn dX0_isRecord_0 rfl rfl⟩, ?_⟩
  refine ⟨⟨mo_push, ok_iconst dX0_isRecord_1 iv_i0 rfl⟩, ?_⟩
  refine ⟨⟨mo_ald, ok_aldn dX0_isRecord_2 rfl rfl⟩, ?_⟩
  refine ⟨⟨mo_gR, ok_gR rfl fd_X0_39 rfl dX0_isRecord_3 rfl⟩, ?_⟩
  refine ⟨⟨mo_gI, ok_gI rfl fd_X0_128 rfl dX0_isRecord_6 rfl⟩, ?_⟩
  refine ⟨⟨mo_push, ok_iconst dX0_isRecord_9 iv_i1 rfl⟩, ?_⟩
  refine ⟨⟨mo_bin, ok_isub dX0_isRecord_10 rfl⟩, ?_⟩
  refine ⟨⟨mo_csI, ok_csI mi_X0_isIn lk_X0_121 q1563 dX0_isRecord_11 rfl⟩, ?_⟩
  refine ⟨⟨mo_iret, ok_iret rfl rfl dX0_isRecord_14⟩, ?_⟩
  exact trivial
set_option maxHeartbeats 4000000 in
theorem alX0_base : iy_all (iy_calls iy_mi) RX0 "base" cX0_base 5 (some FieldType.int, []) pcX0_base pcX0_base stX0_base := by
  refine ⟨⟨mo_ald, ok_aldn dX0_base_0 rfl rfl⟩, ?_⟩
  refine ⟨⟨mo_ild, ok_ildn dX0_base_1 rfl rfl⟩, ?_⟩
  refine ⟨⟨mo_cvI, ok_cvI mi_X0_isRecord lk_X0_192 q1634 qs53 rfl (Nat.le_of_ble_eq_true rfl) (iy_ro_le _) rfl rfl dX0_base_2 rfl⟩, ?_⟩
  refine ⟨⟨mo_ieq, ok_ieq dX0_base_5 rfl rfl⟩, ?_⟩
  refine ⟨⟨mo_ild, ok_ildn dX0_base_8 rfl rfl⟩, ?_⟩
  refine ⟨⟨mo_push, ok_iconst dX0_base_9 iv_i0 rfl⟩, ?_⟩
  refine ⟨⟨mo_ald, ok_aldn dX0_base_10 rfl rfl⟩, ?_⟩
  refine ⟨⟨mo_gR, ok_gR rfl fd_X0_39 rfl dX0_base_11 rfl⟩, ?_⟩
  refine ⟨⟨mo_gR, ok_gR rfl fd_X0_195 rfl dX0_base_14 rfl⟩, ?_⟩
  refine ⟨⟨mo_ild, ok_ildn dX0_base_17 rfl rfl⟩, ?_⟩
  refine ⟨⟨mo_alR, ok_aald rfl dX0_base_18 rfl⟩, ?_⟩
  refine ⟨⟨mo_gI, ok_gI rfl fd_X0_175 rfl dX0_base_19 rfl⟩, ?_⟩
  refine ⟨⟨mo_push, ok_iconst dX0_base_22 iv_i1 rfl⟩, ?_⟩
  refine ⟨⟨mo_bin, ok_isub dX0_base_23 rfl⟩, ?_⟩
  refine ⟨⟨mo_csI, ok_csI mi_X0_isIn lk_X0_121 q1563 dX0_base_24 rfl⟩, ?_⟩
  refine ⟨⟨mo_ine, ok_ine dX0_base_27 rfl rfl⟩, ?_⟩
  refine ⟨⟨mo_keep, ok_keep rfl⟩, ?_⟩
  refine ⟨⟨mo_push, ok_sipush dX0_base_30 iv_sm1000 rfl⟩, ?_⟩
  refine ⟨⟨mo_iret, ok_iret rfl rfl dX0_base_33⟩, ?_⟩
  refine ⟨⟨mo_ald, ok_aldn dX0_base_34 rfl rfl⟩, ?_⟩
  refine ⟨⟨mo_gR, ok_gR rfl fd_X0_39 rfl dX0_base_35 rfl⟩, ?_⟩
  refine ⟨⟨mo_gR, ok_gR rfl fd_X0_195 rfl dX0_base_38 rfl⟩, ?_⟩
  refine ⟨⟨mo_ild, ok_ildn dX0_base_41 rfl rfl⟩, ?_⟩
  refine ⟨⟨mo_alR, ok_aald rfl dX0_base_42 rfl⟩, ?_⟩
  refine ⟨⟨mo_ast, ok_ast dX0_base_43 (Nat.le_of_ble_eq_true rfl) rfl⟩, ?_⟩
  refine ⟨⟨mo_ild, ok_ildn dX0_base_45 rfl rfl⟩, ?_⟩
  refine ⟨⟨mo_ine, ok_ine dX0_base_46 rfl rfl⟩, ?_⟩
  refine ⟨⟨mo_ald, ok_ald dX0_base_49 rfl⟩, ?_⟩
  refine ⟨⟨mo_gR, ok_gR rfl fd_X0_188 rfl dX0_base_51 rfl⟩, ?_⟩
  refine ⟨⟨mo_ild, ok_ildn dX0_base_54 rfl rfl⟩, ?_⟩
  refine ⟨⟨mo_alI, ok_iald dX0_base_55 rfl⟩, ?_⟩
  refine ⟨⟨mo_goto, ok_goto dX0_base_56 rfl⟩, ?_⟩
  refine ⟨⟨mo_ild, ok_ildn dX0_base_59 rfl rfl⟩, ?_⟩
  refine ⟨⟨mo_push, ok_iconst dX0_base_60 iv_i1 rfl⟩, ?_⟩
  refine ⟨⟨mo_cne, ok_cne dX0_base_61 rfl rfl⟩, ?_⟩
  refine ⟨⟨mo_ald, ok_ald dX0_base_64 rfl⟩, ?_⟩
  refine ⟨⟨mo_gR, ok_gR rfl fd_X0_189 rfl dX0_base_66 rfl⟩, ?_⟩
  refine ⟨⟨mo_ild, ok_ildn dX0_base_69 rfl rfl⟩, ?_⟩
  refine ⟨⟨mo_alI, ok_iald dX0_base_70 rfl⟩, ?_⟩
  refine ⟨⟨mo_goto, ok_goto dX0_base_71 rfl⟩, ?_⟩
  refine ⟨⟨mo_push, ok_sipush dX0_base_74 iv_sm1000 rfl⟩, ?_⟩
  refine ⟨⟨mo_keep, ok_keep rfl⟩, ?_⟩
  refine ⟨⟨mo_iret, ok_iret rfl rfl dX0_base_77⟩, ?_⟩
  exact trivial
set_option maxHeartbeats 4000000 in
theorem alX0_hand : iy_all (iy_calls iy_mi) RX0 "hand" cX0_hand 4 (some FieldType.int, []) pcX0_hand pcX0_hand stX0_hand := by
  refine ⟨⟨mo_ild, ok_ildn dX0_hand_0 rfl rfl⟩, ?_⟩
  refine ⟨⟨mo_csI, ok_csI mi_X0_isHand lk_X0_131 q1560 dX0_hand_1 rfl⟩, ?_⟩
  refine ⟨⟨mo_ine, ok_ine dX0_hand_4 rfl rfl⟩, ?_⟩
  refine ⟨⟨mo_push, ok_iconst dX0_hand_7 iv_im1 rfl⟩, ?_⟩
  refine ⟨⟨mo_iret, ok_iret rfl rfl dX0_hand_8⟩, ?_⟩
  refine ⟨⟨mo_ald, ok_aldn dX0_hand_9 rfl rfl⟩, ?_⟩
  refine ⟨⟨mo_gR, ok_gR rfl fd_X0_39 rfl dX0_hand_10 rfl⟩, ?_⟩
  refine ⟨⟨mo_gR, ok_gR rfl fd_X0_218 rfl dX0_hand_13 rfl⟩, ?_⟩
  refine ⟨⟨mo_ild, ok_ildn dX0_hand_16 rfl rfl⟩, ?_⟩
  refine ⟨⟨mo_alR, ok_aald rfl dX0_hand_17 rfl⟩, ?_⟩
  refine ⟨⟨mo_ast, ok_astn dX0_hand_18 rfl (Nat.le_of_ble_eq_true rfl) rfl⟩, ?_⟩
  refine ⟨⟨mo_ild, ok_ildn dX0_hand_19 rfl rfl⟩, ?_⟩
  refine ⟨⟨mo_sw, ok_tsw dX0_hand_20 rfl rfl (by decide +kernel)⟩, ?_⟩
  refine ⟨⟨mo_ald, ok_aldn dX0_hand_64 rfl rfl⟩, ?_⟩
  refine ⟨⟨mo_gI, ok_gI rfl fd_X0_222 rfl dX0_hand_65 rfl⟩, ?_⟩
  refine ⟨⟨mo_goto, ok_goto dX0_hand_68 rfl⟩, ?_⟩
  refine ⟨⟨mo_ald, ok_aldn dX0_hand_71 rfl rfl⟩, ?_⟩
  refine ⟨⟨mo_gI, ok_gI rfl fd_X0_227 rfl dX0_hand_72 rfl⟩, ?_⟩
  refine ⟨⟨mo_goto, ok_goto dX0_hand_75 rfl⟩, ?_⟩
  refine ⟨⟨mo_ald, ok_aldn dX0_hand_78 rfl rfl⟩, ?_⟩
  refine ⟨⟨mo_gI, ok_gI rfl fd_X0_230 rfl dX0_hand_79 rfl⟩, ?_⟩
  refine ⟨⟨mo_goto, ok_goto dX0_hand_82 rfl⟩, ?_⟩
  refine ⟨⟨mo_ald, ok_aldn dX0_hand_85 rfl rfl⟩, ?_⟩
  refine ⟨⟨mo_gI, ok_gI rfl fd_X0_231 rfl dX0_hand_86 rfl⟩, ?_⟩
  refine ⟨⟨mo_goto, ok_goto dX0_hand_89 rfl⟩, ?_⟩
  refine ⟨⟨mo_ald, ok_aldn dX0_hand_92 rfl rfl⟩, ?_⟩
  refine ⟨⟨mo_gI, ok_gI rfl fd_X0_234 rfl dX0_hand_93 rfl⟩, ?_⟩
  refine ⟨⟨mo_goto, ok_goto dX0_hand_96 rfl⟩, ?_⟩
  refine ⟨⟨mo_ald, ok_aldn dX0_hand_99 rfl rfl⟩, ?_⟩
  refine ⟨⟨mo_gI, ok_gI rfl fd_X0_236 rfl dX0_hand_100 rfl⟩, ?_⟩
  refine ⟨⟨mo_goto, ok_goto dX0_hand_103 rfl⟩, ?_⟩
  refine ⟨⟨mo_ald, ok_aldn dX0_hand_106 rfl rfl⟩, ?_⟩
  refine ⟨⟨mo_gI, ok_gI rfl fd_X0_239 rfl dX0_hand_107 rfl⟩, ?_⟩
  refine ⟨⟨mo_goto, ok_goto dX0_hand_110 rfl⟩, ?_⟩
  refine ⟨⟨mo_push, ok_iconst dX0_hand_113 iv_im1 rfl⟩, ?_⟩
  refine ⟨⟨mo_keep, ok_keep rfl⟩, ?_⟩
  refine ⟨⟨mo_iret, ok_iret rfl rfl dX0_hand_114⟩, ?_⟩
  exact trivial
set_option maxHeartbeats 4000000 in
theorem alX0_result : iy_all (iy_calls iy_mi) RX0 "result" cX0_result 2 (some FieldType.int, []) pcX0_result pcX0_result stX0_result := by
  refine ⟨⟨mo_ild, ok_ildn dX0_result_0 rfl rfl⟩, ?_⟩
  refine ⟨⟨mo_csI, ok_csI mi_X0_isHand lk_X0_131 q1560 dX0_result_1 rfl⟩, ?_⟩
  refine ⟨⟨mo_ieq, ok_ieq dX0_result_4 rfl rfl⟩, ?_⟩
  refine ⟨⟨mo_ald, ok_aldn dX0_result_7 rfl rfl⟩, ?_⟩
  refine ⟨⟨mo_gR, ok_gR rfl fd_X0_39 rfl dX0_result_8 rfl⟩, ?_⟩
  refine ⟨⟨mo_gR, ok_gR rfl fd_X0_218 rfl dX0_result_11 rfl⟩, ?_⟩
  refine ⟨⟨mo_ild, ok_ildn dX0_result_14 rfl rfl⟩, ?_⟩
  refine ⟨⟨mo_alR, ok_aald rfl dX0_result_15 rfl⟩, ?_⟩
  refine ⟨⟨mo_gI, ok_gI rfl fd_X0_241 rfl dX0_result_16 rfl⟩, ?_⟩
  refine ⟨⟨mo_goto, ok_goto dX0_result_19 rfl⟩, ?_⟩
  refine ⟨⟨mo_push, ok_iconst dX0_result_22 iv_i0 rfl⟩, ?_⟩
  refine ⟨⟨mo_keep, ok_keep rfl⟩, ?_⟩
  refine ⟨⟨mo_iret, ok_iret rfl rfl dX0_result_23⟩, ?_⟩
  exact trivial
set_option maxHeartbeats 4000000 in
theorem alX0_halves : iy_all (iy_calls iy_mi) RX0 "halves" cX0_halves 2 (some FieldType.int, []) pcX0_halves pcX0_halves stX0_halves := by
  refine ⟨⟨mo_ild, ok_ildn dX0_halves_0 rfl rfl⟩, ?_⟩
  refine ⟨⟨mo_ine, ok_ine dX0_halves_1 rfl rfl⟩, ?_⟩
  refine ⟨⟨mo_ald, ok_aldn dX0_halves_4 rfl rfl⟩, ?_⟩
  refine ⟨⟨mo_gR, ok_gR rfl fd_X0_39 rfl dX0_halves_5 rfl⟩, ?_⟩
  refine ⟨⟨mo_cvI, ok_cvI mi_X4_splitsLeft lk_X0_244 q1653 q1654 rfl (Nat.le_of_ble_eq_true rfl) (iy_ro_le _) rfl rfl dX0_halves_8 rfl⟩, ?_⟩
  refine ⟨⟨mo_goto, ok_goto dX0_halves_11 rfl⟩, ?_⟩
  refine ⟨⟨mo_ild, ok_ildn dX0_halves_14 rfl rfl⟩, ?_⟩
  refine ⟨⟨mo_push, ok_iconst dX0_halves_15 iv_i1 rfl⟩, ?_⟩
  refine ⟨⟨mo_cne, ok_cne dX0_halves_16 rfl rfl⟩, ?_⟩
  refine ⟨⟨mo_ald, ok_aldn dX0_halves_19 rfl rfl⟩, ?_⟩
  refine ⟨⟨mo_gR, ok_gR rfl fd_X0_39 rfl dX0_halves_20 rfl⟩, ?_⟩
  refine ⟨⟨mo_cvI, ok_cvI mi_X4_goneLeft lk_X0_247 q1657 q1658 rfl (Nat.le_of_ble_eq_true rfl) (iy_ro_le _) rfl rfl dX0_halves_23 rfl⟩, ?_⟩
  refine ⟨⟨mo_goto, ok_goto dX0_halves_26 rfl⟩, ?_⟩
  refine ⟨⟨mo_push, ok_iconst dX0_halves_29 iv_im1 rfl⟩, ?_⟩
  refine ⟨⟨mo_keep, ok_keep rfl⟩, ?_⟩
  refine ⟨⟨mo_iret, ok_iret rfl rfl dX0_halves_30⟩, ?_⟩
  exact trivial
set_option maxHeartbeats 4000000 in
theorem alX0_replay : iy_all (iy_calls iy_mi) RX0 "replay" cX0_replay 11 (some FieldType.int, []) pcX0_replay pcX0_replay stX0_replay := by
  refine ⟨⟨mo_ild, ok_ildn dX0_replay_0 rfl rfl⟩, ?_⟩
  refine ⟨⟨mo_csI, ok_csI mi_X0_isHand lk_X0_131 q1560 dX0_replay_1 rfl⟩, ?_⟩
  refine ⟨⟨mo_ieq, ok_ieq dX0_replay_4 rfl rfl⟩, ?_⟩
  refine ⟨⟨mo_ild, ok_ildn dX0_replay_7 rfl rfl⟩, ?_⟩
  refine ⟨⟨mo_csI, ok_csI mi_X0_isHand lk_X0_131 q1560 dX0_replay_8 rfl⟩, ?_⟩
  refine ⟨⟨mo_ieq, ok_ieq dX0_replay_11 rfl rfl⟩, ?_⟩
  refine ⟨⟨mo_ild, ok_ildn dX0_replay_14 rfl rfl⟩, ?_⟩
  refine ⟨⟨mo_ild, ok_ildn dX0_replay_15 rfl rfl⟩, ?_⟩
  refine ⟨⟨mo_ceq, ok_ceq dX0_replay_16 rfl rfl⟩, ?_⟩
  refine ⟨⟨mo_ild, ok_ildn dX0_replay_19 rfl rfl⟩, ?_⟩
  refine ⟨⟨mo_push, ok_iconst dX0_replay_20 iv_i0 rfl⟩, ?_⟩
  refine ⟨⟨mo_push, ok_bipush dX0_replay_21 iv_b8 rfl⟩, ?_⟩
  refine ⟨⟨mo_csI, ok_csI mi_X0_isIn lk_X0_121 q1563 dX0_replay_23 rfl⟩, ?_⟩
  refine ⟨⟨mo_ieq, ok_ieq dX0_replay_26 rfl rfl⟩, ?_⟩
  refine ⟨⟨mo_ild, ok_ild dX0_replay_29 rfl⟩, ?_⟩
  refine ⟨⟨mo_push, ok_iconst dX0_replay_31 iv_i0 rfl⟩, ?_⟩
  refine ⟨⟨mo_push, ok_iconst dX0_replay_32 iv_i3 rfl⟩, ?_⟩
  refine ⟨⟨mo_csI, ok_csI mi_X0_isIn lk_X0_121 q1563 dX0_replay_33 rfl⟩, ?_⟩
  refine ⟨⟨mo_ine, ok_ine dX0_replay_36 rfl rfl⟩, ?_⟩
  refine ⟨⟨mo_keep, ok_keep rfl⟩, ?_⟩
  refine ⟨⟨mo_push, ok_iconst dX0_replay_39 iv_im1 rfl⟩, ?_⟩
  refine ⟨⟨mo_iret, ok_iret rfl rfl dX0_replay_40⟩, ?_⟩
  refine ⟨⟨mo_push, ok_iconst dX0_replay_41 iv_i0 rfl⟩, ?_⟩
  refine ⟨⟨mo_ist, ok_ist dX0_replay_42 (Nat.le_of_ble_eq_true rfl) rfl⟩, ?_⟩
  refine ⟨⟨mo_push, ok_iconst dX0_replay_44 iv_im1 rfl⟩, ?_⟩
  refine ⟨⟨mo_ist, ok_ist dX0_replay_45 (Nat.le_of_ble_eq_true rfl) rfl⟩, ?_⟩
  refine ⟨⟨mo_push, ok_iconst dX0_replay_47 iv_i0 rfl⟩, ?_⟩
  refine ⟨⟨mo_ist, ok_ist dX0_replay_48 (Nat.le_of_ble_eq_true rfl) rfl⟩, ?_⟩
  refine ⟨⟨mo_push, ok_sipush dX0_replay_50 iv_s2000 rfl⟩, ?_⟩
  refine ⟨⟨mo_ist, ok_ist dX0_replay_53 (Nat.le_of_ble_eq_true rfl) rfl⟩, ?_⟩
  refine ⟨⟨mo_push, ok_iconst dX0_replay_55 iv_i0 rfl⟩, ?_⟩
  refine ⟨⟨mo_ist, ok_ist dX0_replay_56 (Nat.le_of_ble_eq_true rfl) rfl⟩, ?_⟩
  refine ⟨⟨mo_push, ok_iconst dX0_replay_58 iv_i0 rfl⟩, ?_⟩
  refine ⟨⟨mo_ist, ok_ist dX0_replay_59 (Nat.le_of_ble_eq_true rfl) rfl⟩, ?_⟩
  refine ⟨⟨mo_keep, ok_keep rfl⟩, ?_⟩
  refine ⟨⟨mo_ild, ok_ild dX0_replay_61 rfl⟩, ?_⟩
  refine ⟨⟨mo_push, ok_iconst dX0_replay_63 iv_i1 rfl⟩, ?_⟩
  refine ⟨⟨mo_ild, ok_ildn dX0_replay_64 rfl rfl⟩, ?_⟩
  refine ⟨⟨mo_bin, ok_ishl dX0_replay_65 rfl⟩, ?_⟩
  refine ⟨⟨mo_cge, ok_cge dX0_replay_66 rfl rfl⟩, ?_⟩
  refine ⟨⟨mo_ald, ok_aldn dX0_replay_69 rfl rfl⟩, ?_⟩
  refine ⟨⟨mo_ild, ok_ildn dX0_replay_70 rfl rfl⟩, ?_⟩
  refine ⟨⟨mo_ild, ok_ildn dX0_replay_71 rfl rfl⟩, ?_⟩
  refine ⟨⟨mo_ild, ok_ildn dX0_replay_72 rfl rfl⟩, ?_⟩
  refine ⟨⟨mo_ild, ok_ild dX0_replay_73 rfl⟩, ?_⟩
  refine ⟨⟨mo_cvV, ok_cvV mi_X0_replays lk_X0_253 q1666 qs54 rfl (Nat.le_of_ble_eq_true rfl) (iy_ro_le _) rfl rfl dX0_replay_75 rfl⟩, ?_⟩
  refine ⟨⟨mo_ild, ok_ild dX0_replay_78 rfl⟩, ?_⟩
  refine ⟨⟨mo_ine, ok_ine dX0_replay_80 rfl rfl⟩, ?_⟩
  refine ⟨⟨mo_ald, ok_aldn dX0_replay_83 rfl rfl⟩, ?_⟩
  refine ⟨⟨mo_gR, ok_gR rfl fd_X0_43 rfl dX0_replay_84 rfl⟩, ?_⟩
  refine ⟨⟨mo_ald, ok_aldn dX0_replay_87 rfl rfl⟩, ?_⟩
  refine ⟨⟨mo_gR, ok_gR rfl fd_X0_68 rfl dX0_replay_88 rfl⟩, ?_⟩
  refine ⟨⟨mo_ald, ok_aldn dX0_replay_91 rfl rfl⟩, ?_⟩
  refine ⟨⟨mo_gR, ok_gR rfl fd_X0_71 rfl dX0_replay_92 rfl⟩, ?_⟩
  refine ⟨⟨mo_cvI, ok_cvI mi_X4_all lk_X0_153 q1593 q1594 rfl (Nat.le_of_ble_eq_true rfl) (iy_ro_le _) rfl rfl dX0_replay_95 rfl⟩, ?_⟩
  refine ⟨⟨mo_ist, ok_ist dX0_replay_98 (Nat.le_of_ble_eq_true rfl) rfl⟩, ?_⟩
  refine ⟨⟨mo_keep, ok_keep rfl⟩, ?_⟩
  refine ⟨⟨mo_ild, ok_ild dX0_replay_100 rfl⟩, ?_⟩
  refine ⟨⟨mo_ald, ok_aldn dX0_replay_102 rfl rfl⟩, ?_⟩
  refine ⟨⟨mo_ild, ok_ild dX0_replay_103 rfl⟩, ?_⟩
  refine ⟨⟨mo_cvI, ok_cvI mi_X0_isAsFirst lk_X0_257 q1685 qs55 rfl (Nat.le_of_ble_eq_true rfl) (iy_ro_le _) rfl rfl dX0_replay_105 rfl⟩, ?_⟩
  refine ⟨⟨mo_ieq, ok_ieq dX0_replay_108 rfl rfl⟩, ?_⟩
  refine ⟨⟨mo_push, ok_iconst dX0_replay_111 iv_i1 rfl⟩, ?_⟩
  refine ⟨⟨mo_goto, ok_goto dX0_replay_112 rfl⟩, ?_⟩
  refine ⟨⟨mo_push, ok_iconst dX0_replay_115 iv_i0 rfl⟩, ?_⟩
  refine ⟨⟨mo_keep, ok_keep rfl⟩, ?_⟩
  refine ⟨⟨mo_bin, ok_iadd dX0_replay_116 rfl⟩, ?_⟩
  refine ⟨⟨mo_ist, ok_ist dX0_replay_117 (Nat.le_of_ble_eq_true rfl) rfl⟩, ?_⟩
  refine ⟨⟨mo_ild, ok_ild dX0_replay_119 rfl⟩, ?_⟩
  refine ⟨⟨mo_ald, ok_aldn dX0_replay_121 rfl rfl⟩, ?_⟩
  refine ⟨⟨mo_gR, ok_gR rfl fd_X0_43 rfl dX0_replay_122 rfl⟩, ?_⟩
  refine ⟨⟨mo_gI, ok_gI rfl fd_X0_128 rfl dX0_replay_125 rfl⟩, ?_⟩
  refine ⟨⟨mo_ald, ok_aldn dX0_replay_128 rfl rfl⟩, ?_⟩
  refine ⟨⟨mo_gR, ok_gR rfl fd_X0_39 rfl dX0_replay_129 rfl⟩, ?_⟩
  refine ⟨⟨mo_gI, ok_gI rfl fd_X0_128 rfl dX0_replay_132 rfl⟩, ?_⟩
  refine ⟨⟨mo_bin, ok_isub dX0_replay_135 rfl⟩, ?_⟩
  refine ⟨⟨mo_csI, ok_csI mi_J13_min lk_X0_260 q883 dX0_replay_136 rfl⟩, ?_⟩
  refine ⟨⟨mo_ist, ok_ist dX0_replay_139 (Nat.le_of_ble_eq_true rfl) rfl⟩, ?_⟩
  refine ⟨⟨mo_ald, ok_aldn dX0_replay_141 rfl rfl⟩, ?_⟩
  refine ⟨⟨mo_ild, ok_ildn dX0_replay_142 rfl rfl⟩, ?_⟩
  refine ⟨⟨mo_ild, ok_ildn dX0_replay_143 rfl rfl⟩, ?_⟩
  refine ⟨⟨mo_cvI, ok_cvI mi_X0_lostIn lk_X0_266 q1690 qs56 rfl (Nat.le_of_ble_eq_true rfl) (iy_ro_le _) rfl rfl dX0_replay_144 rfl⟩, ?_⟩
  refine ⟨⟨mo_ild, ok_ild dX0_replay_147 rfl⟩, ?_⟩
  refine ⟨⟨mo_cgt, ok_cgt dX0_replay_149 rfl rfl⟩, ?_⟩
  refine ⟨⟨mo_goto, ok_goto dX0_replay_152 rfl⟩, ?_⟩
  refine ⟨⟨mo_ald, ok_aldn dX0_replay_155 rfl rfl⟩, ?_⟩
  refine ⟨⟨mo_ild, ok_ildn dX0_replay_156 rfl rfl⟩, ?_⟩
  refine ⟨⟨mo_ild, ok_ildn dX0_replay_157 rfl rfl⟩, ?_⟩
  refine ⟨⟨mo_cvI, ok_cvI mi_X0_lostIn lk_X0_266 q1690 qs56 rfl (Nat.le_of_ble_eq_true rfl) (iy_ro_le _) rfl rfl dX0_replay_158 rfl⟩, ?_⟩
  refine ⟨⟨mo_ist, ok_ist dX0_replay_161 (Nat.le_of_ble_eq_true rfl) rfl⟩, ?_⟩
  refine ⟨⟨mo_ild, ok_ild dX0_replay_163 rfl⟩, ?_⟩
  refine ⟨⟨mo_ist, ok_ist dX0_replay_165 (Nat.le_of_ble_eq_true rfl) rfl⟩, ?_⟩
  refine ⟨⟨mo_keep, ok_keep rfl⟩, ?_⟩
  refine ⟨⟨mo_inc, ok_inc dX0_replay_167 iv_i1 (Nat.le_of_ble_eq_true rfl) rfl⟩, ?_⟩
  refine ⟨⟨mo_back, ok_back dX0_replay_170 rfl⟩, ?_⟩
  refine ⟨⟨mo_ild, ok_ild dX0_replay_173 rfl⟩, ?_⟩
  refine ⟨⟨mo_ine, ok_ine dX0_replay_175 rfl rfl⟩, ?_⟩
  refine ⟨⟨mo_ild, ok_ild dX0_replay_178 rfl⟩, ?_⟩
  refine ⟨⟨mo_goto, ok_goto dX0_replay_180 rfl⟩, ?_⟩
  refine ⟨⟨mo_ild, ok_ild dX0_replay_183 rfl⟩, ?_⟩
  refine ⟨⟨mo_push, ok_iconst dX0_replay_185 iv_i1 rfl⟩, ?_⟩
  refine ⟨⟨mo_cne, ok_cne dX0_replay_186 rfl rfl⟩, ?_⟩
  refine ⟨⟨mo_ild, ok_ild dX0_replay_189 rfl⟩, ?_⟩
  refine ⟨⟨mo_goto, ok_goto dX0_replay_191 rfl⟩, ?_⟩
  refine ⟨⟨mo_ild, ok_ild dX0_replay_194 rfl⟩, ?_⟩
  refine ⟨⟨mo_push, ok_iconst dX0_replay_196 iv_i2 rfl⟩, ?_⟩
  refine ⟨⟨mo_cne, ok_cne dX0_replay_197 rfl rfl⟩, ?_⟩
  refine ⟨⟨mo_ild, ok_ild dX0_replay_200 rfl⟩, ?_⟩
  refine ⟨⟨mo_goto, ok_goto dX0_replay_202 rfl⟩, ?_⟩
  refine ⟨⟨mo_ild, ok_ild dX0_replay_205 rfl⟩, ?_⟩
  refine ⟨⟨mo_keep, ok_keep rfl⟩, ?_⟩
  refine ⟨⟨mo_iret, ok_iret rfl rfl dX0_replay_207⟩, ?_⟩
  exact trivial
set_option maxHeartbeats 4000000 in
theorem alX0_replays : iy_all (iy_calls iy_mi) RX0 "replays" cX0_replays 6 (none, []) pcX0_replays pcX0_replays stX0_replays := by
  refine ⟨⟨mo_ald, ok_aldn dX0_replays_0 rfl rfl⟩, ?_⟩
  refine ⟨⟨mo_gR, ok_gR rfl fd_X0_43 rfl dX0_replays_1 rfl⟩, ?_⟩
  refine ⟨⟨mo_ald, ok_aldn dX0_replays_4 rfl rfl⟩, ?_⟩
  refine ⟨⟨mo_gR, ok_gR rfl fd_X0_39 rfl dX0_replays_5 rfl⟩, ?_⟩
  refine ⟨⟨mo_cvV, ok_cvV mi_X4_becomes lk_X0_250 q1669 q1670 rfl (Nat.le_of_ble_eq_true rfl) (iy_ro_le _) rfl rfl dX0_replays_8 rfl⟩, ?_⟩
  refine ⟨⟨mo_push, ok_iconst dX0_replays_11 iv_i0 rfl⟩, ?_⟩
  refine ⟨⟨mo_ist, ok_ist dX0_replays_12 (Nat.le_of_ble_eq_true rfl) rfl⟩, ?_⟩
  refine ⟨⟨mo_keep, ok_keep rfl⟩, ?_⟩
  refine ⟨⟨mo_ild, ok_ild dX0_replays_14 rfl⟩, ?_⟩
  refine ⟨⟨mo_ild, ok_ildn dX0_replays_16 rfl rfl⟩, ?_⟩
  refine ⟨⟨mo_cge, ok_cge dX0_replays_17 rfl rfl⟩, ?_⟩
  refine ⟨⟨mo_ald, ok_aldn dX0_replays_20 rfl rfl⟩, ?_⟩
  refine ⟨⟨mo_gR, ok_gR rfl fd_X0_43 rfl dX0_replays_21 rfl⟩, ?_⟩
  refine ⟨⟨mo_ild, ok_ild dX0_replays_24 rfl⟩, ?_⟩
  refine ⟨⟨mo_ild, ok_ild dX0_replays_26 rfl⟩, ?_⟩
  refine ⟨⟨mo_bin, ok_ishr dX0_replays_28 rfl⟩, ?_⟩
  refine ⟨⟨mo_push, ok_iconst dX0_replays_29 iv_i1 rfl⟩, ?_⟩
  refine ⟨⟨mo_bin, ok_iand dX0_replays_30 rfl⟩, ?_⟩
  refine ⟨⟨mo_ine, ok_ine dX0_replays_31 rfl rfl⟩, ?_⟩
  refine ⟨⟨mo_ild, ok_ildn dX0_replays_34 rfl rfl⟩, ?_⟩
  refine ⟨⟨mo_goto, ok_goto dX0_replays_35 rfl⟩, ?_⟩
  refine ⟨⟨mo_ild, ok_ildn dX0_replays_38 rfl rfl⟩, ?_⟩
  refine ⟨⟨mo_keep, ok_keep rfl⟩, ?_⟩
  refine ⟨⟨mo_cvI, ok_cvI mi_X4_steps lk_X0_142 q1418 q1419 rfl (Nat.le_of_ble_eq_true rfl) (iy_ro_le _) rfl rfl dX0_replays_39 rfl⟩, ?_⟩
  refine ⟨⟨mo_pop, ok_pop dX0_replays_42 rfl⟩, ?_⟩
  refine ⟨⟨mo_inc, ok_inc dX0_replays_43 iv_i1 (Nat.le_of_ble_eq_true rfl) rfl⟩, ?_⟩
  refine ⟨⟨mo_back, ok_back dX0_replays_46 rfl⟩, ?_⟩
  refine ⟨⟨mo_ald, ok_aldn dX0_replays_49 rfl rfl⟩, ?_⟩
  refine ⟨⟨mo_gR, ok_gR rfl fd_X0_43 rfl dX0_replays_50 rfl⟩, ?_⟩
  refine ⟨⟨mo_ild, ok_ildn dX0_replays_53 rfl rfl⟩, ?_⟩
  refine ⟨⟨mo_cvI, ok_cvI mi_X4_closes lk_X0_146 q1414 q1415 rfl (Nat.le_of_ble_eq_true rfl) (iy_ro_le _) rfl rfl dX0_replays_54 rfl⟩, ?_⟩
  refine ⟨⟨mo_pop, ok_pop dX0_replays_57 rfl⟩, ?_⟩
  refine ⟨⟨mo_ald, ok_aldn dX0_replays_58 rfl rfl⟩, ?_⟩
  refine ⟨⟨mo_gR, ok_gR rfl fd_X0_43 rfl dX0_replays_59 rfl⟩, ?_⟩
  refine ⟨⟨mo_ild, ok_ildn dX0_replays_62 rfl rfl⟩, ?_⟩
  refine ⟨⟨mo_cvI, ok_cvI mi_X4_closes lk_X0_146 q1414 q1415 rfl (Nat.le_of_ble_eq_true rfl) (iy_ro_le _) rfl rfl dX0_replays_63 rfl⟩, ?_⟩
  refine ⟨⟨mo_pop, ok_pop dX0_replays_66 rfl⟩, ?_⟩
  refine ⟨⟨mo_ret, ok_ret rfl dX0_replays_67⟩, ?_⟩
  exact trivial
set_option maxHeartbeats 4000000 in
theorem alX0_isAsFirst : iy_all (iy_calls iy_mi) RX0 "isAsFirst" cX0_isAsFirst 5 (some FieldType.boolean, []) pcX0_isAsFirst pcX0_isAsFirst stX0_isAsFirst := by
  refine ⟨⟨mo_ald, ok_aldn dX0_isAsFirst_0 rfl rfl⟩, ?_⟩
  refine ⟨⟨mo_gR, ok_gR rfl fd_X0_43 rfl dX0_isAsFirst_1 rfl⟩, ?_⟩
  refine ⟨⟨mo_ald, ok_aldn dX0_isAsFirst_4 rfl rfl⟩, ?_⟩
  refine ⟨⟨mo_gR, ok_gR rfl fd_X0_61 rfl dX0_isAsFirst_5 rfl⟩, ?_⟩
  refine ⟨⟨mo_ald, ok_aldn dX0_isAsFirst_8 rfl rfl⟩, ?_⟩
  refine ⟨⟨mo_gR, ok_gR rfl fd_X0_65 rfl dX0_isAsFirst_9 rfl⟩, ?_⟩
  refine ⟨⟨mo_cvI, ok_cvI mi_X4_all lk_X0_153 q1593 q1594 rfl (Nat.le_of_ble_eq_true rfl) (iy_ro_le _) rfl rfl dX0_isAsFirst_12 rfl⟩, ?_⟩
  refine ⟨⟨mo_ist, ok_istn dX0_isAsFirst_15 rfl (Nat.le_of_ble_eq_true rfl) rfl⟩, ?_⟩
  refine ⟨⟨mo_ild, ok_ildn dX0_isAsFirst_16 rfl rfl⟩, ?_⟩
  refine ⟨⟨mo_ild, ok_ildn dX0_isAsFirst_17 rfl rfl⟩, ?_⟩
  refine ⟨⟨mo_cne, ok_cne dX0_isAsFirst_18 rfl rfl⟩, ?_⟩
  refine ⟨⟨mo_push, ok_iconst dX0_isAsFirst_21 iv_i1 rfl⟩, ?_⟩
  refine ⟨⟨mo_goto, ok_goto dX0_isAsFirst_22 rfl⟩, ?_⟩
  refine ⟨⟨mo_push, ok_iconst dX0_isAsFirst_25 iv_i0 rfl⟩, ?_⟩
  refine ⟨⟨mo_keep, ok_keep rfl⟩, ?_⟩
  refine ⟨⟨mo_ist, ok_istn dX0_isAsFirst_26 rfl (Nat.le_of_ble_eq_true rfl) rfl⟩, ?_⟩
  refine ⟨⟨mo_push, ok_iconst dX0_isAsFirst_27 iv_i0 rfl⟩, ?_⟩
  refine ⟨⟨mo_ist, ok_ist dX0_isAsFirst_28 (Nat.le_of_ble_eq_true rfl) rfl⟩, ?_⟩
  refine ⟨⟨mo_keep, ok_keep rfl⟩, ?_⟩
  refine ⟨⟨mo_ild, ok_ild dX0_isAsFirst_30 rfl⟩, ?_⟩
  refine ⟨⟨mo_ild, ok_ildn dX0_isAsFirst_32 rfl rfl⟩, ?_⟩
  refine ⟨⟨mo_cge, ok_cge dX0_isAsFirst_33 rfl rfl⟩, ?_⟩
  refine ⟨⟨mo_ild, ok_ildn dX0_isAsFirst_36 rfl rfl⟩, ?_⟩
  refine ⟨⟨mo_ieq, ok_ieq dX0_isAsFirst_37 rfl rfl⟩, ?_⟩
  refine ⟨⟨mo_ald, ok_aldn dX0_isAsFirst_40 rfl rfl⟩, ?_⟩
  refine ⟨⟨mo_gR, ok_gR rfl fd_X0_61 rfl dX0_isAsFirst_41 rfl⟩, ?_⟩
  refine ⟨⟨mo_ild, ok_ild dX0_isAsFirst_44 rfl⟩, ?_⟩
  refine ⟨⟨mo_alI, ok_iald dX0_isAsFirst_46 rfl⟩, ?_⟩
  refine ⟨⟨mo_ald, ok_aldn dX0_isAsFirst_47 rfl rfl⟩, ?_⟩
  refine ⟨⟨mo_gR, ok_gR rfl fd_X0_68 rfl dX0_isAsFirst_48 rfl⟩, ?_⟩
  refine ⟨⟨mo_ild, ok_ild dX0_isAsFirst_51 rfl⟩, ?_⟩
  refine ⟨⟨mo_alI, ok_iald dX0_isAsFirst_53 rfl⟩, ?_⟩
  refine ⟨⟨mo_cne, ok_cne dX0_isAsFirst_54 rfl rfl⟩, ?_⟩
  refine ⟨⟨mo_ald, ok_aldn dX0_isAsFirst_57 rfl rfl⟩, ?_⟩
  refine ⟨⟨mo_gR, ok_gR rfl fd_X0_65 rfl dX0_isAsFirst_58 rfl⟩, ?_⟩
  refine ⟨⟨mo_ild, ok_ild dX0_isAsFirst_61 rfl⟩, ?_⟩
  refine ⟨⟨mo_alI, ok_iald dX0_isAsFirst_63 rfl⟩, ?_⟩
  refine ⟨⟨mo_ald, ok_aldn dX0_isAsFirst_64 rfl rfl⟩, ?_⟩
  refine ⟨⟨mo_gR, ok_gR rfl fd_X0_71 rfl dX0_isAsFirst_65 rfl⟩, ?_⟩
  refine ⟨⟨mo_ild, ok_ild dX0_isAsFirst_68 rfl⟩, ?_⟩
  refine ⟨⟨mo_alI, ok_iald dX0_isAsFirst_70 rfl⟩, ?_⟩
  refine ⟨⟨mo_cne, ok_cne dX0_isAsFirst_71 rfl rfl⟩, ?_⟩
  refine ⟨⟨mo_push, ok_iconst dX0_isAsFirst_74 iv_i1 rfl⟩, ?_⟩
  refine ⟨⟨mo_goto, ok_goto dX0_isAsFirst_75 rfl⟩, ?_⟩
  refine ⟨⟨mo_keep, ok_keep rfl⟩, ?_⟩
  refine ⟨⟨mo_push, ok_iconst dX0_isAsFirst_78 iv_i0 rfl⟩, ?_⟩
  refine ⟨⟨mo_keep, ok_keep rfl⟩, ?_⟩
  refine ⟨⟨mo_ist, ok_istn dX0_isAsFirst_79 rfl (Nat.le_of_ble_eq_true rfl) rfl⟩, ?_⟩
  refine ⟨⟨mo_inc, ok_inc dX0_isAsFirst_80 iv_i1 (Nat.le_of_ble_eq_true rfl) rfl⟩, ?_⟩
  refine ⟨⟨mo_back, ok_back dX0_isAsFirst_83 rfl⟩, ?_⟩
  refine ⟨⟨mo_keep, ok_keep rfl⟩, ?_⟩
  refine ⟨⟨mo_ild, ok_ildn dX0_isAsFirst_86 rfl rfl⟩, ?_⟩
  refine ⟨⟨mo_iret, ok_iret rfl rfl dX0_isAsFirst_87⟩, ?_⟩
  exact trivial
set_option maxHeartbeats 4000000 in
theorem alX0_lostIn : iy_all (iy_calls iy_mi) RX0 "lostIn" cX0_lostIn 3 (some FieldType.int, []) pcX0_lostIn pcX0_lostIn stX0_lostIn := by
  refine ⟨⟨mo_ald, ok_aldn dX0_lostIn_0 rfl rfl⟩, ?_⟩
  refine ⟨⟨mo_gR, ok_gR rfl fd_X0_43 rfl dX0_lostIn_1 rfl⟩, ?_⟩
  refine ⟨⟨mo_gR, ok_gR rfl fd_X0_218 rfl dX0_lostIn_4 rfl⟩, ?_⟩
  refine ⟨⟨mo_ild, ok_ildn dX0_lostIn_7 rfl rfl⟩, ?_⟩
  refine ⟨⟨mo_alR, ok_aald rfl dX0_lostIn_8 rfl⟩, ?_⟩
  refine ⟨⟨mo_gI, ok_gI rfl fd_X0_231 rfl dX0_lostIn_9 rfl⟩, ?_⟩
  refine ⟨⟨mo_ald, ok_aldn dX0_lostIn_12 rfl rfl⟩, ?_⟩
  refine ⟨⟨mo_gR, ok_gR rfl fd_X0_43 rfl dX0_lostIn_13 rfl⟩, ?_⟩
  refine ⟨⟨mo_gR, ok_gR rfl fd_X0_218 rfl dX0_lostIn_16 rfl⟩, ?_⟩
  refine ⟨⟨mo_ild, ok_ildn dX0_lostIn_19 rfl rfl⟩, ?_⟩
  refine ⟨⟨mo_alR, ok_aald rfl dX0_lostIn_20 rfl⟩, ?_⟩
  refine ⟨⟨mo_gI, ok_gI rfl fd_X0_231 rfl dX0_lostIn_21 rfl⟩, ?_⟩
  refine ⟨⟨mo_bin, ok_iadd dX0_lostIn_24 rfl⟩, ?_⟩
  refine ⟨⟨mo_ald, ok_aldn dX0_lostIn_25 rfl rfl⟩, ?_⟩
  refine ⟨⟨mo_gR, ok_gR rfl fd_X0_39 rfl dX0_lostIn_26 rfl⟩, ?_⟩
  refine ⟨⟨mo_gR, ok_gR rfl fd_X0_218 rfl dX0_lostIn_29 rfl⟩, ?_⟩
  refine ⟨⟨mo_ild, ok_ildn dX0_lostIn_32 rfl rfl⟩, ?_⟩
  refine ⟨⟨mo_alR, ok_aald rfl dX0_lostIn_33 rfl⟩, ?_⟩
  refine ⟨⟨mo_gI, ok_gI rfl fd_X0_231 rfl dX0_lostIn_34 rfl⟩, ?_⟩
  refine ⟨⟨mo_bin, ok_isub dX0_lostIn_37 rfl⟩, ?_⟩
  refine ⟨⟨mo_ald, ok_aldn dX0_lostIn_38 rfl rfl⟩, ?_⟩
  refine ⟨⟨mo_gR, ok_gR rfl fd_X0_39 rfl dX0_lostIn_39 rfl⟩, ?_⟩
  refine ⟨⟨mo_gR, ok_gR rfl fd_X0_218 rfl dX0_lostIn_42 rfl⟩, ?_⟩
  refine ⟨⟨mo_ild, ok_ildn dX0_lostIn_45 rfl rfl⟩, ?_⟩
  refine ⟨⟨mo_alR, ok_aald rfl dX0_lostIn_46 rfl⟩, ?_⟩
  refine ⟨⟨mo_gI, ok_gI rfl fd_X0_231 rfl dX0_lostIn_47 rfl⟩, ?_⟩
  refine ⟨⟨mo_bin, ok_isub dX0_lostIn_50 rfl⟩, ?_⟩
  refine ⟨⟨mo_iret, ok_iret rfl rfl dX0_lostIn_51⟩, ?_⟩
  exact trivial
set_option maxHeartbeats 4000000 in
theorem alX0_hold : iy_all (iy_calls iy_mi) RX0 "hold" cX0_hold 2 (some FieldType.boolean, []) pcX0_hold pcX0_hold stX0_hold := by
  refine ⟨⟨mo_ild, ok_ildn dX0_hold_0 rfl rfl⟩, ?_⟩
  refine ⟨⟨mo_push, ok_iconst dX0_hold_1 iv_i0 rfl⟩, ?_⟩
  refine ⟨⟨mo_push, ok_iconst dX0_hold_2 iv_i2 rfl⟩, ?_⟩
  refine ⟨⟨mo_csI, ok_csI mi_X0_isIn lk_X0_121 q1563 dX0_hold_3 rfl⟩, ?_⟩
  refine ⟨⟨mo_ine, ok_ine dX0_hold_6 rfl rfl⟩, ?_⟩
  refine ⟨⟨mo_push, ok_iconst dX0_hold_9 iv_i0 rfl⟩, ?_⟩
  refine ⟨⟨mo_iret, ok_iret rfl rfl dX0_hold_10⟩, ?_⟩
  refine ⟨⟨mo_ald, ok_aldn dX0_hold_11 rfl rfl⟩, ?_⟩
  refine ⟨⟨mo_gR, ok_gR rfl fd_X0_46 rfl dX0_hold_12 rfl⟩, ?_⟩
  refine ⟨⟨mo_ild, ok_ildn dX0_hold_15 rfl rfl⟩, ?_⟩
  refine ⟨⟨mo_alR, ok_aald rfl dX0_hold_16 rfl⟩, ?_⟩
  refine ⟨⟨mo_ald, ok_aldn dX0_hold_17 rfl rfl⟩, ?_⟩
  refine ⟨⟨mo_gR, ok_gR rfl fd_X0_39 rfl dX0_hold_18 rfl⟩, ?_⟩
  refine ⟨⟨mo_cvV, ok_cvV mi_X4_becomes lk_X0_250 q1669 q1670 rfl (Nat.le_of_ble_eq_true rfl) (iy_ro_le _) rfl rfl dX0_hold_21 rfl⟩, ?_⟩
  refine ⟨⟨mo_ald, ok_aldn dX0_hold_24 rfl rfl⟩, ?_⟩
  refine ⟨⟨mo_gR, ok_gR rfl fd_X0_57 rfl dX0_hold_25 rfl⟩, ?_⟩
  refine ⟨⟨mo_ild, ok_ildn dX0_hold_28 rfl rfl⟩, ?_⟩
  refine ⟨⟨mo_push, ok_iconst dX0_hold_29 iv_i1 rfl⟩, ?_⟩
  refine ⟨⟨mo_asI, ok_zast dX0_hold_30 rfl⟩, ?_⟩
  refine ⟨⟨mo_push, ok_iconst dX0_hold_31 iv_i1 rfl⟩, ?_⟩
  refine ⟨⟨mo_iret, ok_iret rfl rfl dX0_hold_32⟩, ?_⟩
  exact trivial
set_option maxHeartbeats 4000000 in
theorem alX0_restore : iy_all (iy_calls iy_mi) RX0 "restore" cX0_restore 2 (some FieldType.boolean, []) pcX0_restore pcX0_restore stX0_restore := by
  refine ⟨⟨mo_ild, ok_ildn dX0_restore_0 rfl rfl⟩, ?_⟩
  refine ⟨⟨mo_push, ok_iconst dX0_restore_1 iv_i0 rfl⟩, ?_⟩
  refine ⟨⟨mo_push, ok_iconst dX0_restore_2 iv_i2 rfl⟩, ?_⟩
  refine ⟨⟨mo_csI, ok_csI mi_X0_isIn lk_X0_121 q1563 dX0_restore_3 rfl⟩, ?_⟩
  refine ⟨⟨mo_ieq, ok_ieq dX0_restore_6 rfl rfl⟩, ?_⟩
  refine ⟨⟨mo_ald, ok_aldn dX0_restore_9 rfl rfl⟩, ?_⟩
  refine ⟨⟨mo_gR, ok_gR rfl fd_X0_57 rfl dX0_restore_10 rfl⟩, ?_⟩
  refine ⟨⟨mo_ild, ok_ildn dX0_restore_13 rfl rfl⟩, ?_⟩
  refine ⟨⟨mo_alI, ok_zald dX0_restore_14 rfl⟩, ?_⟩
  refine ⟨⟨mo_ine, ok_ine dX0_restore_15 rfl rfl⟩, ?_⟩
  refine ⟨⟨mo_keep, ok_keep rfl⟩, ?_⟩
  refine ⟨⟨mo_push, ok_iconst dX0_restore_18 iv_i0 rfl⟩, ?_⟩
  refine ⟨⟨mo_iret, ok_iret rfl rfl dX0_restore_19⟩, ?_⟩
  refine ⟨⟨mo_ald, ok_aldn dX0_restore_20 rfl rfl⟩, ?_⟩
  refine ⟨⟨mo_gR, ok_gR rfl fd_X0_39 rfl dX0_restore_21 rfl⟩, ?_⟩
  refine ⟨⟨mo_ald, ok_aldn dX0_restore_24 rfl rfl⟩, ?_⟩
  refine ⟨⟨mo_gR, ok_gR rfl fd_X0_46 rfl dX0_restore_25 rfl⟩, ?_⟩
  refine ⟨⟨mo_ild, ok_ildn dX0_restore_28 rfl rfl⟩, ?_⟩
  refine ⟨⟨mo_alR, ok_aald rfl dX0_restore_29 rfl⟩, ?_⟩
  refine ⟨⟨mo_cvV, ok_cvV mi_X4_becomes lk_X0_250 q1669 q1670 rfl (Nat.le_of_ble_eq_true rfl) (iy_ro_le _) rfl rfl dX0_restore_30 rfl⟩, ?_⟩
  refine ⟨⟨mo_push, ok_iconst dX0_restore_33 iv_i1 rfl⟩, ?_⟩
  refine ⟨⟨mo_iret, ok_iret rfl rfl dX0_restore_34⟩, ?_⟩
  exact trivial
set_option maxHeartbeats 4000000 in
theorem alX0_count : iy_all (iy_calls iy_mi) RX0 "count" cX0_count 2 (some FieldType.int, []) pcX0_count pcX0_count stX0_count := by
  refine ⟨⟨mo_ild, ok_ildn dX0_count_0 rfl rfl⟩, ?_⟩
  refine ⟨⟨mo_sw, ok_tsw dX0_count_1 rfl rfl (by decide +kernel)⟩, ?_⟩
  refine ⟨⟨mo_ald, ok_aldn dX0_count_72 rfl rfl⟩, ?_⟩
  refine ⟨⟨mo_gR, ok_gR rfl fd_X0_39 rfl dX0_count_73 rfl⟩, ?_⟩
  refine ⟨⟨mo_cvI, ok_cvI mi_X4_keys lk_X0_269 q1368 q1369 rfl (Nat.le_of_ble_eq_true rfl) (iy_ro_le _) rfl rfl dX0_count_76 rfl⟩, ?_⟩
  refine ⟨⟨mo_goto, ok_goto dX0_count_79 rfl⟩, ?_⟩
  refine ⟨⟨mo_ald, ok_aldn dX0_count_82 rfl rfl⟩, ?_⟩
  refine ⟨⟨mo_gR, ok_gR rfl fd_X0_39 rfl dX0_count_83 rfl⟩, ?_⟩
  refine ⟨⟨mo_gI, ok_gI rfl fd_X0_128 rfl dX0_count_86 rfl⟩, ?_⟩
  refine ⟨⟨mo_goto, ok_goto dX0_count_89 rfl⟩, ?_⟩
  refine ⟨⟨mo_ald, ok_aldn dX0_count_92 rfl rfl⟩, ?_⟩
  refine ⟨⟨mo_gR, ok_gR rfl fd_X0_39 rfl dX0_count_93 rfl⟩, ?_⟩
  refine ⟨⟨mo_gI, ok_gI rfl fd_X0_125 rfl dX0_count_96 rfl⟩, ?_⟩
  refine ⟨⟨mo_goto, ok_goto dX0_count_99 rfl⟩, ?_⟩
  refine ⟨⟨mo_ald, ok_aldn dX0_count_102 rfl rfl⟩, ?_⟩
  refine ⟨⟨mo_gR, ok_gR rfl fd_X0_39 rfl dX0_count_103 rfl⟩, ?_⟩
  refine ⟨⟨mo_gI, ok_gI rfl fd_X0_272 rfl dX0_count_106 rfl⟩, ?_⟩
  refine ⟨⟨mo_goto, ok_goto dX0_count_109 rfl⟩, ?_⟩
  refine ⟨⟨mo_ald, ok_aldn dX0_count_112 rfl rfl⟩, ?_⟩
  refine ⟨⟨mo_push, ok_iconst dX0_count_113 iv_i0 rfl⟩, ?_⟩
  refine ⟨⟨mo_cvI, ok_cvI mi_X0_retired lk_X0_273 q1707 qs57 rfl (Nat.le_of_ble_eq_true rfl) (iy_ro_le _) rfl rfl dX0_count_114 rfl⟩, ?_⟩
  refine ⟨⟨mo_goto, ok_goto dX0_count_117 rfl⟩, ?_⟩
  refine ⟨⟨mo_ald, ok_aldn dX0_count_120 rfl rfl⟩, ?_⟩
  refine ⟨⟨mo_push, ok_iconst dX0_count_121 iv_i1 rfl⟩, ?_⟩
  refine ⟨⟨mo_cvI, ok_cvI mi_X0_retired lk_X0_273 q1707 qs57 rfl (Nat.le_of_ble_eq_true rfl) (iy_ro_le _) rfl rfl dX0_count_122 rfl⟩, ?_⟩
  refine ⟨⟨mo_goto, ok_goto dX0_count_125 rfl⟩, ?_⟩
  refine ⟨⟨mo_ald, ok_aldn dX0_count_128 rfl rfl⟩, ?_⟩
  refine ⟨⟨mo_cvI, ok_cvI mi_X0_busy lk_X0_276 q1711 qs58 rfl (Nat.le_of_ble_eq_true rfl) (iy_ro_le _) rfl rfl dX0_count_129 rfl⟩, ?_⟩
  refine ⟨⟨mo_goto, ok_goto dX0_count_132 rfl⟩, ?_⟩
  refine ⟨⟨mo_ald, ok_aldn dX0_count_135 rfl rfl⟩, ?_⟩
  refine ⟨⟨mo_gR, ok_gR rfl fd_X0_39 rfl dX0_count_136 rfl⟩, ?_⟩
  refine ⟨⟨mo_cvI, ok_cvI mi_X4_lostOfAll lk_X0_279 q1401 q1402 rfl (Nat.le_of_ble_eq_true rfl) (iy_ro_le _) rfl rfl dX0_count_139 rfl⟩, ?_⟩
  refine ⟨⟨mo_goto, ok_goto dX0_count_142 rfl⟩, ?_⟩
  refine ⟨⟨mo_ald, ok_aldn dX0_count_145 rfl rfl⟩, ?_⟩
  refine ⟨⟨mo_gR, ok_gR rfl fd_X0_19 rfl dX0_count_146 rfl⟩, ?_⟩
  refine ⟨⟨mo_gI, ok_gI rfl fd_X0_81 rfl dX0_count_149 rfl⟩, ?_⟩
  refine ⟨⟨mo_goto, ok_goto dX0_count_152 rfl⟩, ?_⟩
  refine ⟨⟨mo_ald, ok_aldn dX0_count_155 rfl rfl⟩, ?_⟩
  refine ⟨⟨mo_gR, ok_gR rfl fd_X0_57 rfl dX0_count_156 rfl⟩, ?_⟩
  refine ⟨⟨mo_push, ok_iconst dX0_count_159 iv_i0 rfl⟩, ?_⟩
  refine ⟨⟨mo_alI, ok_zald dX0_count_160 rfl⟩, ?_⟩
  refine ⟨⟨mo_ieq, ok_ieq dX0_count_161 rfl rfl⟩, ?_⟩
  refine ⟨⟨mo_push, ok_iconst dX0_count_164 iv_i1 rfl⟩, ?_⟩
  refine ⟨⟨mo_goto, ok_goto dX0_count_165 rfl⟩, ?_⟩
  refine ⟨⟨mo_push, ok_iconst dX0_count_168 iv_i0 rfl⟩, ?_⟩
  refine ⟨⟨mo_keep, ok_keep rfl⟩, ?_⟩
  refine ⟨⟨mo_ald, ok_aldn dX0_count_169 rfl rfl⟩, ?_⟩
  refine ⟨⟨mo_gR, ok_gR rfl fd_X0_57 rfl dX0_count_170 rfl⟩, ?_⟩
  refine ⟨⟨mo_push, ok_iconst dX0_count_173 iv_i1 rfl⟩, ?_⟩
  refine ⟨⟨mo_alI, ok_zald dX0_count_174 rfl⟩, ?_⟩
  refine ⟨⟨mo_ieq, ok_ieq dX0_count_175 rfl rfl⟩, ?_⟩
  refine ⟨⟨mo_push, ok_iconst dX0_count_178 iv_i1 rfl⟩, ?_⟩
  refine ⟨⟨mo_goto, ok_goto dX0_count_179 rfl⟩, ?_⟩
  refine ⟨⟨mo_push, ok_iconst dX0_count_182 iv_i0 rfl⟩, ?_⟩
  refine ⟨⟨mo_keep, ok_keep rfl⟩, ?_⟩
  refine ⟨⟨mo_bin, ok_iadd dX0_count_183 rfl⟩, ?_⟩
  refine ⟨⟨mo_ald, ok_aldn dX0_count_184 rfl rfl⟩, ?_⟩
  refine ⟨⟨mo_gR, ok_gR rfl fd_X0_57 rfl dX0_count_185 rfl⟩, ?_⟩
  refine ⟨⟨mo_push, ok_iconst dX0_count_188 iv_i2 rfl⟩, ?_⟩
  refine ⟨⟨mo_alI, ok_zald dX0_count_189 rfl⟩, ?_⟩
  refine ⟨⟨mo_ieq, ok_ieq dX0_count_190 rfl rfl⟩, ?_⟩
  refine ⟨⟨mo_push, ok_iconst dX0_count_193 iv_i1 rfl⟩, ?_⟩
  refine ⟨⟨mo_goto, ok_goto dX0_count_194 rfl⟩, ?_⟩
  refine ⟨⟨mo_push, ok_iconst dX0_count_197 iv_i0 rfl⟩, ?_⟩
  refine ⟨⟨mo_keep, ok_keep rfl⟩, ?_⟩
  refine ⟨⟨mo_bin, ok_iadd dX0_count_198 rfl⟩, ?_⟩
  refine ⟨⟨mo_goto, ok_goto dX0_count_199 rfl⟩, ?_⟩
  refine ⟨⟨mo_ald, ok_aldn dX0_count_202 rfl rfl⟩, ?_⟩
  refine ⟨⟨mo_gR, ok_gR rfl fd_X0_39 rfl dX0_count_203 rfl⟩, ?_⟩
  refine ⟨⟨mo_gI, ok_gI rfl fd_X0_282 rfl dX0_count_206 rfl⟩, ?_⟩
  refine ⟨⟨mo_goto, ok_goto dX0_count_209 rfl⟩, ?_⟩
  refine ⟨⟨mo_ald, ok_aldn dX0_count_212 rfl rfl⟩, ?_⟩
  refine ⟨⟨mo_gR, ok_gR rfl fd_X0_39 rfl dX0_count_213 rfl⟩, ?_⟩
  refine ⟨⟨mo_gI, ok_gI rfl fd_X0_285 rfl dX0_count_216 rfl⟩, ?_⟩
  refine ⟨⟨mo_goto, ok_goto dX0_count_219 rfl⟩, ?_⟩
  refine ⟨⟨mo_ald, ok_aldn dX0_count_222 rfl rfl⟩, ?_⟩
  refine ⟨⟨mo_gR, ok_gR rfl fd_X0_39 rfl dX0_count_223 rfl⟩, ?_⟩
  refine ⟨⟨mo_gI, ok_gI rfl fd_X0_288 rfl dX0_count_226 rfl⟩, ?_⟩
  refine ⟨⟨mo_goto, ok_goto dX0_count_229 rfl⟩, ?_⟩
  refine ⟨⟨mo_ald, ok_aldn dX0_count_232 rfl rfl⟩, ?_⟩
  refine ⟨⟨mo_gI, ok_gI rfl fd_X0_109 rfl dX0_count_233 rfl⟩, ?_⟩
  refine ⟨⟨mo_goto, ok_goto dX0_count_236 rfl⟩, ?_⟩
  refine ⟨⟨mo_push, ok_iconst dX0_count_239 iv_im1 rfl⟩, ?_⟩
  refine ⟨⟨mo_keep, ok_keep rfl⟩, ?_⟩
  refine ⟨⟨mo_iret, ok_iret rfl rfl dX0_count_240⟩, ?_⟩
  exact trivial
set_option maxHeartbeats 4000000 in
theorem alX0_retired : iy_all (iy_calls iy_mi) RX0 "retired" cX0_retired 4 (some FieldType.int, []) pcX0_retired pcX0_retired stX0_retired := by
  refine ⟨⟨mo_push, ok_iconst dX0_retired_0 iv_i0 rfl⟩, ?_⟩
  refine ⟨⟨mo_ist, ok_istn dX0_retired_1 rfl (Nat.le_of_ble_eq_true rfl) rfl⟩, ?_⟩
  refine ⟨⟨mo_push, ok_iconst dX0_retired_2 iv_i0 rfl⟩, ?_⟩
  refine ⟨⟨mo_ist, ok_istn dX0_retired_3 rfl (Nat.le_of_ble_eq_true rfl) rfl⟩, ?_⟩
  refine ⟨⟨mo_keep, ok_keep rfl⟩, ?_⟩
  refine ⟨⟨mo_ild, ok_ildn dX0_retired_4 rfl rfl⟩, ?_⟩
  refine ⟨⟨mo_ald, ok_aldn dX0_retired_5 rfl rfl⟩, ?_⟩
  refine ⟨⟨mo_gR, ok_gR rfl fd_X0_39 rfl dX0_retired_6 rfl⟩, ?_⟩
  refine ⟨⟨mo_gI, ok_gI rfl fd_X0_128 rfl dX0_retired_9 rfl⟩, ?_⟩
  refine ⟨⟨mo_cge, ok_cge dX0_retired_12 rfl rfl⟩, ?_⟩
  refine ⟨⟨mo_ild, ok_ildn dX0_retired_15 rfl rfl⟩, ?_⟩
  refine ⟨⟨mo_ald, ok_aldn dX0_retired_16 rfl rfl⟩, ?_⟩
  refine ⟨⟨mo_gR, ok_gR rfl fd_X0_39 rfl dX0_retired_17 rfl⟩, ?_⟩
  refine ⟨⟨mo_gR, ok_gR rfl fd_X0_195 rfl dX0_retired_20 rfl⟩, ?_⟩
  refine ⟨⟨mo_ild, ok_ildn dX0_retired_23 rfl rfl⟩, ?_⟩
  refine ⟨⟨mo_alR, ok_aald rfl dX0_retired_24 rfl⟩, ?_⟩
  refine ⟨⟨mo_gI, ok_gI rfl fd_X0_211 rfl dX0_retired_25 rfl⟩, ?_⟩
  refine ⟨⟨mo_ilt, ok_ilt dX0_retired_28 rfl rfl⟩, ?_⟩
  refine ⟨⟨mo_ild, ok_ildn dX0_retired_31 rfl rfl⟩, ?_⟩
  refine ⟨⟨mo_ieq, ok_ieq dX0_retired_32 rfl rfl⟩, ?_⟩
  refine ⟨⟨mo_ald, ok_aldn dX0_retired_35 rfl rfl⟩, ?_⟩
  refine ⟨⟨mo_gR, ok_gR rfl fd_X0_39 rfl dX0_retired_36 rfl⟩, ?_⟩
  refine ⟨⟨mo_gR, ok_gR rfl fd_X0_195 rfl dX0_retired_39 rfl⟩, ?_⟩
  refine ⟨⟨mo_ild, ok_ildn dX0_retired_42 rfl rfl⟩, ?_⟩
  refine ⟨⟨mo_alR, ok_aald rfl dX0_retired_43 rfl⟩, ?_⟩
  refine ⟨⟨mo_gI, ok_gI rfl fd_X0_214 rfl dX0_retired_44 rfl⟩, ?_⟩
  refine ⟨⟨mo_ieq, ok_ieq dX0_retired_47 rfl rfl⟩, ?_⟩
  refine ⟨⟨mo_keep, ok_keep rfl⟩, ?_⟩
  refine ⟨⟨mo_push, ok_iconst dX0_retired_50 iv_i1 rfl⟩, ?_⟩
  refine ⟨⟨mo_goto, ok_goto dX0_retired_51 rfl⟩, ?_⟩
  refine ⟨⟨mo_keep, ok_keep rfl⟩, ?_⟩
  refine ⟨⟨mo_push, ok_iconst dX0_retired_54 iv_i0 rfl⟩, ?_⟩
  refine ⟨⟨mo_keep, ok_keep rfl⟩, ?_⟩
  refine ⟨⟨mo_bin, ok_iadd dX0_retired_55 rfl⟩, ?_⟩
  refine ⟨⟨mo_ist, ok_istn dX0_retired_56 rfl (Nat.le_of_ble_eq_true rfl) rfl⟩, ?_⟩
  refine ⟨⟨mo_inc, ok_inc dX0_retired_57 iv_i1 (Nat.le_of_ble_eq_true rfl) rfl⟩, ?_⟩
  refine ⟨⟨mo_back, ok_back dX0_retired_60 rfl⟩, ?_⟩
  refine ⟨⟨mo_ild, ok_ildn dX0_retired_63 rfl rfl⟩, ?_⟩
  refine ⟨⟨mo_iret, ok_iret rfl rfl dX0_retired_64⟩, ?_⟩
  exact trivial
set_option maxHeartbeats 4000000 in
theorem alX0_busy : iy_all (iy_calls iy_mi) RX0 "busy" cX0_busy 3 (some FieldType.int, []) pcX0_busy pcX0_busy stX0_busy := by
  refine ⟨⟨mo_push, ok_iconst dX0_busy_0 iv_i0 rfl⟩, ?_⟩
  refine ⟨⟨mo_ist, ok_istn dX0_busy_1 rfl (Nat.le_of_ble_eq_true rfl) rfl⟩, ?_⟩
  refine ⟨⟨mo_push, ok_iconst dX0_busy_2 iv_i0 rfl⟩, ?_⟩
  refine ⟨⟨mo_ist, ok_istn dX0_busy_3 rfl (Nat.le_of_ble_eq_true rfl) rfl⟩, ?_⟩
  refine ⟨⟨mo_keep, ok_keep rfl⟩, ?_⟩
  refine ⟨⟨mo_ild, ok_ildn dX0_busy_4 rfl rfl⟩, ?_⟩
  refine ⟨⟨mo_push, ok_iconst dX0_busy_5 iv_i4 rfl⟩, ?_⟩
  refine ⟨⟨mo_cge, ok_cge dX0_busy_6 rfl rfl⟩, ?_⟩
  refine ⟨⟨mo_ild, ok_ildn dX0_busy_9 rfl rfl⟩, ?_⟩
  refine ⟨⟨mo_ald, ok_aldn dX0_busy_10 rfl rfl⟩, ?_⟩
  refine ⟨⟨mo_gR, ok_gR rfl fd_X0_39 rfl dX0_busy_11 rfl⟩, ?_⟩
  refine ⟨⟨mo_gR, ok_gR rfl fd_X0_218 rfl dX0_busy_14 rfl⟩, ?_⟩
  refine ⟨⟨mo_ild, ok_ildn dX0_busy_17 rfl rfl⟩, ?_⟩
  refine ⟨⟨mo_alR, ok_aald rfl dX0_busy_18 rfl⟩, ?_⟩
  refine ⟨⟨mo_gI, ok_gI rfl fd_X0_227 rfl dX0_busy_19 rfl⟩, ?_⟩
  refine ⟨⟨mo_ieq, ok_ieq dX0_busy_22 rfl rfl⟩, ?_⟩
  refine ⟨⟨mo_push, ok_iconst dX0_busy_25 iv_i1 rfl⟩, ?_⟩
  refine ⟨⟨mo_ild, ok_ildn dX0_busy_26 rfl rfl⟩, ?_⟩
  refine ⟨⟨mo_bin, ok_ishl dX0_busy_27 rfl⟩, ?_⟩
  refine ⟨⟨mo_goto, ok_goto dX0_busy_28 rfl⟩, ?_⟩
  refine ⟨⟨mo_push, ok_iconst dX0_busy_31 iv_i0 rfl⟩, ?_⟩
  refine ⟨⟨mo_keep, ok_keep rfl⟩, ?_⟩
  refine ⟨⟨mo_bin, ok_ior dX0_busy_32 rfl⟩, ?_⟩
  refine ⟨⟨mo_ist, ok_istn dX0_busy_33 rfl (Nat.le_of_ble_eq_true rfl) rfl⟩, ?_⟩
  refine ⟨⟨mo_inc, ok_inc dX0_busy_34 iv_i1 (Nat.le_of_ble_eq_true rfl) rfl⟩, ?_⟩
  refine ⟨⟨mo_back, ok_back dX0_busy_37 rfl⟩, ?_⟩
  refine ⟨⟨mo_ild, ok_ildn dX0_busy_40 rfl rfl⟩, ?_⟩
  refine ⟨⟨mo_iret, ok_iret rfl rfl dX0_busy_41⟩, ?_⟩
  exact trivial
