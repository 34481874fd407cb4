/-! SOUND STEPS. Written by gen_code.py -/
set_option maxRecDepth 100000
set_option maxHeartbeats 4000000 in
theorem alX2_init : iy_all (iy_calls iy_mi) RX2 "<init>" cX2_init 1 (none, []) pcX2_init pcX2_init stX2_init := by
  refine ⟨⟨mo_ald, ok_aldn dX2_init_0 rfl rfl⟩, ?_⟩
  refine ⟨⟨mo_oin, ok_oin q266 q185 q186 dX2_init_1 rfl⟩, ?_⟩
  refine ⟨⟨mo_ald, ok_aldn dX2_init_4 rfl rfl⟩, ?_⟩
  refine ⟨⟨mo_push, ok_bipush dX2_init_5 iv_b18 rfl⟩, ?_⟩
  refine ⟨⟨mo_newA, ok_newR rfl q267 q268 dX2_init_7 rfl⟩, ?_⟩
  refine ⟨⟨mo_dup, ok_dup dX2_init_10 rfl⟩, ?_⟩
  refine ⟨⟨mo_push, ok_iconst dX2_init_11 iv_i0 rfl⟩, ?_⟩
  refine ⟨⟨mo_cst, ok_str (tx := "chain") (List.mem_of_getElem? (i := 4) rfl) dX2_init_12 rfl⟩, ?_⟩
  refine ⟨⟨mo_asR, ok_asR rfl can_java_lang_String_531 dX2_init_14 rfl⟩, ?_⟩
  refine ⟨⟨mo_dup, ok_dup dX2_init_15 rfl⟩, ?_⟩
  refine ⟨⟨mo_push, ok_iconst dX2_init_16 iv_i1 rfl⟩, ?_⟩
  refine ⟨⟨mo_cst, ok_str (tx := "most") (List.mem_of_getElem? (i := 5) rfl) dX2_init_17 rfl⟩, ?_⟩
  refine ⟨⟨mo_asR, ok_asR rfl can_java_lang_String_531 dX2_init_19 rfl⟩, ?_⟩
  refine ⟨⟨mo_dup, ok_dup dX2_init_20 rfl⟩, ?_⟩
  refine ⟨⟨mo_push, ok_iconst dX2_init_21 iv_i2 rfl⟩, ?_⟩
  refine ⟨⟨mo_cst, ok_str (tx := "least") (List.mem_of_getElem? (i := 6) rfl) dX2_init_22 rfl⟩, ?_⟩
  refine ⟨⟨mo_asR, ok_asR rfl can_java_lang_String_531 dX2_init_24 rfl⟩, ?_⟩
  refine ⟨⟨mo_dup, ok_dup dX2_init_25 rfl⟩, ?_⟩
  refine ⟨⟨mo_push, ok_iconst dX2_init_26 iv_i3 rfl⟩, ?_⟩
  refine ⟨⟨mo_cst, ok_str (tx := "put") (List.mem_of_getElem? (i := 7) rfl) dX2_init_27 rfl⟩, ?_⟩
  refine ⟨⟨mo_asR, ok_asR rfl can_java_lang_String_531 dX2_init_29 rfl⟩, ?_⟩
  refine ⟨⟨mo_dup, ok_dup dX2_init_30 rfl⟩, ?_⟩
  refine ⟨⟨mo_push, ok_iconst dX2_init_31 iv_i4 rfl⟩, ?_⟩
  refine ⟨⟨mo_cst, ok_str (tx := "cut") (List.mem_of_getElem? (i := 8) rfl) dX2_init_32 rfl⟩, ?_⟩
  refine ⟨⟨mo_asR, ok_asR rfl can_java_lang_String_531 dX2_init_34 rfl⟩, ?_⟩
  refine ⟨⟨mo_dup, ok_dup dX2_init_35 rfl⟩, ?_⟩
  refine ⟨⟨mo_push, ok_iconst dX2_init_36 iv_i5 rfl⟩, ?_⟩
  refine ⟨⟨mo_cst, ok_str (tx := "get") (List.mem_of_getElem? (i := 9) rfl) dX2_init_37 rfl⟩, ?_⟩
  refine ⟨⟨mo_asR, ok_asR rfl can_java_lang_String_531 dX2_init_39 rfl⟩, ?_⟩
  refine ⟨⟨mo_dup, ok_dup dX2_init_40 rfl⟩, ?_⟩
  refine ⟨⟨mo_push, ok_bipush dX2_init_41 iv_b6 rfl⟩, ?_⟩
  refine ⟨⟨mo_cst, ok_str (tx := "begin") (List.mem_of_getElem? (i := 10) rfl) dX2_init_43 rfl⟩, ?_⟩
  refine ⟨⟨mo_asR, ok_asR rfl can_java_lang_String_531 dX2_init_45 rfl⟩, ?_⟩
  refine ⟨⟨mo_dup, ok_dup dX2_init_46 rfl⟩, ?_⟩
  refine ⟨⟨mo_push, ok_bipush dX2_init_47 iv_b7 rfl⟩, ?_⟩
  refine ⟨⟨mo_cst, ok_str (tx := "step") (List.mem_of_getElem? (i := 11) rfl) dX2_init_49 rfl⟩, ?_⟩
  refine ⟨⟨mo_asR, ok_asR rfl can_java_lang_String_531 dX2_init_51 rfl⟩, ?_⟩
  refine ⟨⟨mo_dup, ok_dup dX2_init_52 rfl⟩, ?_⟩
  refine ⟨⟨mo_push, ok_bipush dX2_init_53 iv_b8 rfl⟩, ?_⟩
  refine ⟨⟨mo_cst, ok_str (tx := "close") (List.mem_of_getElem? (i := 12) rfl) dX2_init_55 rfl⟩, ?_⟩
  refine ⟨⟨mo_asR, ok_asR rfl can_java_lang_String_531 dX2_init_57 rfl⟩, ?_⟩
  refine ⟨⟨mo_dup, ok_dup dX2_init_58 rfl⟩, ?_⟩
  refine ⟨⟨mo_push, ok_bipush dX2_init_59 iv_b9 rfl⟩, ?_⟩
  refine ⟨⟨mo_cst, ok_str (tx := "sweep") (List.mem_of_getElem? (i := 13) rfl) dX2_init_61 rfl⟩, ?_⟩
  refine ⟨⟨mo_asR, ok_asR rfl can_java_lang_String_531 dX2_init_63 rfl⟩, ?_⟩
  refine ⟨⟨mo_dup, ok_dup dX2_init_64 rfl⟩, ?_⟩
  refine ⟨⟨mo_push, ok_bipush dX2_init_65 iv_b10 rfl⟩, ?_⟩
  refine ⟨⟨mo_cst, ok_str (tx := "do") (List.mem_of_getElem? (i := 14) rfl) dX2_init_67 rfl⟩, ?_⟩
  refine ⟨⟨mo_asR, ok_asR rfl can_java_lang_String_531 dX2_init_69 rfl⟩, ?_⟩
  refine ⟨⟨mo_dup, ok_dup dX2_init_70 rfl⟩, ?_⟩
  refine ⟨⟨mo_push, ok_bipush dX2_init_71 iv_b11 rfl⟩, ?_⟩
  refine ⟨⟨mo_cst, ok_str (tx := "end") (List.mem_of_getElem? (i := 15) rfl) dX2_init_73 rfl⟩, ?_⟩
  refine ⟨⟨mo_asR, ok_asR rfl can_java_lang_String_531 dX2_init_75 rfl⟩, ?_⟩
  refine ⟨⟨mo_dup, ok_dup dX2_init_76 rfl⟩, ?_⟩
  refine ⟨⟨mo_push, ok_bipush dX2_init_77 iv_b12 rfl⟩, ?_⟩
  refine ⟨⟨mo_cst, ok_str (tx := "i") (List.mem_of_getElem? (i := 16) rfl) dX2_init_79 rfl⟩, ?_⟩
  refine ⟨⟨mo_asR, ok_asR rfl can_java_lang_String_531 dX2_init_81 rfl⟩, ?_⟩
  refine ⟨⟨mo_dup, ok_dup dX2_init_82 rfl⟩, ?_⟩
  refine ⟨⟨mo_push, ok_bipush dX2_init_83 iv_b13 rfl⟩, ?_⟩
  refine ⟨⟨mo_cst, ok_str (tx := "j") (List.mem_of_getElem? (i := 17) rfl) dX2_init_85 rfl⟩, ?_⟩
  refine ⟨⟨mo_asR, ok_asR rfl can_java_lang_String_531 dX2_init_87 rfl⟩, ?_⟩
  refine ⟨⟨mo_dup, ok_dup dX2_init_88 rfl⟩, ?_⟩
  refine ⟨⟨mo_push, ok_bipush dX2_init_89 iv_b14 rfl⟩, ?_⟩
  refine ⟨⟨mo_cst, ok_str (tx := "keys") (List.mem_of_getElem? (i := 18) rfl) dX2_init_91 rfl⟩, ?_⟩
  refine ⟨⟨mo_asR, ok_asR rfl can_java_lang_String_531 dX2_init_93 rfl⟩, ?_⟩
  refine ⟨⟨mo_dup, ok_dup dX2_init_94 rfl⟩, ?_⟩
  refine ⟨⟨mo_push, ok_bipush dX2_init_95 iv_b15 rfl⟩, ?_⟩
  refine ⟨⟨mo_cst, ok_str (tx := "last") (List.mem_of_getElem? (i := 19) rfl) dX2_init_97 rfl⟩, ?_⟩
  refine ⟨⟨mo_asR, ok_asR rfl can_java_lang_String_531 dX2_init_99 rfl⟩, ?_⟩
  refine ⟨⟨mo_dup, ok_dup dX2_init_100 rfl⟩, ?_⟩
  refine ⟨⟨mo_push, ok_bipush dX2_init_101 iv_b16 rfl⟩, ?_⟩
  refine ⟨⟨mo_cst, ok_str (tx := "records") (List.mem_of_getElem? (i := 20) rfl) dX2_init_103 rfl⟩, ?_⟩
  refine ⟨⟨mo_asR, ok_asR rfl can_java_lang_String_531 dX2_init_105 rfl⟩, ?_⟩
  refine ⟨⟨mo_dup, ok_dup dX2_init_106 rfl⟩, ?_⟩
  refine ⟨⟨mo_push, ok_bipush dX2_init_107 iv_b17 rfl⟩, ?_⟩
  refine ⟨⟨mo_cst, ok_str (tx := "lost") (List.mem_of_getElem? (i := 21) rfl) dX2_init_109 rfl⟩, ?_⟩
  refine ⟨⟨mo_asR, ok_asR rfl can_java_lang_String_531 dX2_init_111 rfl⟩, ?_⟩
  refine ⟨⟨mo_pR, ok_pR rfl fd_X2_47 rfl (Or.inr ⟨rfl, rfl, rfl⟩) dX2_init_112 rfl⟩, ?_⟩
  refine ⟨⟨mo_ald, ok_aldn dX2_init_115 rfl rfl⟩, ?_⟩
  refine ⟨⟨mo_push, ok_sipush dX2_init_116 iv_s2000 rfl⟩, ?_⟩
  refine ⟨⟨mo_newA, ok_newA rfl rfl q260 dX2_init_119 rfl rfl⟩, ?_⟩
  refine ⟨⟨mo_pR, ok_pR rfl fd_X2_53 rfl (Or.inr ⟨rfl, rfl, rfl⟩) dX2_init_121 rfl⟩, ?_⟩
  refine ⟨⟨mo_ald, ok_aldn dX2_init_124 rfl rfl⟩, ?_⟩
  refine ⟨⟨mo_push, ok_sipush dX2_init_125 iv_s2001 rfl⟩, ?_⟩
  refine ⟨⟨mo_newA, ok_newA rfl rfl q260 dX2_init_128 rfl rfl⟩, ?_⟩
  refine ⟨⟨mo_pR, ok_pR rfl fd_X2_57 rfl (Or.inr ⟨rfl, rfl, rfl⟩) dX2_init_130 rfl⟩, ?_⟩
  refine ⟨⟨mo_ald, ok_aldn dX2_init_133 rfl rfl⟩, ?_⟩
  refine ⟨⟨mo_push, ok_sipush dX2_init_134 iv_s2001 rfl⟩, ?_⟩
  refine ⟨⟨mo_newA, ok_newA rfl rfl q317 dX2_init_137 rfl rfl⟩, ?_⟩
  refine ⟨⟨mo_pR, ok_pR rfl fd_X2_60 rfl (Or.inr ⟨rfl, rfl, rfl⟩) dX2_init_139 rfl⟩, ?_⟩
  refine ⟨⟨mo_ald, ok_aldn dX2_init_142 rfl rfl⟩, ?_⟩
  refine ⟨⟨mo_push, ok_sipush dX2_init_143 iv_s2001 rfl⟩, ?_⟩
  refine ⟨⟨mo_newA, ok_newA rfl rfl q317 dX2_init_146 rfl rfl⟩, ?_⟩
  refine ⟨⟨mo_pR, ok_pR rfl fd_X2_64 rfl (Or.inr ⟨rfl, rfl, rfl⟩) dX2_init_148 rfl⟩, ?_⟩
  refine ⟨⟨mo_ald, ok_aldn dX2_init_151 rfl rfl⟩, ?_⟩
  refine ⟨⟨mo_push, ok_sipush dX2_init_152 iv_s2001 rfl⟩, ?_⟩
  refine ⟨⟨mo_newA, ok_newA rfl rfl q317 dX2_init_155 rfl rfl⟩, ?_⟩
  refine ⟨⟨mo_pR, ok_pR rfl fd_X2_67 rfl (Or.inr ⟨rfl, rfl, rfl⟩) dX2_init_157 rfl⟩, ?_⟩
  refine ⟨⟨mo_ret, ok_ret rfl dX2_init_160⟩, ?_⟩
  exact trivial
set_option maxHeartbeats 4000000 in
theorem alX2_read : iy_all (iy_calls iy_mi) RX2 "read" cX2_read 7 (none, []) pcX2_read pcX2_read stX2_read := by
  refine ⟨⟨mo_ald, ok_aldn dX2_read_0 rfl rfl⟩, ?_⟩
  refine ⟨⟨mo_push, ok_iconst dX2_read_1 iv_i0 rfl⟩, ?_⟩
  refine ⟨⟨mo_pI, ok_pI rfl fd_X2_78 rfl (Or.inl rfl) dX2_read_2 rfl⟩, ?_⟩
  refine ⟨⟨mo_push, ok_iconst dX2_read_5 iv_i0 rfl⟩, ?_⟩
  refine ⟨⟨mo_ist, ok_istn dX2_read_6 rfl (Nat.le_of_ble_eq_true rfl) rfl⟩, ?_⟩
  refine ⟨⟨mo_push, ok_iconst dX2_read_7 iv_i1 rfl⟩, ?_⟩
  refine ⟨⟨mo_ist, ok_istn dX2_read_8 rfl (Nat.le_of_ble_eq_true rfl) rfl⟩, ?_⟩
  refine ⟨⟨mo_keep, ok_keep rfl⟩, ?_⟩
  refine ⟨⟨mo_ild, ok_ildn dX2_read_9 rfl rfl⟩, ?_⟩
  refine ⟨⟨mo_ald, ok_aldn dX2_read_10 rfl rfl⟩, ?_⟩
  refine ⟨⟨mo_gI, ok_gI rfl fd_X2_70 rfl dX2_read_11 rfl⟩, ?_⟩
  refine ⟨⟨mo_cge, ok_cge dX2_read_14 rfl rfl⟩, ?_⟩
  refine ⟨⟨mo_ild, ok_ildn dX2_read_17 rfl rfl⟩, ?_⟩
  refine ⟨⟨mo_ieq, ok_ieq dX2_read_18 rfl rfl⟩, ?_⟩
  refine ⟨⟨mo_ald, ok_aldn dX2_read_21 rfl rfl⟩, ?_⟩
  refine ⟨⟨mo_gR, ok_gR rfl fd_X2_53 rfl dX2_read_22 rfl⟩, ?_⟩
  refine ⟨⟨mo_ild, ok_ildn dX2_read_25 rfl rfl⟩, ?_⟩
  refine ⟨⟨mo_alI, ok_bald dX2_read_26 rfl⟩, ?_⟩
  refine ⟨⟨mo_ist, ok_istn dX2_read_27 rfl (Nat.le_of_ble_eq_true rfl) rfl⟩, ?_⟩
  refine ⟨⟨mo_ild, ok_ildn dX2_read_28 rfl rfl⟩, ?_⟩
  refine ⟨⟨mo_push, ok_iconst dX2_read_29 iv_i1 rfl⟩, ?_⟩
  refine ⟨⟨mo_bin, ok_iadd dX2_read_30 rfl⟩, ?_⟩
  refine ⟨⟨mo_ist, ok_ist dX2_read_31 (Nat.le_of_ble_eq_true rfl) rfl⟩, ?_⟩
  refine ⟨⟨mo_ild, ok_ildn dX2_read_33 rfl rfl⟩, ?_⟩
  refine ⟨⟨mo_push, ok_bipush dX2_read_34 iv_b32 rfl⟩, ?_⟩
  refine ⟨⟨mo_ceq, ok_ceq dX2_read_36 rfl rfl⟩, ?_⟩
  refine ⟨⟨mo_ild, ok_ildn dX2_read_39 rfl rfl⟩, ?_⟩
  refine ⟨⟨mo_push, ok_bipush dX2_read_40 iv_b9 rfl⟩, ?_⟩
  refine ⟨⟨mo_ceq, ok_ceq dX2_read_42 rfl rfl⟩, ?_⟩
  refine ⟨⟨mo_ild, ok_ildn dX2_read_45 rfl rfl⟩, ?_⟩
  refine ⟨⟨mo_push, ok_bipush dX2_read_46 iv_b10 rfl⟩, ?_⟩
  refine ⟨⟨mo_ceq, ok_ceq dX2_read_48 rfl rfl⟩, ?_⟩
  refine ⟨⟨mo_ild, ok_ildn dX2_read_51 rfl rfl⟩, ?_⟩
  refine ⟨⟨mo_push, ok_bipush dX2_read_52 iv_b13 rfl⟩, ?_⟩
  refine ⟨⟨mo_cne, ok_cne dX2_read_54 rfl rfl⟩, ?_⟩
  refine ⟨⟨mo_keep, ok_keep rfl⟩, ?_⟩
  refine ⟨⟨mo_inc, ok_inc dX2_read_57 iv_i1 (Nat.le_of_ble_eq_true rfl) rfl⟩, ?_⟩
  refine ⟨⟨mo_back, ok_back dX2_read_60 rfl⟩, ?_⟩
  refine ⟨⟨mo_push, ok_iconst dX2_read_63 iv_i0 rfl⟩, ?_⟩
  refine ⟨⟨mo_ist, ok_ist dX2_read_64 (Nat.le_of_ble_eq_true rfl) rfl⟩, ?_⟩
  refine ⟨⟨mo_ald, ok_aldn dX2_read_66 rfl rfl⟩, ?_⟩
  refine ⟨⟨mo_ild, ok_ildn dX2_read_67 rfl rfl⟩, ?_⟩
  refine ⟨⟨mo_cvI, ok_cvI mi_X2_isLetter lk_X2_89 q715 qs3 rfl (Nat.le_of_ble_eq_true rfl) (iy_ro_le _) rfl rfl dX2_read_68 rfl⟩, ?_⟩
  refine ⟨⟨mo_ieq, ok_ieq dX2_read_71 rfl rfl⟩, ?_⟩
  refine ⟨⟨mo_keep, ok_keep rfl⟩, ?_⟩
  refine ⟨⟨mo_ald, ok_aldn dX2_read_74 rfl rfl⟩, ?_⟩
  refine ⟨⟨mo_ild, ok_ild dX2_read_75 rfl⟩, ?_⟩
  refine ⟨⟨mo_cvI, ok_cvI mi_X2_isLetter lk_X2_89 q715 qs3 rfl (Nat.le_of_ble_eq_true rfl) (iy_ro_le _) rfl rfl dX2_read_77 rfl⟩, ?_⟩
  refine ⟨⟨mo_ieq, ok_ieq dX2_read_80 rfl rfl⟩, ?_⟩
  refine ⟨⟨mo_inc, ok_inc dX2_read_83 iv_i1 (Nat.le_of_ble_eq_true rfl) rfl⟩, ?_⟩
  refine ⟨⟨mo_back, ok_back dX2_read_86 rfl⟩, ?_⟩
  refine ⟨⟨mo_ald, ok_aldn dX2_read_89 rfl rfl⟩, ?_⟩
  refine ⟨⟨mo_ild, ok_ildn dX2_read_90 rfl rfl⟩, ?_⟩
  refine ⟨⟨mo_ild, ok_ild dX2_read_91 rfl⟩, ?_⟩
  refine ⟨⟨mo_cvI, ok_cvI mi_X2_word lk_X2_93 q723 qs5 rfl (Nat.le_of_ble_eq_true rfl) (iy_ro_le _) rfl rfl dX2_read_93 rfl⟩, ?_⟩
  refine ⟨⟨mo_ist, ok_ist dX2_read_96 (Nat.le_of_ble_eq_true rfl) rfl⟩, ?_⟩
  refine ⟨⟨mo_ild, ok_ild dX2_read_98 rfl⟩, ?_⟩
  refine ⟨⟨mo_ilt, ok_ilt dX2_read_100 rfl rfl⟩, ?_⟩
  refine ⟨⟨mo_push, ok_iconst dX2_read_103 iv_i3 rfl⟩, ?_⟩
  refine ⟨⟨mo_goto, ok_goto dX2_read_104 rfl⟩, ?_⟩
  refine ⟨⟨mo_ild, ok_ild dX2_read_107 rfl⟩, ?_⟩
  refine ⟨⟨mo_ild, ok_ildn dX2_read_109 rfl rfl⟩, ?_⟩
  refine ⟨⟨mo_bin, ok_isub dX2_read_110 rfl⟩, ?_⟩
  refine ⟨⟨mo_push, ok_bipush dX2_read_111 iv_b8 rfl⟩, ?_⟩
  refine ⟨⟨mo_cle, ok_cle dX2_read_113 rfl rfl⟩, ?_⟩
  refine ⟨⟨mo_push, ok_iconst dX2_read_116 iv_i5 rfl⟩, ?_⟩
  refine ⟨⟨mo_goto, ok_goto dX2_read_117 rfl⟩, ?_⟩
  refine ⟨⟨mo_push, ok_iconst dX2_read_120 iv_i0 rfl⟩, ?_⟩
  refine ⟨⟨mo_keep, ok_keep rfl⟩, ?_⟩
  refine ⟨⟨mo_ist, ok_ist dX2_read_121 (Nat.le_of_ble_eq_true rfl) rfl⟩, ?_⟩
  refine ⟨⟨mo_goto, ok_goto dX2_read_123 rfl⟩, ?_⟩
  refine ⟨⟨mo_ald, ok_aldn dX2_read_126 rfl rfl⟩, ?_⟩
  refine ⟨⟨mo_ild, ok_ildn dX2_read_127 rfl rfl⟩, ?_⟩
  refine ⟨⟨mo_cvI, ok_cvI mi_X2_isDigit lk_X2_97 q775 qs6 rfl (Nat.le_of_ble_eq_true rfl) (iy_ro_le _) rfl rfl dX2_read_128 rfl⟩, ?_⟩
  refine ⟨⟨mo_ieq, ok_ieq dX2_read_131 rfl rfl⟩, ?_⟩
  refine ⟨⟨mo_keep, ok_keep rfl⟩, ?_⟩
  refine ⟨⟨mo_ald, ok_aldn dX2_read_134 rfl rfl⟩, ?_⟩
  refine ⟨⟨mo_ild, ok_ild dX2_read_135 rfl⟩, ?_⟩
  refine ⟨⟨mo_cvI, ok_cvI mi_X2_isDigit lk_X2_97 q775 qs6 rfl (Nat.le_of_ble_eq_true rfl) (iy_ro_le _) rfl rfl dX2_read_137 rfl⟩, ?_⟩
  refine ⟨⟨mo_ieq, ok_ieq dX2_read_140 rfl rfl⟩, ?_⟩
  refine ⟨⟨mo_inc, ok_inc dX2_read_143 iv_i1 (Nat.le_of_ble_eq_true rfl) rfl⟩, ?_⟩
  refine ⟨⟨mo_back, ok_back dX2_read_146 rfl⟩, ?_⟩
  refine ⟨⟨mo_ild, ok_ild dX2_read_149 rfl⟩, ?_⟩
  refine ⟨⟨mo_ild, ok_ildn dX2_read_151 rfl rfl⟩, ?_⟩
  refine ⟨⟨mo_bin, ok_isub dX2_read_152 rfl⟩, ?_⟩
  refine ⟨⟨mo_push, ok_iconst dX2_read_153 iv_i4 rfl⟩, ?_⟩
  refine ⟨⟨mo_cle, ok_cle dX2_read_154 rfl rfl⟩, ?_⟩
  refine ⟨⟨mo_push, ok_iconst dX2_read_157 iv_i5 rfl⟩, ?_⟩
  refine ⟨⟨mo_goto, ok_goto dX2_read_158 rfl⟩, ?_⟩
  refine ⟨⟨mo_push, ok_iconst dX2_read_161 iv_i1 rfl⟩, ?_⟩
  refine ⟨⟨mo_keep, ok_keep rfl⟩, ?_⟩
  refine ⟨⟨mo_ist, ok_ist dX2_read_162 (Nat.le_of_ble_eq_true rfl) rfl⟩, ?_⟩
  refine ⟨⟨mo_goto, ok_goto dX2_read_164 rfl⟩, ?_⟩
  refine ⟨⟨mo_ald, ok_aldn dX2_read_167 rfl rfl⟩, ?_⟩
  refine ⟨⟨mo_ild, ok_ildn dX2_read_168 rfl rfl⟩, ?_⟩
  refine ⟨⟨mo_cvI, ok_cvI mi_X2_sign lk_X2_100 q779 qs7 rfl (Nat.le_of_ble_eq_true rfl) (iy_ro_le _) rfl rfl dX2_read_169 rfl⟩, ?_⟩
  refine ⟨⟨mo_ist, ok_ist dX2_read_172 (Nat.le_of_ble_eq_true rfl) rfl⟩, ?_⟩
  refine ⟨⟨mo_ild, ok_ild dX2_read_174 rfl⟩, ?_⟩
  refine ⟨⟨mo_ine, ok_ine dX2_read_176 rfl rfl⟩, ?_⟩
  refine ⟨⟨mo_push, ok_iconst dX2_read_179 iv_i5 rfl⟩, ?_⟩
  refine ⟨⟨mo_goto, ok_goto dX2_read_180 rfl⟩, ?_⟩
  refine ⟨⟨mo_push, ok_iconst dX2_read_183 iv_i2 rfl⟩, ?_⟩
  refine ⟨⟨mo_keep, ok_keep rfl⟩, ?_⟩
  refine ⟨⟨mo_ist, ok_ist dX2_read_184 (Nat.le_of_ble_eq_true rfl) rfl⟩, ?_⟩
  refine ⟨⟨mo_keep, ok_keep rfl⟩, ?_⟩
  refine ⟨⟨mo_ald, ok_aldn dX2_read_186 rfl rfl⟩, ?_⟩
  refine ⟨⟨mo_ild, ok_ild dX2_read_187 rfl⟩, ?_⟩
  refine ⟨⟨mo_ild, ok_ildn dX2_read_189 rfl rfl⟩, ?_⟩
  refine ⟨⟨mo_ild, ok_ild dX2_read_190 rfl⟩, ?_⟩
  refine ⟨⟨mo_ild, ok_ild dX2_read_192 rfl⟩, ?_⟩
  refine ⟨⟨mo_cvV, ok_cvV mi_X2_add lk_X2_103 q783 qs8 rfl (Nat.le_of_ble_eq_true rfl) (iy_ro_le _) rfl rfl dX2_read_194 rfl⟩, ?_⟩
  refine ⟨⟨mo_ild, ok_ild dX2_read_197 rfl⟩, ?_⟩
  refine ⟨⟨mo_push, ok_iconst dX2_read_199 iv_i5 rfl⟩, ?_⟩
  refine ⟨⟨mo_ceq, ok_ceq dX2_read_200 rfl rfl⟩, ?_⟩
  refine ⟨⟨mo_push, ok_iconst dX2_read_203 iv_i1 rfl⟩, ?_⟩
  refine ⟨⟨mo_goto, ok_goto dX2_read_204 rfl⟩, ?_⟩
  refine ⟨⟨mo_push, ok_iconst dX2_read_207 iv_i0 rfl⟩, ?_⟩
  refine ⟨⟨mo_keep, ok_keep rfl⟩, ?_⟩
  refine ⟨⟨mo_ist, ok_istn dX2_read_208 rfl (Nat.le_of_ble_eq_true rfl) rfl⟩, ?_⟩
  refine ⟨⟨mo_ild, ok_ild dX2_read_209 rfl⟩, ?_⟩
  refine ⟨⟨mo_ist, ok_istn dX2_read_211 rfl (Nat.le_of_ble_eq_true rfl) rfl⟩, ?_⟩
  refine ⟨⟨mo_back, ok_back dX2_read_212 rfl⟩, ?_⟩
  refine ⟨⟨mo_keep, ok_keep rfl⟩, ?_⟩
  refine ⟨⟨mo_ild, ok_ildn dX2_read_215 rfl rfl⟩, ?_⟩
  refine ⟨⟨mo_ieq, ok_ieq dX2_read_216 rfl rfl⟩, ?_⟩
  refine ⟨⟨mo_ald, ok_aldn dX2_read_219 rfl rfl⟩, ?_⟩
  refine ⟨⟨mo_push, ok_iconst dX2_read_220 iv_i4 rfl⟩, ?_⟩
  refine ⟨⟨mo_ild, ok_ildn dX2_read_221 rfl rfl⟩, ?_⟩
  refine ⟨⟨mo_ild, ok_ildn dX2_read_222 rfl rfl⟩, ?_⟩
  refine ⟨⟨mo_push, ok_iconst dX2_read_223 iv_i0 rfl⟩, ?_⟩
  refine ⟨⟨mo_cvV, ok_cvV mi_X2_add lk_X2_103 q783 qs8 rfl (Nat.le_of_ble_eq_true rfl) (iy_ro_le _) rfl rfl dX2_read_224 rfl⟩, ?_⟩
  refine ⟨⟨mo_keep, ok_keep rfl⟩, ?_⟩
  refine ⟨⟨mo_ret, ok_ret rfl dX2_read_227⟩, ?_⟩
  exact trivial
set_option maxHeartbeats 4000000 in
theorem alX2_isLetter : iy_all (iy_calls iy_mi) RX2 "isLetter" cX2_isLetter 2 (some FieldType.boolean, []) pcX2_isLetter pcX2_isLetter stX2_isLetter := by
  refine ⟨⟨mo_ald, ok_aldn dX2_isLetter_0 rfl rfl⟩, ?_⟩
  refine ⟨⟨mo_ild, ok_ildn dX2_isLetter_1 rfl rfl⟩, ?_⟩
  refine ⟨⟨mo_cvI, ok_cvI mi_X2_at lk_X2_74 q719 qs4 rfl (Nat.le_of_ble_eq_true rfl) (iy_ro_le _) rfl rfl dX2_isLetter_2 rfl⟩, ?_⟩
  refine ⟨⟨mo_push, ok_bipush dX2_isLetter_5 iv_b97 rfl⟩, ?_⟩
  refine ⟨⟨mo_clt, ok_clt dX2_isLetter_7 rfl rfl⟩, ?_⟩
  refine ⟨⟨mo_ald, ok_aldn dX2_isLetter_10 rfl rfl⟩, ?_⟩
  refine ⟨⟨mo_ild, ok_ildn dX2_isLetter_11 rfl rfl⟩, ?_⟩
  refine ⟨⟨mo_cvI, ok_cvI mi_X2_at lk_X2_74 q719 qs4 rfl (Nat.le_of_ble_eq_true rfl) (iy_ro_le _) rfl rfl dX2_isLetter_12 rfl⟩, ?_⟩
  refine ⟨⟨mo_push, ok_bipush dX2_isLetter_15 iv_b122 rfl⟩, ?_⟩
  refine ⟨⟨mo_cgt, ok_cgt dX2_isLetter_17 rfl rfl⟩, ?_⟩
  refine ⟨⟨mo_push, ok_iconst dX2_isLetter_20 iv_i1 rfl⟩, ?_⟩
  refine ⟨⟨mo_goto, ok_goto dX2_isLetter_21 rfl⟩, ?_⟩
  refine ⟨⟨mo_keep, ok_keep rfl⟩, ?_⟩
  refine ⟨⟨mo_push, ok_iconst dX2_isLetter_24 iv_i0 rfl⟩, ?_⟩
  refine ⟨⟨mo_keep, ok_keep rfl⟩, ?_⟩
  refine ⟨⟨mo_iret, ok_iret rfl rfl dX2_isLetter_25⟩, ?_⟩
  exact trivial
set_option maxHeartbeats 4000000 in
theorem alX2_at : iy_all (iy_calls iy_mi) RX2 "at" cX2_at 2 (some FieldType.int, []) pcX2_at pcX2_at stX2_at := by
  refine ⟨⟨mo_ild, ok_ildn dX2_at_0 rfl rfl⟩, ?_⟩
  refine ⟨⟨mo_ald, ok_aldn dX2_at_1 rfl rfl⟩, ?_⟩
  refine ⟨⟨mo_gI, ok_gI rfl fd_X2_70 rfl dX2_at_2 rfl⟩, ?_⟩
  refine ⟨⟨mo_cge, ok_cge dX2_at_5 rfl rfl⟩, ?_⟩
  refine ⟨⟨mo_ald, ok_aldn dX2_at_8 rfl rfl⟩, ?_⟩
  refine ⟨⟨mo_gR, ok_gR rfl fd_X2_53 rfl dX2_at_9 rfl⟩, ?_⟩
  refine ⟨⟨mo_ild, ok_ildn dX2_at_12 rfl rfl⟩, ?_⟩
  refine ⟨⟨mo_alI, ok_bald dX2_at_13 rfl⟩, ?_⟩
  refine ⟨⟨mo_goto, ok_goto dX2_at_14 rfl⟩, ?_⟩
  refine ⟨⟨mo_push, ok_iconst dX2_at_17 iv_i0 rfl⟩, ?_⟩
  refine ⟨⟨mo_keep, ok_keep rfl⟩, ?_⟩
  refine ⟨⟨mo_iret, ok_iret rfl rfl dX2_at_18⟩, ?_⟩
  exact trivial
set_option maxHeartbeats 4000000 in
theorem alX2_word : iy_all (iy_calls iy_mi) RX2 "word" cX2_word 6 (some FieldType.int, []) pcX2_word pcX2_word stX2_word := by
  refine ⟨⟨mo_push, ok_iconst dX2_word_0 iv_i0 rfl⟩, ?_⟩
  refine ⟨⟨mo_ist, ok_istn dX2_word_1 rfl (Nat.le_of_ble_eq_true rfl) rfl⟩, ?_⟩
  refine ⟨⟨mo_keep, ok_keep rfl⟩, ?_⟩
  refine ⟨⟨mo_ild, ok_ildn dX2_word_2 rfl rfl⟩, ?_⟩
  refine ⟨⟨mo_ald, ok_aldn dX2_word_3 rfl rfl⟩, ?_⟩
  refine ⟨⟨mo_gR, ok_gR rfl fd_X2_47 rfl dX2_word_4 rfl⟩, ?_⟩
  refine ⟨⟨mo_len, ok_len rfl dX2_word_7 rfl⟩, ?_⟩
  refine ⟨⟨mo_cge, ok_cge dX2_word_8 rfl rfl⟩, ?_⟩
  refine ⟨⟨mo_ald, ok_aldn dX2_word_11 rfl rfl⟩, ?_⟩
  refine ⟨⟨mo_gR, ok_gR rfl fd_X2_47 rfl dX2_word_12 rfl⟩, ?_⟩
  refine ⟨⟨mo_ild, ok_ildn dX2_word_15 rfl rfl⟩, ?_⟩
  refine ⟨⟨mo_alR, ok_aald rfl dX2_word_16 rfl⟩, ?_⟩
  refine ⟨⟨mo_cvI, ok_cvI mi_J6_length lk_X2_81 q726 q727 rfl (Nat.le_of_ble_eq_true rfl) (iy_ro_le _) rfl rfl dX2_word_17 rfl⟩, ?_⟩
  refine ⟨⟨mo_ild, ok_ildn dX2_word_20 rfl rfl⟩, ?_⟩
  refine ⟨⟨mo_ild, ok_ildn dX2_word_21 rfl rfl⟩, ?_⟩
  refine ⟨⟨mo_bin, ok_isub dX2_word_22 rfl⟩, ?_⟩
  refine ⟨⟨mo_cne, ok_cne dX2_word_23 rfl rfl⟩, ?_⟩
  refine ⟨⟨mo_push, ok_iconst dX2_word_26 iv_i1 rfl⟩, ?_⟩
  refine ⟨⟨mo_goto, ok_goto dX2_word_27 rfl⟩, ?_⟩
  refine ⟨⟨mo_push, ok_iconst dX2_word_30 iv_i0 rfl⟩, ?_⟩
  refine ⟨⟨mo_keep, ok_keep rfl⟩, ?_⟩
  refine ⟨⟨mo_ist, ok_ist dX2_word_31 (Nat.le_of_ble_eq_true rfl) rfl⟩, ?_⟩
  refine ⟨⟨mo_ild, ok_ildn dX2_word_33 rfl rfl⟩, ?_⟩
  refine ⟨⟨mo_ist, ok_ist dX2_word_34 (Nat.le_of_ble_eq_true rfl) rfl⟩, ?_⟩
  refine ⟨⟨mo_keep, ok_keep rfl⟩, ?_⟩
  refine ⟨⟨mo_ild, ok_ild dX2_word_36 rfl⟩, ?_⟩
  refine ⟨⟨mo_ild, ok_ildn dX2_word_38 rfl rfl⟩, ?_⟩
  refine ⟨⟨mo_cge, ok_cge dX2_word_39 rfl rfl⟩, ?_⟩
  refine ⟨⟨mo_ild, ok_ild dX2_word_42 rfl⟩, ?_⟩
  refine ⟨⟨mo_ieq, ok_ieq dX2_word_44 rfl rfl⟩, ?_⟩
  refine ⟨⟨mo_ald, ok_aldn dX2_word_47 rfl rfl⟩, ?_⟩
  refine ⟨⟨mo_gR, ok_gR rfl fd_X2_47 rfl dX2_word_48 rfl⟩, ?_⟩
  refine ⟨⟨mo_ild, ok_ildn dX2_word_51 rfl rfl⟩, ?_⟩
  refine ⟨⟨mo_alR, ok_aald rfl dX2_word_52 rfl⟩, ?_⟩
  refine ⟨⟨mo_ild, ok_ild dX2_word_53 rfl⟩, ?_⟩
  refine ⟨⟨mo_ild, ok_ildn dX2_word_55 rfl rfl⟩, ?_⟩
  refine ⟨⟨mo_bin, ok_isub dX2_word_56 rfl⟩, ?_⟩
  refine ⟨⟨mo_cvI, ok_cvI mi_J6_charAt lk_X2_85 q736 q737 rfl (Nat.le_of_ble_eq_true rfl) (iy_ro_le _) rfl rfl dX2_word_57 rfl⟩, ?_⟩
  refine ⟨⟨mo_ald, ok_aldn dX2_word_60 rfl rfl⟩, ?_⟩
  refine ⟨⟨mo_gR, ok_gR rfl fd_X2_53 rfl dX2_word_61 rfl⟩, ?_⟩
  refine ⟨⟨mo_ild, ok_ild dX2_word_64 rfl⟩, ?_⟩
  refine ⟨⟨mo_alI, ok_bald dX2_word_66 rfl⟩, ?_⟩
  refine ⟨⟨mo_cne, ok_cne dX2_word_67 rfl rfl⟩, ?_⟩
  refine ⟨⟨mo_push, ok_iconst dX2_word_70 iv_i1 rfl⟩, ?_⟩
  refine ⟨⟨mo_goto, ok_goto dX2_word_71 rfl⟩, ?_⟩
  refine ⟨⟨mo_push, ok_iconst dX2_word_74 iv_i0 rfl⟩, ?_⟩
  refine ⟨⟨mo_keep, ok_keep rfl⟩, ?_⟩
  refine ⟨⟨mo_ist, ok_ist dX2_word_75 (Nat.le_of_ble_eq_true rfl) rfl⟩, ?_⟩
  refine ⟨⟨mo_inc, ok_inc dX2_word_77 iv_i1 (Nat.le_of_ble_eq_true rfl) rfl⟩, ?_⟩
  refine ⟨⟨mo_back, ok_back dX2_word_80 rfl⟩, ?_⟩
  refine ⟨⟨mo_keep, ok_keep rfl⟩, ?_⟩
  refine ⟨⟨mo_ild, ok_ild dX2_word_83 rfl⟩, ?_⟩
  refine ⟨⟨mo_ieq, ok_ieq dX2_word_85 rfl rfl⟩, ?_⟩
  refine ⟨⟨mo_ild, ok_ildn dX2_word_88 rfl rfl⟩, ?_⟩
  refine ⟨⟨mo_iret, ok_iret rfl rfl dX2_word_89⟩, ?_⟩
  refine ⟨⟨mo_inc, ok_inc dX2_word_90 iv_i1 (Nat.le_of_ble_eq_true rfl) rfl⟩, ?_⟩
  refine ⟨⟨mo_back, ok_back dX2_word_93 rfl⟩, ?_⟩
  refine ⟨⟨mo_push, ok_iconst dX2_word_96 iv_im1 rfl⟩, ?_⟩
  refine ⟨⟨mo_iret, ok_iret rfl rfl dX2_word_97⟩, ?_⟩
  exact trivial
set_option maxHeartbeats 4000000 in
theorem alX2_isDigit : iy_all (iy_calls iy_mi) RX2 "isDigit" cX2_isDigit 2 (some FieldType.boolean, []) pcX2_isDigit pcX2_isDigit stX2_isDigit := by
  refine ⟨⟨mo_ald, ok_aldn dX2_isDigit_0 rfl rfl⟩, ?_⟩
  refine ⟨⟨mo_ild, ok_ildn dX2_isDigit_1 rfl rfl⟩, ?_⟩
  refine ⟨⟨mo_cvI, ok_cvI mi_X2_at lk_X2_74 q719 qs4 rfl (Nat.le_of_ble_eq_true rfl) (iy_ro_le _) rfl rfl dX2_isDigit_2 rfl⟩, ?_⟩
  refine ⟨⟨mo_push, ok_bipush dX2_isDigit_5 iv_b48 rfl⟩, ?_⟩
  refine ⟨⟨mo_clt, ok_clt dX2_isDigit_7 rfl rfl⟩, ?_⟩
  refine ⟨⟨mo_ald, ok_aldn dX2_isDigit_10 rfl rfl⟩, ?_⟩
  refine ⟨⟨mo_ild, ok_ildn dX2_isDigit_11 rfl rfl⟩, ?_⟩
  refine ⟨⟨mo_cvI, ok_cvI mi_X2_at lk_X2_74 q719 qs4 rfl (Nat.le_of_ble_eq_true rfl) (iy_ro_le _) rfl rfl dX2_isDigit_12 rfl⟩, ?_⟩
  refine ⟨⟨mo_push, ok_bipush dX2_isDigit_15 iv_b57 rfl⟩, ?_⟩
  refine ⟨⟨mo_cgt, ok_cgt dX2_isDigit_17 rfl rfl⟩, ?_⟩
  refine ⟨⟨mo_push, ok_iconst dX2_isDigit_20 iv_i1 rfl⟩, ?_⟩
  refine ⟨⟨mo_goto, ok_goto dX2_isDigit_21 rfl⟩, ?_⟩
  refine ⟨⟨mo_keep, ok_keep rfl⟩, ?_⟩
  refine ⟨⟨mo_push, ok_iconst dX2_isDigit_24 iv_i0 rfl⟩, ?_⟩
  refine ⟨⟨mo_keep, ok_keep rfl⟩, ?_⟩
  refine ⟨⟨mo_iret, ok_iret rfl rfl dX2_isDigit_25⟩, ?_⟩
  exact trivial
set_option maxHeartbeats 4000000 in
theorem alX2_sign : iy_all (iy_calls iy_mi) RX2 "sign" cX2_sign 3 (some FieldType.int, []) pcX2_sign pcX2_sign stX2_sign := by
  refine ⟨⟨mo_ald, ok_aldn dX2_sign_0 rfl rfl⟩, ?_⟩
  refine ⟨⟨mo_ild, ok_ildn dX2_sign_1 rfl rfl⟩, ?_⟩
  refine ⟨⟨mo_cvI, ok_cvI mi_X2_at lk_X2_74 q719 qs4 rfl (Nat.le_of_ble_eq_true rfl) (iy_ro_le _) rfl rfl dX2_sign_2 rfl⟩, ?_⟩
  refine ⟨⟨mo_ist, ok_istn dX2_sign_5 rfl (Nat.le_of_ble_eq_true rfl) rfl⟩, ?_⟩
  refine ⟨⟨mo_ild, ok_ildn dX2_sign_6 rfl rfl⟩, ?_⟩
  refine ⟨⟨mo_sw, ok_tsw dX2_sign_7 rfl rfl (by decide +kernel)⟩, ?_⟩
  refine ⟨⟨mo_keep, ok_keep rfl⟩, ?_⟩
  refine ⟨⟨mo_ild, ok_ildn dX2_sign_112 rfl rfl⟩, ?_⟩
  refine ⟨⟨mo_iret, ok_iret rfl rfl dX2_sign_113⟩, ?_⟩
  refine ⟨⟨mo_keep, ok_keep rfl⟩, ?_⟩
  refine ⟨⟨mo_push, ok_iconst dX2_sign_114 iv_i0 rfl⟩, ?_⟩
  refine ⟨⟨mo_iret, ok_iret rfl rfl dX2_sign_115⟩, ?_⟩
  exact trivial
set_option maxHeartbeats 4000000 in
theorem alX2_add : iy_all (iy_calls iy_mi) RX2 "add" cX2_add 5 (none, []) pcX2_add pcX2_add stX2_add := by
  refine ⟨⟨mo_ald, ok_aldn dX2_add_0 rfl rfl⟩, ?_⟩
  refine ⟨⟨mo_gR, ok_gR rfl fd_X2_57 rfl dX2_add_1 rfl⟩, ?_⟩
  refine ⟨⟨mo_ald, ok_aldn dX2_add_4 rfl rfl⟩, ?_⟩
  refine ⟨⟨mo_gI, ok_gI rfl fd_X2_78 rfl dX2_add_5 rfl⟩, ?_⟩
  refine ⟨⟨mo_ild, ok_ildn dX2_add_8 rfl rfl⟩, ?_⟩
  refine ⟨⟨mo_un, ok_i2b dX2_add_9 rfl⟩, ?_⟩
  refine ⟨⟨mo_asI, ok_bast dX2_add_10 rfl⟩, ?_⟩
  refine ⟨⟨mo_ald, ok_aldn dX2_add_11 rfl rfl⟩, ?_⟩
  refine ⟨⟨mo_gR, ok_gR rfl fd_X2_60 rfl dX2_add_12 rfl⟩, ?_⟩
  refine ⟨⟨mo_ald, ok_aldn dX2_add_15 rfl rfl⟩, ?_⟩
  refine ⟨⟨mo_gI, ok_gI rfl fd_X2_78 rfl dX2_add_16 rfl⟩, ?_⟩
  refine ⟨⟨mo_ild, ok_ildn dX2_add_19 rfl rfl⟩, ?_⟩
  refine ⟨⟨mo_un, ok_i2s dX2_add_20 rfl⟩, ?_⟩
  refine ⟨⟨mo_asI, ok_sast dX2_add_21 rfl⟩, ?_⟩
  refine ⟨⟨mo_ald, ok_aldn dX2_add_22 rfl rfl⟩, ?_⟩
  refine ⟨⟨mo_gR, ok_gR rfl fd_X2_64 rfl dX2_add_23 rfl⟩, ?_⟩
  refine ⟨⟨mo_ald, ok_aldn dX2_add_26 rfl rfl⟩, ?_⟩
  refine ⟨⟨mo_gI, ok_gI rfl fd_X2_78 rfl dX2_add_27 rfl⟩, ?_⟩
  refine ⟨⟨mo_ild, ok_ildn dX2_add_30 rfl rfl⟩, ?_⟩
  refine ⟨⟨mo_un, ok_i2s dX2_add_31 rfl⟩, ?_⟩
  refine ⟨⟨mo_asI, ok_sast dX2_add_32 rfl⟩, ?_⟩
  refine ⟨⟨mo_ald, ok_aldn dX2_add_33 rfl rfl⟩, ?_⟩
  refine ⟨⟨mo_gR, ok_gR rfl fd_X2_67 rfl dX2_add_34 rfl⟩, ?_⟩
  refine ⟨⟨mo_ald, ok_aldn dX2_add_37 rfl rfl⟩, ?_⟩
  refine ⟨⟨mo_gI, ok_gI rfl fd_X2_78 rfl dX2_add_38 rfl⟩, ?_⟩
  refine ⟨⟨mo_ild, ok_ild dX2_add_41 rfl⟩, ?_⟩
  refine ⟨⟨mo_un, ok_i2s dX2_add_43 rfl⟩, ?_⟩
  refine ⟨⟨mo_asI, ok_sast dX2_add_44 rfl⟩, ?_⟩
  refine ⟨⟨mo_ald, ok_aldn dX2_add_45 rfl rfl⟩, ?_⟩
  refine ⟨⟨mo_dup, ok_dup dX2_add_46 rfl⟩, ?_⟩
  refine ⟨⟨mo_gI, ok_gI rfl fd_X2_78 rfl dX2_add_47 rfl⟩, ?_⟩
  refine ⟨⟨mo_push, ok_iconst dX2_add_50 iv_i1 rfl⟩, ?_⟩
  refine ⟨⟨mo_bin, ok_iadd dX2_add_51 rfl⟩, ?_⟩
  refine ⟨⟨mo_pI, ok_pI rfl fd_X2_78 rfl (Or.inl rfl) dX2_add_52 rfl⟩, ?_⟩
  refine ⟨⟨mo_ret, ok_ret rfl dX2_add_55⟩, ?_⟩
  exact trivial
set_option maxHeartbeats 4000000 in
theorem alX2_text : iy_all (iy_calls iy_mi) RX2 "text" cX2_text 4 (some (FieldType.object "java/lang/String"), []) pcX2_text pcX2_text stX2_text := by
  refine ⟨⟨mo_new, ok_new (r := (RJ11, TJ11, 4)) rfl rfl (Nat.le_of_ble_eq_true rfl) rfl rfl q816 q817 q164 dX2_text_0 rfl⟩, ?_⟩
  refine ⟨⟨mo_dup, ok_dup dX2_text_3 rfl⟩, ?_⟩
  refine ⟨⟨mo_cvV, ok_ci mi_J11_init lk_X2_109 q819 rfl dX2_text_4 rfl⟩, ?_⟩
  refine ⟨⟨mo_ast, ok_astn dX2_text_7 rfl (Nat.le_of_ble_eq_true rfl) rfl⟩, ?_⟩
  refine ⟨⟨mo_ald, ok_aldn dX2_text_8 rfl rfl⟩, ?_⟩
  refine ⟨⟨mo_gR, ok_gR rfl fd_X2_60 rfl dX2_text_9 rfl⟩, ?_⟩
  refine ⟨⟨mo_ild, ok_ildn dX2_text_12 rfl rfl⟩, ?_⟩
  refine ⟨⟨mo_alI, ok_sald dX2_text_13 rfl⟩, ?_⟩
  refine ⟨⟨mo_ist, ok_istn dX2_text_14 rfl (Nat.le_of_ble_eq_true rfl) rfl⟩, ?_⟩
  refine ⟨⟨mo_keep, ok_keep rfl⟩, ?_⟩
  refine ⟨⟨mo_ild, ok_ildn dX2_text_15 rfl rfl⟩, ?_⟩
  refine ⟨⟨mo_ald, ok_aldn dX2_text_16 rfl rfl⟩, ?_⟩
  refine ⟨⟨mo_gR, ok_gR rfl fd_X2_64 rfl dX2_text_17 rfl⟩, ?_⟩
  refine ⟨⟨mo_ild, ok_ildn dX2_text_20 rfl rfl⟩, ?_⟩
  refine ⟨⟨mo_alI, ok_sald dX2_text_21 rfl⟩, ?_⟩
  refine ⟨⟨mo_cge, ok_cge dX2_text_22 rfl rfl⟩, ?_⟩
  refine ⟨⟨mo_ald, ok_aldn dX2_text_25 rfl rfl⟩, ?_⟩
  refine ⟨⟨mo_ald, ok_aldn dX2_text_26 rfl rfl⟩, ?_⟩
  refine ⟨⟨mo_gR, ok_gR rfl fd_X2_53 rfl dX2_text_27 rfl⟩, ?_⟩
  refine ⟨⟨mo_ild, ok_ildn dX2_text_30 rfl rfl⟩, ?_⟩
  refine ⟨⟨mo_alI, ok_bald dX2_text_31 rfl⟩, ?_⟩
  refine ⟨⟨mo_un, ok_i2c dX2_text_32 rfl⟩, ?_⟩
  refine ⟨⟨mo_cvR, ok_cvR mi_J11_append lk_X2_110 q847 q848 rfl (Nat.le_of_ble_eq_true rfl) (iy_ro_le _) rfl rfl dX2_text_33 rfl⟩, ?_⟩
  refine ⟨⟨mo_pop, ok_pop dX2_text_36 rfl⟩, ?_⟩
  refine ⟨⟨mo_inc, ok_inc dX2_text_37 iv_i1 (Nat.le_of_ble_eq_true rfl) rfl⟩, ?_⟩
  refine ⟨⟨mo_back, ok_back dX2_text_40 rfl⟩, ?_⟩
  refine ⟨⟨mo_ald, ok_aldn dX2_text_43 rfl rfl⟩, ?_⟩
  refine ⟨⟨mo_cvR, ok_cvR mi_J11_toString lk_X2_114 q922 q923 rfl (Nat.le_of_ble_eq_true rfl) (iy_ro_le _) rfl rfl dX2_text_44 rfl⟩, ?_⟩
  refine ⟨⟨mo_aret, ok_aret rfl rfl dX2_text_47⟩, ?_⟩
  exact trivial
set_option maxHeartbeats 4000000 in
theorem alX2_number : iy_all (iy_calls iy_mi) RX2 "number" cX2_number 4 (some FieldType.int, []) pcX2_number pcX2_number stX2_number := by
  refine ⟨⟨mo_push, ok_iconst dX2_number_0 iv_i0 rfl⟩, ?_⟩
  refine ⟨⟨mo_ist, ok_istn dX2_number_1 rfl (Nat.le_of_ble_eq_true rfl) rfl⟩, ?_⟩
  refine ⟨⟨mo_ald, ok_aldn dX2_number_2 rfl rfl⟩, ?_⟩
  refine ⟨⟨mo_gR, ok_gR rfl fd_X2_60 rfl dX2_number_3 rfl⟩, ?_⟩
  refine ⟨⟨mo_ild, ok_ildn dX2_number_6 rfl rfl⟩, ?_⟩
  refine ⟨⟨mo_alI, ok_sald dX2_number_7 rfl⟩, ?_⟩
  refine ⟨⟨mo_ist, ok_istn dX2_number_8 rfl (Nat.le_of_ble_eq_true rfl) rfl⟩, ?_⟩
  refine ⟨⟨mo_keep, ok_keep rfl⟩, ?_⟩
  refine ⟨⟨mo_ild, ok_ildn dX2_number_9 rfl rfl⟩, ?_⟩
  refine ⟨⟨mo_ald, ok_aldn dX2_number_10 rfl rfl⟩, ?_⟩
  refine ⟨⟨mo_gR, ok_gR rfl fd_X2_64 rfl dX2_number_11 rfl⟩, ?_⟩
  refine ⟨⟨mo_ild, ok_ildn dX2_number_14 rfl rfl⟩, ?_⟩
  refine ⟨⟨mo_alI, ok_sald dX2_number_15 rfl⟩, ?_⟩
  refine ⟨⟨mo_cge, ok_cge dX2_number_16 rfl rfl⟩, ?_⟩
  refine ⟨⟨mo_push, ok_bipush dX2_number_19 iv_b10 rfl⟩, ?_⟩
  refine ⟨⟨mo_ild, ok_ildn dX2_number_21 rfl rfl⟩, ?_⟩
  refine ⟨⟨mo_bin, ok_imul dX2_number_22 rfl⟩, ?_⟩
  refine ⟨⟨mo_ald, ok_aldn dX2_number_23 rfl rfl⟩, ?_⟩
  refine ⟨⟨mo_gR, ok_gR rfl fd_X2_53 rfl dX2_number_24 rfl⟩, ?_⟩
  refine ⟨⟨mo_ild, ok_ildn dX2_number_27 rfl rfl⟩, ?_⟩
  refine ⟨⟨mo_alI, ok_bald dX2_number_28 rfl⟩, ?_⟩
  refine ⟨⟨mo_bin, ok_iadd dX2_number_29 rfl⟩, ?_⟩
  refine ⟨⟨mo_push, ok_bipush dX2_number_30 iv_b48 rfl⟩, ?_⟩
  refine ⟨⟨mo_bin, ok_isub dX2_number_32 rfl⟩, ?_⟩
  refine ⟨⟨mo_ist, ok_istn dX2_number_33 rfl (Nat.le_of_ble_eq_true rfl) rfl⟩, ?_⟩
  refine ⟨⟨mo_inc, ok_inc dX2_number_34 iv_i1 (Nat.le_of_ble_eq_true rfl) rfl⟩, ?_⟩
  refine ⟨⟨mo_back, ok_back dX2_number_37 rfl⟩, ?_⟩
  refine ⟨⟨mo_ild, ok_ildn dX2_number_40 rfl rfl⟩, ?_⟩
  refine ⟨⟨mo_iret, ok_iret rfl rfl dX2_number_41⟩, ?_⟩
  exact trivial
set_option maxHeartbeats 4000000 in
theorem alX3_init : iy_all (iy_calls iy_mi) RX3 "<init>" cX3_init 3 (none, []) pcX3_init pcX3_init stX3_init := by
  refine ⟨⟨mo_ald, ok_aldn dX3_init_0 rfl rfl⟩, ?_⟩
  refine ⟨⟨mo_oin, ok_oin q323 q185 q186 dX3_init_1 rfl⟩, ?_⟩
  refine ⟨⟨mo_ald, ok_aldn dX3_init_4 rfl rfl⟩, ?_⟩
  refine ⟨⟨mo_ald, ok_aldn dX3_init_5 rfl rfl⟩, ?_⟩
  refine ⟨⟨mo_pR, ok_pR rfl fd_X3_9 rfl (Or.inr ⟨rfl, rfl, rfl⟩) dX3_init_6 rfl⟩, ?_⟩
  refine ⟨⟨mo_ald, ok_aldn dX3_init_9 rfl rfl⟩, ?_⟩
  refine ⟨⟨mo_ald, ok_aldn dX3_init_10 rfl rfl⟩, ?_⟩
  refine ⟨⟨mo_pR, ok_pR rfl fd_X3_15 rfl (Or.inr ⟨rfl, rfl, rfl⟩) dX3_init_11 rfl⟩, ?_⟩
  refine ⟨⟨mo_ret, ok_ret rfl dX3_init_14⟩, ?_⟩
  exact trivial
set_option maxHeartbeats 4000000 in
theorem alX3_read : iy_all (iy_calls iy_mi) RX3 "read" cX3_read 1 (some (FieldType.object "DeltaIndex$Text"), []) pcX3_read pcX3_read stX3_read := by
  refine ⟨⟨mo_ald, ok_aldn dX3_read_0 rfl rfl⟩, ?_⟩
  refine ⟨⟨mo_gR, ok_gR rfl fd_X3_9 rfl dX3_read_1 rfl⟩, ?_⟩
  refine ⟨⟨mo_cvV, ok_cvV mi_X2_read lk_X3_100 q710 q711 rfl (Nat.le_of_ble_eq_true rfl) (iy_ro_le _) rfl rfl dX3_read_4 rfl⟩, ?_⟩
  refine ⟨⟨mo_ald, ok_aldn dX3_read_7 rfl rfl⟩, ?_⟩
  refine ⟨⟨mo_new, ok_new (r := (RX7, TX7, 4)) rfl rfl (Nat.le_of_ble_eq_true rfl) rfl rfl q785 q555 q153 dX3_read_8 rfl⟩, ?_⟩
  refine ⟨⟨mo_dup, ok_dup dX3_read_11 rfl⟩, ?_⟩
  refine ⟨⟨mo_cvV, ok_cn mi_X7_init q786 q153 q558 ⟨nmh_X7.1, nmh_X7.2, pmd_yX7_init⟩ (Nat.le_of_ble_eq_true rfl) q557 rfl dX3_read_12 rfl⟩, ?_⟩
  refine ⟨⟨mo_pR, ok_pR rfl fd_X3_106 rfl (Or.inl rfl) dX3_read_15 rfl⟩, ?_⟩
  refine ⟨⟨mo_ald, ok_aldn dX3_read_18 rfl rfl⟩, ?_⟩
  refine ⟨⟨mo_push, ok_iconst dX3_read_19 iv_i0 rfl⟩, ?_⟩
  refine ⟨⟨mo_pI, ok_pI rfl fd_X3_31 rfl (Or.inl rfl) dX3_read_20 rfl⟩, ?_⟩
  refine ⟨⟨mo_ald, ok_aldn dX3_read_23 rfl rfl⟩, ?_⟩
  refine ⟨⟨mo_push, ok_iconst dX3_read_24 iv_i0 rfl⟩, ?_⟩
  refine ⟨⟨mo_pI, ok_pI rfl fd_X3_109 rfl (Or.inl rfl) dX3_read_25 rfl⟩, ?_⟩
  refine ⟨⟨mo_ald, ok_aldn dX3_read_28 rfl rfl⟩, ?_⟩
  refine ⟨⟨mo_push, ok_iconst dX3_read_29 iv_i0 rfl⟩, ?_⟩
  refine ⟨⟨mo_pI, ok_pI rfl fd_X3_112 rfl (Or.inl rfl) dX3_read_30 rfl⟩, ?_⟩
  refine ⟨⟨mo_ald, ok_aldn dX3_read_33 rfl rfl⟩, ?_⟩
  refine ⟨⟨mo_push, ok_iconst dX3_read_34 iv_i0 rfl⟩, ?_⟩
  refine ⟨⟨mo_pI, ok_pI rfl fd_X3_38 rfl (Or.inl rfl) dX3_read_35 rfl⟩, ?_⟩
  refine ⟨⟨mo_ald, ok_aldn dX3_read_38 rfl rfl⟩, ?_⟩
  refine ⟨⟨mo_gR, ok_gR rfl fd_X3_106 rfl dX3_read_39 rfl⟩, ?_⟩
  refine ⟨⟨mo_ald, ok_aldn dX3_read_42 rfl rfl⟩, ?_⟩
  refine ⟨⟨mo_cst, ok_str (tx := "chain") (List.mem_of_getElem? (i := 22) rfl) dX3_read_43 rfl⟩, ?_⟩
  refine ⟨⟨mo_push, ok_iconst dX3_read_45 iv_i1 rfl⟩, ?_⟩
  refine ⟨⟨mo_push, ok_bipush dX3_read_46 iv_b8 rfl⟩, ?_⟩
  refine ⟨⟨mo_ald, ok_aldn dX3_read_48 rfl rfl⟩, ?_⟩
  refine ⟨⟨mo_gR, ok_gR rfl fd_X3_106 rfl dX3_read_49 rfl⟩, ?_⟩
  refine ⟨⟨mo_gI, ok_gI rfl fd_X3_117 rfl dX3_read_52 rfl⟩, ?_⟩
  refine ⟨⟨mo_cxI, ok_cxI mi_X3_setting lk_X3_119 q790 qs9 rfl (Nat.le_of_ble_eq_true rfl) (iy_ro_le _) rfl rfl dX3_read_55 rfl iy_nc⟩, ?_⟩
  refine ⟨⟨mo_pI, ok_pI rfl fd_X3_117 rfl (Or.inl rfl) dX3_read_58 rfl⟩, ?_⟩
  refine ⟨⟨mo_ald, ok_aldn dX3_read_61 rfl rfl⟩, ?_⟩
  refine ⟨⟨mo_gR, ok_gR rfl fd_X3_106 rfl dX3_read_62 rfl⟩, ?_⟩
  refine ⟨⟨mo_ald, ok_aldn dX3_read_65 rfl rfl⟩, ?_⟩
  refine ⟨⟨mo_cst, ok_str (tx := "most") (List.mem_of_getElem? (i := 23) rfl) dX3_read_66 rfl⟩, ?_⟩
  refine ⟨⟨mo_push, ok_iconst dX3_read_68 iv_i4 rfl⟩, ?_⟩
  refine ⟨⟨mo_push, ok_bipush dX3_read_69 iv_b12 rfl⟩, ?_⟩
  refine ⟨⟨mo_ald, ok_aldn dX3_read_71 rfl rfl⟩, ?_⟩
  refine ⟨⟨mo_gR, ok_gR rfl fd_X3_106 rfl dX3_read_72 rfl⟩, ?_⟩
  refine ⟨⟨mo_gI, ok_gI rfl fd_X3_125 rfl dX3_read_75 rfl⟩, ?_⟩
  refine ⟨⟨mo_cxI, ok_cxI mi_X3_setting lk_X3_119 q790 qs9 rfl (Nat.le_of_ble_eq_true rfl) (iy_ro_le _) rfl rfl dX3_read_78 rfl iy_nc⟩, ?_⟩
  refine ⟨⟨mo_pI, ok_pI rfl fd_X3_125 rfl (Or.inl rfl) dX3_read_81 rfl⟩, ?_⟩
  refine ⟨⟨mo_ald, ok_aldn dX3_read_84 rfl rfl⟩, ?_⟩
  refine ⟨⟨mo_gR, ok_gR rfl fd_X3_106 rfl dX3_read_85 rfl⟩, ?_⟩
  refine ⟨⟨mo_ald, ok_aldn dX3_read_88 rfl rfl⟩, ?_⟩
  refine ⟨⟨mo_cst, ok_str (tx := "least") (List.mem_of_getElem? (i := 24) rfl) dX3_read_89 rfl⟩, ?_⟩
  refine ⟨⟨mo_push, ok_iconst dX3_read_91 iv_i0 rfl⟩, ?_⟩
  refine ⟨⟨mo_push, ok_iconst dX3_read_92 iv_i3 rfl⟩, ?_⟩
  refine ⟨⟨mo_ald, ok_aldn dX3_read_93 rfl rfl⟩, ?_⟩
  refine ⟨⟨mo_gR, ok_gR rfl fd_X3_106 rfl dX3_read_94 rfl⟩, ?_⟩
  refine ⟨⟨mo_gI, ok_gI rfl fd_X3_129 rfl dX3_read_97 rfl⟩, ?_⟩
  refine ⟨⟨mo_cxI, ok_cxI mi_X3_setting lk_X3_119 q790 qs9 rfl (Nat.le_of_ble_eq_true rfl) (iy_ro_le _) rfl rfl dX3_read_100 rfl iy_nc⟩, ?_⟩
  refine ⟨⟨mo_pI, ok_pI rfl fd_X3_129 rfl (Or.inl rfl) dX3_read_103 rfl⟩, ?_⟩
  refine ⟨⟨mo_keep, ok_keep rfl⟩, ?_⟩
  refine ⟨⟨mo_ald, ok_aldn dX3_read_106 rfl rfl⟩, ?_⟩
  refine ⟨⟨mo_cxI, ok_cxI mi_X3_sort lk_X3_65 q798 qs11 rfl (Nat.le_of_ble_eq_true rfl) (iy_ro_le _) rfl rfl dX3_read_107 rfl iy_nc⟩, ?_⟩
  refine ⟨⟨mo_push, ok_iconst dX3_read_110 iv_i4 rfl⟩, ?_⟩
  refine ⟨⟨mo_ceq, ok_ceq dX3_read_111 rfl rfl⟩, ?_⟩
  refine ⟨⟨mo_ald, ok_aldn dX3_read_114 rfl rfl⟩, ?_⟩
  refine ⟨⟨mo_gR, ok_gR rfl fd_X3_106 rfl dX3_read_115 rfl⟩, ?_⟩
  refine ⟨⟨mo_gR, ok_gR rfl fd_X3_131 rfl dX3_read_118 rfl⟩, ?_⟩
  refine ⟨⟨mo_gR, ok_gR rfl fd_X3_135 rfl dX3_read_121 rfl⟩, ?_⟩
  refine ⟨⟨mo_ald, ok_aldn dX3_read_124 rfl rfl⟩, ?_⟩
  refine ⟨⟨mo_cxR, ok_cxR mi_X3_told lk_X3_141 q1020 qs20 rfl (Nat.le_of_ble_eq_true rfl) (iy_ro_le _) rfl rfl dX3_read_125 rfl iy_nc⟩, ?_⟩
  refine ⟨⟨mo_cvI, ok_cvI mi_J5_add lk_X3_145 q1208 q1209 rfl (Nat.le_of_ble_eq_true rfl) (iy_ro_le _) rfl rfl dX3_read_128 rfl⟩, ?_⟩
  refine ⟨⟨mo_pop, ok_pop dX3_read_131 rfl⟩, ?_⟩
  refine ⟨⟨mo_back, ok_back dX3_read_132 rfl⟩, ?_⟩
  refine ⟨⟨mo_ald, ok_aldn dX3_read_135 rfl rfl⟩, ?_⟩
  refine ⟨⟨mo_gI, ok_gI rfl fd_X3_38 rfl dX3_read_136 rfl⟩, ?_⟩
  refine ⟨⟨mo_ieq, ok_ieq dX3_read_139 rfl rfl⟩, ?_⟩
  refine ⟨⟨mo_ald, ok_aldn dX3_read_142 rfl rfl⟩, ?_⟩
  refine ⟨⟨mo_ald, ok_aldn dX3_read_143 rfl rfl⟩, ?_⟩
  refine ⟨⟨mo_gI, ok_gI rfl fd_X3_38 rfl dX3_read_144 rfl⟩, ?_⟩
  refine ⟨⟨mo_ald, ok_aldn dX3_read_147 rfl rfl⟩, ?_⟩
  refine ⟨⟨mo_gI, ok_gI rfl fd_X3_41 rfl dX3_read_148 rfl⟩, ?_⟩
  refine ⟨⟨mo_cvR, ok_cvR mi_X3_wrongAt lk_X3_35 q806 qs13 rfl (Nat.le_of_ble_eq_true rfl) (iy_ro_le _) rfl rfl dX3_read_151 rfl⟩, ?_⟩
  refine ⟨⟨mo_thr, ok_thr iy_nc dX3_read_154⟩, ?_⟩
  refine ⟨⟨mo_ald, ok_aldn dX3_read_155 rfl rfl⟩, ?_⟩
  refine ⟨⟨mo_gR, ok_gR rfl fd_X3_106 rfl dX3_read_156 rfl⟩, ?_⟩
  refine ⟨⟨mo_aret, ok_aret rfl rfl dX3_read_159⟩, ?_⟩
  exact trivial
set_option maxHeartbeats 4000000 in
theorem alX3_setting : iy_all (iy_calls iy_mi) RX3 "setting" cX3_setting 6 (some FieldType.int, []) pcX3_setting pcX3_setting stX3_setting := by
  refine ⟨⟨mo_ald, ok_aldn dX3_setting_0 rfl rfl⟩, ?_⟩
  refine ⟨⟨mo_ald, ok_aldn dX3_setting_1 rfl rfl⟩, ?_⟩
  refine ⟨⟨mo_cxI, ok_cxI mi_X3_isTold lk_X3_89 q794 qs10 rfl (Nat.le_of_ble_eq_true rfl) (iy_ro_le _) rfl rfl dX3_setting_2 rfl iy_nc⟩, ?_⟩
  refine ⟨⟨mo_ine, ok_ine dX3_setting_5 rfl rfl⟩, ?_⟩
  refine ⟨⟨mo_ild, ok_ild dX3_setting_8 rfl⟩, ?_⟩
  refine ⟨⟨mo_iret, ok_iret rfl rfl dX3_setting_10⟩, ?_⟩
  refine ⟨⟨mo_ald, ok_aldn dX3_setting_11 rfl rfl⟩, ?_⟩
  refine ⟨⟨mo_cxV, ok_cxV mi_X3_pass lk_X3_59 q990 qs14 rfl (Nat.le_of_ble_eq_true rfl) (iy_ro_le _) rfl rfl dX3_setting_12 rfl iy_nc⟩, ?_⟩
  refine ⟨⟨mo_ald, ok_aldn dX3_setting_15 rfl rfl⟩, ?_⟩
  refine ⟨⟨mo_ild, ok_ildn dX3_setting_16 rfl rfl⟩, ?_⟩
  refine ⟨⟨mo_ild, ok_ildn dX3_setting_17 rfl rfl⟩, ?_⟩
  refine ⟨⟨mo_cxI, ok_cxI mi_X3_number lk_X3_93 q994 qs15 rfl (Nat.le_of_ble_eq_true rfl) (iy_ro_le _) rfl rfl dX3_setting_18 rfl iy_nc⟩, ?_⟩
  refine ⟨⟨mo_ist, ok_ist dX3_setting_21 (Nat.le_of_ble_eq_true rfl) rfl⟩, ?_⟩
  refine ⟨⟨mo_ald, ok_aldn dX3_setting_23 rfl rfl⟩, ?_⟩
  refine ⟨⟨mo_push, ok_bipush dX3_setting_24 iv_b59 rfl⟩, ?_⟩
  refine ⟨⟨mo_cxV, ok_cxV mi_X3_sign lk_X3_96 q1010 qs18 rfl (Nat.le_of_ble_eq_true rfl) (iy_ro_le _) rfl rfl dX3_setting_26 rfl iy_nc⟩, ?_⟩
  refine ⟨⟨mo_ild, ok_ild dX3_setting_29 rfl⟩, ?_⟩
  refine ⟨⟨mo_iret, ok_iret rfl rfl dX3_setting_31⟩, ?_⟩
  exact trivial
set_option maxHeartbeats 4000000 in
theorem alX3_isTold : iy_all (iy_calls iy_mi) RX3 "isTold" cX3_isTold 2 (some FieldType.boolean, []) pcX3_isTold pcX3_isTold stX3_isTold := by
  refine ⟨⟨mo_ald, ok_aldn dX3_isTold_0 rfl rfl⟩, ?_⟩
  refine ⟨⟨mo_cxI, ok_cxI mi_X3_sort lk_X3_65 q798 qs11 rfl (Nat.le_of_ble_eq_true rfl) (iy_ro_le _) rfl rfl dX3_isTold_1 rfl iy_nc⟩, ?_⟩
  refine ⟨⟨mo_push, ok_iconst dX3_isTold_4 iv_i3 rfl⟩, ?_⟩
  refine ⟨⟨mo_cne, ok_cne dX3_isTold_5 rfl rfl⟩, ?_⟩
  refine ⟨⟨mo_ald, ok_aldn dX3_isTold_8 rfl rfl⟩, ?_⟩
  refine ⟨⟨mo_gR, ok_gR rfl fd_X3_9 rfl dX3_isTold_9 rfl⟩, ?_⟩
  refine ⟨⟨mo_ald, ok_aldn dX3_isTold_12 rfl rfl⟩, ?_⟩
  refine ⟨⟨mo_gI, ok_gI rfl fd_X3_31 rfl dX3_isTold_13 rfl⟩, ?_⟩
  refine ⟨⟨mo_cvR, ok_cvR mi_X2_text lk_X3_79 q813 q814 rfl (Nat.le_of_ble_eq_true rfl) (iy_ro_le _) rfl rfl dX3_isTold_16 rfl⟩, ?_⟩
  refine ⟨⟨mo_ald, ok_aldn dX3_isTold_19 rfl rfl⟩, ?_⟩
  refine ⟨⟨mo_cvI, ok_cvI mi_J6_equals lk_X3_83 q981 q982 rfl (Nat.le_of_ble_eq_true rfl) (iy_ro_le _) rfl rfl dX3_isTold_20 rfl⟩, ?_⟩
  refine ⟨⟨mo_ieq, ok_ieq dX3_isTold_23 rfl rfl⟩, ?_⟩
  refine ⟨⟨mo_push, ok_iconst dX3_isTold_26 iv_i1 rfl⟩, ?_⟩
  refine ⟨⟨mo_goto, ok_goto dX3_isTold_27 rfl⟩, ?_⟩
  refine ⟨⟨mo_keep, ok_keep rfl⟩, ?_⟩
  refine ⟨⟨mo_push, ok_iconst dX3_isTold_30 iv_i0 rfl⟩, ?_⟩
  refine ⟨⟨mo_keep, ok_keep rfl⟩, ?_⟩
  refine ⟨⟨mo_iret, ok_iret rfl rfl dX3_isTold_31⟩, ?_⟩
  exact trivial
set_option maxHeartbeats 4000000 in
theorem alX3_sort : iy_all (iy_calls iy_mi) RX3 "sort" cX3_sort 1 (some FieldType.int, []) pcX3_sort pcX3_sort stX3_sort := by
  refine ⟨⟨mo_ald, ok_aldn dX3_sort_0 rfl rfl⟩, ?_⟩
  refine ⟨⟨mo_gR, ok_gR rfl fd_X3_9 rfl dX3_sort_1 rfl⟩, ?_⟩
  refine ⟨⟨mo_gR, ok_gR rfl fd_X3_44 rfl dX3_sort_4 rfl⟩, ?_⟩
  refine ⟨⟨mo_ald, ok_aldn dX3_sort_7 rfl rfl⟩, ?_⟩
  refine ⟨⟨mo_gI, ok_gI rfl fd_X3_31 rfl dX3_sort_8 rfl⟩, ?_⟩
  refine ⟨⟨mo_alI, ok_bald dX3_sort_11 rfl⟩, ?_⟩
  refine ⟨⟨mo_push, ok_iconst dX3_sort_12 iv_i5 rfl⟩, ?_⟩
  refine ⟨⟨mo_cne, ok_cne dX3_sort_13 rfl rfl⟩, ?_⟩
  refine ⟨⟨mo_ald, ok_aldn dX3_sort_16 rfl rfl⟩, ?_⟩
  refine ⟨⟨mo_push, ok_iconst dX3_sort_17 iv_i1 rfl⟩, ?_⟩
  refine ⟨⟨mo_cvR, ok_cvR mi_X3_wrong lk_X3_48 q802 qs12 rfl (Nat.le_of_ble_eq_true rfl) (iy_ro_le _) rfl rfl dX3_sort_18 rfl⟩, ?_⟩
  refine ⟨⟨mo_thr, ok_thr iy_nc dX3_sort_21⟩, ?_⟩
  refine ⟨⟨mo_ald, ok_aldn dX3_sort_22 rfl rfl⟩, ?_⟩
  refine ⟨⟨mo_gR, ok_gR rfl fd_X3_9 rfl dX3_sort_23 rfl⟩, ?_⟩
  refine ⟨⟨mo_gR, ok_gR rfl fd_X3_44 rfl dX3_sort_26 rfl⟩, ?_⟩
  refine ⟨⟨mo_ald, ok_aldn dX3_sort_29 rfl rfl⟩, ?_⟩
  refine ⟨⟨mo_gI, ok_gI rfl fd_X3_31 rfl dX3_sort_30 rfl⟩, ?_⟩
  refine ⟨⟨mo_alI, ok_bald dX3_sort_33 rfl⟩, ?_⟩
  refine ⟨⟨mo_iret, ok_iret rfl rfl dX3_sort_34⟩, ?_⟩
  exact trivial
set_option maxHeartbeats 4000000 in
theorem alX3_wrong : iy_all (iy_calls iy_mi) RX3 "wrong" cX3_wrong 2 (some (FieldType.object "DeltaIndex$Fault"), []) pcX3_wrong pcX3_wrong stX3_wrong := by
  refine ⟨⟨mo_ald, ok_aldn dX3_wrong_0 rfl rfl⟩, ?_⟩
  refine ⟨⟨mo_ild, ok_ildn dX3_wrong_1 rfl rfl⟩, ?_⟩
  refine ⟨⟨mo_ald, ok_aldn dX3_wrong_2 rfl rfl⟩, ?_⟩
  refine ⟨⟨mo_gI, ok_gI rfl fd_X3_31 rfl dX3_wrong_3 rfl⟩, ?_⟩
  refine ⟨⟨mo_cvR, ok_cvR mi_X3_wrongAt lk_X3_35 q806 qs13 rfl (Nat.le_of_ble_eq_true rfl) (iy_ro_le _) rfl rfl dX3_wrong_6 rfl⟩, ?_⟩
  refine ⟨⟨mo_aret, ok_aret rfl rfl dX3_wrong_9⟩, ?_⟩
  exact trivial
set_option maxHeartbeats 4000000 in
theorem alX3_wrongAt : iy_all (iy_calls iy_mi) RX3 "wrongAt" cX3_wrongAt 3 (some (FieldType.object "DeltaIndex$Fault"), []) pcX3_wrongAt pcX3_wrongAt stX3_wrongAt := by
  refine ⟨⟨mo_ald, ok_aldn dX3_wrongAt_0 rfl rfl⟩, ?_⟩
  refine ⟨⟨mo_gR, ok_gR rfl fd_X3_15 rfl dX3_wrongAt_1 rfl⟩, ?_⟩
  refine ⟨⟨mo_ild, ok_ildn dX3_wrongAt_4 rfl rfl⟩, ?_⟩
  refine ⟨⟨mo_ald, ok_aldn dX3_wrongAt_5 rfl rfl⟩, ?_⟩
  refine ⟨⟨mo_gR, ok_gR rfl fd_X3_9 rfl dX3_wrongAt_6 rfl⟩, ?_⟩
  refine ⟨⟨mo_gR, ok_gR rfl fd_X3_19 rfl dX3_wrongAt_9 rfl⟩, ?_⟩
  refine ⟨⟨mo_ild, ok_ildn dX3_wrongAt_12 rfl rfl⟩, ?_⟩
  refine ⟨⟨mo_alI, ok_sald dX3_wrongAt_13 rfl⟩, ?_⟩
  refine ⟨⟨mo_cvR, ok_cvR mi_X1_of lk_X3_25 q809 q810 rfl (Nat.le_of_ble_eq_true rfl) (iy_ro_le _) rfl rfl dX3_wrongAt_14 rfl⟩, ?_⟩
  refine ⟨⟨mo_aret, ok_aret rfl rfl dX3_wrongAt_17⟩, ?_⟩
  exact trivial
set_option maxHeartbeats 4000000 in
theorem alX3_pass : iy_all (iy_calls iy_mi) RX3 "pass" cX3_pass 1 (none, []) pcX3_pass pcX3_pass stX3_pass := by
  refine ⟨⟨mo_ald, ok_aldn dX3_pass_0 rfl rfl⟩, ?_⟩
  refine ⟨⟨mo_gI, ok_gI rfl fd_X3_31 rfl dX3_pass_1 rfl⟩, ?_⟩
  refine ⟨⟨mo_push, ok_sipush dX3_pass_4 iv_s400 rfl⟩, ?_⟩
  refine ⟨⟨mo_clt, ok_clt dX3_pass_7 rfl rfl⟩, ?_⟩
  refine ⟨⟨mo_ald, ok_aldn dX3_pass_10 rfl rfl⟩, ?_⟩
  refine ⟨⟨mo_push, ok_iconst dX3_pass_11 iv_i2 rfl⟩, ?_⟩
  refine ⟨⟨mo_cvR, ok_cvR mi_X3_wrong lk_X3_48 q802 qs12 rfl (Nat.le_of_ble_eq_true rfl) (iy_ro_le _) rfl rfl dX3_pass_12 rfl⟩, ?_⟩
  refine ⟨⟨mo_thr, ok_thr iy_nc dX3_pass_15⟩, ?_⟩
  refine ⟨⟨mo_ald, ok_aldn dX3_pass_16 rfl rfl⟩, ?_⟩
  refine ⟨⟨mo_dup, ok_dup dX3_pass_17 rfl⟩, ?_⟩
  refine ⟨⟨mo_gI, ok_gI rfl fd_X3_31 rfl dX3_pass_18 rfl⟩, ?_⟩
  refine ⟨⟨mo_push, ok_iconst dX3_pass_21 iv_i1 rfl⟩, ?_⟩
  refine ⟨⟨mo_bin, ok_iadd dX3_pass_22 rfl⟩, ?_⟩
  refine ⟨⟨mo_pI, ok_pI rfl fd_X3_31 rfl (Or.inl rfl) dX3_pass_23 rfl⟩, ?_⟩
  refine ⟨⟨mo_ret, ok_ret rfl dX3_pass_26⟩, ?_⟩
  exact trivial
set_option maxHeartbeats 4000000 in
theorem alX3_number : iy_all (iy_calls iy_mi) RX3 "number" cX3_number 5 (some FieldType.int, []) pcX3_number pcX3_number stX3_number := by
  refine ⟨⟨mo_ald, ok_aldn dX3_number_0 rfl rfl⟩, ?_⟩
  refine ⟨⟨mo_push, ok_iconst dX3_number_1 iv_i1 rfl⟩, ?_⟩
  refine ⟨⟨mo_cxI, ok_cxI mi_X3_take lk_X3_68 q998 qs16 rfl (Nat.le_of_ble_eq_true rfl) (iy_ro_le _) rfl rfl dX3_number_2 rfl iy_nc⟩, ?_⟩
  refine ⟨⟨mo_ist, ok_istn dX3_number_5 rfl (Nat.le_of_ble_eq_true rfl) rfl⟩, ?_⟩
  refine ⟨⟨mo_ald, ok_aldn dX3_number_6 rfl rfl⟩, ?_⟩
  refine ⟨⟨mo_gR, ok_gR rfl fd_X3_9 rfl dX3_number_7 rfl⟩, ?_⟩
  refine ⟨⟨mo_ild, ok_ildn dX3_number_10 rfl rfl⟩, ?_⟩
  refine ⟨⟨mo_cvI, ok_cvI mi_X2_number lk_X3_72 q1001 q1002 rfl (Nat.le_of_ble_eq_true rfl) (iy_ro_le _) rfl rfl dX3_number_11 rfl⟩, ?_⟩
  refine ⟨⟨mo_ist, ok_ist dX3_number_14 (Nat.le_of_ble_eq_true rfl) rfl⟩, ?_⟩
  refine ⟨⟨mo_ild, ok_ild dX3_number_16 rfl⟩, ?_⟩
  refine ⟨⟨mo_ild, ok_ildn dX3_number_18 rfl rfl⟩, ?_⟩
  refine ⟨⟨mo_clt, ok_clt dX3_number_19 rfl rfl⟩, ?_⟩
  refine ⟨⟨mo_ild, ok_ild dX3_number_22 rfl⟩, ?_⟩
  refine ⟨⟨mo_ild, ok_ildn dX3_number_24 rfl rfl⟩, ?_⟩
  refine ⟨⟨mo_cle, ok_cle dX3_number_25 rfl rfl⟩, ?_⟩
  refine ⟨⟨mo_keep, ok_keep rfl⟩, ?_⟩
  refine ⟨⟨mo_ald, ok_aldn dX3_number_28 rfl rfl⟩, ?_⟩
  refine ⟨⟨mo_push, ok_iconst dX3_number_29 iv_i5 rfl⟩, ?_⟩
  refine ⟨⟨mo_ild, ok_ildn dX3_number_30 rfl rfl⟩, ?_⟩
  refine ⟨⟨mo_cvV, ok_cvV mi_X3_tell lk_X3_75 q1006 qs17 rfl (Nat.le_of_ble_eq_true rfl) (iy_ro_le _) rfl rfl dX3_number_31 rfl⟩, ?_⟩
  refine ⟨⟨mo_keep, ok_keep rfl⟩, ?_⟩
  refine ⟨⟨mo_ild, ok_ild dX3_number_34 rfl⟩, ?_⟩
  refine ⟨⟨mo_iret, ok_iret rfl rfl dX3_number_36⟩, ?_⟩
  exact trivial
set_option maxHeartbeats 4000000 in
theorem alX3_take : iy_all (iy_calls iy_mi) RX3 "take" cX3_take 2 (some FieldType.int, []) pcX3_take pcX3_take stX3_take := by
  refine ⟨⟨mo_ald, ok_aldn dX3_take_0 rfl rfl⟩, ?_⟩
  refine ⟨⟨mo_cxI, ok_cxI mi_X3_sort lk_X3_65 q798 qs11 rfl (Nat.le_of_ble_eq_true rfl) (iy_ro_le _) rfl rfl dX3_take_1 rfl iy_nc⟩, ?_⟩
  refine ⟨⟨mo_ild, ok_ildn dX3_take_4 rfl rfl⟩, ?_⟩
  refine ⟨⟨mo_ceq, ok_ceq dX3_take_5 rfl rfl⟩, ?_⟩
  refine ⟨⟨mo_ald, ok_aldn dX3_take_8 rfl rfl⟩, ?_⟩
  refine ⟨⟨mo_push, ok_iconst dX3_take_9 iv_i1 rfl⟩, ?_⟩
  refine ⟨⟨mo_cvR, ok_cvR mi_X3_wrong lk_X3_48 q802 qs12 rfl (Nat.le_of_ble_eq_true rfl) (iy_ro_le _) rfl rfl dX3_take_10 rfl⟩, ?_⟩
  refine ⟨⟨mo_thr, ok_thr iy_nc dX3_take_13⟩, ?_⟩
  refine ⟨⟨mo_ald, ok_aldn dX3_take_14 rfl rfl⟩, ?_⟩
  refine ⟨⟨mo_cxV, ok_cxV mi_X3_pass lk_X3_59 q990 qs14 rfl (Nat.le_of_ble_eq_true rfl) (iy_ro_le _) rfl rfl dX3_take_15 rfl iy_nc⟩, ?_⟩
  refine ⟨⟨mo_ald, ok_aldn dX3_take_18 rfl rfl⟩, ?_⟩
  refine ⟨⟨mo_gI, ok_gI rfl fd_X3_31 rfl dX3_take_19 rfl⟩, ?_⟩
  refine ⟨⟨mo_push, ok_iconst dX3_take_22 iv_i1 rfl⟩, ?_⟩
  refine ⟨⟨mo_bin, ok_isub dX3_take_23 rfl⟩, ?_⟩
  refine ⟨⟨mo_iret, ok_iret rfl rfl dX3_take_24⟩, ?_⟩
  exact trivial
set_option maxHeartbeats 4000000 in
theorem alX3_tell : iy_all (iy_calls iy_mi) RX3 "tell" cX3_tell 3 (none, []) pcX3_tell pcX3_tell stX3_tell := by
  refine ⟨⟨mo_ald, ok_aldn dX3_tell_0 rfl rfl⟩, ?_⟩
  refine ⟨⟨mo_gI, ok_gI rfl fd_X3_38 rfl dX3_tell_1 rfl⟩, ?_⟩
  refine ⟨⟨mo_ieq, ok_ieq dX3_tell_4 rfl rfl⟩, ?_⟩
  refine ⟨⟨mo_ild, ok_ildn dX3_tell_7 rfl rfl⟩, ?_⟩
  refine ⟨⟨mo_ald, ok_aldn dX3_tell_8 rfl rfl⟩, ?_⟩
  refine ⟨⟨mo_gI, ok_gI rfl fd_X3_41 rfl dX3_tell_9 rfl⟩, ?_⟩
  refine ⟨⟨mo_cgt, ok_cgt dX3_tell_12 rfl rfl⟩, ?_⟩
  refine ⟨⟨mo_ild, ok_ildn dX3_tell_15 rfl rfl⟩, ?_⟩
  refine ⟨⟨mo_ald, ok_aldn dX3_tell_16 rfl rfl⟩, ?_⟩
  refine ⟨⟨mo_gI, ok_gI rfl fd_X3_41 rfl dX3_tell_17 rfl⟩, ?_⟩
  refine ⟨⟨mo_cne, ok_cne dX3_tell_20 rfl rfl⟩, ?_⟩
  refine ⟨⟨mo_ild, ok_ildn dX3_tell_23 rfl rfl⟩, ?_⟩
  refine ⟨⟨mo_ald, ok_aldn dX3_tell_24 rfl rfl⟩, ?_⟩
  refine ⟨⟨mo_gI, ok_gI rfl fd_X3_38 rfl dX3_tell_25 rfl⟩, ?_⟩
  refine ⟨⟨mo_clt, ok_clt dX3_tell_28 rfl rfl⟩, ?_⟩
  refine ⟨⟨mo_keep, ok_keep rfl⟩, ?_⟩
  refine ⟨⟨mo_ret, ok_ret rfl dX3_tell_31⟩, ?_⟩
  refine ⟨⟨mo_keep, ok_keep rfl⟩, ?_⟩
  refine ⟨⟨mo_ald, ok_aldn dX3_tell_32 rfl rfl⟩, ?_⟩
  refine ⟨⟨mo_ild, ok_ildn dX3_tell_33 rfl rfl⟩, ?_⟩
  refine ⟨⟨mo_pI, ok_pI rfl fd_X3_38 rfl (Or.inl rfl) dX3_tell_34 rfl⟩, ?_⟩
  refine ⟨⟨mo_ald, ok_aldn dX3_tell_37 rfl rfl⟩, ?_⟩
  refine ⟨⟨mo_ild, ok_ildn dX3_tell_38 rfl rfl⟩, ?_⟩
  refine ⟨⟨mo_pI, ok_pI rfl fd_X3_41 rfl (Or.inl rfl) dX3_tell_39 rfl⟩, ?_⟩
  refine ⟨⟨mo_ret, ok_ret rfl dX3_tell_42⟩, ?_⟩
  exact trivial
set_option maxHeartbeats 4000000 in
theorem alX3_sign : iy_all (iy_calls iy_mi) RX3 "sign" cX3_sign 2 (none, []) pcX3_sign pcX3_sign stX3_sign := by
  refine ⟨⟨mo_ald, ok_aldn dX3_sign_0 rfl rfl⟩, ?_⟩
  refine ⟨⟨mo_ild, ok_ildn dX3_sign_1 rfl rfl⟩, ?_⟩
  refine ⟨⟨mo_cvI, ok_cvI mi_X3_isSign lk_X3_55 q1014 qs19 rfl (Nat.le_of_ble_eq_true rfl) (iy_ro_le _) rfl rfl dX3_sign_2 rfl⟩, ?_⟩
  refine ⟨⟨mo_ine, ok_ine dX3_sign_5 rfl rfl⟩, ?_⟩
  refine ⟨⟨mo_ald, ok_aldn dX3_sign_8 rfl rfl⟩, ?_⟩
  refine ⟨⟨mo_push, ok_iconst dX3_sign_9 iv_i1 rfl⟩, ?_⟩
  refine ⟨⟨mo_cvR, ok_cvR mi_X3_wrong lk_X3_48 q802 qs12 rfl (Nat.le_of_ble_eq_true rfl) (iy_ro_le _) rfl rfl dX3_sign_10 rfl⟩, ?_⟩
  refine ⟨⟨mo_thr, ok_thr iy_nc dX3_sign_13⟩, ?_⟩
  refine ⟨⟨mo_ald, ok_aldn dX3_sign_14 rfl rfl⟩, ?_⟩
  refine ⟨⟨mo_cxV, ok_cxV mi_X3_pass lk_X3_59 q990 qs14 rfl (Nat.le_of_ble_eq_true rfl) (iy_ro_le _) rfl rfl dX3_sign_15 rfl iy_nc⟩, ?_⟩
  refine ⟨⟨mo_ret, ok_ret rfl dX3_sign_18⟩, ?_⟩
  exact trivial
set_option maxHeartbeats 4000000 in
theorem alX3_isSign : iy_all (iy_calls iy_mi) RX3 "isSign" cX3_isSign 2 (some FieldType.boolean, []) pcX3_isSign pcX3_isSign stX3_isSign := by
  refine ⟨⟨mo_ald, ok_aldn dX3_isSign_0 rfl rfl⟩, ?_⟩
  refine ⟨⟨mo_gR, ok_gR rfl fd_X3_9 rfl dX3_isSign_1 rfl⟩, ?_⟩
  refine ⟨⟨mo_gR, ok_gR rfl fd_X3_44 rfl dX3_isSign_4 rfl⟩, ?_⟩
  refine ⟨⟨mo_ald, ok_aldn dX3_isSign_7 rfl rfl⟩, ?_⟩
  refine ⟨⟨mo_gI, ok_gI rfl fd_X3_31 rfl dX3_isSign_8 rfl⟩, ?_⟩
  refine ⟨⟨mo_alI, ok_bald dX3_isSign_11 rfl⟩, ?_⟩
  refine ⟨⟨mo_push, ok_iconst dX3_isSign_12 iv_i2 rfl⟩, ?_⟩
  refine ⟨⟨mo_cne, ok_cne dX3_isSign_13 rfl rfl⟩, ?_⟩
  refine ⟨⟨mo_ald, ok_aldn dX3_isSign_16 rfl rfl⟩, ?_⟩
  refine ⟨⟨mo_gR, ok_gR rfl fd_X3_9 rfl dX3_isSign_17 rfl⟩, ?_⟩
  refine ⟨⟨mo_gR, ok_gR rfl fd_X3_52 rfl dX3_isSign_20 rfl⟩, ?_⟩
  refine ⟨⟨mo_ald, ok_aldn dX3_isSign_23 rfl rfl⟩, ?_⟩
  refine ⟨⟨mo_gI, ok_gI rfl fd_X3_31 rfl dX3_isSign_24 rfl⟩, ?_⟩
  refine ⟨⟨mo_alI, ok_sald dX3_isSign_27 rfl⟩, ?_⟩
  refine ⟨⟨mo_ild, ok_ildn dX3_isSign_28 rfl rfl⟩, ?_⟩
  refine ⟨⟨mo_cne, ok_cne dX3_isSign_29 rfl rfl⟩, ?_⟩
  refine ⟨⟨mo_push, ok_iconst dX3_isSign_32 iv_i1 rfl⟩, ?_⟩
  refine ⟨⟨mo_goto, ok_goto dX3_isSign_33 rfl⟩, ?_⟩
  refine ⟨⟨mo_keep, ok_keep rfl⟩, ?_⟩
  refine ⟨⟨mo_push, ok_iconst dX3_isSign_36 iv_i0 rfl⟩, ?_⟩
  refine ⟨⟨mo_keep, ok_keep rfl⟩, ?_⟩
  refine ⟨⟨mo_iret, ok_iret rfl rfl dX3_isSign_37⟩, ?_⟩
  exact trivial
set_option maxHeartbeats 4000000 in
theorem alX3_told : iy_all (iy_calls iy_mi) RX3 "told" cX3_told 4 (some (FieldType.object "DeltaIndex$Tell"), []) pcX3_told pcX3_told stX3_told := by
  refine ⟨⟨mo_ald, ok_aldn dX3_told_0 rfl rfl⟩, ?_⟩
  refine ⟨⟨mo_cxI, ok_cxI mi_X3_sort lk_X3_65 q798 qs11 rfl (Nat.le_of_ble_eq_true rfl) (iy_ro_le _) rfl rfl dX3_told_1 rfl iy_nc⟩, ?_⟩
  refine ⟨⟨mo_push, ok_iconst dX3_told_4 iv_i3 rfl⟩, ?_⟩
  refine ⟨⟨mo_ceq, ok_ceq dX3_told_5 rfl rfl⟩, ?_⟩
  refine ⟨⟨mo_ald, ok_aldn dX3_told_8 rfl rfl⟩, ?_⟩
  refine ⟨⟨mo_push, ok_iconst dX3_told_9 iv_i1 rfl⟩, ?_⟩
  refine ⟨⟨mo_cvR, ok_cvR mi_X3_wrong lk_X3_48 q802 qs12 rfl (Nat.le_of_ble_eq_true rfl) (iy_ro_le _) rfl rfl dX3_told_10 rfl⟩, ?_⟩
  refine ⟨⟨mo_thr, ok_thr iy_nc dX3_told_13⟩, ?_⟩
  refine ⟨⟨mo_ald, ok_aldn dX3_told_14 rfl rfl⟩, ?_⟩
  refine ⟨⟨mo_gR, ok_gR rfl fd_X3_9 rfl dX3_told_15 rfl⟩, ?_⟩
  refine ⟨⟨mo_ald, ok_aldn dX3_told_18 rfl rfl⟩, ?_⟩
  refine ⟨⟨mo_gI, ok_gI rfl fd_X3_31 rfl dX3_told_19 rfl⟩, ?_⟩
  refine ⟨⟨mo_cvR, ok_cvR mi_X2_text lk_X3_79 q813 q814 rfl (Nat.le_of_ble_eq_true rfl) (iy_ro_le _) rfl rfl dX3_told_22 rfl⟩, ?_⟩
  refine ⟨⟨mo_ast, ok_astn dX3_told_25 rfl (Nat.le_of_ble_eq_true rfl) rfl⟩, ?_⟩
  refine ⟨⟨mo_push, ok_iconst dX3_told_26 iv_im1 rfl⟩, ?_⟩
  refine ⟨⟨mo_ist, ok_istn dX3_told_27 rfl (Nat.le_of_ble_eq_true rfl) rfl⟩, ?_⟩
  refine ⟨⟨mo_ald, ok_aldn dX3_told_28 rfl rfl⟩, ?_⟩
  refine ⟨⟨mo_cvI, ok_cvI mi_J6_hashCode lk_X3_150 q1023 q1024 rfl (Nat.le_of_ble_eq_true rfl) (iy_ro_le _) rfl rfl dX3_told_29 rfl⟩, ?_⟩
  refine ⟨⟨mo_sw, ok_lsw dX3_told_32 rfl (by decide +kernel) (by decide +kernel)⟩, ?_⟩
  refine ⟨⟨mo_ald, ok_aldn dX3_told_108 rfl rfl⟩, ?_⟩
  refine ⟨⟨mo_cst, ok_str (tx := "put") (List.mem_of_getElem? (i := 25) rfl) dX3_told_109 rfl⟩, ?_⟩
  refine ⟨⟨mo_cvI, ok_cvI mi_J6_equals lk_X3_83 q981 q982 rfl (Nat.le_of_ble_eq_true rfl) (iy_ro_le _) rfl rfl dX3_told_111 rfl⟩, ?_⟩
  refine ⟨⟨mo_ieq, ok_ieq dX3_told_114 rfl rfl⟩, ?_⟩
  refine ⟨⟨mo_push, ok_iconst dX3_told_117 iv_i0 rfl⟩, ?_⟩
  refine ⟨⟨mo_ist, ok_istn dX3_told_118 rfl (Nat.le_of_ble_eq_true rfl) rfl⟩, ?_⟩
  refine ⟨⟨mo_goto, ok_goto dX3_told_119 rfl⟩, ?_⟩
  refine ⟨⟨mo_ald, ok_aldn dX3_told_122 rfl rfl⟩, ?_⟩
  refine ⟨⟨mo_cst, ok_str (tx := "cut") (List.mem_of_getElem? (i := 26) rfl) dX3_told_123 rfl⟩, ?_⟩
  refine ⟨⟨mo_cvI, ok_cvI mi_J6_equals lk_X3_83 q981 q982 rfl (Nat.le_of_ble_eq_true rfl) (iy_ro_le _) rfl rfl dX3_told_125 rfl⟩, ?_⟩
  refine ⟨⟨mo_ieq, ok_ieq dX3_told_128 rfl rfl⟩, ?_⟩
  refine ⟨⟨mo_push, ok_iconst dX3_told_131 iv_i1 rfl⟩, ?_⟩
  refine ⟨⟨mo_ist, ok_istn dX3_told_132 rfl (Nat.le_of_ble_eq_true rfl) rfl⟩, ?_⟩
  refine ⟨⟨mo_goto, ok_goto dX3_told_133 rfl⟩, ?_⟩
  refine ⟨⟨mo_ald, ok_aldn dX3_told_136 rfl rfl⟩, ?_⟩
  refine ⟨⟨mo_cst, ok_str (tx := "begin") (List.mem_of_getElem? (i := 27) rfl) dX3_told_137 rfl⟩, ?_⟩
  refine ⟨⟨mo_cvI, ok_cvI mi_J6_equals lk_X3_83 q981 q982 rfl (Nat.le_of_ble_eq_true rfl) (iy_ro_le _) rfl rfl dX3_told_139 rfl⟩, ?_⟩
  refine ⟨⟨mo_ieq, ok_ieq dX3_told_142 rfl rfl⟩, ?_⟩
  refine ⟨⟨mo_push, ok_iconst dX3_told_145 iv_i2 rfl⟩, ?_⟩
  refine ⟨⟨mo_ist, ok_istn dX3_told_146 rfl (Nat.le_of_ble_eq_true rfl) rfl⟩, ?_⟩
  refine ⟨⟨mo_goto, ok_goto dX3_told_147 rfl⟩, ?_⟩
  refine ⟨⟨mo_ald, ok_aldn dX3_told_150 rfl rfl⟩, ?_⟩
  refine ⟨⟨mo_cst, ok_str (tx := "get") (List.mem_of_getElem? (i := 28) rfl) dX3_told_151 rfl⟩, ?_⟩
  refine ⟨⟨mo_cvI, ok_cvI mi_J6_equals lk_X3_83 q981 q982 rfl (Nat.le_of_ble_eq_true rfl) (iy_ro_le _) rfl rfl dX3_told_153 rfl⟩, ?_⟩
  refine ⟨⟨mo_ieq, ok_ieq dX3_told_156 rfl rfl⟩, ?_⟩
  refine ⟨⟨mo_push, ok_iconst dX3_told_159 iv_i3 rfl⟩, ?_⟩
  refine ⟨⟨mo_ist, ok_istn dX3_told_160 rfl (Nat.le_of_ble_eq_true rfl) rfl⟩, ?_⟩
  refine ⟨⟨mo_goto, ok_goto dX3_told_161 rfl⟩, ?_⟩
  refine ⟨⟨mo_ald, ok_aldn dX3_told_164 rfl rfl⟩, ?_⟩
  refine ⟨⟨mo_cst, ok_str (tx := "step") (List.mem_of_getElem? (i := 29) rfl) dX3_told_165 rfl⟩, ?_⟩
  refine ⟨⟨mo_cvI, ok_cvI mi_J6_equals lk_X3_83 q981 q982 rfl (Nat.le_of_ble_eq_true rfl) (iy_ro_le _) rfl rfl dX3_told_167 rfl⟩, ?_⟩
  refine ⟨⟨mo_ieq, ok_ieq dX3_told_170 rfl rfl⟩, ?_⟩
  refine ⟨⟨mo_push, ok_iconst dX3_told_173 iv_i4 rfl⟩, ?_⟩
  refine ⟨⟨mo_ist, ok_istn dX3_told_174 rfl (Nat.le_of_ble_eq_true rfl) rfl⟩, ?_⟩
  refine ⟨⟨mo_goto, ok_goto dX3_told_175 rfl⟩, ?_⟩
  refine ⟨⟨mo_ald, ok_aldn dX3_told_178 rfl rfl⟩, ?_⟩
  refine ⟨⟨mo_cst, ok_str (tx := "close") (List.mem_of_getElem? (i := 30) rfl) dX3_told_179 rfl⟩, ?_⟩
  refine ⟨⟨mo_cvI, ok_cvI mi_J6_equals lk_X3_83 q981 q982 rfl (Nat.le_of_ble_eq_true rfl) (iy_ro_le _) rfl rfl dX3_told_181 rfl⟩, ?_⟩
  refine ⟨⟨mo_ieq, ok_ieq dX3_told_184 rfl rfl⟩, ?_⟩
  refine ⟨⟨mo_push, ok_iconst dX3_told_187 iv_i5 rfl⟩, ?_⟩
  refine ⟨⟨mo_ist, ok_istn dX3_told_188 rfl (Nat.le_of_ble_eq_true rfl) rfl⟩, ?_⟩
  refine ⟨⟨mo_goto, ok_goto dX3_told_189 rfl⟩, ?_⟩
  refine ⟨⟨mo_ald, ok_aldn dX3_told_192 rfl rfl⟩, ?_⟩
  refine ⟨⟨mo_cst, ok_str (tx := "sweep") (List.mem_of_getElem? (i := 31) rfl) dX3_told_193 rfl⟩, ?_⟩
  refine ⟨⟨mo_cvI, ok_cvI mi_J6_equals lk_X3_83 q981 q982 rfl (Nat.le_of_ble_eq_true rfl) (iy_ro_le _) rfl rfl dX3_told_195 rfl⟩, ?_⟩
  refine ⟨⟨mo_ieq, ok_ieq dX3_told_198 rfl rfl⟩, ?_⟩
  refine ⟨⟨mo_push, ok_bipush dX3_told_201 iv_b6 rfl⟩, ?_⟩
  refine ⟨⟨mo_ist, ok_istn dX3_told_203 rfl (Nat.le_of_ble_eq_true rfl) rfl⟩, ?_⟩
  refine ⟨⟨mo_goto, ok_goto dX3_told_204 rfl⟩, ?_⟩
  refine ⟨⟨mo_ald, ok_aldn dX3_told_207 rfl rfl⟩, ?_⟩
  refine ⟨⟨mo_cst, ok_str (tx := "do") (List.mem_of_getElem? (i := 32) rfl) dX3_told_208 rfl⟩, ?_⟩
  refine ⟨⟨mo_cvI, ok_cvI mi_J6_equals lk_X3_83 q981 q982 rfl (Nat.le_of_ble_eq_true rfl) (iy_ro_le _) rfl rfl dX3_told_210 rfl⟩, ?_⟩
  refine ⟨⟨mo_ieq, ok_ieq dX3_told_213 rfl rfl⟩, ?_⟩
  refine ⟨⟨mo_push, ok_bipush dX3_told_216 iv_b7 rfl⟩, ?_⟩
  refine ⟨⟨mo_ist, ok_istn dX3_told_218 rfl (Nat.le_of_ble_eq_true rfl) rfl⟩, ?_⟩
  refine ⟨⟨mo_keep, ok_keep rfl⟩, ?_⟩
  refine ⟨⟨mo_ild, ok_ildn dX3_told_219 rfl rfl⟩, ?_⟩
  refine ⟨⟨mo_sw, ok_tsw dX3_told_220 rfl rfl (by decide +kernel)⟩, ?_⟩
  refine ⟨⟨mo_keep, ok_keep rfl⟩, ?_⟩
  refine ⟨⟨mo_ald, ok_aldn dX3_told_268 rfl rfl⟩, ?_⟩
  refine ⟨⟨mo_push, ok_iconst dX3_told_269 iv_i0 rfl⟩, ?_⟩
  refine ⟨⟨mo_push, ok_iconst dX3_told_270 iv_i1 rfl⟩, ?_⟩
  refine ⟨⟨mo_cxR, ok_cxR mi_X3_act lk_X3_169 q1081 qs21 rfl (Nat.le_of_ble_eq_true rfl) (iy_ro_le _) rfl rfl dX3_told_271 rfl iy_nc⟩, ?_⟩
  refine ⟨⟨mo_goto, ok_goto dX3_told_274 rfl⟩, ?_⟩
  refine ⟨⟨mo_ald, ok_aldn dX3_told_277 rfl rfl⟩, ?_⟩
  refine ⟨⟨mo_cxR, ok_cxR mi_X3_begin lk_X3_173 q1166 qs25 rfl (Nat.le_of_ble_eq_true rfl) (iy_ro_le _) rfl rfl dX3_told_278 rfl iy_nc⟩, ?_⟩
  refine ⟨⟨mo_goto, ok_goto dX3_told_281 rfl⟩, ?_⟩
  refine ⟨⟨mo_ald, ok_aldn dX3_told_284 rfl rfl⟩, ?_⟩
  refine ⟨⟨mo_cxR, ok_cxR mi_X3_get lk_X3_175 q1170 qs26 rfl (Nat.le_of_ble_eq_true rfl) (iy_ro_le _) rfl rfl dX3_told_285 rfl iy_nc⟩, ?_⟩
  refine ⟨⟨mo_goto, ok_goto dX3_told_288 rfl⟩, ?_⟩
  refine ⟨⟨mo_ald, ok_aldn dX3_told_291 rfl rfl⟩, ?_⟩
  refine ⟨⟨mo_push, ok_iconst dX3_told_292 iv_i0 rfl⟩, ?_⟩
  refine ⟨⟨mo_cxR, ok_cxR mi_X3_go lk_X3_177 q1174 qs27 rfl (Nat.le_of_ble_eq_true rfl) (iy_ro_le _) rfl rfl dX3_told_293 rfl iy_nc⟩, ?_⟩
  refine ⟨⟨mo_goto, ok_goto dX3_told_296 rfl⟩, ?_⟩
  refine ⟨⟨mo_ald, ok_aldn dX3_told_299 rfl rfl⟩, ?_⟩
  refine ⟨⟨mo_push, ok_iconst dX3_told_300 iv_i1 rfl⟩, ?_⟩
  refine ⟨⟨mo_cxR, ok_cxR mi_X3_go lk_X3_177 q1174 qs27 rfl (Nat.le_of_ble_eq_true rfl) (iy_ro_le _) rfl rfl dX3_told_301 rfl iy_nc⟩, ?_⟩
  refine ⟨⟨mo_goto, ok_goto dX3_told_304 rfl⟩, ?_⟩
  refine ⟨⟨mo_ald, ok_aldn dX3_told_307 rfl rfl⟩, ?_⟩
  refine ⟨⟨mo_cxR, ok_cxR mi_X3_sweep lk_X3_181 q1191 qs28 rfl (Nat.le_of_ble_eq_true rfl) (iy_ro_le _) rfl rfl dX3_told_308 rfl iy_nc⟩, ?_⟩
  refine ⟨⟨mo_goto, ok_goto dX3_told_311 rfl⟩, ?_⟩
  refine ⟨⟨mo_ald, ok_aldn dX3_told_314 rfl rfl⟩, ?_⟩
  refine ⟨⟨mo_cxR, ok_cxR mi_X3_rounds lk_X3_183 q1202 qs29 rfl (Nat.le_of_ble_eq_true rfl) (iy_ro_le _) rfl rfl dX3_told_315 rfl iy_nc⟩, ?_⟩
  refine ⟨⟨mo_goto, ok_goto dX3_told_318 rfl⟩, ?_⟩
  refine ⟨⟨mo_ald, ok_aldn dX3_told_321 rfl rfl⟩, ?_⟩
  refine ⟨⟨mo_push, ok_iconst dX3_told_322 iv_i1 rfl⟩, ?_⟩
  refine ⟨⟨mo_cvR, ok_cvR mi_X3_wrong lk_X3_48 q802 qs12 rfl (Nat.le_of_ble_eq_true rfl) (iy_ro_le _) rfl rfl dX3_told_323 rfl⟩, ?_⟩
  refine ⟨⟨mo_thr, ok_thr iy_nc dX3_told_326⟩, ?_⟩
  refine ⟨⟨mo_keep, ok_keep rfl⟩, ?_⟩
  refine ⟨⟨mo_ast, ok_astn dX3_told_327 rfl (Nat.le_of_ble_eq_true rfl) rfl⟩, ?_⟩
  refine ⟨⟨mo_ald, ok_aldn dX3_told_328 rfl rfl⟩, ?_⟩
  refine ⟨⟨mo_push, ok_bipush dX3_told_329 iv_b59 rfl⟩, ?_⟩
  refine ⟨⟨mo_cxV, ok_cxV mi_X3_sign lk_X3_96 q1010 qs18 rfl (Nat.le_of_ble_eq_true rfl) (iy_ro_le _) rfl rfl dX3_told_331 rfl iy_nc⟩, ?_⟩
  refine ⟨⟨mo_ald, ok_aldn dX3_told_334 rfl rfl⟩, ?_⟩
  refine ⟨⟨mo_aret, ok_aret rfl rfl dX3_told_335⟩, ?_⟩
  exact trivial
set_option maxHeartbeats 4000000 in
theorem alX3_act : iy_all (iy_calls iy_mi) RX3 "act" cX3_act 5 (some (FieldType.object "DeltaIndex$Tell"), []) pcX3_act pcX3_act stX3_act := by
  refine ⟨⟨mo_ald, ok_aldn dX3_act_0 rfl rfl⟩, ?_⟩
  refine ⟨⟨mo_cxI, ok_cxI mi_X3_sort lk_X3_65 q798 qs11 rfl (Nat.le_of_ble_eq_true rfl) (iy_ro_le _) rfl rfl dX3_act_1 rfl iy_nc⟩, ?_⟩
  refine ⟨⟨mo_push, ok_iconst dX3_act_4 iv_i3 rfl⟩, ?_⟩
  refine ⟨⟨mo_cne, ok_cne dX3_act_5 rfl rfl⟩, ?_⟩
  refine ⟨⟨mo_ald, ok_aldn dX3_act_8 rfl rfl⟩, ?_⟩
  refine ⟨⟨mo_gR, ok_gR rfl fd_X3_9 rfl dX3_act_9 rfl⟩, ?_⟩
  refine ⟨⟨mo_ald, ok_aldn dX3_act_12 rfl rfl⟩, ?_⟩
  refine ⟨⟨mo_gI, ok_gI rfl fd_X3_31 rfl dX3_act_13 rfl⟩, ?_⟩
  refine ⟨⟨mo_cvR, ok_cvR mi_X2_text lk_X3_79 q813 q814 rfl (Nat.le_of_ble_eq_true rfl) (iy_ro_le _) rfl rfl dX3_act_16 rfl⟩, ?_⟩
  refine ⟨⟨mo_csI, ok_csI mi_X10_act lk_X3_186 q1084 dX3_act_19 rfl⟩, ?_⟩
  refine ⟨⟨mo_goto, ok_goto dX3_act_22 rfl⟩, ?_⟩
  refine ⟨⟨mo_push, ok_iconst dX3_act_25 iv_i0 rfl⟩, ?_⟩
  refine ⟨⟨mo_keep, ok_keep rfl⟩, ?_⟩
  refine ⟨⟨mo_ist, ok_istn dX3_act_26 rfl (Nat.le_of_ble_eq_true rfl) rfl⟩, ?_⟩
  refine ⟨⟨mo_ild, ok_ildn dX3_act_27 rfl rfl⟩, ?_⟩
  refine ⟨⟨mo_push, ok_iconst dX3_act_28 iv_i1 rfl⟩, ?_⟩
  refine ⟨⟨mo_ceq, ok_ceq dX3_act_29 rfl rfl⟩, ?_⟩
  refine ⟨⟨mo_ild, ok_ildn dX3_act_32 rfl rfl⟩, ?_⟩
  refine ⟨⟨mo_push, ok_iconst dX3_act_33 iv_i2 rfl⟩, ?_⟩
  refine ⟨⟨mo_ceq, ok_ceq dX3_act_34 rfl rfl⟩, ?_⟩
  refine ⟨⟨mo_ald, ok_aldn dX3_act_37 rfl rfl⟩, ?_⟩
  refine ⟨⟨mo_push, ok_iconst dX3_act_38 iv_i1 rfl⟩, ?_⟩
  refine ⟨⟨mo_cvR, ok_cvR mi_X3_wrong lk_X3_48 q802 qs12 rfl (Nat.le_of_ble_eq_true rfl) (iy_ro_le _) rfl rfl dX3_act_39 rfl⟩, ?_⟩
  refine ⟨⟨mo_thr, ok_thr iy_nc dX3_act_42⟩, ?_⟩
  refine ⟨⟨mo_keep, ok_keep rfl⟩, ?_⟩
  refine ⟨⟨mo_ald, ok_aldn dX3_act_43 rfl rfl⟩, ?_⟩
  refine ⟨⟨mo_cxV, ok_cxV mi_X3_pass lk_X3_59 q990 qs14 rfl (Nat.le_of_ble_eq_true rfl) (iy_ro_le _) rfl rfl dX3_act_44 rfl iy_nc⟩, ?_⟩
  refine ⟨⟨mo_ald, ok_aldn dX3_act_47 rfl rfl⟩, ?_⟩
  refine ⟨⟨mo_cxR, ok_cxR mi_X3_sum lk_X3_191 q1093 qs22 rfl (Nat.le_of_ble_eq_true rfl) (iy_ro_le _) rfl rfl dX3_act_48 rfl iy_nc⟩, ?_⟩
  refine ⟨⟨mo_ast, ok_ast dX3_act_51 (Nat.le_of_ble_eq_true rfl) rfl⟩, ?_⟩
  refine ⟨⟨mo_new, ok_new (r := (RX15, TX15, 5)) rfl rfl (Nat.le_of_ble_eq_true rfl) rfl rfl q1142 q1143 q174 dX3_act_53 rfl⟩, ?_⟩
  refine ⟨⟨mo_dup, ok_dup dX3_act_56 rfl⟩, ?_⟩
  refine ⟨⟨mo_ild, ok_ildn dX3_act_57 rfl rfl⟩, ?_⟩
  refine ⟨⟨mo_ild, ok_ildn dX3_act_58 rfl rfl⟩, ?_⟩
  refine ⟨⟨mo_ild, ok_ildn dX3_act_59 rfl rfl⟩, ?_⟩
  refine ⟨⟨mo_ald, ok_ald dX3_act_60 rfl⟩, ?_⟩
  refine ⟨⟨mo_ild, ok_ildn dX3_act_62 rfl rfl⟩, ?_⟩
  refine ⟨⟨mo_push, ok_iconst dX3_act_63 iv_i1 rfl⟩, ?_⟩
  refine ⟨⟨mo_cne, ok_cne dX3_act_64 rfl rfl⟩, ?_⟩
  refine ⟨⟨mo_ald, ok_aldn dX3_act_67 rfl rfl⟩, ?_⟩
  refine ⟨⟨mo_cxR, ok_cxR mi_X3_sum lk_X3_191 q1093 qs22 rfl (Nat.le_of_ble_eq_true rfl) (iy_ro_le _) rfl rfl dX3_act_68 rfl iy_nc⟩, ?_⟩
  refine ⟨⟨mo_goto, ok_goto dX3_act_71 rfl⟩, ?_⟩
  refine ⟨⟨mo_push, ok_null dX3_act_74 rfl⟩, ?_⟩
  refine ⟨⟨mo_keep, ok_keep rfl⟩, ?_⟩
  refine ⟨⟨mo_cvV, ok_ci mi_X15_init lk_X3_197 q1145 rfl dX3_act_75 rfl⟩, ?_⟩
  refine ⟨⟨mo_aret, ok_aret rfl rfl dX3_act_78⟩, ?_⟩
  exact trivial
set_option maxHeartbeats 4000000 in
theorem alX3_sum : iy_all (iy_calls iy_mi) RX3 "sum" cX3_sum 3 (some (FieldType.object "DeltaIndex$Sum"), []) pcX3_sum pcX3_sum stX3_sum := by
  refine ⟨⟨mo_ald, ok_aldn dX3_sum_0 rfl rfl⟩, ?_⟩
  refine ⟨⟨mo_cxR, ok_cxR mi_X3_part lk_X3_212 q1097 qs23 rfl (Nat.le_of_ble_eq_true rfl) (iy_ro_le _) rfl rfl dX3_sum_1 rfl iy_nc⟩, ?_⟩
  refine ⟨⟨mo_ast, ok_astn dX3_sum_4 rfl (Nat.le_of_ble_eq_true rfl) rfl⟩, ?_⟩
  refine ⟨⟨mo_keep, ok_keep rfl⟩, ?_⟩
  refine ⟨⟨mo_ald, ok_aldn dX3_sum_5 rfl rfl⟩, ?_⟩
  refine ⟨⟨mo_push, ok_bipush dX3_sum_6 iv_b43 rfl⟩, ?_⟩
  refine ⟨⟨mo_cvI, ok_cvI mi_X3_isSign lk_X3_55 q1014 qs19 rfl (Nat.le_of_ble_eq_true rfl) (iy_ro_le _) rfl rfl dX3_sum_8 rfl⟩, ?_⟩
  refine ⟨⟨mo_ine, ok_ine dX3_sum_11 rfl rfl⟩, ?_⟩
  refine ⟨⟨mo_ald, ok_aldn dX3_sum_14 rfl rfl⟩, ?_⟩
  refine ⟨⟨mo_push, ok_bipush dX3_sum_15 iv_b45 rfl⟩, ?_⟩
  refine ⟨⟨mo_cvI, ok_cvI mi_X3_isSign lk_X3_55 q1014 qs19 rfl (Nat.le_of_ble_eq_true rfl) (iy_ro_le _) rfl rfl dX3_sum_17 rfl⟩, ?_⟩
  refine ⟨⟨mo_ieq, ok_ieq dX3_sum_20 rfl rfl⟩, ?_⟩
  refine ⟨⟨mo_keep, ok_keep rfl⟩, ?_⟩
  refine ⟨⟨mo_ald, ok_aldn dX3_sum_23 rfl rfl⟩, ?_⟩
  refine ⟨⟨mo_gR, ok_gR rfl fd_X3_9 rfl dX3_sum_24 rfl⟩, ?_⟩
  refine ⟨⟨mo_gR, ok_gR rfl fd_X3_52 rfl dX3_sum_27 rfl⟩, ?_⟩
  refine ⟨⟨mo_ald, ok_aldn dX3_sum_30 rfl rfl⟩, ?_⟩
  refine ⟨⟨mo_gI, ok_gI rfl fd_X3_31 rfl dX3_sum_31 rfl⟩, ?_⟩
  refine ⟨⟨mo_alI, ok_sald dX3_sum_34 rfl⟩, ?_⟩
  refine ⟨⟨mo_ist, ok_istn dX3_sum_35 rfl (Nat.le_of_ble_eq_true rfl) rfl⟩, ?_⟩
  refine ⟨⟨mo_ald, ok_aldn dX3_sum_36 rfl rfl⟩, ?_⟩
  refine ⟨⟨mo_cxV, ok_cxV mi_X3_pass lk_X3_59 q990 qs14 rfl (Nat.le_of_ble_eq_true rfl) (iy_ro_le _) rfl rfl dX3_sum_37 rfl iy_nc⟩, ?_⟩
  refine ⟨⟨mo_new, ok_new (r := (RX14, TX14, 3)) rfl rfl (Nat.le_of_ble_eq_true rfl) rfl rfl q1126 q1127 q173 dX3_sum_40 rfl⟩, ?_⟩
  refine ⟨⟨mo_dup, ok_dup dX3_sum_43 rfl⟩, ?_⟩
  refine ⟨⟨mo_ild, ok_ildn dX3_sum_44 rfl rfl⟩, ?_⟩
  refine ⟨⟨mo_ald, ok_aldn dX3_sum_45 rfl rfl⟩, ?_⟩
  refine ⟨⟨mo_ald, ok_aldn dX3_sum_46 rfl rfl⟩, ?_⟩
  refine ⟨⟨mo_cxR, ok_cxR mi_X3_part lk_X3_212 q1097 qs23 rfl (Nat.le_of_ble_eq_true rfl) (iy_ro_le _) rfl rfl dX3_sum_47 rfl iy_nc⟩, ?_⟩
  refine ⟨⟨mo_cvV, ok_ci mi_X14_init lk_X3_217 q1129 rfl dX3_sum_50 rfl⟩, ?_⟩
  refine ⟨⟨mo_ast, ok_astn dX3_sum_53 rfl (Nat.le_of_ble_eq_true rfl) rfl⟩, ?_⟩
  refine ⟨⟨mo_back, ok_back dX3_sum_54 rfl⟩, ?_⟩
  refine ⟨⟨mo_ald, ok_aldn dX3_sum_57 rfl rfl⟩, ?_⟩
  refine ⟨⟨mo_aret, ok_aret rfl rfl dX3_sum_58⟩, ?_⟩
  exact trivial
set_option maxHeartbeats 4000000 in
theorem alX3_part : iy_all (iy_calls iy_mi) RX3 "part" cX3_part 3 (some (FieldType.object "DeltaIndex$Sum"), []) pcX3_part pcX3_part stX3_part := by
  refine ⟨⟨mo_ald, ok_aldn dX3_part_0 rfl rfl⟩, ?_⟩
  refine ⟨⟨mo_cxR, ok_cxR mi_X3_unit lk_X3_220 q1101 qs24 rfl (Nat.le_of_ble_eq_true rfl) (iy_ro_le _) rfl rfl dX3_part_1 rfl iy_nc⟩, ?_⟩
  refine ⟨⟨mo_ast, ok_astn dX3_part_4 rfl (Nat.le_of_ble_eq_true rfl) rfl⟩, ?_⟩
  refine ⟨⟨mo_keep, ok_keep rfl⟩, ?_⟩
  refine ⟨⟨mo_ald, ok_aldn dX3_part_5 rfl rfl⟩, ?_⟩
  refine ⟨⟨mo_push, ok_bipush dX3_part_6 iv_b42 rfl⟩, ?_⟩
  refine ⟨⟨mo_cvI, ok_cvI mi_X3_isSign lk_X3_55 q1014 qs19 rfl (Nat.le_of_ble_eq_true rfl) (iy_ro_le _) rfl rfl dX3_part_8 rfl⟩, ?_⟩
  refine ⟨⟨mo_ine, ok_ine dX3_part_11 rfl rfl⟩, ?_⟩
  refine ⟨⟨mo_ald, ok_aldn dX3_part_14 rfl rfl⟩, ?_⟩
  refine ⟨⟨mo_push, ok_bipush dX3_part_15 iv_b47 rfl⟩, ?_⟩
  refine ⟨⟨mo_cvI, ok_cvI mi_X3_isSign lk_X3_55 q1014 qs19 rfl (Nat.le_of_ble_eq_true rfl) (iy_ro_le _) rfl rfl dX3_part_17 rfl⟩, ?_⟩
  refine ⟨⟨mo_ine, ok_ine dX3_part_20 rfl rfl⟩, ?_⟩
  refine ⟨⟨mo_ald, ok_aldn dX3_part_23 rfl rfl⟩, ?_⟩
  refine ⟨⟨mo_push, ok_bipush dX3_part_24 iv_b37 rfl⟩, ?_⟩
  refine ⟨⟨mo_cvI, ok_cvI mi_X3_isSign lk_X3_55 q1014 qs19 rfl (Nat.le_of_ble_eq_true rfl) (iy_ro_le _) rfl rfl dX3_part_26 rfl⟩, ?_⟩
  refine ⟨⟨mo_ieq, ok_ieq dX3_part_29 rfl rfl⟩, ?_⟩
  refine ⟨⟨mo_keep, ok_keep rfl⟩, ?_⟩
  refine ⟨⟨mo_ald, ok_aldn dX3_part_32 rfl rfl⟩, ?_⟩
  refine ⟨⟨mo_gR, ok_gR rfl fd_X3_9 rfl dX3_part_33 rfl⟩, ?_⟩
  refine ⟨⟨mo_gR, ok_gR rfl fd_X3_52 rfl dX3_part_36 rfl⟩, ?_⟩
  refine ⟨⟨mo_ald, ok_aldn dX3_part_39 rfl rfl⟩, ?_⟩
  refine ⟨⟨mo_gI, ok_gI rfl fd_X3_31 rfl dX3_part_40 rfl⟩, ?_⟩
  refine ⟨⟨mo_alI, ok_sald dX3_part_43 rfl⟩, ?_⟩
  refine ⟨⟨mo_ist, ok_istn dX3_part_44 rfl (Nat.le_of_ble_eq_true rfl) rfl⟩, ?_⟩
  refine ⟨⟨mo_ald, ok_aldn dX3_part_45 rfl rfl⟩, ?_⟩
  refine ⟨⟨mo_cxV, ok_cxV mi_X3_pass lk_X3_59 q990 qs14 rfl (Nat.le_of_ble_eq_true rfl) (iy_ro_le _) rfl rfl dX3_part_46 rfl iy_nc⟩, ?_⟩
  refine ⟨⟨mo_new, ok_new (r := (RX14, TX14, 3)) rfl rfl (Nat.le_of_ble_eq_true rfl) rfl rfl q1126 q1127 q173 dX3_part_49 rfl⟩, ?_⟩
  refine ⟨⟨mo_dup, ok_dup dX3_part_52 rfl⟩, ?_⟩
  refine ⟨⟨mo_ild, ok_ildn dX3_part_53 rfl rfl⟩, ?_⟩
  refine ⟨⟨mo_ald, ok_aldn dX3_part_54 rfl rfl⟩, ?_⟩
  refine ⟨⟨mo_ald, ok_aldn dX3_part_55 rfl rfl⟩, ?_⟩
  refine ⟨⟨mo_cxR, ok_cxR mi_X3_unit lk_X3_220 q1101 qs24 rfl (Nat.le_of_ble_eq_true rfl) (iy_ro_le _) rfl rfl dX3_part_56 rfl iy_nc⟩, ?_⟩
  refine ⟨⟨mo_cvV, ok_ci mi_X14_init lk_X3_217 q1129 rfl dX3_part_59 rfl⟩, ?_⟩
  refine ⟨⟨mo_ast, ok_astn dX3_part_62 rfl (Nat.le_of_ble_eq_true rfl) rfl⟩, ?_⟩
  refine ⟨⟨mo_back, ok_back dX3_part_63 rfl⟩, ?_⟩
  refine ⟨⟨mo_ald, ok_aldn dX3_part_66 rfl rfl⟩, ?_⟩
  refine ⟨⟨mo_aret, ok_aret rfl rfl dX3_part_67⟩, ?_⟩
  exact trivial
set_option maxHeartbeats 4000000 in
theorem alX3_unit : iy_all (iy_calls iy_mi) RX3 "unit" cX3_unit 2 (some (FieldType.object "DeltaIndex$Sum"), []) pcX3_unit pcX3_unit stX3_unit := by
  refine ⟨⟨mo_ald, ok_aldn dX3_unit_0 rfl rfl⟩, ?_⟩
  refine ⟨⟨mo_cxI, ok_cxI mi_X3_sort lk_X3_65 q798 qs11 rfl (Nat.le_of_ble_eq_true rfl) (iy_ro_le _) rfl rfl dX3_unit_1 rfl iy_nc⟩, ?_⟩
  refine ⟨⟨mo_push, ok_iconst dX3_unit_4 iv_i1 rfl⟩, ?_⟩
  refine ⟨⟨mo_cne, ok_cne dX3_unit_5 rfl rfl⟩, ?_⟩
  refine ⟨⟨mo_ald, ok_aldn dX3_unit_8 rfl rfl⟩, ?_⟩
  refine ⟨⟨mo_cxV, ok_cxV mi_X3_pass lk_X3_59 q990 qs14 rfl (Nat.le_of_ble_eq_true rfl) (iy_ro_le _) rfl rfl dX3_unit_9 rfl iy_nc⟩, ?_⟩
  refine ⟨⟨mo_new, ok_new (r := (RX12, TX12, 1)) rfl rfl (Nat.le_of_ble_eq_true rfl) rfl rfl q1103 q1104 q171 dX3_unit_12 rfl⟩, ?_⟩
  refine ⟨⟨mo_dup, ok_dup dX3_unit_15 rfl⟩, ?_⟩
  refine ⟨⟨mo_ald, ok_aldn dX3_unit_16 rfl rfl⟩, ?_⟩
  refine ⟨⟨mo_gR, ok_gR rfl fd_X3_9 rfl dX3_unit_17 rfl⟩, ?_⟩
  refine ⟨⟨mo_ald, ok_aldn dX3_unit_20 rfl rfl⟩, ?_⟩
  refine ⟨⟨mo_gI, ok_gI rfl fd_X3_31 rfl dX3_unit_21 rfl⟩, ?_⟩
  refine ⟨⟨mo_push, ok_iconst dX3_unit_24 iv_i1 rfl⟩, ?_⟩
  refine ⟨⟨mo_bin, ok_isub dX3_unit_25 rfl⟩, ?_⟩
  refine ⟨⟨mo_cvI, ok_cvI mi_X2_number lk_X3_72 q1001 q1002 rfl (Nat.le_of_ble_eq_true rfl) (iy_ro_le _) rfl rfl dX3_unit_26 rfl⟩, ?_⟩
  refine ⟨⟨mo_cvV, ok_ci mi_X12_init lk_X3_225 q1106 rfl dX3_unit_29 rfl⟩, ?_⟩
  refine ⟨⟨mo_aret, ok_aret rfl rfl dX3_unit_32⟩, ?_⟩
  refine ⟨⟨mo_ald, ok_aldn dX3_unit_33 rfl rfl⟩, ?_⟩
  refine ⟨⟨mo_cxI, ok_cxI mi_X3_sort lk_X3_65 q798 qs11 rfl (Nat.le_of_ble_eq_true rfl) (iy_ro_le _) rfl rfl dX3_unit_34 rfl iy_nc⟩, ?_⟩
  refine ⟨⟨mo_push, ok_iconst dX3_unit_37 iv_i3 rfl⟩, ?_⟩
  refine ⟨⟨mo_cne, ok_cne dX3_unit_38 rfl rfl⟩, ?_⟩
  refine ⟨⟨mo_ald, ok_aldn dX3_unit_41 rfl rfl⟩, ?_⟩
  refine ⟨⟨mo_gR, ok_gR rfl fd_X3_9 rfl dX3_unit_42 rfl⟩, ?_⟩
  refine ⟨⟨mo_gR, ok_gR rfl fd_X3_52 rfl dX3_unit_45 rfl⟩, ?_⟩
  refine ⟨⟨mo_ald, ok_aldn dX3_unit_48 rfl rfl⟩, ?_⟩
  refine ⟨⟨mo_gI, ok_gI rfl fd_X3_31 rfl dX3_unit_49 rfl⟩, ?_⟩
  refine ⟨⟨mo_alI, ok_sald dX3_unit_52 rfl⟩, ?_⟩
  refine ⟨⟨mo_push, ok_bipush dX3_unit_53 iv_b12 rfl⟩, ?_⟩
  refine ⟨⟨mo_clt, ok_clt dX3_unit_55 rfl rfl⟩, ?_⟩
  refine ⟨⟨mo_ald, ok_aldn dX3_unit_58 rfl rfl⟩, ?_⟩
  refine ⟨⟨mo_cxV, ok_cxV mi_X3_pass lk_X3_59 q990 qs14 rfl (Nat.le_of_ble_eq_true rfl) (iy_ro_le _) rfl rfl dX3_unit_59 rfl iy_nc⟩, ?_⟩
  refine ⟨⟨mo_new, ok_new (r := (RX13, TX13, 1)) rfl rfl (Nat.le_of_ble_eq_true rfl) rfl rfl q1116 q1117 q172 dX3_unit_62 rfl⟩, ?_⟩
  refine ⟨⟨mo_dup, ok_dup dX3_unit_65 rfl⟩, ?_⟩
  refine ⟨⟨mo_ald, ok_aldn dX3_unit_66 rfl rfl⟩, ?_⟩
  refine ⟨⟨mo_gR, ok_gR rfl fd_X3_9 rfl dX3_unit_67 rfl⟩, ?_⟩
  refine ⟨⟨mo_gR, ok_gR rfl fd_X3_52 rfl dX3_unit_70 rfl⟩, ?_⟩
  refine ⟨⟨mo_ald, ok_aldn dX3_unit_73 rfl rfl⟩, ?_⟩
  refine ⟨⟨mo_gI, ok_gI rfl fd_X3_31 rfl dX3_unit_74 rfl⟩, ?_⟩
  refine ⟨⟨mo_push, ok_iconst dX3_unit_77 iv_i1 rfl⟩, ?_⟩
  refine ⟨⟨mo_bin, ok_isub dX3_unit_78 rfl⟩, ?_⟩
  refine ⟨⟨mo_alI, ok_sald dX3_unit_79 rfl⟩, ?_⟩
  refine ⟨⟨mo_push, ok_bipush dX3_unit_80 iv_b12 rfl⟩, ?_⟩
  refine ⟨⟨mo_bin, ok_isub dX3_unit_82 rfl⟩, ?_⟩
  refine ⟨⟨mo_cvV, ok_ci mi_X13_init lk_X3_228 q1119 rfl dX3_unit_83 rfl⟩, ?_⟩
  refine ⟨⟨mo_aret, ok_aret rfl rfl dX3_unit_86⟩, ?_⟩
  refine ⟨⟨mo_keep, ok_keep rfl⟩, ?_⟩
  refine ⟨⟨mo_ald, ok_aldn dX3_unit_87 rfl rfl⟩, ?_⟩
  refine ⟨⟨mo_push, ok_bipush dX3_unit_88 iv_b40 rfl⟩, ?_⟩
  refine ⟨⟨mo_cvI, ok_cvI mi_X3_isSign lk_X3_55 q1014 qs19 rfl (Nat.le_of_ble_eq_true rfl) (iy_ro_le _) rfl rfl dX3_unit_90 rfl⟩, ?_⟩
  refine ⟨⟨mo_ine, ok_ine dX3_unit_93 rfl rfl⟩, ?_⟩
  refine ⟨⟨mo_ald, ok_aldn dX3_unit_96 rfl rfl⟩, ?_⟩
  refine ⟨⟨mo_push, ok_iconst dX3_unit_97 iv_i1 rfl⟩, ?_⟩
  refine ⟨⟨mo_cvR, ok_cvR mi_X3_wrong lk_X3_48 q802 qs12 rfl (Nat.le_of_ble_eq_true rfl) (iy_ro_le _) rfl rfl dX3_unit_98 rfl⟩, ?_⟩
  refine ⟨⟨mo_thr, ok_thr iy_nc dX3_unit_101⟩, ?_⟩
  refine ⟨⟨mo_ald, ok_aldn dX3_unit_102 rfl rfl⟩, ?_⟩
  refine ⟨⟨mo_gI, ok_gI rfl fd_X3_109 rfl dX3_unit_103 rfl⟩, ?_⟩
  refine ⟨⟨mo_push, ok_bipush dX3_unit_106 iv_b6 rfl⟩, ?_⟩
  refine ⟨⟨mo_cne, ok_cne dX3_unit_108 rfl rfl⟩, ?_⟩
  refine ⟨⟨mo_ald, ok_aldn dX3_unit_111 rfl rfl⟩, ?_⟩
  refine ⟨⟨mo_push, ok_iconst dX3_unit_112 iv_i2 rfl⟩, ?_⟩
  refine ⟨⟨mo_cvR, ok_cvR mi_X3_wrong lk_X3_48 q802 qs12 rfl (Nat.le_of_ble_eq_true rfl) (iy_ro_le _) rfl rfl dX3_unit_113 rfl⟩, ?_⟩
  refine ⟨⟨mo_thr, ok_thr iy_nc dX3_unit_116⟩, ?_⟩
  refine ⟨⟨mo_ald, ok_aldn dX3_unit_117 rfl rfl⟩, ?_⟩
  refine ⟨⟨mo_dup, ok_dup dX3_unit_118 rfl⟩, ?_⟩
  refine ⟨⟨mo_gI, ok_gI rfl fd_X3_109 rfl dX3_unit_119 rfl⟩, ?_⟩
  refine ⟨⟨mo_push, ok_iconst dX3_unit_122 iv_i1 rfl⟩, ?_⟩
  refine ⟨⟨mo_bin, ok_iadd dX3_unit_123 rfl⟩, ?_⟩
  refine ⟨⟨mo_pI, ok_pI rfl fd_X3_109 rfl (Or.inl rfl) dX3_unit_124 rfl⟩, ?_⟩
  refine ⟨⟨mo_ald, ok_aldn dX3_unit_127 rfl rfl⟩, ?_⟩
  refine ⟨⟨mo_cxV, ok_cxV mi_X3_pass lk_X3_59 q990 qs14 rfl (Nat.le_of_ble_eq_true rfl) (iy_ro_le _) rfl rfl dX3_unit_128 rfl iy_nc⟩, ?_⟩
  refine ⟨⟨mo_ald, ok_aldn dX3_unit_131 rfl rfl⟩, ?_⟩
  refine ⟨⟨mo_cxR, ok_cxR mi_X3_sum lk_X3_191 q1093 qs22 rfl (Nat.le_of_ble_eq_true rfl) (iy_ro_le _) rfl rfl dX3_unit_132 rfl iy_nc⟩, ?_⟩
  refine ⟨⟨mo_ast, ok_astn dX3_unit_135 rfl (Nat.le_of_ble_eq_true rfl) rfl⟩, ?_⟩
  refine ⟨⟨mo_ald, ok_aldn dX3_unit_136 rfl rfl⟩, ?_⟩
  refine ⟨⟨mo_push, ok_bipush dX3_unit_137 iv_b41 rfl⟩, ?_⟩
  refine ⟨⟨mo_cxV, ok_cxV mi_X3_sign lk_X3_96 q1010 qs18 rfl (Nat.le_of_ble_eq_true rfl) (iy_ro_le _) rfl rfl dX3_unit_139 rfl iy_nc⟩, ?_⟩
  refine ⟨⟨mo_ald, ok_aldn dX3_unit_142 rfl rfl⟩, ?_⟩
  refine ⟨⟨mo_dup, ok_dup dX3_unit_143 rfl⟩, ?_⟩
  refine ⟨⟨mo_gI, ok_gI rfl fd_X3_109 rfl dX3_unit_144 rfl⟩, ?_⟩
  refine ⟨⟨mo_push, ok_iconst dX3_unit_147 iv_i1 rfl⟩, ?_⟩
  refine ⟨⟨mo_bin, ok_isub dX3_unit_148 rfl⟩, ?_⟩
  refine ⟨⟨mo_pI, ok_pI rfl fd_X3_109 rfl (Or.inl rfl) dX3_unit_149 rfl⟩, ?_⟩
  refine ⟨⟨mo_ald, ok_aldn dX3_unit_152 rfl rfl⟩, ?_⟩
  refine ⟨⟨mo_aret, ok_aret rfl rfl dX3_unit_153⟩, ?_⟩
  exact trivial
set_option maxHeartbeats 4000000 in
theorem alX3_begin : iy_all (iy_calls iy_mi) RX3 "begin" cX3_begin 2 (some (FieldType.object "DeltaIndex$Tell"), []) pcX3_begin pcX3_begin stX3_begin := by
  refine ⟨⟨mo_ald, ok_aldn dX3_begin_0 rfl rfl⟩, ?_⟩
  refine ⟨⟨mo_cxV, ok_cxV mi_X3_pass lk_X3_59 q990 qs14 rfl (Nat.le_of_ble_eq_true rfl) (iy_ro_le _) rfl rfl dX3_begin_1 rfl iy_nc⟩, ?_⟩
  refine ⟨⟨mo_ald, ok_aldn dX3_begin_4 rfl rfl⟩, ?_⟩
  refine ⟨⟨mo_push, ok_iconst dX3_begin_5 iv_i0 rfl⟩, ?_⟩
  refine ⟨⟨mo_push, ok_iconst dX3_begin_6 iv_i3 rfl⟩, ?_⟩
  refine ⟨⟨mo_cxI, ok_cxI mi_X3_number lk_X3_93 q994 qs15 rfl (Nat.le_of_ble_eq_true rfl) (iy_ro_le _) rfl rfl dX3_begin_7 rfl iy_nc⟩, ?_⟩
  refine ⟨⟨mo_ist, ok_istn dX3_begin_10 rfl (Nat.le_of_ble_eq_true rfl) rfl⟩, ?_⟩
  refine ⟨⟨mo_ald, ok_aldn dX3_begin_11 rfl rfl⟩, ?_⟩
  refine ⟨⟨mo_ild, ok_ildn dX3_begin_12 rfl rfl⟩, ?_⟩
  refine ⟨⟨mo_push, ok_iconst dX3_begin_13 iv_i0 rfl⟩, ?_⟩
  refine ⟨⟨mo_cxR, ok_cxR mi_X3_act lk_X3_169 q1081 qs21 rfl (Nat.le_of_ble_eq_true rfl) (iy_ro_le _) rfl rfl dX3_begin_14 rfl iy_nc⟩, ?_⟩
  refine ⟨⟨mo_aret, ok_aret rfl rfl dX3_begin_17⟩, ?_⟩
  exact trivial
set_option maxHeartbeats 4000000 in
theorem alX3_get : iy_all (iy_calls iy_mi) RX3 "get" cX3_get 2 (some (FieldType.object "DeltaIndex$Tell"), []) pcX3_get pcX3_get stX3_get := by
  refine ⟨⟨mo_ald, ok_aldn dX3_get_0 rfl rfl⟩, ?_⟩
  refine ⟨⟨mo_cxV, ok_cxV mi_X3_pass lk_X3_59 q990 qs14 rfl (Nat.le_of_ble_eq_true rfl) (iy_ro_le _) rfl rfl dX3_get_1 rfl iy_nc⟩, ?_⟩
  refine ⟨⟨mo_ald, ok_aldn dX3_get_4 rfl rfl⟩, ?_⟩
  refine ⟨⟨mo_push, ok_iconst dX3_get_5 iv_i0 rfl⟩, ?_⟩
  refine ⟨⟨mo_push, ok_iconst dX3_get_6 iv_i3 rfl⟩, ?_⟩
  refine ⟨⟨mo_cxI, ok_cxI mi_X3_number lk_X3_93 q994 qs15 rfl (Nat.le_of_ble_eq_true rfl) (iy_ro_le _) rfl rfl dX3_get_7 rfl iy_nc⟩, ?_⟩
  refine ⟨⟨mo_ist, ok_istn dX3_get_10 rfl (Nat.le_of_ble_eq_true rfl) rfl⟩, ?_⟩
  refine ⟨⟨mo_new, ok_new (r := (RX15, TX15, 5)) rfl rfl (Nat.le_of_ble_eq_true rfl) rfl rfl q1142 q1143 q174 dX3_get_11 rfl⟩, ?_⟩
  refine ⟨⟨mo_dup, ok_dup dX3_get_14 rfl⟩, ?_⟩
  refine ⟨⟨mo_ild, ok_ildn dX3_get_15 rfl rfl⟩, ?_⟩
  refine ⟨⟨mo_push, ok_iconst dX3_get_16 iv_i3 rfl⟩, ?_⟩
  refine ⟨⟨mo_push, ok_iconst dX3_get_17 iv_i0 rfl⟩, ?_⟩
  refine ⟨⟨mo_ald, ok_aldn dX3_get_18 rfl rfl⟩, ?_⟩
  refine ⟨⟨mo_cxR, ok_cxR mi_X3_sum lk_X3_191 q1093 qs22 rfl (Nat.le_of_ble_eq_true rfl) (iy_ro_le _) rfl rfl dX3_get_19 rfl iy_nc⟩, ?_⟩
  refine ⟨⟨mo_push, ok_null dX3_get_22 rfl⟩, ?_⟩
  refine ⟨⟨mo_cvV, ok_ci mi_X15_init lk_X3_197 q1145 rfl dX3_get_23 rfl⟩, ?_⟩
  refine ⟨⟨mo_aret, ok_aret rfl rfl dX3_get_26⟩, ?_⟩
  exact trivial
set_option maxHeartbeats 4000000 in
theorem alX3_go : iy_all (iy_calls iy_mi) RX3 "go" cX3_go 2 (some (FieldType.object "DeltaIndex$Tell"), []) pcX3_go pcX3_go stX3_go := by
  refine ⟨⟨mo_ald, ok_aldn dX3_go_0 rfl rfl⟩, ?_⟩
  refine ⟨⟨mo_cxV, ok_cxV mi_X3_pass lk_X3_59 q990 qs14 rfl (Nat.le_of_ble_eq_true rfl) (iy_ro_le _) rfl rfl dX3_go_1 rfl iy_nc⟩, ?_⟩
  refine ⟨⟨mo_new, ok_new (r := (RX16, TX16, 2)) rfl rfl (Nat.le_of_ble_eq_true rfl) rfl rfl q1176 q1177 q175 dX3_go_4 rfl⟩, ?_⟩
  refine ⟨⟨mo_dup, ok_dup dX3_go_7 rfl⟩, ?_⟩
  refine ⟨⟨mo_ald, ok_aldn dX3_go_8 rfl rfl⟩, ?_⟩
  refine ⟨⟨mo_push, ok_iconst dX3_go_9 iv_i0 rfl⟩, ?_⟩
  refine ⟨⟨mo_push, ok_iconst dX3_go_10 iv_i3 rfl⟩, ?_⟩
  refine ⟨⟨mo_cxI, ok_cxI mi_X3_number lk_X3_93 q994 qs15 rfl (Nat.le_of_ble_eq_true rfl) (iy_ro_le _) rfl rfl dX3_go_11 rfl iy_nc⟩, ?_⟩
  refine ⟨⟨mo_ild, ok_ildn dX3_go_14 rfl rfl⟩, ?_⟩
  refine ⟨⟨mo_cvV, ok_ci mi_X16_init lk_X3_202 q1179 rfl dX3_go_15 rfl⟩, ?_⟩
  refine ⟨⟨mo_aret, ok_aret rfl rfl dX3_go_18⟩, ?_⟩
  exact trivial
set_option maxHeartbeats 4000000 in
theorem alX3_sweep : iy_all (iy_calls iy_mi) RX3 "sweep" cX3_sweep 1 (some (FieldType.object "DeltaIndex$Tell"), []) pcX3_sweep pcX3_sweep stX3_sweep := by
  refine ⟨⟨mo_ald, ok_aldn dX3_sweep_0 rfl rfl⟩, ?_⟩
  refine ⟨⟨mo_cxV, ok_cxV mi_X3_pass lk_X3_59 q990 qs14 rfl (Nat.le_of_ble_eq_true rfl) (iy_ro_le _) rfl rfl dX3_sweep_1 rfl iy_nc⟩, ?_⟩
  refine ⟨⟨mo_new, ok_new (r := (RX17, iy_TS, 0)) rfl rfl (Nat.le_of_ble_eq_true rfl) rfl rfl q1193 q1194 q176 dX3_sweep_4 rfl⟩, ?_⟩
  refine ⟨⟨mo_dup, ok_dup dX3_sweep_7 rfl⟩, ?_⟩
  refine ⟨⟨mo_cvV, ok_cn mi_X17_init q1195 q176 q1197 ⟨nmh_X17.1, nmh_X17.2, pmd_yX17_init⟩ (Nat.le_of_ble_eq_true rfl) q1196 rfl dX3_sweep_8 rfl⟩, ?_⟩
  refine ⟨⟨mo_aret, ok_aret rfl rfl dX3_sweep_11⟩, ?_⟩
  exact trivial
set_option maxHeartbeats 4000000 in
theorem alX3_rounds : iy_all (iy_calls iy_mi) RX3 "rounds" cX3_rounds 2 (some (FieldType.object "DeltaIndex$Tell"), []) pcX3_rounds pcX3_rounds stX3_rounds := by
  refine ⟨⟨mo_ald, ok_aldn dX3_rounds_0 rfl rfl⟩, ?_⟩
  refine ⟨⟨mo_gI, ok_gI rfl fd_X3_112 rfl dX3_rounds_1 rfl⟩, ?_⟩
  refine ⟨⟨mo_push, ok_iconst dX3_rounds_4 iv_i3 rfl⟩, ?_⟩
  refine ⟨⟨mo_cne, ok_cne dX3_rounds_5 rfl rfl⟩, ?_⟩
  refine ⟨⟨mo_ald, ok_aldn dX3_rounds_8 rfl rfl⟩, ?_⟩
  refine ⟨⟨mo_push, ok_iconst dX3_rounds_9 iv_i2 rfl⟩, ?_⟩
  refine ⟨⟨mo_cvR, ok_cvR mi_X3_wrong lk_X3_48 q802 qs12 rfl (Nat.le_of_ble_eq_true rfl) (iy_ro_le _) rfl rfl dX3_rounds_10 rfl⟩, ?_⟩
  refine ⟨⟨mo_thr, ok_thr iy_nc dX3_rounds_13⟩, ?_⟩
  refine ⟨⟨mo_ald, ok_aldn dX3_rounds_14 rfl rfl⟩, ?_⟩
  refine ⟨⟨mo_dup, ok_dup dX3_rounds_15 rfl⟩, ?_⟩
  refine ⟨⟨mo_gI, ok_gI rfl fd_X3_112 rfl dX3_rounds_16 rfl⟩, ?_⟩
  refine ⟨⟨mo_push, ok_iconst dX3_rounds_19 iv_i1 rfl⟩, ?_⟩
  refine ⟨⟨mo_bin, ok_iadd dX3_rounds_20 rfl⟩, ?_⟩
  refine ⟨⟨mo_pI, ok_pI rfl fd_X3_112 rfl (Or.inl rfl) dX3_rounds_21 rfl⟩, ?_⟩
  refine ⟨⟨mo_ald, ok_aldn dX3_rounds_24 rfl rfl⟩, ?_⟩
  refine ⟨⟨mo_cxV, ok_cxV mi_X3_pass lk_X3_59 q990 qs14 rfl (Nat.le_of_ble_eq_true rfl) (iy_ro_le _) rfl rfl dX3_rounds_25 rfl iy_nc⟩, ?_⟩
  refine ⟨⟨mo_new, ok_new (r := (RX8, TX8, 2)) rfl rfl (Nat.le_of_ble_eq_true rfl) rfl rfl q1204 q561 q154 dX3_rounds_28 rfl⟩, ?_⟩
  refine ⟨⟨mo_dup, ok_dup dX3_rounds_31 rfl⟩, ?_⟩
  refine ⟨⟨mo_ald, ok_aldn dX3_rounds_32 rfl rfl⟩, ?_⟩
  refine ⟨⟨mo_push, ok_iconst dX3_rounds_33 iv_i0 rfl⟩, ?_⟩
  refine ⟨⟨mo_push, ok_bipush dX3_rounds_34 iv_b99 rfl⟩, ?_⟩
  refine ⟨⟨mo_cxI, ok_cxI mi_X3_number lk_X3_93 q994 qs15 rfl (Nat.le_of_ble_eq_true rfl) (iy_ro_le _) rfl rfl dX3_rounds_36 rfl iy_nc⟩, ?_⟩
  refine ⟨⟨mo_cvV, ok_ci mi_X8_init lk_X3_208 q563 rfl dX3_rounds_39 rfl⟩, ?_⟩
  refine ⟨⟨mo_ast, ok_astn dX3_rounds_42 rfl (Nat.le_of_ble_eq_true rfl) rfl⟩, ?_⟩
  refine ⟨⟨mo_ald, ok_aldn dX3_rounds_43 rfl rfl⟩, ?_⟩
  refine ⟨⟨mo_push, ok_bipush dX3_rounds_44 iv_b59 rfl⟩, ?_⟩
  refine ⟨⟨mo_cxV, ok_cxV mi_X3_sign lk_X3_96 q1010 qs18 rfl (Nat.le_of_ble_eq_true rfl) (iy_ro_le _) rfl rfl dX3_rounds_46 rfl iy_nc⟩, ?_⟩
  refine ⟨⟨mo_keep, ok_keep rfl⟩, ?_⟩
  refine ⟨⟨mo_ald, ok_aldn dX3_rounds_49 rfl rfl⟩, ?_⟩
  refine ⟨⟨mo_cst, ok_str (tx := "end") (List.mem_of_getElem? (i := 33) rfl) dX3_rounds_50 rfl⟩, ?_⟩
  refine ⟨⟨mo_cxI, ok_cxI mi_X3_isTold lk_X3_89 q794 qs10 rfl (Nat.le_of_ble_eq_true rfl) (iy_ro_le _) rfl rfl dX3_rounds_52 rfl iy_nc⟩, ?_⟩
  refine ⟨⟨mo_ine, ok_ine dX3_rounds_55 rfl rfl⟩, ?_⟩
  refine ⟨⟨mo_ald, ok_aldn dX3_rounds_58 rfl rfl⟩, ?_⟩
  refine ⟨⟨mo_gR, ok_gR rfl fd_X3_135 rfl dX3_rounds_59 rfl⟩, ?_⟩
  refine ⟨⟨mo_ald, ok_aldn dX3_rounds_62 rfl rfl⟩, ?_⟩
  refine ⟨⟨mo_cxR, ok_cxR mi_X3_told lk_X3_141 q1020 qs20 rfl (Nat.le_of_ble_eq_true rfl) (iy_ro_le _) rfl rfl dX3_rounds_63 rfl iy_nc⟩, ?_⟩
  refine ⟨⟨mo_cvI, ok_cvI mi_J5_add lk_X3_145 q1208 q1209 rfl (Nat.le_of_ble_eq_true rfl) (iy_ro_le _) rfl rfl dX3_rounds_66 rfl⟩, ?_⟩
  refine ⟨⟨mo_pop, ok_pop dX3_rounds_69 rfl⟩, ?_⟩
  refine ⟨⟨mo_back, ok_back dX3_rounds_70 rfl⟩, ?_⟩
  refine ⟨⟨mo_ald, ok_aldn dX3_rounds_73 rfl rfl⟩, ?_⟩
  refine ⟨⟨mo_cxV, ok_cxV mi_X3_pass lk_X3_59 q990 qs14 rfl (Nat.le_of_ble_eq_true rfl) (iy_ro_le _) rfl rfl dX3_rounds_74 rfl iy_nc⟩, ?_⟩
  refine ⟨⟨mo_ald, ok_aldn dX3_rounds_77 rfl rfl⟩, ?_⟩
  refine ⟨⟨mo_dup, ok_dup dX3_rounds_78 rfl⟩, ?_⟩
  refine ⟨⟨mo_gI, ok_gI rfl fd_X3_112 rfl dX3_rounds_79 rfl⟩, ?_⟩
  refine ⟨⟨mo_push, ok_iconst dX3_rounds_82 iv_i1 rfl⟩, ?_⟩
  refine ⟨⟨mo_bin, ok_isub dX3_rounds_83 rfl⟩, ?_⟩
  refine ⟨⟨mo_pI, ok_pI rfl fd_X3_112 rfl (Or.inl rfl) dX3_rounds_84 rfl⟩, ?_⟩
  refine ⟨⟨mo_ald, ok_aldn dX3_rounds_87 rfl rfl⟩, ?_⟩
  refine ⟨⟨mo_aret, ok_aret rfl rfl dX3_rounds_88⟩, ?_⟩
  exact trivial
