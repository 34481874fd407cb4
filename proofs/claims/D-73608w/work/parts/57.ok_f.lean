/-! SOUND STEPS. Written by gen_code.py -/
set_option maxRecDepth 100000
set_option maxHeartbeats 4000000 in
theorem alX9_init : iy_all (iy_calls iy_mi) RX9 "<init>" cX9_init 1 (none, []) pcX9_init pcX9_init stX9_init := by
  refine ⟨⟨mo_ald, ok_aldn dX9_init_0 rfl rfl⟩, ?_⟩
  refine ⟨⟨mo_oin, ok_oin q1719 q185 q186 dX9_init_1 rfl⟩, ?_⟩
  refine ⟨⟨mo_ald, ok_aldn dX9_init_4 rfl rfl⟩, ?_⟩
  refine ⟨⟨mo_push, ok_sipush dX9_init_5 iv_s2000 rfl⟩, ?_⟩
  refine ⟨⟨mo_newA, ok_newA rfl rfl q260 dX9_init_8 rfl rfl⟩, ?_⟩
  refine ⟨⟨mo_pR, ok_pR rfl fd_X9_13 rfl (Or.inr ⟨rfl, rfl, rfl⟩) dX9_init_10 rfl⟩, ?_⟩
  refine ⟨⟨mo_ald, ok_aldn dX9_init_13 rfl rfl⟩, ?_⟩
  refine ⟨⟨mo_push, ok_sipush dX9_init_14 iv_s2000 rfl⟩, ?_⟩
  refine ⟨⟨mo_newA, ok_newA rfl rfl q260 dX9_init_17 rfl rfl⟩, ?_⟩
  refine ⟨⟨mo_pR, ok_pR rfl fd_X9_17 rfl (Or.inr ⟨rfl, rfl, rfl⟩) dX9_init_19 rfl⟩, ?_⟩
  refine ⟨⟨mo_ald, ok_aldn dX9_init_22 rfl rfl⟩, ?_⟩
  refine ⟨⟨mo_push, ok_sipush dX9_init_23 iv_s403 rfl⟩, ?_⟩
  refine ⟨⟨mo_newA, ok_newA rfl rfl q422 dX9_init_26 rfl rfl⟩, ?_⟩
  refine ⟨⟨mo_pR, ok_pR rfl fd_X9_20 rfl (Or.inr ⟨rfl, rfl, rfl⟩) dX9_init_28 rfl⟩, ?_⟩
  refine ⟨⟨mo_ald, ok_aldn dX9_init_31 rfl rfl⟩, ?_⟩
  refine ⟨⟨mo_push, ok_sipush dX9_init_32 iv_s403 rfl⟩, ?_⟩
  refine ⟨⟨mo_newA, ok_newA rfl rfl q422 dX9_init_35 rfl rfl⟩, ?_⟩
  refine ⟨⟨mo_pR, ok_pR rfl fd_X9_24 rfl (Or.inr ⟨rfl, rfl, rfl⟩) dX9_init_37 rfl⟩, ?_⟩
  refine ⟨⟨mo_ald, ok_aldn dX9_init_40 rfl rfl⟩, ?_⟩
  refine ⟨⟨mo_push, ok_sipush dX9_init_41 iv_s403 rfl⟩, ?_⟩
  refine ⟨⟨mo_newA, ok_newA rfl rfl q422 dX9_init_44 rfl rfl⟩, ?_⟩
  refine ⟨⟨mo_pR, ok_pR rfl fd_X9_27 rfl (Or.inr ⟨rfl, rfl, rfl⟩) dX9_init_46 rfl⟩, ?_⟩
  refine ⟨⟨mo_ald, ok_aldn dX9_init_49 rfl rfl⟩, ?_⟩
  refine ⟨⟨mo_push, ok_sipush dX9_init_50 iv_s403 rfl⟩, ?_⟩
  refine ⟨⟨mo_newA, ok_newA rfl rfl q1920 dX9_init_53 rfl rfl⟩, ?_⟩
  refine ⟨⟨mo_pR, ok_pR rfl fd_X9_30 rfl (Or.inr ⟨rfl, rfl, rfl⟩) dX9_init_55 rfl⟩, ?_⟩
  refine ⟨⟨mo_ald, ok_aldn dX9_init_58 rfl rfl⟩, ?_⟩
  refine ⟨⟨mo_push, ok_bipush dX9_init_59 iv_b18 rfl⟩, ?_⟩
  refine ⟨⟨mo_newA, ok_newA rfl rfl q1920 dX9_init_61 rfl rfl⟩, ?_⟩
  refine ⟨⟨mo_pR, ok_pR rfl fd_X9_34 rfl (Or.inr ⟨rfl, rfl, rfl⟩) dX9_init_63 rfl⟩, ?_⟩
  refine ⟨⟨mo_ald, ok_aldn dX9_init_66 rfl rfl⟩, ?_⟩
  refine ⟨⟨mo_push, ok_iconst dX9_init_67 iv_im1 rfl⟩, ?_⟩
  refine ⟨⟨mo_pI, ok_pI rfl fd_X9_37 rfl (Or.inl rfl) dX9_init_68 rfl⟩, ?_⟩
  refine ⟨⟨mo_ald, ok_aldn dX9_init_71 rfl rfl⟩, ?_⟩
  refine ⟨⟨mo_push, ok_sipush dX9_init_72 iv_s210 rfl⟩, ?_⟩
  refine ⟨⟨mo_newA, ok_newA rfl rfl q422 dX9_init_75 rfl rfl⟩, ?_⟩
  refine ⟨⟨mo_pR, ok_pR rfl fd_X9_40 rfl (Or.inr ⟨rfl, rfl, rfl⟩) dX9_init_77 rfl⟩, ?_⟩
  refine ⟨⟨mo_ald, ok_aldn dX9_init_80 rfl rfl⟩, ?_⟩
  refine ⟨⟨mo_push, ok_sipush dX9_init_81 iv_s210 rfl⟩, ?_⟩
  refine ⟨⟨mo_newA, ok_newA rfl rfl q422 dX9_init_84 rfl rfl⟩, ?_⟩
  refine ⟨⟨mo_pR, ok_pR rfl fd_X9_43 rfl (Or.inr ⟨rfl, rfl, rfl⟩) dX9_init_86 rfl⟩, ?_⟩
  refine ⟨⟨mo_ald, ok_aldn dX9_init_89 rfl rfl⟩, ?_⟩
  refine ⟨⟨mo_push, ok_sipush dX9_init_90 iv_s210 rfl⟩, ?_⟩
  refine ⟨⟨mo_newA, ok_newA rfl rfl q422 dX9_init_93 rfl rfl⟩, ?_⟩
  refine ⟨⟨mo_pR, ok_pR rfl fd_X9_46 rfl (Or.inr ⟨rfl, rfl, rfl⟩) dX9_init_95 rfl⟩, ?_⟩
  refine ⟨⟨mo_ald, ok_aldn dX9_init_98 rfl rfl⟩, ?_⟩
  refine ⟨⟨mo_push, ok_sipush dX9_init_99 iv_s210 rfl⟩, ?_⟩
  refine ⟨⟨mo_newA, ok_newA rfl rfl q422 dX9_init_102 rfl rfl⟩, ?_⟩
  refine ⟨⟨mo_pR, ok_pR rfl fd_X9_49 rfl (Or.inr ⟨rfl, rfl, rfl⟩) dX9_init_104 rfl⟩, ?_⟩
  refine ⟨⟨mo_ald, ok_aldn dX9_init_107 rfl rfl⟩, ?_⟩
  refine ⟨⟨mo_push, ok_sipush dX9_init_108 iv_s210 rfl⟩, ?_⟩
  refine ⟨⟨mo_newA, ok_newA rfl rfl q422 dX9_init_111 rfl rfl⟩, ?_⟩
  refine ⟨⟨mo_pR, ok_pR rfl fd_X9_52 rfl (Or.inr ⟨rfl, rfl, rfl⟩) dX9_init_113 rfl⟩, ?_⟩
  refine ⟨⟨mo_ald, ok_aldn dX9_init_116 rfl rfl⟩, ?_⟩
  refine ⟨⟨mo_push, ok_sipush dX9_init_117 iv_s210 rfl⟩, ?_⟩
  refine ⟨⟨mo_newA, ok_newA rfl rfl q422 dX9_init_120 rfl rfl⟩, ?_⟩
  refine ⟨⟨mo_pR, ok_pR rfl fd_X9_55 rfl (Or.inr ⟨rfl, rfl, rfl⟩) dX9_init_122 rfl⟩, ?_⟩
  refine ⟨⟨mo_ald, ok_aldn dX9_init_125 rfl rfl⟩, ?_⟩
  refine ⟨⟨mo_push, ok_iconst dX9_init_126 iv_i3 rfl⟩, ?_⟩
  refine ⟨⟨mo_newA, ok_newA rfl rfl q422 dX9_init_127 rfl rfl⟩, ?_⟩
  refine ⟨⟨mo_pR, ok_pR rfl fd_X9_58 rfl (Or.inr ⟨rfl, rfl, rfl⟩) dX9_init_129 rfl⟩, ?_⟩
  refine ⟨⟨mo_ald, ok_aldn dX9_init_132 rfl rfl⟩, ?_⟩
  refine ⟨⟨mo_push, ok_sipush dX9_init_133 iv_s420 rfl⟩, ?_⟩
  refine ⟨⟨mo_newA, ok_newA rfl rfl q422 dX9_init_136 rfl rfl⟩, ?_⟩
  refine ⟨⟨mo_pR, ok_pR rfl fd_X9_61 rfl (Or.inr ⟨rfl, rfl, rfl⟩) dX9_init_138 rfl⟩, ?_⟩
  refine ⟨⟨mo_ald, ok_aldn dX9_init_141 rfl rfl⟩, ?_⟩
  refine ⟨⟨mo_push, ok_sipush dX9_init_142 iv_s420 rfl⟩, ?_⟩
  refine ⟨⟨mo_newA, ok_newA rfl rfl q422 dX9_init_145 rfl rfl⟩, ?_⟩
  refine ⟨⟨mo_pR, ok_pR rfl fd_X9_64 rfl (Or.inr ⟨rfl, rfl, rfl⟩) dX9_init_147 rfl⟩, ?_⟩
  refine ⟨⟨mo_ald, ok_aldn dX9_init_150 rfl rfl⟩, ?_⟩
  refine ⟨⟨mo_push, ok_bipush dX9_init_151 iv_b64 rfl⟩, ?_⟩
  refine ⟨⟨mo_newA, ok_newA rfl rfl q422 dX9_init_153 rfl rfl⟩, ?_⟩
  refine ⟨⟨mo_pR, ok_pR rfl fd_X9_67 rfl (Or.inr ⟨rfl, rfl, rfl⟩) dX9_init_155 rfl⟩, ?_⟩
  refine ⟨⟨mo_ald, ok_aldn dX9_init_158 rfl rfl⟩, ?_⟩
  refine ⟨⟨mo_push, ok_bipush dX9_init_159 iv_b6 rfl⟩, ?_⟩
  refine ⟨⟨mo_newA, ok_newA rfl rfl q422 dX9_init_161 rfl rfl⟩, ?_⟩
  refine ⟨⟨mo_pR, ok_pR rfl fd_X9_70 rfl (Or.inr ⟨rfl, rfl, rfl⟩) dX9_init_163 rfl⟩, ?_⟩
  refine ⟨⟨mo_ald, ok_aldn dX9_init_166 rfl rfl⟩, ?_⟩
  refine ⟨⟨mo_push, ok_sipush dX9_init_167 iv_s400 rfl⟩, ?_⟩
  refine ⟨⟨mo_newA, ok_newA rfl rfl q422 dX9_init_170 rfl rfl⟩, ?_⟩
  refine ⟨⟨mo_pR, ok_pR rfl fd_X9_73 rfl (Or.inr ⟨rfl, rfl, rfl⟩) dX9_init_172 rfl⟩, ?_⟩
  refine ⟨⟨mo_ald, ok_aldn dX9_init_175 rfl rfl⟩, ?_⟩
  refine ⟨⟨mo_push, ok_iconst dX9_init_176 iv_i3 rfl⟩, ?_⟩
  refine ⟨⟨mo_newA, ok_newA rfl rfl q422 dX9_init_177 rfl rfl⟩, ?_⟩
  refine ⟨⟨mo_pR, ok_pR rfl fd_X9_76 rfl (Or.inr ⟨rfl, rfl, rfl⟩) dX9_init_179 rfl⟩, ?_⟩
  refine ⟨⟨mo_ald, ok_aldn dX9_init_182 rfl rfl⟩, ?_⟩
  refine ⟨⟨mo_push, ok_ldc dX9_init_183 q1720 rfl⟩, ?_⟩
  refine ⟨⟨mo_newA, ok_newA rfl rfl q422 dX9_init_185 rfl rfl⟩, ?_⟩
  refine ⟨⟨mo_pR, ok_pR rfl fd_X9_80 rfl (Or.inr ⟨rfl, rfl, rfl⟩) dX9_init_187 rfl⟩, ?_⟩
  refine ⟨⟨mo_ald, ok_aldn dX9_init_190 rfl rfl⟩, ?_⟩
  refine ⟨⟨mo_push, ok_sipush dX9_init_191 iv_s840 rfl⟩, ?_⟩
  refine ⟨⟨mo_newA, ok_newA rfl rfl q422 dX9_init_194 rfl rfl⟩, ?_⟩
  refine ⟨⟨mo_pR, ok_pR rfl fd_X9_83 rfl (Or.inr ⟨rfl, rfl, rfl⟩) dX9_init_196 rfl⟩, ?_⟩
  refine ⟨⟨mo_ald, ok_aldn dX9_init_199 rfl rfl⟩, ?_⟩
  refine ⟨⟨mo_push, ok_bipush dX9_init_200 iv_b90 rfl⟩, ?_⟩
  refine ⟨⟨mo_newA, ok_newA rfl rfl q422 dX9_init_202 rfl rfl⟩, ?_⟩
  refine ⟨⟨mo_pR, ok_pR rfl fd_X9_86 rfl (Or.inr ⟨rfl, rfl, rfl⟩) dX9_init_204 rfl⟩, ?_⟩
  refine ⟨⟨mo_ald, ok_aldn dX9_init_207 rfl rfl⟩, ?_⟩
  refine ⟨⟨mo_push, ok_bipush dX9_init_208 iv_b90 rfl⟩, ?_⟩
  refine ⟨⟨mo_newA, ok_newA rfl rfl q422 dX9_init_210 rfl rfl⟩, ?_⟩
  refine ⟨⟨mo_pR, ok_pR rfl fd_X9_89 rfl (Or.inr ⟨rfl, rfl, rfl⟩) dX9_init_212 rfl⟩, ?_⟩
  refine ⟨⟨mo_ald, ok_aldn dX9_init_215 rfl rfl⟩, ?_⟩
  refine ⟨⟨mo_push, ok_bipush dX9_init_216 iv_b90 rfl⟩, ?_⟩
  refine ⟨⟨mo_newA, ok_newA rfl rfl q422 dX9_init_218 rfl rfl⟩, ?_⟩
  refine ⟨⟨mo_pR, ok_pR rfl fd_X9_92 rfl (Or.inr ⟨rfl, rfl, rfl⟩) dX9_init_220 rfl⟩, ?_⟩
  refine ⟨⟨mo_ald, ok_aldn dX9_init_223 rfl rfl⟩, ?_⟩
  refine ⟨⟨mo_push, ok_bipush dX9_init_224 iv_b90 rfl⟩, ?_⟩
  refine ⟨⟨mo_newA, ok_newA rfl rfl q422 dX9_init_226 rfl rfl⟩, ?_⟩
  refine ⟨⟨mo_pR, ok_pR rfl fd_X9_95 rfl (Or.inr ⟨rfl, rfl, rfl⟩) dX9_init_228 rfl⟩, ?_⟩
  refine ⟨⟨mo_ald, ok_aldn dX9_init_231 rfl rfl⟩, ?_⟩
  refine ⟨⟨mo_push, ok_sipush dX9_init_232 iv_s200 rfl⟩, ?_⟩
  refine ⟨⟨mo_newA, ok_newA rfl rfl q422 dX9_init_235 rfl rfl⟩, ?_⟩
  refine ⟨⟨mo_pR, ok_pR rfl fd_X9_98 rfl (Or.inr ⟨rfl, rfl, rfl⟩) dX9_init_237 rfl⟩, ?_⟩
  refine ⟨⟨mo_ald, ok_aldn dX9_init_240 rfl rfl⟩, ?_⟩
  refine ⟨⟨mo_push, ok_sipush dX9_init_241 iv_s200 rfl⟩, ?_⟩
  refine ⟨⟨mo_newA, ok_newA rfl rfl q422 dX9_init_244 rfl rfl⟩, ?_⟩
  refine ⟨⟨mo_pR, ok_pR rfl fd_X9_101 rfl (Or.inr ⟨rfl, rfl, rfl⟩) dX9_init_246 rfl⟩, ?_⟩
  refine ⟨⟨mo_ald, ok_aldn dX9_init_249 rfl rfl⟩, ?_⟩
  refine ⟨⟨mo_push, ok_sipush dX9_init_250 iv_s14100 rfl⟩, ?_⟩
  refine ⟨⟨mo_newA, ok_newA rfl rfl q422 dX9_init_253 rfl rfl⟩, ?_⟩
  refine ⟨⟨mo_pR, ok_pR rfl fd_X9_104 rfl (Or.inr ⟨rfl, rfl, rfl⟩) dX9_init_255 rfl⟩, ?_⟩
  refine ⟨⟨mo_ald, ok_aldn dX9_init_258 rfl rfl⟩, ?_⟩
  refine ⟨⟨mo_push, ok_sipush dX9_init_259 iv_s200 rfl⟩, ?_⟩
  refine ⟨⟨mo_newA, ok_newA rfl rfl q422 dX9_init_262 rfl rfl⟩, ?_⟩
  refine ⟨⟨mo_pR, ok_pR rfl fd_X9_107 rfl (Or.inr ⟨rfl, rfl, rfl⟩) dX9_init_264 rfl⟩, ?_⟩
  refine ⟨⟨mo_ald, ok_aldn dX9_init_267 rfl rfl⟩, ?_⟩
  refine ⟨⟨mo_push, ok_sipush dX9_init_268 iv_s200 rfl⟩, ?_⟩
  refine ⟨⟨mo_newA, ok_newA rfl rfl q422 dX9_init_271 rfl rfl⟩, ?_⟩
  refine ⟨⟨mo_pR, ok_pR rfl fd_X9_110 rfl (Or.inr ⟨rfl, rfl, rfl⟩) dX9_init_273 rfl⟩, ?_⟩
  refine ⟨⟨mo_ald, ok_aldn dX9_init_276 rfl rfl⟩, ?_⟩
  refine ⟨⟨mo_push, ok_iconst dX9_init_277 iv_i3 rfl⟩, ?_⟩
  refine ⟨⟨mo_newA, ok_newA rfl rfl q592 dX9_init_278 rfl rfl⟩, ?_⟩
  refine ⟨⟨mo_pR, ok_pR rfl fd_X9_113 rfl (Or.inr ⟨rfl, rfl, rfl⟩) dX9_init_280 rfl⟩, ?_⟩
  refine ⟨⟨mo_ald, ok_aldn dX9_init_283 rfl rfl⟩, ?_⟩
  refine ⟨⟨mo_push, ok_ldc dX9_init_284 q1721 rfl⟩, ?_⟩
  refine ⟨⟨mo_newA, ok_newA rfl rfl q422 dX9_init_286 rfl rfl⟩, ?_⟩
  refine ⟨⟨mo_pR, ok_pR rfl fd_X9_118 rfl (Or.inr ⟨rfl, rfl, rfl⟩) dX9_init_288 rfl⟩, ?_⟩
  refine ⟨⟨mo_ald, ok_aldn dX9_init_291 rfl rfl⟩, ?_⟩
  refine ⟨⟨mo_gR, ok_gR rfl fd_X9_34 rfl dX9_init_292 rfl⟩, ?_⟩
  refine ⟨⟨mo_push, ok_iconst dX9_init_295 iv_i0 rfl⟩, ?_⟩
  refine ⟨⟨mo_push, ok_bipush dX9_init_296 iv_b99 rfl⟩, ?_⟩
  refine ⟨⟨mo_push, ok_bipush dX9_init_298 iv_b104 rfl⟩, ?_⟩
  refine ⟨⟨mo_push, ok_bipush dX9_init_300 iv_b97 rfl⟩, ?_⟩
  refine ⟨⟨mo_push, ok_bipush dX9_init_302 iv_b105 rfl⟩, ?_⟩
  refine ⟨⟨mo_push, ok_bipush dX9_init_304 iv_b110 rfl⟩, ?_⟩
  refine ⟨⟨mo_push, ok_iconst dX9_init_306 iv_i0 rfl⟩, ?_⟩
  refine ⟨⟨mo_push, ok_iconst dX9_init_307 iv_i0 rfl⟩, ?_⟩
  refine ⟨⟨mo_csL, ok_csL mi_X9_letters lk_X9_121 q1723 dX9_init_308 rfl⟩, ?_⟩
  refine ⟨⟨mo_asL, ok_last dX9_init_311 rfl⟩, ?_⟩
  refine ⟨⟨mo_ald, ok_aldn dX9_init_312 rfl rfl⟩, ?_⟩
  refine ⟨⟨mo_gR, ok_gR rfl fd_X9_34 rfl dX9_init_313 rfl⟩, ?_⟩
  refine ⟨⟨mo_push, ok_iconst dX9_init_316 iv_i1 rfl⟩, ?_⟩
  refine ⟨⟨mo_push, ok_bipush dX9_init_317 iv_b109 rfl⟩, ?_⟩
  refine ⟨⟨mo_push, ok_bipush dX9_init_319 iv_b111 rfl⟩, ?_⟩
  refine ⟨⟨mo_push, ok_bipush dX9_init_321 iv_b115 rfl⟩, ?_⟩
  refine ⟨⟨mo_push, ok_bipush dX9_init_323 iv_b116 rfl⟩, ?_⟩
  refine ⟨⟨mo_push, ok_iconst dX9_init_325 iv_i0 rfl⟩, ?_⟩
  refine ⟨⟨mo_push, ok_iconst dX9_init_326 iv_i0 rfl⟩, ?_⟩
  refine ⟨⟨mo_push, ok_iconst dX9_init_327 iv_i0 rfl⟩, ?_⟩
  refine ⟨⟨mo_csL, ok_csL mi_X9_letters lk_X9_121 q1723 dX9_init_328 rfl⟩, ?_⟩
  refine ⟨⟨mo_asL, ok_last dX9_init_331 rfl⟩, ?_⟩
  refine ⟨⟨mo_ald, ok_aldn dX9_init_332 rfl rfl⟩, ?_⟩
  refine ⟨⟨mo_gR, ok_gR rfl fd_X9_34 rfl dX9_init_333 rfl⟩, ?_⟩
  refine ⟨⟨mo_push, ok_iconst dX9_init_336 iv_i2 rfl⟩, ?_⟩
  refine ⟨⟨mo_push, ok_bipush dX9_init_337 iv_b108 rfl⟩, ?_⟩
  refine ⟨⟨mo_push, ok_bipush dX9_init_339 iv_b101 rfl⟩, ?_⟩
  refine ⟨⟨mo_push, ok_bipush dX9_init_341 iv_b97 rfl⟩, ?_⟩
  refine ⟨⟨mo_push, ok_bipush dX9_init_343 iv_b115 rfl⟩, ?_⟩
  refine ⟨⟨mo_push, ok_bipush dX9_init_345 iv_b116 rfl⟩, ?_⟩
  refine ⟨⟨mo_push, ok_iconst dX9_init_347 iv_i0 rfl⟩, ?_⟩
  refine ⟨⟨mo_push, ok_iconst dX9_init_348 iv_i0 rfl⟩, ?_⟩
  refine ⟨⟨mo_csL, ok_csL mi_X9_letters lk_X9_121 q1723 dX9_init_349 rfl⟩, ?_⟩
  refine ⟨⟨mo_asL, ok_last dX9_init_352 rfl⟩, ?_⟩
  refine ⟨⟨mo_ald, ok_aldn dX9_init_353 rfl rfl⟩, ?_⟩
  refine ⟨⟨mo_gR, ok_gR rfl fd_X9_34 rfl dX9_init_354 rfl⟩, ?_⟩
  refine ⟨⟨mo_push, ok_iconst dX9_init_357 iv_i3 rfl⟩, ?_⟩
  refine ⟨⟨mo_push, ok_bipush dX9_init_358 iv_b98 rfl⟩, ?_⟩
  refine ⟨⟨mo_push, ok_bipush dX9_init_360 iv_b101 rfl⟩, ?_⟩
  refine ⟨⟨mo_push, ok_bipush dX9_init_362 iv_b103 rfl⟩, ?_⟩
  refine ⟨⟨mo_push, ok_bipush dX9_init_364 iv_b105 rfl⟩, ?_⟩
  refine ⟨⟨mo_push, ok_bipush dX9_init_366 iv_b110 rfl⟩, ?_⟩
  refine ⟨⟨mo_push, ok_iconst dX9_init_368 iv_i0 rfl⟩, ?_⟩
  refine ⟨⟨mo_push, ok_iconst dX9_init_369 iv_i0 rfl⟩, ?_⟩
  refine ⟨⟨mo_csL, ok_csL mi_X9_letters lk_X9_121 q1723 dX9_init_370 rfl⟩, ?_⟩
  refine ⟨⟨mo_asL, ok_last dX9_init_373 rfl⟩, ?_⟩
  refine ⟨⟨mo_ald, ok_aldn dX9_init_374 rfl rfl⟩, ?_⟩
  refine ⟨⟨mo_gR, ok_gR rfl fd_X9_34 rfl dX9_init_375 rfl⟩, ?_⟩
  refine ⟨⟨mo_push, ok_iconst dX9_init_378 iv_i4 rfl⟩, ?_⟩
  refine ⟨⟨mo_push, ok_bipush dX9_init_379 iv_b103 rfl⟩, ?_⟩
  refine ⟨⟨mo_push, ok_bipush dX9_init_381 iv_b101 rfl⟩, ?_⟩
  refine ⟨⟨mo_push, ok_bipush dX9_init_383 iv_b116 rfl⟩, ?_⟩
  refine ⟨⟨mo_push, ok_iconst dX9_init_385 iv_i0 rfl⟩, ?_⟩
  refine ⟨⟨mo_push, ok_iconst dX9_init_386 iv_i0 rfl⟩, ?_⟩
  refine ⟨⟨mo_push, ok_iconst dX9_init_387 iv_i0 rfl⟩, ?_⟩
  refine ⟨⟨mo_push, ok_iconst dX9_init_388 iv_i0 rfl⟩, ?_⟩
  refine ⟨⟨mo_csL, ok_csL mi_X9_letters lk_X9_121 q1723 dX9_init_389 rfl⟩, ?_⟩
  refine ⟨⟨mo_asL, ok_last dX9_init_392 rfl⟩, ?_⟩
  refine ⟨⟨mo_ald, ok_aldn dX9_init_393 rfl rfl⟩, ?_⟩
  refine ⟨⟨mo_gR, ok_gR rfl fd_X9_34 rfl dX9_init_394 rfl⟩, ?_⟩
  refine ⟨⟨mo_push, ok_iconst dX9_init_397 iv_i5 rfl⟩, ?_⟩
  refine ⟨⟨mo_push, ok_bipush dX9_init_398 iv_b115 rfl⟩, ?_⟩
  refine ⟨⟨mo_push, ok_bipush dX9_init_400 iv_b116 rfl⟩, ?_⟩
  refine ⟨⟨mo_push, ok_bipush dX9_init_402 iv_b101 rfl⟩, ?_⟩
  refine ⟨⟨mo_push, ok_bipush dX9_init_404 iv_b112 rfl⟩, ?_⟩
  refine ⟨⟨mo_push, ok_iconst dX9_init_406 iv_i0 rfl⟩, ?_⟩
  refine ⟨⟨mo_push, ok_iconst dX9_init_407 iv_i0 rfl⟩, ?_⟩
  refine ⟨⟨mo_push, ok_iconst dX9_init_408 iv_i0 rfl⟩, ?_⟩
  refine ⟨⟨mo_csL, ok_csL mi_X9_letters lk_X9_121 q1723 dX9_init_409 rfl⟩, ?_⟩
  refine ⟨⟨mo_asL, ok_last dX9_init_412 rfl⟩, ?_⟩
  refine ⟨⟨mo_ald, ok_aldn dX9_init_413 rfl rfl⟩, ?_⟩
  refine ⟨⟨mo_gR, ok_gR rfl fd_X9_34 rfl dX9_init_414 rfl⟩, ?_⟩
  refine ⟨⟨mo_push, ok_bipush dX9_init_417 iv_b6 rfl⟩, ?_⟩
  refine ⟨⟨mo_push, ok_bipush dX9_init_419 iv_b99 rfl⟩, ?_⟩
  refine ⟨⟨mo_push, ok_bipush dX9_init_421 iv_b108 rfl⟩, ?_⟩
  refine ⟨⟨mo_push, ok_bipush dX9_init_423 iv_b111 rfl⟩, ?_⟩
  refine ⟨⟨mo_push, ok_bipush dX9_init_425 iv_b115 rfl⟩, ?_⟩
  refine ⟨⟨mo_push, ok_bipush dX9_init_427 iv_b101 rfl⟩, ?_⟩
  refine ⟨⟨mo_push, ok_iconst dX9_init_429 iv_i0 rfl⟩, ?_⟩
  refine ⟨⟨mo_push, ok_iconst dX9_init_430 iv_i0 rfl⟩, ?_⟩
  refine ⟨⟨mo_csL, ok_csL mi_X9_letters lk_X9_121 q1723 dX9_init_431 rfl⟩, ?_⟩
  refine ⟨⟨mo_asL, ok_last dX9_init_434 rfl⟩, ?_⟩
  refine ⟨⟨mo_ald, ok_aldn dX9_init_435 rfl rfl⟩, ?_⟩
  refine ⟨⟨mo_gR, ok_gR rfl fd_X9_34 rfl dX9_init_436 rfl⟩, ?_⟩
  refine ⟨⟨mo_push, ok_bipush dX9_init_439 iv_b7 rfl⟩, ?_⟩
  refine ⟨⟨mo_push, ok_bipush dX9_init_441 iv_b115 rfl⟩, ?_⟩
  refine ⟨⟨mo_push, ok_bipush dX9_init_443 iv_b119 rfl⟩, ?_⟩
  refine ⟨⟨mo_push, ok_bipush dX9_init_445 iv_b101 rfl⟩, ?_⟩
  refine ⟨⟨mo_push, ok_bipush dX9_init_447 iv_b101 rfl⟩, ?_⟩
  refine ⟨⟨mo_push, ok_bipush dX9_init_449 iv_b112 rfl⟩, ?_⟩
  refine ⟨⟨mo_push, ok_iconst dX9_init_451 iv_i0 rfl⟩, ?_⟩
  refine ⟨⟨mo_push, ok_iconst dX9_init_452 iv_i0 rfl⟩, ?_⟩
  refine ⟨⟨mo_csL, ok_csL mi_X9_letters lk_X9_121 q1723 dX9_init_453 rfl⟩, ?_⟩
  refine ⟨⟨mo_asL, ok_last dX9_init_456 rfl⟩, ?_⟩
  refine ⟨⟨mo_ald, ok_aldn dX9_init_457 rfl rfl⟩, ?_⟩
  refine ⟨⟨mo_gR, ok_gR rfl fd_X9_34 rfl dX9_init_458 rfl⟩, ?_⟩
  refine ⟨⟨mo_push, ok_bipush dX9_init_461 iv_b8 rfl⟩, ?_⟩
  refine ⟨⟨mo_push, ok_bipush dX9_init_463 iv_b100 rfl⟩, ?_⟩
  refine ⟨⟨mo_push, ok_bipush dX9_init_465 iv_b111 rfl⟩, ?_⟩
  refine ⟨⟨mo_push, ok_iconst dX9_init_467 iv_i0 rfl⟩, ?_⟩
  refine ⟨⟨mo_push, ok_iconst dX9_init_468 iv_i0 rfl⟩, ?_⟩
  refine ⟨⟨mo_push, ok_iconst dX9_init_469 iv_i0 rfl⟩, ?_⟩
  refine ⟨⟨mo_push, ok_iconst dX9_init_470 iv_i0 rfl⟩, ?_⟩
  refine ⟨⟨mo_push, ok_iconst dX9_init_471 iv_i0 rfl⟩, ?_⟩
  refine ⟨⟨mo_csL, ok_csL mi_X9_letters lk_X9_121 q1723 dX9_init_472 rfl⟩, ?_⟩
  refine ⟨⟨mo_asL, ok_last dX9_init_475 rfl⟩, ?_⟩
  refine ⟨⟨mo_ald, ok_aldn dX9_init_476 rfl rfl⟩, ?_⟩
  refine ⟨⟨mo_gR, ok_gR rfl fd_X9_34 rfl dX9_init_477 rfl⟩, ?_⟩
  refine ⟨⟨mo_push, ok_bipush dX9_init_480 iv_b9 rfl⟩, ?_⟩
  refine ⟨⟨mo_push, ok_bipush dX9_init_482 iv_b101 rfl⟩, ?_⟩
  refine ⟨⟨mo_push, ok_bipush dX9_init_484 iv_b110 rfl⟩, ?_⟩
  refine ⟨⟨mo_push, ok_bipush dX9_init_486 iv_b100 rfl⟩, ?_⟩
  refine ⟨⟨mo_push, ok_iconst dX9_init_488 iv_i0 rfl⟩, ?_⟩
  refine ⟨⟨mo_push, ok_iconst dX9_init_489 iv_i0 rfl⟩, ?_⟩
  refine ⟨⟨mo_push, ok_iconst dX9_init_490 iv_i0 rfl⟩, ?_⟩
  refine ⟨⟨mo_push, ok_iconst dX9_init_491 iv_i0 rfl⟩, ?_⟩
  refine ⟨⟨mo_csL, ok_csL mi_X9_letters lk_X9_121 q1723 dX9_init_492 rfl⟩, ?_⟩
  refine ⟨⟨mo_asL, ok_last dX9_init_495 rfl⟩, ?_⟩
  refine ⟨⟨mo_ald, ok_aldn dX9_init_496 rfl rfl⟩, ?_⟩
  refine ⟨⟨mo_gR, ok_gR rfl fd_X9_34 rfl dX9_init_497 rfl⟩, ?_⟩
  refine ⟨⟨mo_push, ok_bipush dX9_init_500 iv_b10 rfl⟩, ?_⟩
  refine ⟨⟨mo_push, ok_bipush dX9_init_502 iv_b112 rfl⟩, ?_⟩
  refine ⟨⟨mo_push, ok_bipush dX9_init_504 iv_b117 rfl⟩, ?_⟩
  refine ⟨⟨mo_push, ok_bipush dX9_init_506 iv_b116 rfl⟩, ?_⟩
  refine ⟨⟨mo_push, ok_iconst dX9_init_508 iv_i0 rfl⟩, ?_⟩
  refine ⟨⟨mo_push, ok_iconst dX9_init_509 iv_i0 rfl⟩, ?_⟩
  refine ⟨⟨mo_push, ok_iconst dX9_init_510 iv_i0 rfl⟩, ?_⟩
  refine ⟨⟨mo_push, ok_iconst dX9_init_511 iv_i0 rfl⟩, ?_⟩
  refine ⟨⟨mo_csL, ok_csL mi_X9_letters lk_X9_121 q1723 dX9_init_512 rfl⟩, ?_⟩
  refine ⟨⟨mo_asL, ok_last dX9_init_515 rfl⟩, ?_⟩
  refine ⟨⟨mo_ald, ok_aldn dX9_init_516 rfl rfl⟩, ?_⟩
  refine ⟨⟨mo_gR, ok_gR rfl fd_X9_34 rfl dX9_init_517 rfl⟩, ?_⟩
  refine ⟨⟨mo_push, ok_bipush dX9_init_520 iv_b11 rfl⟩, ?_⟩
  refine ⟨⟨mo_push, ok_bipush dX9_init_522 iv_b99 rfl⟩, ?_⟩
  refine ⟨⟨mo_push, ok_bipush dX9_init_524 iv_b117 rfl⟩, ?_⟩
  refine ⟨⟨mo_push, ok_bipush dX9_init_526 iv_b116 rfl⟩, ?_⟩
  refine ⟨⟨mo_push, ok_iconst dX9_init_528 iv_i0 rfl⟩, ?_⟩
  refine ⟨⟨mo_push, ok_iconst dX9_init_529 iv_i0 rfl⟩, ?_⟩
  refine ⟨⟨mo_push, ok_iconst dX9_init_530 iv_i0 rfl⟩, ?_⟩
  refine ⟨⟨mo_push, ok_iconst dX9_init_531 iv_i0 rfl⟩, ?_⟩
  refine ⟨⟨mo_csL, ok_csL mi_X9_letters lk_X9_121 q1723 dX9_init_532 rfl⟩, ?_⟩
  refine ⟨⟨mo_asL, ok_last dX9_init_535 rfl⟩, ?_⟩
  refine ⟨⟨mo_ald, ok_aldn dX9_init_536 rfl rfl⟩, ?_⟩
  refine ⟨⟨mo_gR, ok_gR rfl fd_X9_34 rfl dX9_init_537 rfl⟩, ?_⟩
  refine ⟨⟨mo_push, ok_bipush dX9_init_540 iv_b12 rfl⟩, ?_⟩
  refine ⟨⟨mo_push, ok_bipush dX9_init_542 iv_b105 rfl⟩, ?_⟩
  refine ⟨⟨mo_push, ok_iconst dX9_init_544 iv_i0 rfl⟩, ?_⟩
  refine ⟨⟨mo_push, ok_iconst dX9_init_545 iv_i0 rfl⟩, ?_⟩
  refine ⟨⟨mo_push, ok_iconst dX9_init_546 iv_i0 rfl⟩, ?_⟩
  refine ⟨⟨mo_push, ok_iconst dX9_init_547 iv_i0 rfl⟩, ?_⟩
  refine ⟨⟨mo_push, ok_iconst dX9_init_548 iv_i0 rfl⟩, ?_⟩
  refine ⟨⟨mo_push, ok_iconst dX9_init_549 iv_i0 rfl⟩, ?_⟩
  refine ⟨⟨mo_csL, ok_csL mi_X9_letters lk_X9_121 q1723 dX9_init_550 rfl⟩, ?_⟩
  refine ⟨⟨mo_asL, ok_last dX9_init_553 rfl⟩, ?_⟩
  refine ⟨⟨mo_ald, ok_aldn dX9_init_554 rfl rfl⟩, ?_⟩
  refine ⟨⟨mo_gR, ok_gR rfl fd_X9_34 rfl dX9_init_555 rfl⟩, ?_⟩
  refine ⟨⟨mo_push, ok_bipush dX9_init_558 iv_b13 rfl⟩, ?_⟩
  refine ⟨⟨mo_push, ok_bipush dX9_init_560 iv_b106 rfl⟩, ?_⟩
  refine ⟨⟨mo_push, ok_iconst dX9_init_562 iv_i0 rfl⟩, ?_⟩
  refine ⟨⟨mo_push, ok_iconst dX9_init_563 iv_i0 rfl⟩, ?_⟩
  refine ⟨⟨mo_push, ok_iconst dX9_init_564 iv_i0 rfl⟩, ?_⟩
  refine ⟨⟨mo_push, ok_iconst dX9_init_565 iv_i0 rfl⟩, ?_⟩
  refine ⟨⟨mo_push, ok_iconst dX9_init_566 iv_i0 rfl⟩, ?_⟩
  refine ⟨⟨mo_push, ok_iconst dX9_init_567 iv_i0 rfl⟩, ?_⟩
  refine ⟨⟨mo_csL, ok_csL mi_X9_letters lk_X9_121 q1723 dX9_init_568 rfl⟩, ?_⟩
  refine ⟨⟨mo_asL, ok_last dX9_init_571 rfl⟩, ?_⟩
  refine ⟨⟨mo_ald, ok_aldn dX9_init_572 rfl rfl⟩, ?_⟩
  refine ⟨⟨mo_gR, ok_gR rfl fd_X9_34 rfl dX9_init_573 rfl⟩, ?_⟩
  refine ⟨⟨mo_push, ok_bipush dX9_init_576 iv_b14 rfl⟩, ?_⟩
  refine ⟨⟨mo_push, ok_bipush dX9_init_578 iv_b107 rfl⟩, ?_⟩
  refine ⟨⟨mo_push, ok_bipush dX9_init_580 iv_b101 rfl⟩, ?_⟩
  refine ⟨⟨mo_push, ok_bipush dX9_init_582 iv_b121 rfl⟩, ?_⟩
  refine ⟨⟨mo_push, ok_bipush dX9_init_584 iv_b115 rfl⟩, ?_⟩
  refine ⟨⟨mo_push, ok_iconst dX9_init_586 iv_i0 rfl⟩, ?_⟩
  refine ⟨⟨mo_push, ok_iconst dX9_init_587 iv_i0 rfl⟩, ?_⟩
  refine ⟨⟨mo_push, ok_iconst dX9_init_588 iv_i0 rfl⟩, ?_⟩
  refine ⟨⟨mo_csL, ok_csL mi_X9_letters lk_X9_121 q1723 dX9_init_589 rfl⟩, ?_⟩
  refine ⟨⟨mo_asL, ok_last dX9_init_592 rfl⟩, ?_⟩
  refine ⟨⟨mo_ald, ok_aldn dX9_init_593 rfl rfl⟩, ?_⟩
  refine ⟨⟨mo_gR, ok_gR rfl fd_X9_34 rfl dX9_init_594 rfl⟩, ?_⟩
  refine ⟨⟨mo_push, ok_bipush dX9_init_597 iv_b15 rfl⟩, ?_⟩
  refine ⟨⟨mo_push, ok_bipush dX9_init_599 iv_b108 rfl⟩, ?_⟩
  refine ⟨⟨mo_push, ok_bipush dX9_init_601 iv_b97 rfl⟩, ?_⟩
  refine ⟨⟨mo_push, ok_bipush dX9_init_603 iv_b115 rfl⟩, ?_⟩
  refine ⟨⟨mo_push, ok_bipush dX9_init_605 iv_b116 rfl⟩, ?_⟩
  refine ⟨⟨mo_push, ok_iconst dX9_init_607 iv_i0 rfl⟩, ?_⟩
  refine ⟨⟨mo_push, ok_iconst dX9_init_608 iv_i0 rfl⟩, ?_⟩
  refine ⟨⟨mo_push, ok_iconst dX9_init_609 iv_i0 rfl⟩, ?_⟩
  refine ⟨⟨mo_csL, ok_csL mi_X9_letters lk_X9_121 q1723 dX9_init_610 rfl⟩, ?_⟩
  refine ⟨⟨mo_asL, ok_last dX9_init_613 rfl⟩, ?_⟩
  refine ⟨⟨mo_ald, ok_aldn dX9_init_614 rfl rfl⟩, ?_⟩
  refine ⟨⟨mo_gR, ok_gR rfl fd_X9_34 rfl dX9_init_615 rfl⟩, ?_⟩
  refine ⟨⟨mo_push, ok_bipush dX9_init_618 iv_b16 rfl⟩, ?_⟩
  refine ⟨⟨mo_push, ok_bipush dX9_init_620 iv_b114 rfl⟩, ?_⟩
  refine ⟨⟨mo_push, ok_bipush dX9_init_622 iv_b101 rfl⟩, ?_⟩
  refine ⟨⟨mo_push, ok_bipush dX9_init_624 iv_b99 rfl⟩, ?_⟩
  refine ⟨⟨mo_push, ok_bipush dX9_init_626 iv_b111 rfl⟩, ?_⟩
  refine ⟨⟨mo_push, ok_bipush dX9_init_628 iv_b114 rfl⟩, ?_⟩
  refine ⟨⟨mo_push, ok_bipush dX9_init_630 iv_b100 rfl⟩, ?_⟩
  refine ⟨⟨mo_push, ok_bipush dX9_init_632 iv_b115 rfl⟩, ?_⟩
  refine ⟨⟨mo_csL, ok_csL mi_X9_letters lk_X9_121 q1723 dX9_init_634 rfl⟩, ?_⟩
  refine ⟨⟨mo_asL, ok_last dX9_init_637 rfl⟩, ?_⟩
  refine ⟨⟨mo_ald, ok_aldn dX9_init_638 rfl rfl⟩, ?_⟩
  refine ⟨⟨mo_gR, ok_gR rfl fd_X9_34 rfl dX9_init_639 rfl⟩, ?_⟩
  refine ⟨⟨mo_push, ok_bipush dX9_init_642 iv_b17 rfl⟩, ?_⟩
  refine ⟨⟨mo_push, ok_bipush dX9_init_644 iv_b108 rfl⟩, ?_⟩
  refine ⟨⟨mo_push, ok_bipush dX9_init_646 iv_b111 rfl⟩, ?_⟩
  refine ⟨⟨mo_push, ok_bipush dX9_init_648 iv_b115 rfl⟩, ?_⟩
  refine ⟨⟨mo_push, ok_bipush dX9_init_650 iv_b116 rfl⟩, ?_⟩
  refine ⟨⟨mo_push, ok_iconst dX9_init_652 iv_i0 rfl⟩, ?_⟩
  refine ⟨⟨mo_push, ok_iconst dX9_init_653 iv_i0 rfl⟩, ?_⟩
  refine ⟨⟨mo_push, ok_iconst dX9_init_654 iv_i0 rfl⟩, ?_⟩
  refine ⟨⟨mo_csL, ok_csL mi_X9_letters lk_X9_121 q1723 dX9_init_655 rfl⟩, ?_⟩
  refine ⟨⟨mo_asL, ok_last dX9_init_658 rfl⟩, ?_⟩
  refine ⟨⟨mo_ald, ok_aldn dX9_init_659 rfl rfl⟩, ?_⟩
  refine ⟨⟨mo_push, ok_iconst dX9_init_660 iv_i3 rfl⟩, ?_⟩
  refine ⟨⟨mo_push, ok_bipush dX9_init_661 iv_b6 rfl⟩, ?_⟩
  refine ⟨⟨mo_push, ok_iconst dX9_init_663 iv_i2 rfl⟩, ?_⟩
  refine ⟨⟨mo_cvV, ok_cvV mi_X9_begins lk_X9_125 q1731 qs59 rfl (Nat.le_of_ble_eq_true rfl) (iy_ro_le _) rfl rfl dX9_init_664 rfl⟩, ?_⟩
  refine ⟨⟨mo_ret, ok_ret rfl dX9_init_667⟩, ?_⟩
  exact trivial
set_option maxHeartbeats 4000000 in
theorem alX9_letters : iy_all (iy_calls iy_mi) RX9 "letters" cX9_letters 7 (some FieldType.long, []) pcX9_letters pcX9_letters stX9_letters := by
  refine ⟨⟨mo_push, ok_lconst dX9_letters_0 rfl rfl⟩, ?_⟩
  refine ⟨⟨mo_ild, ok_ildn dX9_letters_1 rfl rfl⟩, ?_⟩
  refine ⟨⟨mo_csL, ok_csL mi_X9_appends lk_X9_141 q1726 dX9_letters_2 rfl⟩, ?_⟩
  refine ⟨⟨mo_ild, ok_ildn dX9_letters_5 rfl rfl⟩, ?_⟩
  refine ⟨⟨mo_csL, ok_csL mi_X9_appends lk_X9_141 q1726 dX9_letters_6 rfl⟩, ?_⟩
  refine ⟨⟨mo_ild, ok_ildn dX9_letters_9 rfl rfl⟩, ?_⟩
  refine ⟨⟨mo_csL, ok_csL mi_X9_appends lk_X9_141 q1726 dX9_letters_10 rfl⟩, ?_⟩
  refine ⟨⟨mo_ild, ok_ildn dX9_letters_13 rfl rfl⟩, ?_⟩
  refine ⟨⟨mo_csL, ok_csL mi_X9_appends lk_X9_141 q1726 dX9_letters_14 rfl⟩, ?_⟩
  refine ⟨⟨mo_ild, ok_ild dX9_letters_17 rfl⟩, ?_⟩
  refine ⟨⟨mo_csL, ok_csL mi_X9_appends lk_X9_141 q1726 dX9_letters_19 rfl⟩, ?_⟩
  refine ⟨⟨mo_ild, ok_ild dX9_letters_22 rfl⟩, ?_⟩
  refine ⟨⟨mo_csL, ok_csL mi_X9_appends lk_X9_141 q1726 dX9_letters_24 rfl⟩, ?_⟩
  refine ⟨⟨mo_ild, ok_ild dX9_letters_27 rfl⟩, ?_⟩
  refine ⟨⟨mo_csL, ok_csL mi_X9_appends lk_X9_141 q1726 dX9_letters_29 rfl⟩, ?_⟩
  refine ⟨⟨mo_lret, ok_lret rfl dX9_letters_32⟩, ?_⟩
  exact trivial
set_option maxHeartbeats 4000000 in
theorem alX9_appends : iy_all (iy_calls iy_mi) RX9 "appends" cX9_appends 3 (some FieldType.long, []) pcX9_appends pcX9_appends stX9_appends := by
  refine ⟨⟨mo_ild, ok_ildn dX9_appends_0 rfl rfl⟩, ?_⟩
  refine ⟨⟨mo_ine, ok_ine dX9_appends_1 rfl rfl⟩, ?_⟩
  refine ⟨⟨mo_lld, ok_lldn dX9_appends_4 rfl rfl⟩, ?_⟩
  refine ⟨⟨mo_goto, ok_goto dX9_appends_5 rfl⟩, ?_⟩
  refine ⟨⟨mo_push, ok_ldc2 dX9_appends_8 q1728 rfl⟩, ?_⟩
  refine ⟨⟨mo_lld, ok_lldn dX9_appends_11 rfl rfl⟩, ?_⟩
  refine ⟨⟨mo_lbin, ok_lmul dX9_appends_12 rfl⟩, ?_⟩
  refine ⟨⟨mo_ild, ok_ildn dX9_appends_13 rfl rfl⟩, ?_⟩
  refine ⟨⟨mo_push, ok_bipush dX9_appends_14 iv_b97 rfl⟩, ?_⟩
  refine ⟨⟨mo_bin, ok_isub dX9_appends_16 rfl⟩, ?_⟩
  refine ⟨⟨mo_push, ok_iconst dX9_appends_17 iv_i1 rfl⟩, ?_⟩
  refine ⟨⟨mo_bin, ok_iadd dX9_appends_18 rfl⟩, ?_⟩
  refine ⟨⟨mo_i2l, ok_i2l dX9_appends_19 rfl⟩, ?_⟩
  refine ⟨⟨mo_lbin, ok_ladd dX9_appends_20 rfl⟩, ?_⟩
  refine ⟨⟨mo_keep, ok_keep rfl⟩, ?_⟩
  refine ⟨⟨mo_lret, ok_lret rfl dX9_appends_21⟩, ?_⟩
  exact trivial
set_option maxHeartbeats 4000000 in
theorem alX9_begins : iy_all (iy_calls iy_mi) RX9 "begins" cX9_begins 5 (none, []) pcX9_begins pcX9_begins stX9_begins := by
  refine ⟨⟨mo_push, ok_iconst dX9_begins_0 iv_i0 rfl⟩, ?_⟩
  refine ⟨⟨mo_ist, ok_ist dX9_begins_1 (Nat.le_of_ble_eq_true rfl) rfl⟩, ?_⟩
  refine ⟨⟨mo_keep, ok_keep rfl⟩, ?_⟩
  refine ⟨⟨mo_ild, ok_ild dX9_begins_3 rfl⟩, ?_⟩
  refine ⟨⟨mo_push, ok_bipush dX9_begins_5 iv_b100 rfl⟩, ?_⟩
  refine ⟨⟨mo_cge, ok_cge dX9_begins_7 rfl rfl⟩, ?_⟩
  refine ⟨⟨mo_ald, ok_aldn dX9_begins_10 rfl rfl⟩, ?_⟩
  refine ⟨⟨mo_gR, ok_gR rfl fd_X9_80 rfl dX9_begins_11 rfl⟩, ?_⟩
  refine ⟨⟨mo_ild, ok_ild dX9_begins_14 rfl⟩, ?_⟩
  refine ⟨⟨mo_push, ok_iconst dX9_begins_16 iv_i0 rfl⟩, ?_⟩
  refine ⟨⟨mo_asI, ok_iast dX9_begins_17 rfl⟩, ?_⟩
  refine ⟨⟨mo_inc, ok_inc dX9_begins_18 iv_i1 (Nat.le_of_ble_eq_true rfl) rfl⟩, ?_⟩
  refine ⟨⟨mo_back, ok_back dX9_begins_21 rfl⟩, ?_⟩
  refine ⟨⟨mo_ald, ok_aldn dX9_begins_24 rfl rfl⟩, ?_⟩
  refine ⟨⟨mo_gR, ok_gR rfl fd_X9_80 rfl dX9_begins_25 rfl⟩, ?_⟩
  refine ⟨⟨mo_push, ok_iconst dX9_begins_28 iv_i5 rfl⟩, ?_⟩
  refine ⟨⟨mo_ild, ok_ildn dX9_begins_29 rfl rfl⟩, ?_⟩
  refine ⟨⟨mo_asI, ok_iast dX9_begins_30 rfl⟩, ?_⟩
  refine ⟨⟨mo_ald, ok_aldn dX9_begins_31 rfl rfl⟩, ?_⟩
  refine ⟨⟨mo_gR, ok_gR rfl fd_X9_80 rfl dX9_begins_32 rfl⟩, ?_⟩
  refine ⟨⟨mo_push, ok_bipush dX9_begins_35 iv_b6 rfl⟩, ?_⟩
  refine ⟨⟨mo_ild, ok_ildn dX9_begins_37 rfl rfl⟩, ?_⟩
  refine ⟨⟨mo_asI, ok_iast dX9_begins_38 rfl⟩, ?_⟩
  refine ⟨⟨mo_ald, ok_aldn dX9_begins_39 rfl rfl⟩, ?_⟩
  refine ⟨⟨mo_gR, ok_gR rfl fd_X9_80 rfl dX9_begins_40 rfl⟩, ?_⟩
  refine ⟨⟨mo_push, ok_bipush dX9_begins_43 iv_b7 rfl⟩, ?_⟩
  refine ⟨⟨mo_ild, ok_ildn dX9_begins_45 rfl rfl⟩, ?_⟩
  refine ⟨⟨mo_asI, ok_iast dX9_begins_46 rfl⟩, ?_⟩
  refine ⟨⟨mo_push, ok_iconst dX9_begins_47 iv_i0 rfl⟩, ?_⟩
  refine ⟨⟨mo_ist, ok_ist dX9_begins_48 (Nat.le_of_ble_eq_true rfl) rfl⟩, ?_⟩
  refine ⟨⟨mo_keep, ok_keep rfl⟩, ?_⟩
  refine ⟨⟨mo_ild, ok_ild dX9_begins_50 rfl⟩, ?_⟩
  refine ⟨⟨mo_push, ok_iconst dX9_begins_52 iv_i4 rfl⟩, ?_⟩
  refine ⟨⟨mo_cge, ok_cge dX9_begins_53 rfl rfl⟩, ?_⟩
  refine ⟨⟨mo_ald, ok_aldn dX9_begins_56 rfl rfl⟩, ?_⟩
  refine ⟨⟨mo_gR, ok_gR rfl fd_X9_80 rfl dX9_begins_57 rfl⟩, ?_⟩
  refine ⟨⟨mo_ild, ok_ild dX9_begins_60 rfl⟩, ?_⟩
  refine ⟨⟨mo_csI, ok_csI mi_X9_hand0 lk_X9_291 q1734 dX9_begins_62 rfl⟩, ?_⟩
  refine ⟨⟨mo_push, ok_iconst dX9_begins_65 iv_i2 rfl⟩, ?_⟩
  refine ⟨⟨mo_bin, ok_iadd dX9_begins_66 rfl⟩, ?_⟩
  refine ⟨⟨mo_push, ok_bipush dX9_begins_67 iv_bm2 rfl⟩, ?_⟩
  refine ⟨⟨mo_asI, ok_iast dX9_begins_69 rfl⟩, ?_⟩
  refine ⟨⟨mo_ald, ok_aldn dX9_begins_70 rfl rfl⟩, ?_⟩
  refine ⟨⟨mo_gR, ok_gR rfl fd_X9_80 rfl dX9_begins_71 rfl⟩, ?_⟩
  refine ⟨⟨mo_ild, ok_ild dX9_begins_74 rfl⟩, ?_⟩
  refine ⟨⟨mo_csI, ok_csI mi_X9_hand0 lk_X9_291 q1734 dX9_begins_76 rfl⟩, ?_⟩
  refine ⟨⟨mo_push, ok_bipush dX9_begins_79 iv_b6 rfl⟩, ?_⟩
  refine ⟨⟨mo_bin, ok_iadd dX9_begins_81 rfl⟩, ?_⟩
  refine ⟨⟨mo_push, ok_bipush dX9_begins_82 iv_bm2 rfl⟩, ?_⟩
  refine ⟨⟨mo_asI, ok_iast dX9_begins_84 rfl⟩, ?_⟩
  refine ⟨⟨mo_inc, ok_inc dX9_begins_85 iv_i1 (Nat.le_of_ble_eq_true rfl) rfl⟩, ?_⟩
  refine ⟨⟨mo_back, ok_back dX9_begins_88 rfl⟩, ?_⟩
  refine ⟨⟨mo_ald, ok_aldn dX9_begins_91 rfl rfl⟩, ?_⟩
  refine ⟨⟨mo_push, ok_iconst dX9_begins_92 iv_i0 rfl⟩, ?_⟩
  refine ⟨⟨mo_push, ok_bipush dX9_begins_93 iv_bm2 rfl⟩, ?_⟩
  refine ⟨⟨mo_cvI, ok_cvI mi_X9_newBase lk_X9_294 q1738 qs60 rfl (Nat.le_of_ble_eq_true rfl) (iy_ro_le _) rfl rfl dX9_begins_95 rfl⟩, ?_⟩
  refine ⟨⟨mo_ist, ok_ist dX9_begins_98 (Nat.le_of_ble_eq_true rfl) rfl⟩, ?_⟩
  refine ⟨⟨mo_ald, ok_aldn dX9_begins_100 rfl rfl⟩, ?_⟩
  refine ⟨⟨mo_ild, ok_ild dX9_begins_101 rfl⟩, ?_⟩
  refine ⟨⟨mo_push, ok_iconst dX9_begins_103 iv_i0 rfl⟩, ?_⟩
  refine ⟨⟨mo_push, ok_iconst dX9_begins_104 iv_i1 rfl⟩, ?_⟩
  refine ⟨⟨mo_cvV, ok_cvV mi_X9_adds lk_X9_297 q1749 qs62 rfl (Nat.le_of_ble_eq_true rfl) (iy_ro_le _) rfl rfl dX9_begins_105 rfl⟩, ?_⟩
  refine ⟨⟨mo_ald, ok_aldn dX9_begins_108 rfl rfl⟩, ?_⟩
  refine ⟨⟨mo_gR, ok_gR rfl fd_X9_80 rfl dX9_begins_109 rfl⟩, ?_⟩
  refine ⟨⟨mo_push, ok_bipush dX9_begins_112 iv_b10 rfl⟩, ?_⟩
  refine ⟨⟨mo_ild, ok_ild dX9_begins_114 rfl⟩, ?_⟩
  refine ⟨⟨mo_asI, ok_iast dX9_begins_116 rfl⟩, ?_⟩
  refine ⟨⟨mo_ald, ok_aldn dX9_begins_117 rfl rfl⟩, ?_⟩
  refine ⟨⟨mo_gR, ok_gR rfl fd_X9_80 rfl dX9_begins_118 rfl⟩, ?_⟩
  refine ⟨⟨mo_push, ok_bipush dX9_begins_121 iv_b11 rfl⟩, ?_⟩
  refine ⟨⟨mo_ald, ok_aldn dX9_begins_123 rfl rfl⟩, ?_⟩
  refine ⟨⟨mo_push, ok_sipush dX9_begins_124 iv_s1000 rfl⟩, ?_⟩
  refine ⟨⟨mo_push, ok_bipush dX9_begins_127 iv_bm2 rfl⟩, ?_⟩
  refine ⟨⟨mo_cvI, ok_cvI mi_X9_newBase lk_X9_294 q1738 qs60 rfl (Nat.le_of_ble_eq_true rfl) (iy_ro_le _) rfl rfl dX9_begins_129 rfl⟩, ?_⟩
  refine ⟨⟨mo_asI, ok_iast dX9_begins_132 rfl⟩, ?_⟩
  refine ⟨⟨mo_ald, ok_aldn dX9_begins_133 rfl rfl⟩, ?_⟩
  refine ⟨⟨mo_gR, ok_gR rfl fd_X9_80 rfl dX9_begins_134 rfl⟩, ?_⟩
  refine ⟨⟨mo_push, ok_iconst dX9_begins_137 iv_i1 rfl⟩, ?_⟩
  refine ⟨⟨mo_push, ok_iconst dX9_begins_138 iv_i2 rfl⟩, ?_⟩
  refine ⟨⟨mo_asI, ok_iast dX9_begins_139 rfl⟩, ?_⟩
  refine ⟨⟨mo_ret, ok_ret rfl dX9_begins_140⟩, ?_⟩
  exact trivial
set_option maxHeartbeats 4000000 in
theorem alX9_hand0 : iy_all (iy_calls iy_mi) RX9 "hand0" cX9_hand0 1 (some FieldType.int, []) pcX9_hand0 pcX9_hand0 stX9_hand0 := by
  refine ⟨⟨mo_push, ok_bipush dX9_hand0_0 iv_b42 rfl⟩, ?_⟩
  refine ⟨⟨mo_push, ok_bipush dX9_hand0_2 iv_b14 rfl⟩, ?_⟩
  refine ⟨⟨mo_ild, ok_ildn dX9_hand0_4 rfl rfl⟩, ?_⟩
  refine ⟨⟨mo_bin, ok_imul dX9_hand0_5 rfl⟩, ?_⟩
  refine ⟨⟨mo_bin, ok_iadd dX9_hand0_6 rfl⟩, ?_⟩
  refine ⟨⟨mo_iret, ok_iret rfl rfl dX9_hand0_7⟩, ?_⟩
  exact trivial
set_option maxHeartbeats 4000000 in
theorem alX9_newBase : iy_all (iy_calls iy_mi) RX9 "newBase" cX9_newBase 4 (some FieldType.int, []) pcX9_newBase pcX9_newBase stX9_newBase := by
  refine ⟨⟨mo_ald, ok_aldn dX9_newBase_0 rfl rfl⟩, ?_⟩
  refine ⟨⟨mo_push, ok_iconst dX9_newBase_1 iv_i0 rfl⟩, ?_⟩
  refine ⟨⟨mo_push, ok_bipush dX9_newBase_2 iv_bm2 rfl⟩, ?_⟩
  refine ⟨⟨mo_push, ok_bipush dX9_newBase_4 iv_bm2 rfl⟩, ?_⟩
  refine ⟨⟨mo_push, ok_bipush dX9_newBase_6 iv_bm2 rfl⟩, ?_⟩
  refine ⟨⟨mo_cvI, ok_cvI mi_X9_newRecord lk_X9_285 q1742 qs61 rfl (Nat.le_of_ble_eq_true rfl) (iy_ro_le _) rfl rfl dX9_newBase_8 rfl⟩, ?_⟩
  refine ⟨⟨mo_ist, ok_istn dX9_newBase_11 rfl (Nat.le_of_ble_eq_true rfl) rfl⟩, ?_⟩
  refine ⟨⟨mo_ald, ok_aldn dX9_newBase_12 rfl rfl⟩, ?_⟩
  refine ⟨⟨mo_gR, ok_gR rfl fd_X9_80 rfl dX9_newBase_13 rfl⟩, ?_⟩
  refine ⟨⟨mo_ild, ok_ildn dX9_newBase_16 rfl rfl⟩, ?_⟩
  refine ⟨⟨mo_csI, ok_csI mi_X9_record0 lk_X9_282 q1745 dX9_newBase_17 rfl⟩, ?_⟩
  refine ⟨⟨mo_push, ok_bipush dX9_newBase_20 iv_b7 rfl⟩, ?_⟩
  refine ⟨⟨mo_bin, ok_iadd dX9_newBase_22 rfl⟩, ?_⟩
  refine ⟨⟨mo_ild, ok_ildn dX9_newBase_23 rfl rfl⟩, ?_⟩
  refine ⟨⟨mo_asI, ok_iast dX9_newBase_24 rfl⟩, ?_⟩
  refine ⟨⟨mo_ald, ok_aldn dX9_newBase_25 rfl rfl⟩, ?_⟩
  refine ⟨⟨mo_gR, ok_gR rfl fd_X9_80 rfl dX9_newBase_26 rfl⟩, ?_⟩
  refine ⟨⟨mo_ild, ok_ildn dX9_newBase_29 rfl rfl⟩, ?_⟩
  refine ⟨⟨mo_csI, ok_csI mi_X9_record0 lk_X9_282 q1745 dX9_newBase_30 rfl⟩, ?_⟩
  refine ⟨⟨mo_push, ok_bipush dX9_newBase_33 iv_b8 rfl⟩, ?_⟩
  refine ⟨⟨mo_bin, ok_iadd dX9_newBase_35 rfl⟩, ?_⟩
  refine ⟨⟨mo_ild, ok_ildn dX9_newBase_36 rfl rfl⟩, ?_⟩
  refine ⟨⟨mo_asI, ok_iast dX9_newBase_37 rfl⟩, ?_⟩
  refine ⟨⟨mo_ild, ok_ildn dX9_newBase_38 rfl rfl⟩, ?_⟩
  refine ⟨⟨mo_iret, ok_iret rfl rfl dX9_newBase_39⟩, ?_⟩
  exact trivial
set_option maxHeartbeats 4000000 in
theorem alX9_newRecord : iy_all (iy_calls iy_mi) RX9 "newRecord" cX9_newRecord 7 (some FieldType.int, []) pcX9_newRecord pcX9_newRecord stX9_newRecord := by
  refine ⟨⟨mo_ald, ok_aldn dX9_newRecord_0 rfl rfl⟩, ?_⟩
  refine ⟨⟨mo_gR, ok_gR rfl fd_X9_80 rfl dX9_newRecord_1 rfl⟩, ?_⟩
  refine ⟨⟨mo_push, ok_iconst dX9_newRecord_4 iv_i0 rfl⟩, ?_⟩
  refine ⟨⟨mo_alI, ok_iald dX9_newRecord_5 rfl⟩, ?_⟩
  refine ⟨⟨mo_ist, ok_ist dX9_newRecord_6 (Nat.le_of_ble_eq_true rfl) rfl⟩, ?_⟩
  refine ⟨⟨mo_ild, ok_ild dX9_newRecord_8 rfl⟩, ?_⟩
  refine ⟨⟨mo_csI, ok_csI mi_X9_record0 lk_X9_282 q1745 dX9_newRecord_10 rfl⟩, ?_⟩
  refine ⟨⟨mo_ist, ok_ist dX9_newRecord_13 (Nat.le_of_ble_eq_true rfl) rfl⟩, ?_⟩
  refine ⟨⟨mo_ald, ok_aldn dX9_newRecord_15 rfl rfl⟩, ?_⟩
  refine ⟨⟨mo_gR, ok_gR rfl fd_X9_80 rfl dX9_newRecord_16 rfl⟩, ?_⟩
  refine ⟨⟨mo_ild, ok_ild dX9_newRecord_19 rfl⟩, ?_⟩
  refine ⟨⟨mo_push, ok_iconst dX9_newRecord_21 iv_i0 rfl⟩, ?_⟩
  refine ⟨⟨mo_bin, ok_iadd dX9_newRecord_22 rfl⟩, ?_⟩
  refine ⟨⟨mo_ild, ok_ildn dX9_newRecord_23 rfl rfl⟩, ?_⟩
  refine ⟨⟨mo_asI, ok_iast dX9_newRecord_24 rfl⟩, ?_⟩
  refine ⟨⟨mo_ald, ok_aldn dX9_newRecord_25 rfl rfl⟩, ?_⟩
  refine ⟨⟨mo_gR, ok_gR rfl fd_X9_80 rfl dX9_newRecord_26 rfl⟩, ?_⟩
  refine ⟨⟨mo_ild, ok_ild dX9_newRecord_29 rfl⟩, ?_⟩
  refine ⟨⟨mo_push, ok_iconst dX9_newRecord_31 iv_i1 rfl⟩, ?_⟩
  refine ⟨⟨mo_bin, ok_iadd dX9_newRecord_32 rfl⟩, ?_⟩
  refine ⟨⟨mo_ild, ok_ildn dX9_newRecord_33 rfl rfl⟩, ?_⟩
  refine ⟨⟨mo_asI, ok_iast dX9_newRecord_34 rfl⟩, ?_⟩
  refine ⟨⟨mo_ald, ok_aldn dX9_newRecord_35 rfl rfl⟩, ?_⟩
  refine ⟨⟨mo_gR, ok_gR rfl fd_X9_80 rfl dX9_newRecord_36 rfl⟩, ?_⟩
  refine ⟨⟨mo_ild, ok_ild dX9_newRecord_39 rfl⟩, ?_⟩
  refine ⟨⟨mo_push, ok_iconst dX9_newRecord_41 iv_i2 rfl⟩, ?_⟩
  refine ⟨⟨mo_bin, ok_iadd dX9_newRecord_42 rfl⟩, ?_⟩
  refine ⟨⟨mo_ild, ok_ildn dX9_newRecord_43 rfl rfl⟩, ?_⟩
  refine ⟨⟨mo_asI, ok_iast dX9_newRecord_44 rfl⟩, ?_⟩
  refine ⟨⟨mo_ald, ok_aldn dX9_newRecord_45 rfl rfl⟩, ?_⟩
  refine ⟨⟨mo_gR, ok_gR rfl fd_X9_80 rfl dX9_newRecord_46 rfl⟩, ?_⟩
  refine ⟨⟨mo_ild, ok_ild dX9_newRecord_49 rfl⟩, ?_⟩
  refine ⟨⟨mo_push, ok_iconst dX9_newRecord_51 iv_i3 rfl⟩, ?_⟩
  refine ⟨⟨mo_bin, ok_iadd dX9_newRecord_52 rfl⟩, ?_⟩
  refine ⟨⟨mo_ild, ok_ild dX9_newRecord_53 rfl⟩, ?_⟩
  refine ⟨⟨mo_asI, ok_iast dX9_newRecord_55 rfl⟩, ?_⟩
  refine ⟨⟨mo_ald, ok_aldn dX9_newRecord_56 rfl rfl⟩, ?_⟩
  refine ⟨⟨mo_gR, ok_gR rfl fd_X9_80 rfl dX9_newRecord_57 rfl⟩, ?_⟩
  refine ⟨⟨mo_ild, ok_ild dX9_newRecord_60 rfl⟩, ?_⟩
  refine ⟨⟨mo_push, ok_iconst dX9_newRecord_62 iv_i4 rfl⟩, ?_⟩
  refine ⟨⟨mo_bin, ok_iadd dX9_newRecord_63 rfl⟩, ?_⟩
  refine ⟨⟨mo_push, ok_bipush dX9_newRecord_64 iv_bm2 rfl⟩, ?_⟩
  refine ⟨⟨mo_asI, ok_iast dX9_newRecord_66 rfl⟩, ?_⟩
  refine ⟨⟨mo_ald, ok_aldn dX9_newRecord_67 rfl rfl⟩, ?_⟩
  refine ⟨⟨mo_gR, ok_gR rfl fd_X9_80 rfl dX9_newRecord_68 rfl⟩, ?_⟩
  refine ⟨⟨mo_ild, ok_ild dX9_newRecord_71 rfl⟩, ?_⟩
  refine ⟨⟨mo_push, ok_iconst dX9_newRecord_73 iv_i5 rfl⟩, ?_⟩
  refine ⟨⟨mo_bin, ok_iadd dX9_newRecord_74 rfl⟩, ?_⟩
  refine ⟨⟨mo_push, ok_iconst dX9_newRecord_75 iv_i0 rfl⟩, ?_⟩
  refine ⟨⟨mo_asI, ok_iast dX9_newRecord_76 rfl⟩, ?_⟩
  refine ⟨⟨mo_ald, ok_aldn dX9_newRecord_77 rfl rfl⟩, ?_⟩
  refine ⟨⟨mo_gR, ok_gR rfl fd_X9_80 rfl dX9_newRecord_78 rfl⟩, ?_⟩
  refine ⟨⟨mo_ild, ok_ild dX9_newRecord_81 rfl⟩, ?_⟩
  refine ⟨⟨mo_push, ok_bipush dX9_newRecord_83 iv_b6 rfl⟩, ?_⟩
  refine ⟨⟨mo_bin, ok_iadd dX9_newRecord_85 rfl⟩, ?_⟩
  refine ⟨⟨mo_push, ok_iconst dX9_newRecord_86 iv_i0 rfl⟩, ?_⟩
  refine ⟨⟨mo_asI, ok_iast dX9_newRecord_87 rfl⟩, ?_⟩
  refine ⟨⟨mo_ald, ok_aldn dX9_newRecord_88 rfl rfl⟩, ?_⟩
  refine ⟨⟨mo_gR, ok_gR rfl fd_X9_80 rfl dX9_newRecord_89 rfl⟩, ?_⟩
  refine ⟨⟨mo_ild, ok_ild dX9_newRecord_92 rfl⟩, ?_⟩
  refine ⟨⟨mo_push, ok_bipush dX9_newRecord_94 iv_b7 rfl⟩, ?_⟩
  refine ⟨⟨mo_bin, ok_iadd dX9_newRecord_96 rfl⟩, ?_⟩
  refine ⟨⟨mo_push, ok_iconst dX9_newRecord_97 iv_i0 rfl⟩, ?_⟩
  refine ⟨⟨mo_asI, ok_iast dX9_newRecord_98 rfl⟩, ?_⟩
  refine ⟨⟨mo_ald, ok_aldn dX9_newRecord_99 rfl rfl⟩, ?_⟩
  refine ⟨⟨mo_gR, ok_gR rfl fd_X9_80 rfl dX9_newRecord_100 rfl⟩, ?_⟩
  refine ⟨⟨mo_ild, ok_ild dX9_newRecord_103 rfl⟩, ?_⟩
  refine ⟨⟨mo_push, ok_bipush dX9_newRecord_105 iv_b8 rfl⟩, ?_⟩
  refine ⟨⟨mo_bin, ok_iadd dX9_newRecord_107 rfl⟩, ?_⟩
  refine ⟨⟨mo_push, ok_bipush dX9_newRecord_108 iv_bm2 rfl⟩, ?_⟩
  refine ⟨⟨mo_asI, ok_iast dX9_newRecord_110 rfl⟩, ?_⟩
  refine ⟨⟨mo_ald, ok_aldn dX9_newRecord_111 rfl rfl⟩, ?_⟩
  refine ⟨⟨mo_gR, ok_gR rfl fd_X9_80 rfl dX9_newRecord_112 rfl⟩, ?_⟩
  refine ⟨⟨mo_ild, ok_ild dX9_newRecord_115 rfl⟩, ?_⟩
  refine ⟨⟨mo_push, ok_bipush dX9_newRecord_117 iv_b9 rfl⟩, ?_⟩
  refine ⟨⟨mo_bin, ok_iadd dX9_newRecord_119 rfl⟩, ?_⟩
  refine ⟨⟨mo_push, ok_bipush dX9_newRecord_120 iv_bm2 rfl⟩, ?_⟩
  refine ⟨⟨mo_asI, ok_iast dX9_newRecord_122 rfl⟩, ?_⟩
  refine ⟨⟨mo_ald, ok_aldn dX9_newRecord_123 rfl rfl⟩, ?_⟩
  refine ⟨⟨mo_gR, ok_gR rfl fd_X9_80 rfl dX9_newRecord_124 rfl⟩, ?_⟩
  refine ⟨⟨mo_push, ok_iconst dX9_newRecord_127 iv_i0 rfl⟩, ?_⟩
  refine ⟨⟨mo_dup2, ok_dup2 dX9_newRecord_128 rfl⟩, ?_⟩
  refine ⟨⟨mo_alI, ok_iald dX9_newRecord_129 rfl⟩, ?_⟩
  refine ⟨⟨mo_push, ok_iconst dX9_newRecord_130 iv_i1 rfl⟩, ?_⟩
  refine ⟨⟨mo_bin, ok_iadd dX9_newRecord_131 rfl⟩, ?_⟩
  refine ⟨⟨mo_asI, ok_iast dX9_newRecord_132 rfl⟩, ?_⟩
  refine ⟨⟨mo_ild, ok_ild dX9_newRecord_133 rfl⟩, ?_⟩
  refine ⟨⟨mo_iret, ok_iret rfl rfl dX9_newRecord_135⟩, ?_⟩
  exact trivial
set_option maxHeartbeats 4000000 in
theorem alX9_record0 : iy_all (iy_calls iy_mi) RX9 "record0" cX9_record0 1 (some FieldType.int, []) pcX9_record0 pcX9_record0 stX9_record0 := by
  refine ⟨⟨mo_push, ok_bipush dX9_record0_0 iv_b100 rfl⟩, ?_⟩
  refine ⟨⟨mo_push, ok_bipush dX9_record0_2 iv_b10 rfl⟩, ?_⟩
  refine ⟨⟨mo_ild, ok_ildn dX9_record0_4 rfl rfl⟩, ?_⟩
  refine ⟨⟨mo_bin, ok_imul dX9_record0_5 rfl⟩, ?_⟩
  refine ⟨⟨mo_bin, ok_iadd dX9_record0_6 rfl⟩, ?_⟩
  refine ⟨⟨mo_iret, ok_iret rfl rfl dX9_record0_7⟩, ?_⟩
  exact trivial
set_option maxHeartbeats 4000000 in
theorem alX9_adds : iy_all (iy_calls iy_mi) RX9 "adds" cX9_adds 5 (none, []) pcX9_adds pcX9_adds stX9_adds := by
  refine ⟨⟨mo_push, ok_sipush dX9_adds_0 iv_s14100 rfl⟩, ?_⟩
  refine ⟨⟨mo_push, ok_bipush dX9_adds_3 iv_b88 rfl⟩, ?_⟩
  refine ⟨⟨mo_ild, ok_ildn dX9_adds_5 rfl rfl⟩, ?_⟩
  refine ⟨⟨mo_bin, ok_imul dX9_adds_6 rfl⟩, ?_⟩
  refine ⟨⟨mo_bin, ok_iadd dX9_adds_7 rfl⟩, ?_⟩
  refine ⟨⟨mo_push, ok_iconst dX9_adds_8 iv_i2 rfl⟩, ?_⟩
  refine ⟨⟨mo_ald, ok_aldn dX9_adds_9 rfl rfl⟩, ?_⟩
  refine ⟨⟨mo_ild, ok_ildn dX9_adds_10 rfl rfl⟩, ?_⟩
  refine ⟨⟨mo_push, ok_bipush dX9_adds_11 iv_b6 rfl⟩, ?_⟩
  refine ⟨⟨mo_cvI, ok_cvI mi_X9_ofRecord lk_X9_288 q1753 qs63 rfl (Nat.le_of_ble_eq_true rfl) (iy_ro_le _) rfl rfl dX9_adds_13 rfl⟩, ?_⟩
  refine ⟨⟨mo_bin, ok_imul dX9_adds_16 rfl⟩, ?_⟩
  refine ⟨⟨mo_bin, ok_iadd dX9_adds_17 rfl⟩, ?_⟩
  refine ⟨⟨mo_ist, ok_ist dX9_adds_18 (Nat.le_of_ble_eq_true rfl) rfl⟩, ?_⟩
  refine ⟨⟨mo_ald, ok_aldn dX9_adds_20 rfl rfl⟩, ?_⟩
  refine ⟨⟨mo_gR, ok_gR rfl fd_X9_80 rfl dX9_adds_21 rfl⟩, ?_⟩
  refine ⟨⟨mo_ild, ok_ild dX9_adds_24 rfl⟩, ?_⟩
  refine ⟨⟨mo_ild, ok_ildn dX9_adds_26 rfl rfl⟩, ?_⟩
  refine ⟨⟨mo_asI, ok_iast dX9_adds_27 rfl⟩, ?_⟩
  refine ⟨⟨mo_ald, ok_aldn dX9_adds_28 rfl rfl⟩, ?_⟩
  refine ⟨⟨mo_gR, ok_gR rfl fd_X9_80 rfl dX9_adds_29 rfl⟩, ?_⟩
  refine ⟨⟨mo_ild, ok_ild dX9_adds_32 rfl⟩, ?_⟩
  refine ⟨⟨mo_push, ok_iconst dX9_adds_34 iv_i1 rfl⟩, ?_⟩
  refine ⟨⟨mo_bin, ok_iadd dX9_adds_35 rfl⟩, ?_⟩
  refine ⟨⟨mo_ild, ok_ildn dX9_adds_36 rfl rfl⟩, ?_⟩
  refine ⟨⟨mo_asI, ok_iast dX9_adds_37 rfl⟩, ?_⟩
  refine ⟨⟨mo_ald, ok_aldn dX9_adds_38 rfl rfl⟩, ?_⟩
  refine ⟨⟨mo_gR, ok_gR rfl fd_X9_80 rfl dX9_adds_39 rfl⟩, ?_⟩
  refine ⟨⟨mo_ild, ok_ildn dX9_adds_42 rfl rfl⟩, ?_⟩
  refine ⟨⟨mo_csI, ok_csI mi_X9_record0 lk_X9_282 q1745 dX9_adds_43 rfl⟩, ?_⟩
  refine ⟨⟨mo_push, ok_bipush dX9_adds_46 iv_b6 rfl⟩, ?_⟩
  refine ⟨⟨mo_bin, ok_iadd dX9_adds_48 rfl⟩, ?_⟩
  refine ⟨⟨mo_dup2, ok_dup2 dX9_adds_49 rfl⟩, ?_⟩
  refine ⟨⟨mo_alI, ok_iald dX9_adds_50 rfl⟩, ?_⟩
  refine ⟨⟨mo_push, ok_iconst dX9_adds_51 iv_i1 rfl⟩, ?_⟩
  refine ⟨⟨mo_bin, ok_iadd dX9_adds_52 rfl⟩, ?_⟩
  refine ⟨⟨mo_asI, ok_iast dX9_adds_53 rfl⟩, ?_⟩
  refine ⟨⟨mo_ret, ok_ret rfl dX9_adds_54⟩, ?_⟩
  exact trivial
set_option maxHeartbeats 4000000 in
theorem alX9_ofRecord : iy_all (iy_calls iy_mi) RX9 "ofRecord" cX9_ofRecord 3 (some FieldType.int, []) pcX9_ofRecord pcX9_ofRecord stX9_ofRecord := by
  refine ⟨⟨mo_ald, ok_aldn dX9_ofRecord_0 rfl rfl⟩, ?_⟩
  refine ⟨⟨mo_gR, ok_gR rfl fd_X9_80 rfl dX9_ofRecord_1 rfl⟩, ?_⟩
  refine ⟨⟨mo_push, ok_bipush dX9_ofRecord_4 iv_b100 rfl⟩, ?_⟩
  refine ⟨⟨mo_push, ok_bipush dX9_ofRecord_6 iv_b10 rfl⟩, ?_⟩
  refine ⟨⟨mo_ild, ok_ildn dX9_ofRecord_8 rfl rfl⟩, ?_⟩
  refine ⟨⟨mo_bin, ok_imul dX9_ofRecord_9 rfl⟩, ?_⟩
  refine ⟨⟨mo_bin, ok_iadd dX9_ofRecord_10 rfl⟩, ?_⟩
  refine ⟨⟨mo_ild, ok_ildn dX9_ofRecord_11 rfl rfl⟩, ?_⟩
  refine ⟨⟨mo_bin, ok_iadd dX9_ofRecord_12 rfl⟩, ?_⟩
  refine ⟨⟨mo_alI, ok_iald dX9_ofRecord_13 rfl⟩, ?_⟩
  refine ⟨⟨mo_iret, ok_iret rfl rfl dX9_ofRecord_14⟩, ?_⟩
  exact trivial
set_option maxHeartbeats 4000000 in
theorem alX9_feed : iy_all (iy_calls iy_mi) RX9 "feed" cX9_feed 6 (some FieldType.int, []) pcX9_feed pcX9_feed stX9_feed := by
  refine ⟨⟨mo_ald, ok_aldn dX9_feed_0 rfl rfl⟩, ?_⟩
  refine ⟨⟨mo_gI, ok_gI rfl fd_X9_129 rfl dX9_feed_1 rfl⟩, ?_⟩
  refine ⟨⟨mo_push, ok_bipush dX9_feed_4 iv_b20 rfl⟩, ?_⟩
  refine ⟨⟨mo_bin, ok_iadd dX9_feed_6 rfl⟩, ?_⟩
  refine ⟨⟨mo_push, ok_sipush dX9_feed_7 iv_s2000 rfl⟩, ?_⟩
  refine ⟨⟨mo_cle, ok_cle dX9_feed_10 rfl rfl⟩, ?_⟩
  refine ⟨⟨mo_push, ok_iconst dX9_feed_13 iv_im1 rfl⟩, ?_⟩
  refine ⟨⟨mo_iret, ok_iret rfl rfl dX9_feed_14⟩, ?_⟩
  refine ⟨⟨mo_ald, ok_aldn dX9_feed_15 rfl rfl⟩, ?_⟩
  refine ⟨⟨mo_ild, ok_ildn dX9_feed_16 rfl rfl⟩, ?_⟩
  refine ⟨⟨mo_cvV, ok_cvV mi_X9_lays lk_X9_132 q1927 qs64 rfl (Nat.le_of_ble_eq_true rfl) (iy_ro_le _) rfl rfl dX9_feed_17 rfl⟩, ?_⟩
  refine ⟨⟨mo_ald, ok_aldn dX9_feed_20 rfl rfl⟩, ?_⟩
  refine ⟨⟨mo_ild, ok_ildn dX9_feed_21 rfl rfl⟩, ?_⟩
  refine ⟨⟨mo_cvV, ok_cvV mi_X9_lays lk_X9_132 q1927 qs64 rfl (Nat.le_of_ble_eq_true rfl) (iy_ro_le _) rfl rfl dX9_feed_22 rfl⟩, ?_⟩
  refine ⟨⟨mo_ald, ok_aldn dX9_feed_25 rfl rfl⟩, ?_⟩
  refine ⟨⟨mo_ild, ok_ildn dX9_feed_26 rfl rfl⟩, ?_⟩
  refine ⟨⟨mo_cvV, ok_cvV mi_X9_lays lk_X9_132 q1927 qs64 rfl (Nat.le_of_ble_eq_true rfl) (iy_ro_le _) rfl rfl dX9_feed_27 rfl⟩, ?_⟩
  refine ⟨⟨mo_ald, ok_aldn dX9_feed_30 rfl rfl⟩, ?_⟩
  refine ⟨⟨mo_ild, ok_ild dX9_feed_31 rfl⟩, ?_⟩
  refine ⟨⟨mo_cvV, ok_cvV mi_X9_lays lk_X9_132 q1927 qs64 rfl (Nat.le_of_ble_eq_true rfl) (iy_ro_le _) rfl rfl dX9_feed_33 rfl⟩, ?_⟩
  refine ⟨⟨mo_ald, ok_aldn dX9_feed_36 rfl rfl⟩, ?_⟩
  refine ⟨⟨mo_ild, ok_ild dX9_feed_37 rfl⟩, ?_⟩
  refine ⟨⟨mo_cvV, ok_cvV mi_X9_lays lk_X9_132 q1927 qs64 rfl (Nat.le_of_ble_eq_true rfl) (iy_ro_le _) rfl rfl dX9_feed_39 rfl⟩, ?_⟩
  refine ⟨⟨mo_ald, ok_aldn dX9_feed_42 rfl rfl⟩, ?_⟩
  refine ⟨⟨mo_gI, ok_gI rfl fd_X9_129 rfl dX9_feed_43 rfl⟩, ?_⟩
  refine ⟨⟨mo_iret, ok_iret rfl rfl dX9_feed_46⟩, ?_⟩
  exact trivial
set_option maxHeartbeats 4000000 in
theorem alX9_lays : iy_all (iy_calls iy_mi) RX9 "lays" cX9_lays 3 (none, []) pcX9_lays pcX9_lays stX9_lays := by
  refine ⟨⟨mo_push, ok_bipush dX9_lays_0 iv_b24 rfl⟩, ?_⟩
  refine ⟨⟨mo_ist, ok_istn dX9_lays_2 rfl (Nat.le_of_ble_eq_true rfl) rfl⟩, ?_⟩
  refine ⟨⟨mo_keep, ok_keep rfl⟩, ?_⟩
  refine ⟨⟨mo_ild, ok_ildn dX9_lays_3 rfl rfl⟩, ?_⟩
  refine ⟨⟨mo_ilt, ok_ilt dX9_lays_4 rfl rfl⟩, ?_⟩
  refine ⟨⟨mo_ald, ok_aldn dX9_lays_7 rfl rfl⟩, ?_⟩
  refine ⟨⟨mo_gR, ok_gR rfl fd_X9_13 rfl dX9_lays_8 rfl⟩, ?_⟩
  refine ⟨⟨mo_ald, ok_aldn dX9_lays_11 rfl rfl⟩, ?_⟩
  refine ⟨⟨mo_gI, ok_gI rfl fd_X9_129 rfl dX9_lays_12 rfl⟩, ?_⟩
  refine ⟨⟨mo_ild, ok_ildn dX9_lays_15 rfl rfl⟩, ?_⟩
  refine ⟨⟨mo_ild, ok_ildn dX9_lays_16 rfl rfl⟩, ?_⟩
  refine ⟨⟨mo_bin, ok_ishr dX9_lays_17 rfl⟩, ?_⟩
  refine ⟨⟨mo_un, ok_i2b dX9_lays_18 rfl⟩, ?_⟩
  refine ⟨⟨mo_asI, ok_bast dX9_lays_19 rfl⟩, ?_⟩
  refine ⟨⟨mo_ald, ok_aldn dX9_lays_20 rfl rfl⟩, ?_⟩
  refine ⟨⟨mo_dup, ok_dup dX9_lays_21 rfl⟩, ?_⟩
  refine ⟨⟨mo_gI, ok_gI rfl fd_X9_129 rfl dX9_lays_22 rfl⟩, ?_⟩
  refine ⟨⟨mo_push, ok_iconst dX9_lays_25 iv_i1 rfl⟩, ?_⟩
  refine ⟨⟨mo_bin, ok_iadd dX9_lays_26 rfl⟩, ?_⟩
  refine ⟨⟨mo_pI, ok_pI rfl fd_X9_129 rfl (Or.inl rfl) dX9_lays_27 rfl⟩, ?_⟩
  refine ⟨⟨mo_inc, ok_inc dX9_lays_30 iv_im8 (Nat.le_of_ble_eq_true rfl) rfl⟩, ?_⟩
  refine ⟨⟨mo_back, ok_back dX9_lays_33 rfl⟩, ?_⟩
  refine ⟨⟨mo_ret, ok_ret rfl dX9_lays_36⟩, ?_⟩
  exact trivial
set_option maxHeartbeats 4000000 in
theorem alX9_back : iy_all (iy_calls iy_mi) RX9 "back" cX9_back 2 (some FieldType.int, []) pcX9_back pcX9_back stX9_back := by
  refine ⟨⟨mo_ild, ok_ildn dX9_back_0 rfl rfl⟩, ?_⟩
  refine ⟨⟨mo_ilt, ok_ilt dX9_back_1 rfl rfl⟩, ?_⟩
  refine ⟨⟨mo_ild, ok_ildn dX9_back_4 rfl rfl⟩, ?_⟩
  refine ⟨⟨mo_ald, ok_aldn dX9_back_5 rfl rfl⟩, ?_⟩
  refine ⟨⟨mo_gI, ok_gI rfl fd_X9_129 rfl dX9_back_6 rfl⟩, ?_⟩
  refine ⟨⟨mo_cle, ok_cle dX9_back_9 rfl rfl⟩, ?_⟩
  refine ⟨⟨mo_keep, ok_keep rfl⟩, ?_⟩
  refine ⟨⟨mo_push, ok_iconst dX9_back_12 iv_im1 rfl⟩, ?_⟩
  refine ⟨⟨mo_iret, ok_iret rfl rfl dX9_back_13⟩, ?_⟩
  refine ⟨⟨mo_ald, ok_aldn dX9_back_14 rfl rfl⟩, ?_⟩
  refine ⟨⟨mo_dup, ok_dup dX9_back_15 rfl⟩, ?_⟩
  refine ⟨⟨mo_gI, ok_gI rfl fd_X9_129 rfl dX9_back_16 rfl⟩, ?_⟩
  refine ⟨⟨mo_ild, ok_ildn dX9_back_19 rfl rfl⟩, ?_⟩
  refine ⟨⟨mo_bin, ok_isub dX9_back_20 rfl⟩, ?_⟩
  refine ⟨⟨mo_pI, ok_pI rfl fd_X9_129 rfl (Or.inl rfl) dX9_back_21 rfl⟩, ?_⟩
  refine ⟨⟨mo_ald, ok_aldn dX9_back_24 rfl rfl⟩, ?_⟩
  refine ⟨⟨mo_gI, ok_gI rfl fd_X9_129 rfl dX9_back_25 rfl⟩, ?_⟩
  refine ⟨⟨mo_iret, ok_iret rfl rfl dX9_back_28⟩, ?_⟩
  exact trivial
set_option maxHeartbeats 4000000 in
theorem alX9_read : iy_all (iy_calls iy_mi) RX9 "read" cX9_read 5 (some FieldType.int, []) pcX9_read pcX9_read stX9_read := by
  refine ⟨⟨mo_ald, ok_aldn dX9_read_0 rfl rfl⟩, ?_⟩
  refine ⟨⟨mo_ald, ok_aldn dX9_read_1 rfl rfl⟩, ?_⟩
  refine ⟨⟨mo_gI, ok_gI rfl fd_X9_129 rfl dX9_read_2 rfl⟩, ?_⟩
  refine ⟨⟨mo_pI, ok_pI rfl fd_X9_136 rfl (Or.inl rfl) dX9_read_5 rfl⟩, ?_⟩
  refine ⟨⟨mo_push, ok_iconst dX9_read_8 iv_i0 rfl⟩, ?_⟩
  refine ⟨⟨mo_ist, ok_istn dX9_read_9 rfl (Nat.le_of_ble_eq_true rfl) rfl⟩, ?_⟩
  refine ⟨⟨mo_keep, ok_keep rfl⟩, ?_⟩
  refine ⟨⟨mo_ild, ok_ildn dX9_read_10 rfl rfl⟩, ?_⟩
  refine ⟨⟨mo_ald, ok_aldn dX9_read_11 rfl rfl⟩, ?_⟩
  refine ⟨⟨mo_gI, ok_gI rfl fd_X9_136 rfl dX9_read_12 rfl⟩, ?_⟩
  refine ⟨⟨mo_cge, ok_cge dX9_read_15 rfl rfl⟩, ?_⟩
  refine ⟨⟨mo_ald, ok_aldn dX9_read_18 rfl rfl⟩, ?_⟩
  refine ⟨⟨mo_gR, ok_gR rfl fd_X9_17 rfl dX9_read_19 rfl⟩, ?_⟩
  refine ⟨⟨mo_ild, ok_ildn dX9_read_22 rfl rfl⟩, ?_⟩
  refine ⟨⟨mo_ald, ok_aldn dX9_read_23 rfl rfl⟩, ?_⟩
  refine ⟨⟨mo_gR, ok_gR rfl fd_X9_13 rfl dX9_read_24 rfl⟩, ?_⟩
  refine ⟨⟨mo_ild, ok_ildn dX9_read_27 rfl rfl⟩, ?_⟩
  refine ⟨⟨mo_alI, ok_bald dX9_read_28 rfl⟩, ?_⟩
  refine ⟨⟨mo_asI, ok_bast dX9_read_29 rfl⟩, ?_⟩
  refine ⟨⟨mo_inc, ok_inc dX9_read_30 iv_i1 (Nat.le_of_ble_eq_true rfl) rfl⟩, ?_⟩
  refine ⟨⟨mo_back, ok_back dX9_read_33 rfl⟩, ?_⟩
  refine ⟨⟨mo_ald, ok_aldn dX9_read_36 rfl rfl⟩, ?_⟩
  refine ⟨⟨mo_push, ok_iconst dX9_read_37 iv_i0 rfl⟩, ?_⟩
  refine ⟨⟨mo_pI, ok_pI rfl fd_X9_129 rfl (Or.inl rfl) dX9_read_38 rfl⟩, ?_⟩
  refine ⟨⟨mo_ald, ok_aldn dX9_read_41 rfl rfl⟩, ?_⟩
  refine ⟨⟨mo_cvV, ok_cvV mi_X9_cutsUp lk_X9_191 q1939 qs65 rfl (Nat.le_of_ble_eq_true rfl) (iy_ro_le _) rfl rfl dX9_read_42 rfl⟩, ?_⟩
  refine ⟨⟨mo_ald, ok_aldn dX9_read_45 rfl rfl⟩, ?_⟩
  refine ⟨⟨mo_push, ok_iconst dX9_read_46 iv_i0 rfl⟩, ?_⟩
  refine ⟨⟨mo_pI, ok_pI rfl fd_X9_170 rfl (Or.inl rfl) dX9_read_47 rfl⟩, ?_⟩
  refine ⟨⟨mo_ald, ok_aldn dX9_read_50 rfl rfl⟩, ?_⟩
  refine ⟨⟨mo_push, ok_iconst dX9_read_51 iv_i0 rfl⟩, ?_⟩
  refine ⟨⟨mo_pI, ok_pI rfl fd_X9_194 rfl (Or.inl rfl) dX9_read_52 rfl⟩, ?_⟩
  refine ⟨⟨mo_ald, ok_aldn dX9_read_55 rfl rfl⟩, ?_⟩
  refine ⟨⟨mo_push, ok_iconst dX9_read_56 iv_i0 rfl⟩, ?_⟩
  refine ⟨⟨mo_pI, ok_pI rfl fd_X9_167 rfl (Or.inl rfl) dX9_read_57 rfl⟩, ?_⟩
  refine ⟨⟨mo_ald, ok_aldn dX9_read_60 rfl rfl⟩, ?_⟩
  refine ⟨⟨mo_push, ok_iconst dX9_read_61 iv_i0 rfl⟩, ?_⟩
  refine ⟨⟨mo_pI, ok_pI rfl fd_X9_176 rfl (Or.inl rfl) dX9_read_62 rfl⟩, ?_⟩
  refine ⟨⟨mo_ald, ok_aldn dX9_read_65 rfl rfl⟩, ?_⟩
  refine ⟨⟨mo_push, ok_iconst dX9_read_66 iv_i0 rfl⟩, ?_⟩
  refine ⟨⟨mo_pI, ok_pI rfl fd_X9_197 rfl (Or.inl rfl) dX9_read_67 rfl⟩, ?_⟩
  refine ⟨⟨mo_ald, ok_aldn dX9_read_70 rfl rfl⟩, ?_⟩
  refine ⟨⟨mo_push, ok_iconst dX9_read_71 iv_i0 rfl⟩, ?_⟩
  refine ⟨⟨mo_pI, ok_pI rfl fd_X9_200 rfl (Or.inl rfl) dX9_read_72 rfl⟩, ?_⟩
  refine ⟨⟨mo_ald, ok_aldn dX9_read_75 rfl rfl⟩, ?_⟩
  refine ⟨⟨mo_push, ok_iconst dX9_read_76 iv_i0 rfl⟩, ?_⟩
  refine ⟨⟨mo_pI, ok_pI rfl fd_X9_203 rfl (Or.inl rfl) dX9_read_77 rfl⟩, ?_⟩
  refine ⟨⟨mo_ald, ok_aldn dX9_read_80 rfl rfl⟩, ?_⟩
  refine ⟨⟨mo_push, ok_bipush dX9_read_81 iv_b20 rfl⟩, ?_⟩
  refine ⟨⟨mo_push, ok_iconst dX9_read_83 iv_i1 rfl⟩, ?_⟩
  refine ⟨⟨mo_push, ok_bipush dX9_read_84 iv_b8 rfl⟩, ?_⟩
  refine ⟨⟨mo_push, ok_iconst dX9_read_86 iv_i3 rfl⟩, ?_⟩
  refine ⟨⟨mo_cvI, ok_cvI mi_X9_toldOr lk_X9_206 q1961 qs69 rfl (Nat.le_of_ble_eq_true rfl) (iy_ro_le _) rfl rfl dX9_read_87 rfl⟩, ?_⟩
  refine ⟨⟨mo_ist, ok_istn dX9_read_90 rfl (Nat.le_of_ble_eq_true rfl) rfl⟩, ?_⟩
  refine ⟨⟨mo_ald, ok_aldn dX9_read_91 rfl rfl⟩, ?_⟩
  refine ⟨⟨mo_push, ok_bipush dX9_read_92 iv_b21 rfl⟩, ?_⟩
  refine ⟨⟨mo_push, ok_iconst dX9_read_94 iv_i4 rfl⟩, ?_⟩
  refine ⟨⟨mo_push, ok_bipush dX9_read_95 iv_b12 rfl⟩, ?_⟩
  refine ⟨⟨mo_push, ok_bipush dX9_read_97 iv_b6 rfl⟩, ?_⟩
  refine ⟨⟨mo_cvI, ok_cvI mi_X9_toldOr lk_X9_206 q1961 qs69 rfl (Nat.le_of_ble_eq_true rfl) (iy_ro_le _) rfl rfl dX9_read_99 rfl⟩, ?_⟩
  refine ⟨⟨mo_ist, ok_istn dX9_read_102 rfl (Nat.le_of_ble_eq_true rfl) rfl⟩, ?_⟩
  refine ⟨⟨mo_ald, ok_aldn dX9_read_103 rfl rfl⟩, ?_⟩
  refine ⟨⟨mo_push, ok_bipush dX9_read_104 iv_b22 rfl⟩, ?_⟩
  refine ⟨⟨mo_push, ok_iconst dX9_read_106 iv_i0 rfl⟩, ?_⟩
  refine ⟨⟨mo_push, ok_iconst dX9_read_107 iv_i3 rfl⟩, ?_⟩
  refine ⟨⟨mo_push, ok_iconst dX9_read_108 iv_i2 rfl⟩, ?_⟩
  refine ⟨⟨mo_cvI, ok_cvI mi_X9_toldOr lk_X9_206 q1961 qs69 rfl (Nat.le_of_ble_eq_true rfl) (iy_ro_le _) rfl rfl dX9_read_109 rfl⟩, ?_⟩
  refine ⟨⟨mo_ist, ok_istn dX9_read_112 rfl (Nat.le_of_ble_eq_true rfl) rfl⟩, ?_⟩
  refine ⟨⟨mo_keep, ok_keep rfl⟩, ?_⟩
  refine ⟨⟨mo_ald, ok_aldn dX9_read_113 rfl rfl⟩, ?_⟩
  refine ⟨⟨mo_gI, ok_gI rfl fd_X9_167 rfl dX9_read_114 rfl⟩, ?_⟩
  refine ⟨⟨mo_ine, ok_ine dX9_read_117 rfl rfl⟩, ?_⟩
  refine ⟨⟨mo_ald, ok_aldn dX9_read_120 rfl rfl⟩, ?_⟩
  refine ⟨⟨mo_push, ok_iconst dX9_read_121 iv_i0 rfl⟩, ?_⟩
  refine ⟨⟨mo_cvI, ok_cvI mi_X9_is lk_X9_185 q1965 qs70 rfl (Nat.le_of_ble_eq_true rfl) (iy_ro_le _) rfl rfl dX9_read_122 rfl⟩, ?_⟩
  refine ⟨⟨mo_ine, ok_ine dX9_read_125 rfl rfl⟩, ?_⟩
  refine ⟨⟨mo_ald, ok_aldn dX9_read_128 rfl rfl⟩, ?_⟩
  refine ⟨⟨mo_cvV, ok_cvV mi_X9_tellOne lk_X9_210 q1989 qs76 rfl (Nat.le_of_ble_eq_true rfl) (iy_ro_le _) rfl rfl dX9_read_129 rfl⟩, ?_⟩
  refine ⟨⟨mo_back, ok_back dX9_read_132 rfl⟩, ?_⟩
  refine ⟨⟨mo_keep, ok_keep rfl⟩, ?_⟩
  refine ⟨⟨mo_ald, ok_aldn dX9_read_135 rfl rfl⟩, ?_⟩
  refine ⟨⟨mo_gI, ok_gI rfl fd_X9_167 rfl dX9_read_136 rfl⟩, ?_⟩
  refine ⟨⟨mo_ine, ok_ine dX9_read_139 rfl rfl⟩, ?_⟩
  refine ⟨⟨mo_ald, ok_aldn dX9_read_142 rfl rfl⟩, ?_⟩
  refine ⟨⟨mo_gI, ok_gI rfl fd_X9_200 rfl dX9_read_143 rfl⟩, ?_⟩
  refine ⟨⟨mo_ile, ok_ile dX9_read_146 rfl rfl⟩, ?_⟩
  refine ⟨⟨mo_ald, ok_aldn dX9_read_149 rfl rfl⟩, ?_⟩
  refine ⟨⟨mo_push, ok_iconst dX9_read_150 iv_i1 rfl⟩, ?_⟩
  refine ⟨⟨mo_cvV, ok_cvV mi_X9_fail lk_X9_182 q1973 qs72 rfl (Nat.le_of_ble_eq_true rfl) (iy_ro_le _) rfl rfl dX9_read_151 rfl⟩, ?_⟩
  refine ⟨⟨mo_keep, ok_keep rfl⟩, ?_⟩
  refine ⟨⟨mo_ald, ok_aldn dX9_read_154 rfl rfl⟩, ?_⟩
  refine ⟨⟨mo_ald, ok_aldn dX9_read_155 rfl rfl⟩, ?_⟩
  refine ⟨⟨mo_gI, ok_gI rfl fd_X9_167 rfl dX9_read_156 rfl⟩, ?_⟩
  refine ⟨⟨mo_ile, ok_ile dX9_read_159 rfl rfl⟩, ?_⟩
  refine ⟨⟨mo_ald, ok_aldn dX9_read_162 rfl rfl⟩, ?_⟩
  refine ⟨⟨mo_gI, ok_gI rfl fd_X9_173 rfl dX9_read_163 rfl⟩, ?_⟩
  refine ⟨⟨mo_goto, ok_goto dX9_read_166 rfl⟩, ?_⟩
  refine ⟨⟨mo_ald, ok_aldn dX9_read_169 rfl rfl⟩, ?_⟩
  refine ⟨⟨mo_gI, ok_gI rfl fd_X9_176 rfl dX9_read_170 rfl⟩, ?_⟩
  refine ⟨⟨mo_ile, ok_ile dX9_read_173 rfl rfl⟩, ?_⟩
  refine ⟨⟨mo_ald, ok_aldn dX9_read_176 rfl rfl⟩, ?_⟩
  refine ⟨⟨mo_gI, ok_gI rfl fd_X9_179 rfl dX9_read_177 rfl⟩, ?_⟩
  refine ⟨⟨mo_goto, ok_goto dX9_read_180 rfl⟩, ?_⟩
  refine ⟨⟨mo_push, ok_iconst dX9_read_183 iv_im1 rfl⟩, ?_⟩
  refine ⟨⟨mo_keep, ok_keep rfl⟩, ?_⟩
  refine ⟨⟨mo_pI, ok_pI rfl fd_X9_37 rfl (Or.inl rfl) dX9_read_184 rfl⟩, ?_⟩
  refine ⟨⟨mo_ald, ok_aldn dX9_read_187 rfl rfl⟩, ?_⟩
  refine ⟨⟨mo_gI, ok_gI rfl fd_X9_167 rfl dX9_read_188 rfl⟩, ?_⟩
  refine ⟨⟨mo_ile, ok_ile dX9_read_191 rfl rfl⟩, ?_⟩
  refine ⟨⟨mo_ald, ok_aldn dX9_read_194 rfl rfl⟩, ?_⟩
  refine ⟨⟨mo_gI, ok_gI rfl fd_X9_167 rfl dX9_read_195 rfl⟩, ?_⟩
  refine ⟨⟨mo_iret, ok_iret rfl rfl dX9_read_198⟩, ?_⟩
  refine ⟨⟨mo_ald, ok_aldn dX9_read_199 rfl rfl⟩, ?_⟩
  refine ⟨⟨mo_gI, ok_gI rfl fd_X9_176 rfl dX9_read_200 rfl⟩, ?_⟩
  refine ⟨⟨mo_ile, ok_ile dX9_read_203 rfl rfl⟩, ?_⟩
  refine ⟨⟨mo_ald, ok_aldn dX9_read_206 rfl rfl⟩, ?_⟩
  refine ⟨⟨mo_gI, ok_gI rfl fd_X9_176 rfl dX9_read_207 rfl⟩, ?_⟩
  refine ⟨⟨mo_iret, ok_iret rfl rfl dX9_read_210⟩, ?_⟩
  refine ⟨⟨mo_ald, ok_aldn dX9_read_211 rfl rfl⟩, ?_⟩
  refine ⟨⟨mo_ild, ok_ildn dX9_read_212 rfl rfl⟩, ?_⟩
  refine ⟨⟨mo_ild, ok_ildn dX9_read_213 rfl rfl⟩, ?_⟩
  refine ⟨⟨mo_ild, ok_ildn dX9_read_214 rfl rfl⟩, ?_⟩
  refine ⟨⟨mo_cvV, ok_cvV mi_X9_begins lk_X9_125 q1731 qs59 rfl (Nat.le_of_ble_eq_true rfl) (iy_ro_le _) rfl rfl dX9_read_215 rfl⟩, ?_⟩
  refine ⟨⟨mo_push, ok_iconst dX9_read_218 iv_i0 rfl⟩, ?_⟩
  refine ⟨⟨mo_ist, ok_ist dX9_read_219 (Nat.le_of_ble_eq_true rfl) rfl⟩, ?_⟩
  refine ⟨⟨mo_keep, ok_keep rfl⟩, ?_⟩
  refine ⟨⟨mo_ild, ok_ild dX9_read_221 rfl⟩, ?_⟩
  refine ⟨⟨mo_push, ok_iconst dX9_read_223 iv_i3 rfl⟩, ?_⟩
  refine ⟨⟨mo_cge, ok_cge dX9_read_224 rfl rfl⟩, ?_⟩
  refine ⟨⟨mo_ald, ok_aldn dX9_read_227 rfl rfl⟩, ?_⟩
  refine ⟨⟨mo_gR, ok_gR rfl fd_X9_113 rfl dX9_read_228 rfl⟩, ?_⟩
  refine ⟨⟨mo_ild, ok_ild dX9_read_231 rfl⟩, ?_⟩
  refine ⟨⟨mo_push, ok_iconst dX9_read_233 iv_i0 rfl⟩, ?_⟩
  refine ⟨⟨mo_asI, ok_zast dX9_read_234 rfl⟩, ?_⟩
  refine ⟨⟨mo_inc, ok_inc dX9_read_235 iv_i1 (Nat.le_of_ble_eq_true rfl) rfl⟩, ?_⟩
  refine ⟨⟨mo_back, ok_back dX9_read_238 rfl⟩, ?_⟩
  refine ⟨⟨mo_ald, ok_aldn dX9_read_241 rfl rfl⟩, ?_⟩
  refine ⟨⟨mo_cvV, ok_cvV mi_X9_runs lk_X9_213 q2021 qs84 rfl (Nat.le_of_ble_eq_true rfl) (iy_ro_le _) rfl rfl dX9_read_242 rfl⟩, ?_⟩
  refine ⟨⟨mo_push, ok_iconst dX9_read_245 iv_i0 rfl⟩, ?_⟩
  refine ⟨⟨mo_iret, ok_iret rfl rfl dX9_read_246⟩, ?_⟩
  exact trivial
set_option maxHeartbeats 4000000 in
theorem alX9_cutsUp : iy_all (iy_calls iy_mi) RX9 "cutsUp" cX9_cutsUp 8 (none, []) pcX9_cutsUp pcX9_cutsUp stX9_cutsUp := by
  refine ⟨⟨mo_ald, ok_aldn dX9_cutsUp_0 rfl rfl⟩, ?_⟩
  refine ⟨⟨mo_push, ok_iconst dX9_cutsUp_1 iv_i0 rfl⟩, ?_⟩
  refine ⟨⟨mo_pI, ok_pI rfl fd_X9_145 rfl (Or.inl rfl) dX9_cutsUp_2 rfl⟩, ?_⟩
  refine ⟨⟨mo_push, ok_iconst dX9_cutsUp_5 iv_i0 rfl⟩, ?_⟩
  refine ⟨⟨mo_ist, ok_istn dX9_cutsUp_6 rfl (Nat.le_of_ble_eq_true rfl) rfl⟩, ?_⟩
  refine ⟨⟨mo_keep, ok_keep rfl⟩, ?_⟩
  refine ⟨⟨mo_ald, ok_aldn dX9_cutsUp_7 rfl rfl⟩, ?_⟩
  refine ⟨⟨mo_gI, ok_gI rfl fd_X9_145 rfl dX9_cutsUp_8 rfl⟩, ?_⟩
  refine ⟨⟨mo_push, ok_sipush dX9_cutsUp_11 iv_s400 rfl⟩, ?_⟩
  refine ⟨⟨mo_cgt, ok_cgt dX9_cutsUp_14 rfl rfl⟩, ?_⟩
  refine ⟨⟨mo_ald, ok_aldn dX9_cutsUp_17 rfl rfl⟩, ?_⟩
  refine ⟨⟨mo_ild, ok_ildn dX9_cutsUp_18 rfl rfl⟩, ?_⟩
  refine ⟨⟨mo_cvI, ok_cvI mi_X9_byteAt lk_X9_148 q1943 qs66 rfl (Nat.le_of_ble_eq_true rfl) (iy_ro_le _) rfl rfl dX9_cutsUp_19 rfl⟩, ?_⟩
  refine ⟨⟨mo_ist, ok_istn dX9_cutsUp_22 rfl (Nat.le_of_ble_eq_true rfl) rfl⟩, ?_⟩
  refine ⟨⟨mo_ild, ok_ildn dX9_cutsUp_23 rfl rfl⟩, ?_⟩
  refine ⟨⟨mo_ald, ok_aldn dX9_cutsUp_24 rfl rfl⟩, ?_⟩
  refine ⟨⟨mo_gI, ok_gI rfl fd_X9_136 rfl dX9_cutsUp_25 rfl⟩, ?_⟩
  refine ⟨⟨mo_clt, ok_clt dX9_cutsUp_28 rfl rfl⟩, ?_⟩
  refine ⟨⟨mo_ald, ok_aldn dX9_cutsUp_31 rfl rfl⟩, ?_⟩
  refine ⟨⟨mo_push, ok_iconst dX9_cutsUp_32 iv_i0 rfl⟩, ?_⟩
  refine ⟨⟨mo_ald, ok_aldn dX9_cutsUp_33 rfl rfl⟩, ?_⟩
  refine ⟨⟨mo_gI, ok_gI rfl fd_X9_136 rfl dX9_cutsUp_34 rfl⟩, ?_⟩
  refine ⟨⟨mo_push, ok_iconst dX9_cutsUp_37 iv_i0 rfl⟩, ?_⟩
  refine ⟨⟨mo_push, ok_lconst dX9_cutsUp_38 rfl rfl⟩, ?_⟩
  refine ⟨⟨mo_cvV, ok_cvV mi_X9_token lk_X9_152 q1947 qs67 rfl (Nat.le_of_ble_eq_true rfl) (iy_ro_le _) rfl rfl dX9_cutsUp_39 rfl⟩, ?_⟩
  refine ⟨⟨mo_ret, ok_ret rfl dX9_cutsUp_42⟩, ?_⟩
  refine ⟨⟨mo_ild, ok_ildn dX9_cutsUp_43 rfl rfl⟩, ?_⟩
  refine ⟨⟨mo_push, ok_bipush dX9_cutsUp_44 iv_b9 rfl⟩, ?_⟩
  refine ⟨⟨mo_ceq, ok_ceq dX9_cutsUp_46 rfl rfl⟩, ?_⟩
  refine ⟨⟨mo_ild, ok_ildn dX9_cutsUp_49 rfl rfl⟩, ?_⟩
  refine ⟨⟨mo_push, ok_bipush dX9_cutsUp_50 iv_b10 rfl⟩, ?_⟩
  refine ⟨⟨mo_ceq, ok_ceq dX9_cutsUp_52 rfl rfl⟩, ?_⟩
  refine ⟨⟨mo_ild, ok_ildn dX9_cutsUp_55 rfl rfl⟩, ?_⟩
  refine ⟨⟨mo_push, ok_bipush dX9_cutsUp_56 iv_b13 rfl⟩, ?_⟩
  refine ⟨⟨mo_ceq, ok_ceq dX9_cutsUp_58 rfl rfl⟩, ?_⟩
  refine ⟨⟨mo_ild, ok_ildn dX9_cutsUp_61 rfl rfl⟩, ?_⟩
  refine ⟨⟨mo_push, ok_bipush dX9_cutsUp_62 iv_b32 rfl⟩, ?_⟩
  refine ⟨⟨mo_cne, ok_cne dX9_cutsUp_64 rfl rfl⟩, ?_⟩
  refine ⟨⟨mo_keep, ok_keep rfl⟩, ?_⟩
  refine ⟨⟨mo_inc, ok_inc dX9_cutsUp_67 iv_i1 (Nat.le_of_ble_eq_true rfl) rfl⟩, ?_⟩
  refine ⟨⟨mo_goto, ok_goto dX9_cutsUp_70 rfl⟩, ?_⟩
  refine ⟨⟨mo_ild, ok_ildn dX9_cutsUp_73 rfl rfl⟩, ?_⟩
  refine ⟨⟨mo_csI, ok_csI mi_X9_isLetter lk_X9_156 q1950 dX9_cutsUp_74 rfl⟩, ?_⟩
  refine ⟨⟨mo_ieq, ok_ieq dX9_cutsUp_77 rfl rfl⟩, ?_⟩
  refine ⟨⟨mo_push, ok_iconst dX9_cutsUp_80 iv_i0 rfl⟩, ?_⟩
  refine ⟨⟨mo_ist, ok_istn dX9_cutsUp_81 rfl (Nat.le_of_ble_eq_true rfl) rfl⟩, ?_⟩
  refine ⟨⟨mo_push, ok_lconst dX9_cutsUp_82 rfl rfl⟩, ?_⟩
  refine ⟨⟨mo_lst, ok_lst dX9_cutsUp_83 (Nat.le_of_ble_eq_true rfl) rfl⟩, ?_⟩
  refine ⟨⟨mo_keep, ok_keep rfl⟩, ?_⟩
  refine ⟨⟨mo_ald, ok_aldn dX9_cutsUp_85 rfl rfl⟩, ?_⟩
  refine ⟨⟨mo_ild, ok_ildn dX9_cutsUp_86 rfl rfl⟩, ?_⟩
  refine ⟨⟨mo_ild, ok_ildn dX9_cutsUp_87 rfl rfl⟩, ?_⟩
  refine ⟨⟨mo_bin, ok_iadd dX9_cutsUp_88 rfl⟩, ?_⟩
  refine ⟨⟨mo_cvI, ok_cvI mi_X9_byteAt lk_X9_148 q1943 qs66 rfl (Nat.le_of_ble_eq_true rfl) (iy_ro_le _) rfl rfl dX9_cutsUp_89 rfl⟩, ?_⟩
  refine ⟨⟨mo_csI, ok_csI mi_X9_isLetter lk_X9_156 q1950 dX9_cutsUp_92 rfl⟩, ?_⟩
  refine ⟨⟨mo_ieq, ok_ieq dX9_cutsUp_95 rfl rfl⟩, ?_⟩
  refine ⟨⟨mo_ild, ok_ildn dX9_cutsUp_98 rfl rfl⟩, ?_⟩
  refine ⟨⟨mo_push, ok_bipush dX9_cutsUp_99 iv_b8 rfl⟩, ?_⟩
  refine ⟨⟨mo_cge, ok_cge dX9_cutsUp_101 rfl rfl⟩, ?_⟩
  refine ⟨⟨mo_lld, ok_lld dX9_cutsUp_104 rfl⟩, ?_⟩
  refine ⟨⟨mo_ald, ok_aldn dX9_cutsUp_106 rfl rfl⟩, ?_⟩
  refine ⟨⟨mo_ild, ok_ildn dX9_cutsUp_107 rfl rfl⟩, ?_⟩
  refine ⟨⟨mo_ild, ok_ildn dX9_cutsUp_108 rfl rfl⟩, ?_⟩
  refine ⟨⟨mo_bin, ok_iadd dX9_cutsUp_109 rfl⟩, ?_⟩
  refine ⟨⟨mo_cvI, ok_cvI mi_X9_byteAt lk_X9_148 q1943 qs66 rfl (Nat.le_of_ble_eq_true rfl) (iy_ro_le _) rfl rfl dX9_cutsUp_110 rfl⟩, ?_⟩
  refine ⟨⟨mo_csL, ok_csL mi_X9_appends lk_X9_141 q1726 dX9_cutsUp_113 rfl⟩, ?_⟩
  refine ⟨⟨mo_lst, ok_lst dX9_cutsUp_116 (Nat.le_of_ble_eq_true rfl) rfl⟩, ?_⟩
  refine ⟨⟨mo_keep, ok_keep rfl⟩, ?_⟩
  refine ⟨⟨mo_inc, ok_inc dX9_cutsUp_118 iv_i1 (Nat.le_of_ble_eq_true rfl) rfl⟩, ?_⟩
  refine ⟨⟨mo_back, ok_back dX9_cutsUp_121 rfl⟩, ?_⟩
  refine ⟨⟨mo_ild, ok_ildn dX9_cutsUp_124 rfl rfl⟩, ?_⟩
  refine ⟨⟨mo_push, ok_bipush dX9_cutsUp_125 iv_b8 rfl⟩, ?_⟩
  refine ⟨⟨mo_cle, ok_cle dX9_cutsUp_127 rfl rfl⟩, ?_⟩
  refine ⟨⟨mo_push, ok_iconst dX9_cutsUp_130 iv_i3 rfl⟩, ?_⟩
  refine ⟨⟨mo_goto, ok_goto dX9_cutsUp_131 rfl⟩, ?_⟩
  refine ⟨⟨mo_push, ok_iconst dX9_cutsUp_134 iv_i1 rfl⟩, ?_⟩
  refine ⟨⟨mo_keep, ok_keep rfl⟩, ?_⟩
  refine ⟨⟨mo_ist, ok_ist dX9_cutsUp_135 (Nat.le_of_ble_eq_true rfl) rfl⟩, ?_⟩
  refine ⟨⟨mo_ild, ok_ildn dX9_cutsUp_137 rfl rfl⟩, ?_⟩
  refine ⟨⟨mo_push, ok_bipush dX9_cutsUp_138 iv_b8 rfl⟩, ?_⟩
  refine ⟨⟨mo_cgt, ok_cgt dX9_cutsUp_140 rfl rfl⟩, ?_⟩
  refine ⟨⟨mo_push, ok_iconst dX9_cutsUp_143 iv_i0 rfl⟩, ?_⟩
  refine ⟨⟨mo_ist, ok_ist dX9_cutsUp_144 (Nat.le_of_ble_eq_true rfl) rfl⟩, ?_⟩
  refine ⟨⟨mo_keep, ok_keep rfl⟩, ?_⟩
  refine ⟨⟨mo_ild, ok_ild dX9_cutsUp_146 rfl⟩, ?_⟩
  refine ⟨⟨mo_push, ok_bipush dX9_cutsUp_148 iv_b18 rfl⟩, ?_⟩
  refine ⟨⟨mo_cge, ok_cge dX9_cutsUp_150 rfl rfl⟩, ?_⟩
  refine ⟨⟨mo_ald, ok_aldn dX9_cutsUp_153 rfl rfl⟩, ?_⟩
  refine ⟨⟨mo_gR, ok_gR rfl fd_X9_34 rfl dX9_cutsUp_154 rfl⟩, ?_⟩
  refine ⟨⟨mo_ild, ok_ild dX9_cutsUp_157 rfl⟩, ?_⟩
  refine ⟨⟨mo_alL, ok_lald dX9_cutsUp_159 rfl⟩, ?_⟩
  refine ⟨⟨mo_lld, ok_lld dX9_cutsUp_160 rfl⟩, ?_⟩
  refine ⟨⟨mo_lcmp, ok_lcmp dX9_cutsUp_162 rfl⟩, ?_⟩
  refine ⟨⟨mo_ine, ok_ine dX9_cutsUp_163 rfl rfl⟩, ?_⟩
  refine ⟨⟨mo_push, ok_bipush dX9_cutsUp_166 iv_b20 rfl⟩, ?_⟩
  refine ⟨⟨mo_ild, ok_ild dX9_cutsUp_168 rfl⟩, ?_⟩
  refine ⟨⟨mo_bin, ok_iadd dX9_cutsUp_170 rfl⟩, ?_⟩
  refine ⟨⟨mo_ist, ok_ist dX9_cutsUp_171 (Nat.le_of_ble_eq_true rfl) rfl⟩, ?_⟩
  refine ⟨⟨mo_keep, ok_keep rfl⟩, ?_⟩
  refine ⟨⟨mo_inc, ok_inc dX9_cutsUp_173 iv_i1 (Nat.le_of_ble_eq_true rfl) rfl⟩, ?_⟩
  refine ⟨⟨mo_back, ok_back dX9_cutsUp_176 rfl⟩, ?_⟩
  refine ⟨⟨mo_keep, ok_keep rfl⟩, ?_⟩
  refine ⟨⟨mo_ald, ok_aldn dX9_cutsUp_179 rfl rfl⟩, ?_⟩
  refine ⟨⟨mo_ild, ok_ild dX9_cutsUp_180 rfl⟩, ?_⟩
  refine ⟨⟨mo_ild, ok_ildn dX9_cutsUp_182 rfl rfl⟩, ?_⟩
  refine ⟨⟨mo_push, ok_iconst dX9_cutsUp_183 iv_i0 rfl⟩, ?_⟩
  refine ⟨⟨mo_lld, ok_lld dX9_cutsUp_184 rfl⟩, ?_⟩
  refine ⟨⟨mo_cvV, ok_cvV mi_X9_token lk_X9_152 q1947 qs67 rfl (Nat.le_of_ble_eq_true rfl) (iy_ro_le _) rfl rfl dX9_cutsUp_186 rfl⟩, ?_⟩
  refine ⟨⟨mo_ild, ok_ildn dX9_cutsUp_189 rfl rfl⟩, ?_⟩
  refine ⟨⟨mo_ild, ok_ildn dX9_cutsUp_190 rfl rfl⟩, ?_⟩
  refine ⟨⟨mo_bin, ok_iadd dX9_cutsUp_191 rfl⟩, ?_⟩
  refine ⟨⟨mo_ist, ok_istn dX9_cutsUp_192 rfl (Nat.le_of_ble_eq_true rfl) rfl⟩, ?_⟩
  refine ⟨⟨mo_goto, ok_goto dX9_cutsUp_193 rfl⟩, ?_⟩
  refine ⟨⟨mo_ild, ok_ildn dX9_cutsUp_196 rfl rfl⟩, ?_⟩
  refine ⟨⟨mo_csI, ok_csI mi_X9_isDigit lk_X9_160 q1953 dX9_cutsUp_197 rfl⟩, ?_⟩
  refine ⟨⟨mo_ieq, ok_ieq dX9_cutsUp_200 rfl rfl⟩, ?_⟩
  refine ⟨⟨mo_push, ok_iconst dX9_cutsUp_203 iv_i0 rfl⟩, ?_⟩
  refine ⟨⟨mo_ist, ok_istn dX9_cutsUp_204 rfl (Nat.le_of_ble_eq_true rfl) rfl⟩, ?_⟩
  refine ⟨⟨mo_push, ok_iconst dX9_cutsUp_205 iv_i0 rfl⟩, ?_⟩
  refine ⟨⟨mo_ist, ok_ist dX9_cutsUp_206 (Nat.le_of_ble_eq_true rfl) rfl⟩, ?_⟩
  refine ⟨⟨mo_keep, ok_keep rfl⟩, ?_⟩
  refine ⟨⟨mo_ald, ok_aldn dX9_cutsUp_208 rfl rfl⟩, ?_⟩
  refine ⟨⟨mo_ild, ok_ildn dX9_cutsUp_209 rfl rfl⟩, ?_⟩
  refine ⟨⟨mo_ild, ok_ildn dX9_cutsUp_210 rfl rfl⟩, ?_⟩
  refine ⟨⟨mo_bin, ok_iadd dX9_cutsUp_211 rfl⟩, ?_⟩
  refine ⟨⟨mo_cvI, ok_cvI mi_X9_byteAt lk_X9_148 q1943 qs66 rfl (Nat.le_of_ble_eq_true rfl) (iy_ro_le _) rfl rfl dX9_cutsUp_212 rfl⟩, ?_⟩
  refine ⟨⟨mo_csI, ok_csI mi_X9_isDigit lk_X9_160 q1953 dX9_cutsUp_215 rfl⟩, ?_⟩
  refine ⟨⟨mo_ieq, ok_ieq dX9_cutsUp_218 rfl rfl⟩, ?_⟩
  refine ⟨⟨mo_ild, ok_ildn dX9_cutsUp_221 rfl rfl⟩, ?_⟩
  refine ⟨⟨mo_push, ok_iconst dX9_cutsUp_222 iv_i4 rfl⟩, ?_⟩
  refine ⟨⟨mo_cge, ok_cge dX9_cutsUp_223 rfl rfl⟩, ?_⟩
  refine ⟨⟨mo_push, ok_bipush dX9_cutsUp_226 iv_b10 rfl⟩, ?_⟩
  refine ⟨⟨mo_ild, ok_ild dX9_cutsUp_228 rfl⟩, ?_⟩
  refine ⟨⟨mo_bin, ok_imul dX9_cutsUp_230 rfl⟩, ?_⟩
  refine ⟨⟨mo_ald, ok_aldn dX9_cutsUp_231 rfl rfl⟩, ?_⟩
  refine ⟨⟨mo_ild, ok_ildn dX9_cutsUp_232 rfl rfl⟩, ?_⟩
  refine ⟨⟨mo_ild, ok_ildn dX9_cutsUp_233 rfl rfl⟩, ?_⟩
  refine ⟨⟨mo_bin, ok_iadd dX9_cutsUp_234 rfl⟩, ?_⟩
  refine ⟨⟨mo_cvI, ok_cvI mi_X9_byteAt lk_X9_148 q1943 qs66 rfl (Nat.le_of_ble_eq_true rfl) (iy_ro_le _) rfl rfl dX9_cutsUp_235 rfl⟩, ?_⟩
  refine ⟨⟨mo_bin, ok_iadd dX9_cutsUp_238 rfl⟩, ?_⟩
  refine ⟨⟨mo_push, ok_bipush dX9_cutsUp_239 iv_b48 rfl⟩, ?_⟩
  refine ⟨⟨mo_bin, ok_isub dX9_cutsUp_241 rfl⟩, ?_⟩
  refine ⟨⟨mo_ist, ok_ist dX9_cutsUp_242 (Nat.le_of_ble_eq_true rfl) rfl⟩, ?_⟩
  refine ⟨⟨mo_keep, ok_keep rfl⟩, ?_⟩
  refine ⟨⟨mo_inc, ok_inc dX9_cutsUp_244 iv_i1 (Nat.le_of_ble_eq_true rfl) rfl⟩, ?_⟩
  refine ⟨⟨mo_back, ok_back dX9_cutsUp_247 rfl⟩, ?_⟩
  refine ⟨⟨mo_ald, ok_aldn dX9_cutsUp_250 rfl rfl⟩, ?_⟩
  refine ⟨⟨mo_ild, ok_ildn dX9_cutsUp_251 rfl rfl⟩, ?_⟩
  refine ⟨⟨mo_push, ok_iconst dX9_cutsUp_252 iv_i4 rfl⟩, ?_⟩
  refine ⟨⟨mo_cle, ok_cle dX9_cutsUp_253 rfl rfl⟩, ?_⟩
  refine ⟨⟨mo_push, ok_iconst dX9_cutsUp_256 iv_i3 rfl⟩, ?_⟩
  refine ⟨⟨mo_goto, ok_goto dX9_cutsUp_257 rfl⟩, ?_⟩
  refine ⟨⟨mo_push, ok_iconst dX9_cutsUp_260 iv_i2 rfl⟩, ?_⟩
  refine ⟨⟨mo_keep, ok_keep rfl⟩, ?_⟩
  refine ⟨⟨mo_ild, ok_ildn dX9_cutsUp_261 rfl rfl⟩, ?_⟩
  refine ⟨⟨mo_ild, ok_ild dX9_cutsUp_262 rfl⟩, ?_⟩
  refine ⟨⟨mo_push, ok_lconst dX9_cutsUp_264 rfl rfl⟩, ?_⟩
  refine ⟨⟨mo_cvV, ok_cvV mi_X9_token lk_X9_152 q1947 qs67 rfl (Nat.le_of_ble_eq_true rfl) (iy_ro_le _) rfl rfl dX9_cutsUp_265 rfl⟩, ?_⟩
  refine ⟨⟨mo_ild, ok_ildn dX9_cutsUp_268 rfl rfl⟩, ?_⟩
  refine ⟨⟨mo_ild, ok_ildn dX9_cutsUp_269 rfl rfl⟩, ?_⟩
  refine ⟨⟨mo_bin, ok_iadd dX9_cutsUp_270 rfl⟩, ?_⟩
  refine ⟨⟨mo_ist, ok_istn dX9_cutsUp_271 rfl (Nat.le_of_ble_eq_true rfl) rfl⟩, ?_⟩
  refine ⟨⟨mo_goto, ok_goto dX9_cutsUp_272 rfl⟩, ?_⟩
  refine ⟨⟨mo_ild, ok_ildn dX9_cutsUp_275 rfl rfl⟩, ?_⟩
  refine ⟨⟨mo_ald, ok_aldn dX9_cutsUp_276 rfl rfl⟩, ?_⟩
  refine ⟨⟨mo_ild, ok_ildn dX9_cutsUp_277 rfl rfl⟩, ?_⟩
  refine ⟨⟨mo_ild, ok_ildn dX9_cutsUp_278 rfl rfl⟩, ?_⟩
  refine ⟨⟨mo_ald, ok_aldn dX9_cutsUp_279 rfl rfl⟩, ?_⟩
  refine ⟨⟨mo_ild, ok_ildn dX9_cutsUp_280 rfl rfl⟩, ?_⟩
  refine ⟨⟨mo_push, ok_iconst dX9_cutsUp_281 iv_i1 rfl⟩, ?_⟩
  refine ⟨⟨mo_bin, ok_iadd dX9_cutsUp_282 rfl⟩, ?_⟩
  refine ⟨⟨mo_cvI, ok_cvI mi_X9_byteAt lk_X9_148 q1943 qs66 rfl (Nat.le_of_ble_eq_true rfl) (iy_ro_le _) rfl rfl dX9_cutsUp_283 rfl⟩, ?_⟩
  refine ⟨⟨mo_cvI, ok_cvI mi_X9_sign lk_X9_163 q1957 qs68 rfl (Nat.le_of_ble_eq_true rfl) (iy_ro_le _) rfl rfl dX9_cutsUp_286 rfl⟩, ?_⟩
  refine ⟨⟨mo_bin, ok_iadd dX9_cutsUp_289 rfl⟩, ?_⟩
  refine ⟨⟨mo_ist, ok_istn dX9_cutsUp_290 rfl (Nat.le_of_ble_eq_true rfl) rfl⟩, ?_⟩
  refine ⟨⟨mo_keep, ok_keep rfl⟩, ?_⟩
  refine ⟨⟨mo_back, ok_back dX9_cutsUp_291 rfl⟩, ?_⟩
  refine ⟨⟨mo_ret, ok_ret rfl dX9_cutsUp_294⟩, ?_⟩
  exact trivial
set_option maxHeartbeats 4000000 in
theorem alX9_byteAt : iy_all (iy_calls iy_mi) RX9 "byteAt" cX9_byteAt 2 (some FieldType.int, []) pcX9_byteAt pcX9_byteAt stX9_byteAt := by
  refine ⟨⟨mo_ild, ok_ildn dX9_byteAt_0 rfl rfl⟩, ?_⟩
  refine ⟨⟨mo_ald, ok_aldn dX9_byteAt_1 rfl rfl⟩, ?_⟩
  refine ⟨⟨mo_gI, ok_gI rfl fd_X9_136 rfl dX9_byteAt_2 rfl⟩, ?_⟩
  refine ⟨⟨mo_cge, ok_cge dX9_byteAt_5 rfl rfl⟩, ?_⟩
  refine ⟨⟨mo_ald, ok_aldn dX9_byteAt_8 rfl rfl⟩, ?_⟩
  refine ⟨⟨mo_gR, ok_gR rfl fd_X9_17 rfl dX9_byteAt_9 rfl⟩, ?_⟩
  refine ⟨⟨mo_ild, ok_ildn dX9_byteAt_12 rfl rfl⟩, ?_⟩
  refine ⟨⟨mo_alI, ok_bald dX9_byteAt_13 rfl⟩, ?_⟩
  refine ⟨⟨mo_push, ok_sipush dX9_byteAt_14 iv_s255 rfl⟩, ?_⟩
  refine ⟨⟨mo_bin, ok_iand dX9_byteAt_17 rfl⟩, ?_⟩
  refine ⟨⟨mo_goto, ok_goto dX9_byteAt_18 rfl⟩, ?_⟩
  refine ⟨⟨mo_push, ok_iconst dX9_byteAt_21 iv_i0 rfl⟩, ?_⟩
  refine ⟨⟨mo_keep, ok_keep rfl⟩, ?_⟩
  refine ⟨⟨mo_iret, ok_iret rfl rfl dX9_byteAt_22⟩, ?_⟩
  exact trivial
set_option maxHeartbeats 4000000 in
theorem alX9_token : iy_all (iy_calls iy_mi) RX9 "token" cX9_token 6 (none, []) pcX9_token pcX9_token stX9_token := by
  refine ⟨⟨mo_ald, ok_aldn dX9_token_0 rfl rfl⟩, ?_⟩
  refine ⟨⟨mo_gR, ok_gR rfl fd_X9_20 rfl dX9_token_1 rfl⟩, ?_⟩
  refine ⟨⟨mo_ald, ok_aldn dX9_token_4 rfl rfl⟩, ?_⟩
  refine ⟨⟨mo_gI, ok_gI rfl fd_X9_145 rfl dX9_token_5 rfl⟩, ?_⟩
  refine ⟨⟨mo_ild, ok_ildn dX9_token_8 rfl rfl⟩, ?_⟩
  refine ⟨⟨mo_asI, ok_iast dX9_token_9 rfl⟩, ?_⟩
  refine ⟨⟨mo_ald, ok_aldn dX9_token_10 rfl rfl⟩, ?_⟩
  refine ⟨⟨mo_gR, ok_gR rfl fd_X9_24 rfl dX9_token_11 rfl⟩, ?_⟩
  refine ⟨⟨mo_ald, ok_aldn dX9_token_14 rfl rfl⟩, ?_⟩
  refine ⟨⟨mo_gI, ok_gI rfl fd_X9_145 rfl dX9_token_15 rfl⟩, ?_⟩
  refine ⟨⟨mo_ild, ok_ildn dX9_token_18 rfl rfl⟩, ?_⟩
  refine ⟨⟨mo_asI, ok_iast dX9_token_19 rfl⟩, ?_⟩
  refine ⟨⟨mo_ald, ok_aldn dX9_token_20 rfl rfl⟩, ?_⟩
  refine ⟨⟨mo_gR, ok_gR rfl fd_X9_27 rfl dX9_token_21 rfl⟩, ?_⟩
  refine ⟨⟨mo_ald, ok_aldn dX9_token_24 rfl rfl⟩, ?_⟩
  refine ⟨⟨mo_gI, ok_gI rfl fd_X9_145 rfl dX9_token_25 rfl⟩, ?_⟩
  refine ⟨⟨mo_ild, ok_ildn dX9_token_28 rfl rfl⟩, ?_⟩
  refine ⟨⟨mo_asI, ok_iast dX9_token_29 rfl⟩, ?_⟩
  refine ⟨⟨mo_ald, ok_aldn dX9_token_30 rfl rfl⟩, ?_⟩
  refine ⟨⟨mo_gR, ok_gR rfl fd_X9_30 rfl dX9_token_31 rfl⟩, ?_⟩
  refine ⟨⟨mo_ald, ok_aldn dX9_token_34 rfl rfl⟩, ?_⟩
  refine ⟨⟨mo_gI, ok_gI rfl fd_X9_145 rfl dX9_token_35 rfl⟩, ?_⟩
  refine ⟨⟨mo_lld, ok_lld dX9_token_38 rfl⟩, ?_⟩
  refine ⟨⟨mo_asL, ok_last dX9_token_40 rfl⟩, ?_⟩
  refine ⟨⟨mo_ald, ok_aldn dX9_token_41 rfl rfl⟩, ?_⟩
  refine ⟨⟨mo_dup, ok_dup dX9_token_42 rfl⟩, ?_⟩
  refine ⟨⟨mo_gI, ok_gI rfl fd_X9_145 rfl dX9_token_43 rfl⟩, ?_⟩
  refine ⟨⟨mo_push, ok_iconst dX9_token_46 iv_i1 rfl⟩, ?_⟩
  refine ⟨⟨mo_bin, ok_iadd dX9_token_47 rfl⟩, ?_⟩
  refine ⟨⟨mo_pI, ok_pI rfl fd_X9_145 rfl (Or.inl rfl) dX9_token_48 rfl⟩, ?_⟩
  refine ⟨⟨mo_ret, ok_ret rfl dX9_token_51⟩, ?_⟩
  exact trivial
set_option maxHeartbeats 4000000 in
theorem alX9_isLetter : iy_all (iy_calls iy_mi) RX9 "isLetter" cX9_isLetter 1 (some FieldType.boolean, []) pcX9_isLetter pcX9_isLetter stX9_isLetter := by
  refine ⟨⟨mo_ild, ok_ildn dX9_isLetter_0 rfl rfl⟩, ?_⟩
  refine ⟨⟨mo_push, ok_bipush dX9_isLetter_1 iv_b97 rfl⟩, ?_⟩
  refine ⟨⟨mo_clt, ok_clt dX9_isLetter_3 rfl rfl⟩, ?_⟩
  refine ⟨⟨mo_ild, ok_ildn dX9_isLetter_6 rfl rfl⟩, ?_⟩
  refine ⟨⟨mo_push, ok_bipush dX9_isLetter_7 iv_b122 rfl⟩, ?_⟩
  refine ⟨⟨mo_cgt, ok_cgt dX9_isLetter_9 rfl rfl⟩, ?_⟩
  refine ⟨⟨mo_push, ok_iconst dX9_isLetter_12 iv_i1 rfl⟩, ?_⟩
  refine ⟨⟨mo_goto, ok_goto dX9_isLetter_13 rfl⟩, ?_⟩
  refine ⟨⟨mo_keep, ok_keep rfl⟩, ?_⟩
  refine ⟨⟨mo_push, ok_iconst dX9_isLetter_16 iv_i0 rfl⟩, ?_⟩
  refine ⟨⟨mo_keep, ok_keep rfl⟩, ?_⟩
  refine ⟨⟨mo_iret, ok_iret rfl rfl dX9_isLetter_17⟩, ?_⟩
  exact trivial
set_option maxHeartbeats 4000000 in
theorem alX9_isDigit : iy_all (iy_calls iy_mi) RX9 "isDigit" cX9_isDigit 1 (some FieldType.boolean, []) pcX9_isDigit pcX9_isDigit stX9_isDigit := by
  refine ⟨⟨mo_ild, ok_ildn dX9_isDigit_0 rfl rfl⟩, ?_⟩
  refine ⟨⟨mo_push, ok_bipush dX9_isDigit_1 iv_b48 rfl⟩, ?_⟩
  refine ⟨⟨mo_clt, ok_clt dX9_isDigit_3 rfl rfl⟩, ?_⟩
  refine ⟨⟨mo_ild, ok_ildn dX9_isDigit_6 rfl rfl⟩, ?_⟩
  refine ⟨⟨mo_push, ok_bipush dX9_isDigit_7 iv_b57 rfl⟩, ?_⟩
  refine ⟨⟨mo_cgt, ok_cgt dX9_isDigit_9 rfl rfl⟩, ?_⟩
  refine ⟨⟨mo_push, ok_iconst dX9_isDigit_12 iv_i1 rfl⟩, ?_⟩
  refine ⟨⟨mo_goto, ok_goto dX9_isDigit_13 rfl⟩, ?_⟩
  refine ⟨⟨mo_keep, ok_keep rfl⟩, ?_⟩
  refine ⟨⟨mo_push, ok_iconst dX9_isDigit_16 iv_i0 rfl⟩, ?_⟩
  refine ⟨⟨mo_keep, ok_keep rfl⟩, ?_⟩
  refine ⟨⟨mo_iret, ok_iret rfl rfl dX9_isDigit_17⟩, ?_⟩
  exact trivial
set_option maxHeartbeats 4000000 in
theorem alX9_sign : iy_all (iy_calls iy_mi) RX9 "sign" cX9_sign 5 (some FieldType.int, []) pcX9_sign pcX9_sign stX9_sign := by
  refine ⟨⟨mo_ild, ok_ildn dX9_sign_0 rfl rfl⟩, ?_⟩
  refine ⟨⟨mo_push, ok_bipush dX9_sign_1 iv_b59 rfl⟩, ?_⟩
  refine ⟨⟨mo_cne, ok_cne dX9_sign_3 rfl rfl⟩, ?_⟩
  refine ⟨⟨mo_push, ok_iconst dX9_sign_6 iv_i4 rfl⟩, ?_⟩
  refine ⟨⟨mo_goto, ok_goto dX9_sign_7 rfl⟩, ?_⟩
  refine ⟨⟨mo_ild, ok_ildn dX9_sign_10 rfl rfl⟩, ?_⟩
  refine ⟨⟨mo_push, ok_bipush dX9_sign_11 iv_b40 rfl⟩, ?_⟩
  refine ⟨⟨mo_cne, ok_cne dX9_sign_13 rfl rfl⟩, ?_⟩
  refine ⟨⟨mo_push, ok_bipush dX9_sign_16 iv_b6 rfl⟩, ?_⟩
  refine ⟨⟨mo_goto, ok_goto dX9_sign_18 rfl⟩, ?_⟩
  refine ⟨⟨mo_ild, ok_ildn dX9_sign_21 rfl rfl⟩, ?_⟩
  refine ⟨⟨mo_push, ok_bipush dX9_sign_22 iv_b41 rfl⟩, ?_⟩
  refine ⟨⟨mo_cne, ok_cne dX9_sign_24 rfl rfl⟩, ?_⟩
  refine ⟨⟨mo_push, ok_bipush dX9_sign_27 iv_b7 rfl⟩, ?_⟩
  refine ⟨⟨mo_goto, ok_goto dX9_sign_29 rfl⟩, ?_⟩
  refine ⟨⟨mo_push, ok_iconst dX9_sign_32 iv_i3 rfl⟩, ?_⟩
  refine ⟨⟨mo_keep, ok_keep rfl⟩, ?_⟩
  refine ⟨⟨mo_ist, ok_ist dX9_sign_33 (Nat.le_of_ble_eq_true rfl) rfl⟩, ?_⟩
  refine ⟨⟨mo_ild, ok_ildn dX9_sign_35 rfl rfl⟩, ?_⟩
  refine ⟨⟨mo_push, ok_bipush dX9_sign_36 iv_b43 rfl⟩, ?_⟩
  refine ⟨⟨mo_cne, ok_cne dX9_sign_38 rfl rfl⟩, ?_⟩
  refine ⟨⟨mo_push, ok_bipush dX9_sign_41 iv_b8 rfl⟩, ?_⟩
  refine ⟨⟨mo_ist, ok_ist dX9_sign_43 (Nat.le_of_ble_eq_true rfl) rfl⟩, ?_⟩
  refine ⟨⟨mo_keep, ok_keep rfl⟩, ?_⟩
  refine ⟨⟨mo_ild, ok_ildn dX9_sign_45 rfl rfl⟩, ?_⟩
  refine ⟨⟨mo_push, ok_bipush dX9_sign_46 iv_b45 rfl⟩, ?_⟩
  refine ⟨⟨mo_cne, ok_cne dX9_sign_48 rfl rfl⟩, ?_⟩
  refine ⟨⟨mo_push, ok_bipush dX9_sign_51 iv_b9 rfl⟩, ?_⟩
  refine ⟨⟨mo_ist, ok_ist dX9_sign_53 (Nat.le_of_ble_eq_true rfl) rfl⟩, ?_⟩
  refine ⟨⟨mo_keep, ok_keep rfl⟩, ?_⟩
  refine ⟨⟨mo_ild, ok_ildn dX9_sign_55 rfl rfl⟩, ?_⟩
  refine ⟨⟨mo_push, ok_bipush dX9_sign_56 iv_b42 rfl⟩, ?_⟩
  refine ⟨⟨mo_cne, ok_cne dX9_sign_58 rfl rfl⟩, ?_⟩
  refine ⟨⟨mo_push, ok_bipush dX9_sign_61 iv_b10 rfl⟩, ?_⟩
  refine ⟨⟨mo_ist, ok_ist dX9_sign_63 (Nat.le_of_ble_eq_true rfl) rfl⟩, ?_⟩
  refine ⟨⟨mo_keep, ok_keep rfl⟩, ?_⟩
  refine ⟨⟨mo_ild, ok_ildn dX9_sign_65 rfl rfl⟩, ?_⟩
  refine ⟨⟨mo_push, ok_bipush dX9_sign_66 iv_b47 rfl⟩, ?_⟩
  refine ⟨⟨mo_cne, ok_cne dX9_sign_68 rfl rfl⟩, ?_⟩
  refine ⟨⟨mo_push, ok_bipush dX9_sign_71 iv_b15 rfl⟩, ?_⟩
  refine ⟨⟨mo_ist, ok_ist dX9_sign_73 (Nat.le_of_ble_eq_true rfl) rfl⟩, ?_⟩
  refine ⟨⟨mo_keep, ok_keep rfl⟩, ?_⟩
  refine ⟨⟨mo_ild, ok_ildn dX9_sign_75 rfl rfl⟩, ?_⟩
  refine ⟨⟨mo_push, ok_bipush dX9_sign_76 iv_b37 rfl⟩, ?_⟩
  refine ⟨⟨mo_cne, ok_cne dX9_sign_78 rfl rfl⟩, ?_⟩
  refine ⟨⟨mo_push, ok_bipush dX9_sign_81 iv_b16 rfl⟩, ?_⟩
  refine ⟨⟨mo_ist, ok_ist dX9_sign_83 (Nat.le_of_ble_eq_true rfl) rfl⟩, ?_⟩
  refine ⟨⟨mo_keep, ok_keep rfl⟩, ?_⟩
  refine ⟨⟨mo_ald, ok_aldn dX9_sign_85 rfl rfl⟩, ?_⟩
  refine ⟨⟨mo_ild, ok_ild dX9_sign_86 rfl⟩, ?_⟩
  refine ⟨⟨mo_ild, ok_ildn dX9_sign_88 rfl rfl⟩, ?_⟩
  refine ⟨⟨mo_push, ok_iconst dX9_sign_89 iv_i0 rfl⟩, ?_⟩
  refine ⟨⟨mo_push, ok_lconst dX9_sign_90 rfl rfl⟩, ?_⟩
  refine ⟨⟨mo_cvV, ok_cvV mi_X9_token lk_X9_152 q1947 qs67 rfl (Nat.le_of_ble_eq_true rfl) (iy_ro_le _) rfl rfl dX9_sign_91 rfl⟩, ?_⟩
  refine ⟨⟨mo_push, ok_iconst dX9_sign_94 iv_i1 rfl⟩, ?_⟩
  refine ⟨⟨mo_iret, ok_iret rfl rfl dX9_sign_95⟩, ?_⟩
  exact trivial
set_option maxHeartbeats 4000000 in
theorem alX9_toldOr : iy_all (iy_calls iy_mi) RX9 "toldOr" cX9_toldOr 6 (some FieldType.int, []) pcX9_toldOr pcX9_toldOr stX9_toldOr := by
  refine ⟨⟨mo_ald, ok_aldn dX9_toldOr_0 rfl rfl⟩, ?_⟩
  refine ⟨⟨mo_ild, ok_ildn dX9_toldOr_1 rfl rfl⟩, ?_⟩
  refine ⟨⟨mo_cvI, ok_cvI mi_X9_is lk_X9_185 q1965 qs70 rfl (Nat.le_of_ble_eq_true rfl) (iy_ro_le _) rfl rfl dX9_toldOr_2 rfl⟩, ?_⟩
  refine ⟨⟨mo_ine, ok_ine dX9_toldOr_5 rfl rfl⟩, ?_⟩
  refine ⟨⟨mo_ild, ok_ild dX9_toldOr_8 rfl⟩, ?_⟩
  refine ⟨⟨mo_iret, ok_iret rfl rfl dX9_toldOr_10⟩, ?_⟩
  refine ⟨⟨mo_ald, ok_aldn dX9_toldOr_11 rfl rfl⟩, ?_⟩
  refine ⟨⟨mo_cvV, ok_cvV mi_X9_goesOn lk_X9_188 q1969 qs71 rfl (Nat.le_of_ble_eq_true rfl) (iy_ro_le _) rfl rfl dX9_toldOr_12 rfl⟩, ?_⟩
  refine ⟨⟨mo_ald, ok_aldn dX9_toldOr_15 rfl rfl⟩, ?_⟩
  refine ⟨⟨mo_ild, ok_ildn dX9_toldOr_16 rfl rfl⟩, ?_⟩
  refine ⟨⟨mo_ild, ok_ildn dX9_toldOr_17 rfl rfl⟩, ?_⟩
  refine ⟨⟨mo_cvI, ok_cvI mi_X9_bounded lk_X9_220 q1977 qs73 rfl (Nat.le_of_ble_eq_true rfl) (iy_ro_le _) rfl rfl dX9_toldOr_18 rfl⟩, ?_⟩
  refine ⟨⟨mo_ist, ok_ist dX9_toldOr_21 (Nat.le_of_ble_eq_true rfl) rfl⟩, ?_⟩
  refine ⟨⟨mo_ald, ok_aldn dX9_toldOr_23 rfl rfl⟩, ?_⟩
  refine ⟨⟨mo_push, ok_iconst dX9_toldOr_24 iv_i4 rfl⟩, ?_⟩
  refine ⟨⟨mo_cvV, ok_cvV mi_X9_must lk_X9_224 q1985 qs75 rfl (Nat.le_of_ble_eq_true rfl) (iy_ro_le _) rfl rfl dX9_toldOr_25 rfl⟩, ?_⟩
  refine ⟨⟨mo_ild, ok_ild dX9_toldOr_28 rfl⟩, ?_⟩
  refine ⟨⟨mo_iret, ok_iret rfl rfl dX9_toldOr_30⟩, ?_⟩
  exact trivial
set_option maxHeartbeats 4000000 in
theorem alX9_is : iy_all (iy_calls iy_mi) RX9 "is" cX9_is 2 (some FieldType.boolean, []) pcX9_is pcX9_is stX9_is := by
  refine ⟨⟨mo_ald, ok_aldn dX9_is_0 rfl rfl⟩, ?_⟩
  refine ⟨⟨mo_gI, ok_gI rfl fd_X9_167 rfl dX9_is_1 rfl⟩, ?_⟩
  refine ⟨⟨mo_ine, ok_ine dX9_is_4 rfl rfl⟩, ?_⟩
  refine ⟨⟨mo_ald, ok_aldn dX9_is_7 rfl rfl⟩, ?_⟩
  refine ⟨⟨mo_gR, ok_gR rfl fd_X9_20 rfl dX9_is_8 rfl⟩, ?_⟩
  refine ⟨⟨mo_ald, ok_aldn dX9_is_11 rfl rfl⟩, ?_⟩
  refine ⟨⟨mo_gI, ok_gI rfl fd_X9_170 rfl dX9_is_12 rfl⟩, ?_⟩
  refine ⟨⟨mo_alI, ok_iald dX9_is_15 rfl⟩, ?_⟩
  refine ⟨⟨mo_ild, ok_ildn dX9_is_16 rfl rfl⟩, ?_⟩
  refine ⟨⟨mo_cne, ok_cne dX9_is_17 rfl rfl⟩, ?_⟩
  refine ⟨⟨mo_push, ok_iconst dX9_is_20 iv_i1 rfl⟩, ?_⟩
  refine ⟨⟨mo_goto, ok_goto dX9_is_21 rfl⟩, ?_⟩
  refine ⟨⟨mo_keep, ok_keep rfl⟩, ?_⟩
  refine ⟨⟨mo_push, ok_iconst dX9_is_24 iv_i0 rfl⟩, ?_⟩
  refine ⟨⟨mo_keep, ok_keep rfl⟩, ?_⟩
  refine ⟨⟨mo_iret, ok_iret rfl rfl dX9_is_25⟩, ?_⟩
  exact trivial
set_option maxHeartbeats 4000000 in
theorem alX9_goesOn : iy_all (iy_calls iy_mi) RX9 "goesOn" cX9_goesOn 1 (none, []) pcX9_goesOn pcX9_goesOn stX9_goesOn := by
  refine ⟨⟨mo_ald, ok_aldn dX9_goesOn_0 rfl rfl⟩, ?_⟩
  refine ⟨⟨mo_gI, ok_gI rfl fd_X9_170 rfl dX9_goesOn_1 rfl⟩, ?_⟩
  refine ⟨⟨mo_push, ok_sipush dX9_goesOn_4 iv_s400 rfl⟩, ?_⟩
  refine ⟨⟨mo_cne, ok_cne dX9_goesOn_7 rfl rfl⟩, ?_⟩
  refine ⟨⟨mo_ald, ok_aldn dX9_goesOn_10 rfl rfl⟩, ?_⟩
  refine ⟨⟨mo_push, ok_iconst dX9_goesOn_11 iv_i2 rfl⟩, ?_⟩
  refine ⟨⟨mo_cvV, ok_cvV mi_X9_fail lk_X9_182 q1973 qs72 rfl (Nat.le_of_ble_eq_true rfl) (iy_ro_le _) rfl rfl dX9_goesOn_12 rfl⟩, ?_⟩
  refine ⟨⟨mo_goto, ok_goto dX9_goesOn_15 rfl⟩, ?_⟩
  refine ⟨⟨mo_ald, ok_aldn dX9_goesOn_18 rfl rfl⟩, ?_⟩
  refine ⟨⟨mo_dup, ok_dup dX9_goesOn_19 rfl⟩, ?_⟩
  refine ⟨⟨mo_gI, ok_gI rfl fd_X9_170 rfl dX9_goesOn_20 rfl⟩, ?_⟩
  refine ⟨⟨mo_push, ok_iconst dX9_goesOn_23 iv_i1 rfl⟩, ?_⟩
  refine ⟨⟨mo_bin, ok_iadd dX9_goesOn_24 rfl⟩, ?_⟩
  refine ⟨⟨mo_pI, ok_pI rfl fd_X9_170 rfl (Or.inl rfl) dX9_goesOn_25 rfl⟩, ?_⟩
  refine ⟨⟨mo_keep, ok_keep rfl⟩, ?_⟩
  refine ⟨⟨mo_ret, ok_ret rfl dX9_goesOn_28⟩, ?_⟩
  exact trivial
set_option maxHeartbeats 4000000 in
theorem alX9_fail : iy_all (iy_calls iy_mi) RX9 "fail" cX9_fail 2 (none, []) pcX9_fail pcX9_fail stX9_fail := by
  refine ⟨⟨mo_ald, ok_aldn dX9_fail_0 rfl rfl⟩, ?_⟩
  refine ⟨⟨mo_gI, ok_gI rfl fd_X9_167 rfl dX9_fail_1 rfl⟩, ?_⟩
  refine ⟨⟨mo_ile, ok_ile dX9_fail_4 rfl rfl⟩, ?_⟩
  refine ⟨⟨mo_ret, ok_ret rfl dX9_fail_7⟩, ?_⟩
  refine ⟨⟨mo_ald, ok_aldn dX9_fail_8 rfl rfl⟩, ?_⟩
  refine ⟨⟨mo_ild, ok_ildn dX9_fail_9 rfl rfl⟩, ?_⟩
  refine ⟨⟨mo_pI, ok_pI rfl fd_X9_167 rfl (Or.inl rfl) dX9_fail_10 rfl⟩, ?_⟩
  refine ⟨⟨mo_ald, ok_aldn dX9_fail_13 rfl rfl⟩, ?_⟩
  refine ⟨⟨mo_ald, ok_aldn dX9_fail_14 rfl rfl⟩, ?_⟩
  refine ⟨⟨mo_gR, ok_gR rfl fd_X9_24 rfl dX9_fail_15 rfl⟩, ?_⟩
  refine ⟨⟨mo_ald, ok_aldn dX9_fail_18 rfl rfl⟩, ?_⟩
  refine ⟨⟨mo_gI, ok_gI rfl fd_X9_170 rfl dX9_fail_19 rfl⟩, ?_⟩
  refine ⟨⟨mo_alI, ok_iald dX9_fail_22 rfl⟩, ?_⟩
  refine ⟨⟨mo_pI, ok_pI rfl fd_X9_173 rfl (Or.inl rfl) dX9_fail_23 rfl⟩, ?_⟩
  refine ⟨⟨mo_ret, ok_ret rfl dX9_fail_26⟩, ?_⟩
  exact trivial
set_option maxHeartbeats 4000000 in
theorem alX9_bounded : iy_all (iy_calls iy_mi) RX9 "bounded" cX9_bounded 4 (some FieldType.int, []) pcX9_bounded pcX9_bounded stX9_bounded := by
  refine ⟨⟨mo_ald, ok_aldn dX9_bounded_0 rfl rfl⟩, ?_⟩
  refine ⟨⟨mo_gI, ok_gI rfl fd_X9_167 rfl dX9_bounded_1 rfl⟩, ?_⟩
  refine ⟨⟨mo_igt, ok_igt dX9_bounded_4 rfl rfl⟩, ?_⟩
  refine ⟨⟨mo_ald, ok_aldn dX9_bounded_7 rfl rfl⟩, ?_⟩
  refine ⟨⟨mo_push, ok_iconst dX9_bounded_8 iv_i2 rfl⟩, ?_⟩
  refine ⟨⟨mo_cvI, ok_cvI mi_X9_is lk_X9_185 q1965 qs70 rfl (Nat.le_of_ble_eq_true rfl) (iy_ro_le _) rfl rfl dX9_bounded_9 rfl⟩, ?_⟩
  refine ⟨⟨mo_ine, ok_ine dX9_bounded_12 rfl rfl⟩, ?_⟩
  refine ⟨⟨mo_keep, ok_keep rfl⟩, ?_⟩
  refine ⟨⟨mo_ald, ok_aldn dX9_bounded_15 rfl rfl⟩, ?_⟩
  refine ⟨⟨mo_push, ok_iconst dX9_bounded_16 iv_i1 rfl⟩, ?_⟩
  refine ⟨⟨mo_cvV, ok_cvV mi_X9_fail lk_X9_182 q1973 qs72 rfl (Nat.le_of_ble_eq_true rfl) (iy_ro_le _) rfl rfl dX9_bounded_17 rfl⟩, ?_⟩
  refine ⟨⟨mo_ild, ok_ildn dX9_bounded_20 rfl rfl⟩, ?_⟩
  refine ⟨⟨mo_iret, ok_iret rfl rfl dX9_bounded_21⟩, ?_⟩
  refine ⟨⟨mo_ald, ok_aldn dX9_bounded_22 rfl rfl⟩, ?_⟩
  refine ⟨⟨mo_gR, ok_gR rfl fd_X9_27 rfl dX9_bounded_23 rfl⟩, ?_⟩
  refine ⟨⟨mo_ald, ok_aldn dX9_bounded_26 rfl rfl⟩, ?_⟩
  refine ⟨⟨mo_gI, ok_gI rfl fd_X9_170 rfl dX9_bounded_27 rfl⟩, ?_⟩
  refine ⟨⟨mo_alI, ok_iald dX9_bounded_30 rfl⟩, ?_⟩
  refine ⟨⟨mo_ist, ok_istn dX9_bounded_31 rfl (Nat.le_of_ble_eq_true rfl) rfl⟩, ?_⟩
  refine ⟨⟨mo_ild, ok_ildn dX9_bounded_32 rfl rfl⟩, ?_⟩
  refine ⟨⟨mo_ild, ok_ildn dX9_bounded_33 rfl rfl⟩, ?_⟩
  refine ⟨⟨mo_clt, ok_clt dX9_bounded_34 rfl rfl⟩, ?_⟩
  refine ⟨⟨mo_ild, ok_ildn dX9_bounded_37 rfl rfl⟩, ?_⟩
  refine ⟨⟨mo_ild, ok_ildn dX9_bounded_38 rfl rfl⟩, ?_⟩
  refine ⟨⟨mo_cle, ok_cle dX9_bounded_39 rfl rfl⟩, ?_⟩
  refine ⟨⟨mo_keep, ok_keep rfl⟩, ?_⟩
  refine ⟨⟨mo_ald, ok_aldn dX9_bounded_42 rfl rfl⟩, ?_⟩
  refine ⟨⟨mo_push, ok_iconst dX9_bounded_43 iv_i5 rfl⟩, ?_⟩
  refine ⟨⟨mo_ald, ok_aldn dX9_bounded_44 rfl rfl⟩, ?_⟩
  refine ⟨⟨mo_gI, ok_gI rfl fd_X9_170 rfl dX9_bounded_45 rfl⟩, ?_⟩
  refine ⟨⟨mo_cvV, ok_cvV mi_X9_wrong lk_X9_216 q1981 qs74 rfl (Nat.le_of_ble_eq_true rfl) (iy_ro_le _) rfl rfl dX9_bounded_48 rfl⟩, ?_⟩
  refine ⟨⟨mo_keep, ok_keep rfl⟩, ?_⟩
  refine ⟨⟨mo_ald, ok_aldn dX9_bounded_51 rfl rfl⟩, ?_⟩
  refine ⟨⟨mo_cvV, ok_cvV mi_X9_goesOn lk_X9_188 q1969 qs71 rfl (Nat.le_of_ble_eq_true rfl) (iy_ro_le _) rfl rfl dX9_bounded_52 rfl⟩, ?_⟩
  refine ⟨⟨mo_ild, ok_ildn dX9_bounded_55 rfl rfl⟩, ?_⟩
  refine ⟨⟨mo_iret, ok_iret rfl rfl dX9_bounded_56⟩, ?_⟩
  exact trivial
set_option maxHeartbeats 4000000 in
theorem alX9_wrong : iy_all (iy_calls iy_mi) RX9 "wrong" cX9_wrong 4 (none, []) pcX9_wrong pcX9_wrong stX9_wrong := by
  refine ⟨⟨mo_ald, ok_aldn dX9_wrong_0 rfl rfl⟩, ?_⟩
  refine ⟨⟨mo_gR, ok_gR rfl fd_X9_24 rfl dX9_wrong_1 rfl⟩, ?_⟩
  refine ⟨⟨mo_ild, ok_ildn dX9_wrong_4 rfl rfl⟩, ?_⟩
  refine ⟨⟨mo_alI, ok_iald dX9_wrong_5 rfl⟩, ?_⟩
  refine ⟨⟨mo_ist, ok_istn dX9_wrong_6 rfl (Nat.le_of_ble_eq_true rfl) rfl⟩, ?_⟩
  refine ⟨⟨mo_ald, ok_aldn dX9_wrong_7 rfl rfl⟩, ?_⟩
  refine ⟨⟨mo_gI, ok_gI rfl fd_X9_167 rfl dX9_wrong_8 rfl⟩, ?_⟩
  refine ⟨⟨mo_igt, ok_igt dX9_wrong_11 rfl rfl⟩, ?_⟩
  refine ⟨⟨mo_ald, ok_aldn dX9_wrong_14 rfl rfl⟩, ?_⟩
  refine ⟨⟨mo_gI, ok_gI rfl fd_X9_176 rfl dX9_wrong_15 rfl⟩, ?_⟩
  refine ⟨⟨mo_ieq, ok_ieq dX9_wrong_18 rfl rfl⟩, ?_⟩
  refine ⟨⟨mo_ild, ok_ildn dX9_wrong_21 rfl rfl⟩, ?_⟩
  refine ⟨⟨mo_ald, ok_aldn dX9_wrong_22 rfl rfl⟩, ?_⟩
  refine ⟨⟨mo_gI, ok_gI rfl fd_X9_179 rfl dX9_wrong_23 rfl⟩, ?_⟩
  refine ⟨⟨mo_cgt, ok_cgt dX9_wrong_26 rfl rfl⟩, ?_⟩
  refine ⟨⟨mo_ild, ok_ildn dX9_wrong_29 rfl rfl⟩, ?_⟩
  refine ⟨⟨mo_ald, ok_aldn dX9_wrong_30 rfl rfl⟩, ?_⟩
  refine ⟨⟨mo_gI, ok_gI rfl fd_X9_179 rfl dX9_wrong_31 rfl⟩, ?_⟩
  refine ⟨⟨mo_cne, ok_cne dX9_wrong_34 rfl rfl⟩, ?_⟩
  refine ⟨⟨mo_ild, ok_ildn dX9_wrong_37 rfl rfl⟩, ?_⟩
  refine ⟨⟨mo_ald, ok_aldn dX9_wrong_38 rfl rfl⟩, ?_⟩
  refine ⟨⟨mo_gI, ok_gI rfl fd_X9_176 rfl dX9_wrong_39 rfl⟩, ?_⟩
  refine ⟨⟨mo_clt, ok_clt dX9_wrong_42 rfl rfl⟩, ?_⟩
  refine ⟨⟨mo_keep, ok_keep rfl⟩, ?_⟩
  refine ⟨⟨mo_ret, ok_ret rfl dX9_wrong_45⟩, ?_⟩
  refine ⟨⟨mo_keep, ok_keep rfl⟩, ?_⟩
  refine ⟨⟨mo_ald, ok_aldn dX9_wrong_46 rfl rfl⟩, ?_⟩
  refine ⟨⟨mo_ild, ok_ildn dX9_wrong_47 rfl rfl⟩, ?_⟩
  refine ⟨⟨mo_pI, ok_pI rfl fd_X9_176 rfl (Or.inl rfl) dX9_wrong_48 rfl⟩, ?_⟩
  refine ⟨⟨mo_ald, ok_aldn dX9_wrong_51 rfl rfl⟩, ?_⟩
  refine ⟨⟨mo_ild, ok_ildn dX9_wrong_52 rfl rfl⟩, ?_⟩
  refine ⟨⟨mo_pI, ok_pI rfl fd_X9_179 rfl (Or.inl rfl) dX9_wrong_53 rfl⟩, ?_⟩
  refine ⟨⟨mo_ret, ok_ret rfl dX9_wrong_56⟩, ?_⟩
  exact trivial
set_option maxHeartbeats 4000000 in
theorem alX9_must : iy_all (iy_calls iy_mi) RX9 "must" cX9_must 2 (none, []) pcX9_must pcX9_must stX9_must := by
  refine ⟨⟨mo_ald, ok_aldn dX9_must_0 rfl rfl⟩, ?_⟩
  refine ⟨⟨mo_ild, ok_ildn dX9_must_1 rfl rfl⟩, ?_⟩
  refine ⟨⟨mo_cvI, ok_cvI mi_X9_is lk_X9_185 q1965 qs70 rfl (Nat.le_of_ble_eq_true rfl) (iy_ro_le _) rfl rfl dX9_must_2 rfl⟩, ?_⟩
  refine ⟨⟨mo_ieq, ok_ieq dX9_must_5 rfl rfl⟩, ?_⟩
  refine ⟨⟨mo_ald, ok_aldn dX9_must_8 rfl rfl⟩, ?_⟩
  refine ⟨⟨mo_cvV, ok_cvV mi_X9_goesOn lk_X9_188 q1969 qs71 rfl (Nat.le_of_ble_eq_true rfl) (iy_ro_le _) rfl rfl dX9_must_9 rfl⟩, ?_⟩
  refine ⟨⟨mo_goto, ok_goto dX9_must_12 rfl⟩, ?_⟩
  refine ⟨⟨mo_ald, ok_aldn dX9_must_15 rfl rfl⟩, ?_⟩
  refine ⟨⟨mo_push, ok_iconst dX9_must_16 iv_i1 rfl⟩, ?_⟩
  refine ⟨⟨mo_cvV, ok_cvV mi_X9_fail lk_X9_182 q1973 qs72 rfl (Nat.le_of_ble_eq_true rfl) (iy_ro_le _) rfl rfl dX9_must_17 rfl⟩, ?_⟩
  refine ⟨⟨mo_keep, ok_keep rfl⟩, ?_⟩
  refine ⟨⟨mo_ret, ok_ret rfl dX9_must_20⟩, ?_⟩
  exact trivial
set_option maxHeartbeats 4000000 in
theorem alX9_tellOne : iy_all (iy_calls iy_mi) RX9 "tellOne" cX9_tellOne 2 (none, []) pcX9_tellOne pcX9_tellOne stX9_tellOne := by
  refine ⟨⟨mo_ald, ok_aldn dX9_tellOne_0 rfl rfl⟩, ?_⟩
  refine ⟨⟨mo_gI, ok_gI rfl fd_X9_197 rfl dX9_tellOne_1 rfl⟩, ?_⟩
  refine ⟨⟨mo_ist, ok_istn dX9_tellOne_4 rfl (Nat.le_of_ble_eq_true rfl) rfl⟩, ?_⟩
  refine ⟨⟨mo_ald, ok_aldn dX9_tellOne_5 rfl rfl⟩, ?_⟩
  refine ⟨⟨mo_gR, ok_gR rfl fd_X9_43 rfl dX9_tellOne_6 rfl⟩, ?_⟩
  refine ⟨⟨mo_ild, ok_ildn dX9_tellOne_9 rfl rfl⟩, ?_⟩
  refine ⟨⟨mo_push, ok_iconst dX9_tellOne_10 iv_im1 rfl⟩, ?_⟩
  refine ⟨⟨mo_asI, ok_iast dX9_tellOne_11 rfl⟩, ?_⟩
  refine ⟨⟨mo_ald, ok_aldn dX9_tellOne_12 rfl rfl⟩, ?_⟩
  refine ⟨⟨mo_gR, ok_gR rfl fd_X9_20 rfl dX9_tellOne_13 rfl⟩, ?_⟩
  refine ⟨⟨mo_ald, ok_aldn dX9_tellOne_16 rfl rfl⟩, ?_⟩
  refine ⟨⟨mo_gI, ok_gI rfl fd_X9_170 rfl dX9_tellOne_17 rfl⟩, ?_⟩
  refine ⟨⟨mo_alI, ok_iald dX9_tellOne_20 rfl⟩, ?_⟩
  refine ⟨⟨mo_sw, ok_tsw dX9_tellOne_21 rfl rfl (by decide +kernel)⟩, ?_⟩
  refine ⟨⟨mo_ald, ok_aldn dX9_tellOne_64 rfl rfl⟩, ?_⟩
  refine ⟨⟨mo_gR, ok_gR rfl fd_X9_43 rfl dX9_tellOne_65 rfl⟩, ?_⟩
  refine ⟨⟨mo_ild, ok_ildn dX9_tellOne_68 rfl rfl⟩, ?_⟩
  refine ⟨⟨mo_ald, ok_aldn dX9_tellOne_69 rfl rfl⟩, ?_⟩
  refine ⟨⟨mo_cvI, ok_cvI mi_X9_handTold lk_X9_234 q1993 qs77 rfl (Nat.le_of_ble_eq_true rfl) (iy_ro_le _) rfl rfl dX9_tellOne_70 rfl⟩, ?_⟩
  refine ⟨⟨mo_asI, ok_iast dX9_tellOne_73 rfl⟩, ?_⟩
  refine ⟨⟨mo_ald, ok_aldn dX9_tellOne_74 rfl rfl⟩, ?_⟩
  refine ⟨⟨mo_ild, ok_ildn dX9_tellOne_75 rfl rfl⟩, ?_⟩
  refine ⟨⟨mo_cvV, ok_cvV mi_X9_actTold lk_X9_238 q1997 qs78 rfl (Nat.le_of_ble_eq_true rfl) (iy_ro_le _) rfl rfl dX9_tellOne_76 rfl⟩, ?_⟩
  refine ⟨⟨mo_goto, ok_goto dX9_tellOne_79 rfl⟩, ?_⟩
  refine ⟨⟨mo_ald, ok_aldn dX9_tellOne_82 rfl rfl⟩, ?_⟩
  refine ⟨⟨mo_gR, ok_gR rfl fd_X9_43 rfl dX9_tellOne_83 rfl⟩, ?_⟩
  refine ⟨⟨mo_ild, ok_ildn dX9_tellOne_86 rfl rfl⟩, ?_⟩
  refine ⟨⟨mo_ald, ok_aldn dX9_tellOne_87 rfl rfl⟩, ?_⟩
  refine ⟨⟨mo_cvI, ok_cvI mi_X9_handTold lk_X9_234 q1993 qs77 rfl (Nat.le_of_ble_eq_true rfl) (iy_ro_le _) rfl rfl dX9_tellOne_88 rfl⟩, ?_⟩
  refine ⟨⟨mo_asI, ok_iast dX9_tellOne_91 rfl⟩, ?_⟩
  refine ⟨⟨mo_ald, ok_aldn dX9_tellOne_92 rfl rfl⟩, ?_⟩
  refine ⟨⟨mo_gR, ok_gR rfl fd_X9_40 rfl dX9_tellOne_93 rfl⟩, ?_⟩
  refine ⟨⟨mo_ild, ok_ildn dX9_tellOne_96 rfl rfl⟩, ?_⟩
  refine ⟨⟨mo_push, ok_iconst dX9_tellOne_97 iv_i2 rfl⟩, ?_⟩
  refine ⟨⟨mo_asI, ok_iast dX9_tellOne_98 rfl⟩, ?_⟩
  refine ⟨⟨mo_ald, ok_aldn dX9_tellOne_99 rfl rfl⟩, ?_⟩
  refine ⟨⟨mo_ild, ok_ildn dX9_tellOne_100 rfl rfl⟩, ?_⟩
  refine ⟨⟨mo_push, ok_iconst dX9_tellOne_101 iv_i0 rfl⟩, ?_⟩
  refine ⟨⟨mo_cvV, ok_cvV mi_X9_termsTold lk_X9_227 q2001 qs79 rfl (Nat.le_of_ble_eq_true rfl) (iy_ro_le _) rfl rfl dX9_tellOne_102 rfl⟩, ?_⟩
  refine ⟨⟨mo_goto, ok_goto dX9_tellOne_105 rfl⟩, ?_⟩
  refine ⟨⟨mo_keep, ok_keep rfl⟩, ?_⟩
  refine ⟨⟨mo_ald, ok_aldn dX9_tellOne_108 rfl rfl⟩, ?_⟩
  refine ⟨⟨mo_gR, ok_gR rfl fd_X9_40 rfl dX9_tellOne_109 rfl⟩, ?_⟩
  refine ⟨⟨mo_ild, ok_ildn dX9_tellOne_112 rfl rfl⟩, ?_⟩
  refine ⟨⟨mo_ald, ok_aldn dX9_tellOne_113 rfl rfl⟩, ?_⟩
  refine ⟨⟨mo_gR, ok_gR rfl fd_X9_20 rfl dX9_tellOne_114 rfl⟩, ?_⟩
  refine ⟨⟨mo_ald, ok_aldn dX9_tellOne_117 rfl rfl⟩, ?_⟩
  refine ⟨⟨mo_gI, ok_gI rfl fd_X9_170 rfl dX9_tellOne_118 rfl⟩, ?_⟩
  refine ⟨⟨mo_alI, ok_iald dX9_tellOne_121 rfl⟩, ?_⟩
  refine ⟨⟨mo_push, ok_bipush dX9_tellOne_122 iv_b25 rfl⟩, ?_⟩
  refine ⟨⟨mo_cne, ok_cne dX9_tellOne_124 rfl rfl⟩, ?_⟩
  refine ⟨⟨mo_push, ok_iconst dX9_tellOne_127 iv_i3 rfl⟩, ?_⟩
  refine ⟨⟨mo_goto, ok_goto dX9_tellOne_128 rfl⟩, ?_⟩
  refine ⟨⟨mo_push, ok_iconst dX9_tellOne_131 iv_i4 rfl⟩, ?_⟩
  refine ⟨⟨mo_keep, ok_keep rfl⟩, ?_⟩
  refine ⟨⟨mo_asI, ok_iast dX9_tellOne_132 rfl⟩, ?_⟩
  refine ⟨⟨mo_ald, ok_aldn dX9_tellOne_133 rfl rfl⟩, ?_⟩
  refine ⟨⟨mo_gR, ok_gR rfl fd_X9_43 rfl dX9_tellOne_134 rfl⟩, ?_⟩
  refine ⟨⟨mo_ild, ok_ildn dX9_tellOne_137 rfl rfl⟩, ?_⟩
  refine ⟨⟨mo_ald, ok_aldn dX9_tellOne_138 rfl rfl⟩, ?_⟩
  refine ⟨⟨mo_cvI, ok_cvI mi_X9_handTold lk_X9_234 q1993 qs77 rfl (Nat.le_of_ble_eq_true rfl) (iy_ro_le _) rfl rfl dX9_tellOne_139 rfl⟩, ?_⟩
  refine ⟨⟨mo_asI, ok_iast dX9_tellOne_142 rfl⟩, ?_⟩
  refine ⟨⟨mo_goto, ok_goto dX9_tellOne_143 rfl⟩, ?_⟩
  refine ⟨⟨mo_ald, ok_aldn dX9_tellOne_146 rfl rfl⟩, ?_⟩
  refine ⟨⟨mo_gR, ok_gR rfl fd_X9_40 rfl dX9_tellOne_147 rfl⟩, ?_⟩
  refine ⟨⟨mo_ild, ok_ildn dX9_tellOne_150 rfl rfl⟩, ?_⟩
  refine ⟨⟨mo_push, ok_iconst dX9_tellOne_151 iv_i5 rfl⟩, ?_⟩
  refine ⟨⟨mo_asI, ok_iast dX9_tellOne_152 rfl⟩, ?_⟩
  refine ⟨⟨mo_ald, ok_aldn dX9_tellOne_153 rfl rfl⟩, ?_⟩
  refine ⟨⟨mo_cvV, ok_cvV mi_X9_goesOn lk_X9_188 q1969 qs71 rfl (Nat.le_of_ble_eq_true rfl) (iy_ro_le _) rfl rfl dX9_tellOne_154 rfl⟩, ?_⟩
  refine ⟨⟨mo_goto, ok_goto dX9_tellOne_157 rfl⟩, ?_⟩
  refine ⟨⟨mo_ald, ok_aldn dX9_tellOne_160 rfl rfl⟩, ?_⟩
  refine ⟨⟨mo_gI, ok_gI rfl fd_X9_200 rfl dX9_tellOne_161 rfl⟩, ?_⟩
  refine ⟨⟨mo_push, ok_iconst dX9_tellOne_164 iv_i3 rfl⟩, ?_⟩
  refine ⟨⟨mo_cne, ok_cne dX9_tellOne_165 rfl rfl⟩, ?_⟩
  refine ⟨⟨mo_ald, ok_aldn dX9_tellOne_168 rfl rfl⟩, ?_⟩
  refine ⟨⟨mo_push, ok_iconst dX9_tellOne_169 iv_i2 rfl⟩, ?_⟩
  refine ⟨⟨mo_cvV, ok_cvV mi_X9_fail lk_X9_182 q1973 qs72 rfl (Nat.le_of_ble_eq_true rfl) (iy_ro_le _) rfl rfl dX9_tellOne_170 rfl⟩, ?_⟩
  refine ⟨⟨mo_keep, ok_keep rfl⟩, ?_⟩
  refine ⟨⟨mo_ald, ok_aldn dX9_tellOne_173 rfl rfl⟩, ?_⟩
  refine ⟨⟨mo_gI, ok_gI rfl fd_X9_167 rfl dX9_tellOne_174 rfl⟩, ?_⟩
  refine ⟨⟨mo_ile, ok_ile dX9_tellOne_177 rfl rfl⟩, ?_⟩
  refine ⟨⟨mo_ret, ok_ret rfl dX9_tellOne_180⟩, ?_⟩
  refine ⟨⟨mo_ald, ok_aldn dX9_tellOne_181 rfl rfl⟩, ?_⟩
  refine ⟨⟨mo_cvV, ok_cvV mi_X9_goesOn lk_X9_188 q1969 qs71 rfl (Nat.le_of_ble_eq_true rfl) (iy_ro_le _) rfl rfl dX9_tellOne_182 rfl⟩, ?_⟩
  refine ⟨⟨mo_ald, ok_aldn dX9_tellOne_185 rfl rfl⟩, ?_⟩
  refine ⟨⟨mo_gR, ok_gR rfl fd_X9_40 rfl dX9_tellOne_186 rfl⟩, ?_⟩
  refine ⟨⟨mo_ild, ok_ildn dX9_tellOne_189 rfl rfl⟩, ?_⟩
  refine ⟨⟨mo_push, ok_bipush dX9_tellOne_190 iv_b6 rfl⟩, ?_⟩
  refine ⟨⟨mo_asI, ok_iast dX9_tellOne_192 rfl⟩, ?_⟩
  refine ⟨⟨mo_ald, ok_aldn dX9_tellOne_193 rfl rfl⟩, ?_⟩
  refine ⟨⟨mo_gR, ok_gR rfl fd_X9_46 rfl dX9_tellOne_194 rfl⟩, ?_⟩
  refine ⟨⟨mo_ild, ok_ildn dX9_tellOne_197 rfl rfl⟩, ?_⟩
  refine ⟨⟨mo_ald, ok_aldn dX9_tellOne_198 rfl rfl⟩, ?_⟩
  refine ⟨⟨mo_push, ok_iconst dX9_tellOne_199 iv_i0 rfl⟩, ?_⟩
  refine ⟨⟨mo_push, ok_bipush dX9_tellOne_200 iv_b99 rfl⟩, ?_⟩
  refine ⟨⟨mo_cvI, ok_cvI mi_X9_bounded lk_X9_220 q1977 qs73 rfl (Nat.le_of_ble_eq_true rfl) (iy_ro_le _) rfl rfl dX9_tellOne_202 rfl⟩, ?_⟩
  refine ⟨⟨mo_asI, ok_iast dX9_tellOne_205 rfl⟩, ?_⟩
  refine ⟨⟨mo_ald, ok_aldn dX9_tellOne_206 rfl rfl⟩, ?_⟩
  refine ⟨⟨mo_gR, ok_gR rfl fd_X9_58 rfl dX9_tellOne_207 rfl⟩, ?_⟩
  refine ⟨⟨mo_ald, ok_aldn dX9_tellOne_210 rfl rfl⟩, ?_⟩
  refine ⟨⟨mo_gI, ok_gI rfl fd_X9_200 rfl dX9_tellOne_211 rfl⟩, ?_⟩
  refine ⟨⟨mo_ild, ok_ildn dX9_tellOne_214 rfl rfl⟩, ?_⟩
  refine ⟨⟨mo_asI, ok_iast dX9_tellOne_215 rfl⟩, ?_⟩
  refine ⟨⟨mo_ald, ok_aldn dX9_tellOne_216 rfl rfl⟩, ?_⟩
  refine ⟨⟨mo_dup, ok_dup dX9_tellOne_217 rfl⟩, ?_⟩
  refine ⟨⟨mo_gI, ok_gI rfl fd_X9_200 rfl dX9_tellOne_218 rfl⟩, ?_⟩
  refine ⟨⟨mo_push, ok_iconst dX9_tellOne_221 iv_i1 rfl⟩, ?_⟩
  refine ⟨⟨mo_bin, ok_iadd dX9_tellOne_222 rfl⟩, ?_⟩
  refine ⟨⟨mo_pI, ok_pI rfl fd_X9_200 rfl (Or.inl rfl) dX9_tellOne_223 rfl⟩, ?_⟩
  refine ⟨⟨mo_goto, ok_goto dX9_tellOne_226 rfl⟩, ?_⟩
  refine ⟨⟨mo_ald, ok_aldn dX9_tellOne_229 rfl rfl⟩, ?_⟩
  refine ⟨⟨mo_gI, ok_gI rfl fd_X9_200 rfl dX9_tellOne_230 rfl⟩, ?_⟩
  refine ⟨⟨mo_ine, ok_ine dX9_tellOne_233 rfl rfl⟩, ?_⟩
  refine ⟨⟨mo_ald, ok_aldn dX9_tellOne_236 rfl rfl⟩, ?_⟩
  refine ⟨⟨mo_push, ok_iconst dX9_tellOne_237 iv_i1 rfl⟩, ?_⟩
  refine ⟨⟨mo_cvV, ok_cvV mi_X9_fail lk_X9_182 q1973 qs72 rfl (Nat.le_of_ble_eq_true rfl) (iy_ro_le _) rfl rfl dX9_tellOne_238 rfl⟩, ?_⟩
  refine ⟨⟨mo_keep, ok_keep rfl⟩, ?_⟩
  refine ⟨⟨mo_ald, ok_aldn dX9_tellOne_241 rfl rfl⟩, ?_⟩
  refine ⟨⟨mo_gI, ok_gI rfl fd_X9_167 rfl dX9_tellOne_242 rfl⟩, ?_⟩
  refine ⟨⟨mo_ile, ok_ile dX9_tellOne_245 rfl rfl⟩, ?_⟩
  refine ⟨⟨mo_ret, ok_ret rfl dX9_tellOne_248⟩, ?_⟩
  refine ⟨⟨mo_ald, ok_aldn dX9_tellOne_249 rfl rfl⟩, ?_⟩
  refine ⟨⟨mo_cvV, ok_cvV mi_X9_goesOn lk_X9_188 q1969 qs71 rfl (Nat.le_of_ble_eq_true rfl) (iy_ro_le _) rfl rfl dX9_tellOne_250 rfl⟩, ?_⟩
  refine ⟨⟨mo_ald, ok_aldn dX9_tellOne_253 rfl rfl⟩, ?_⟩
  refine ⟨⟨mo_gR, ok_gR rfl fd_X9_40 rfl dX9_tellOne_254 rfl⟩, ?_⟩
  refine ⟨⟨mo_ild, ok_ildn dX9_tellOne_257 rfl rfl⟩, ?_⟩
  refine ⟨⟨mo_push, ok_bipush dX9_tellOne_258 iv_b7 rfl⟩, ?_⟩
  refine ⟨⟨mo_asI, ok_iast dX9_tellOne_260 rfl⟩, ?_⟩
  refine ⟨⟨mo_ald, ok_aldn dX9_tellOne_261 rfl rfl⟩, ?_⟩
  refine ⟨⟨mo_dup, ok_dup dX9_tellOne_262 rfl⟩, ?_⟩
  refine ⟨⟨mo_gI, ok_gI rfl fd_X9_200 rfl dX9_tellOne_263 rfl⟩, ?_⟩
  refine ⟨⟨mo_push, ok_iconst dX9_tellOne_266 iv_i1 rfl⟩, ?_⟩
  refine ⟨⟨mo_bin, ok_isub dX9_tellOne_267 rfl⟩, ?_⟩
  refine ⟨⟨mo_pI, ok_pI rfl fd_X9_200 rfl (Or.inl rfl) dX9_tellOne_268 rfl⟩, ?_⟩
  refine ⟨⟨mo_ald, ok_aldn dX9_tellOne_271 rfl rfl⟩, ?_⟩
  refine ⟨⟨mo_gR, ok_gR rfl fd_X9_55 rfl dX9_tellOne_272 rfl⟩, ?_⟩
  refine ⟨⟨mo_ild, ok_ildn dX9_tellOne_275 rfl rfl⟩, ?_⟩
  refine ⟨⟨mo_ald, ok_aldn dX9_tellOne_276 rfl rfl⟩, ?_⟩
  refine ⟨⟨mo_gR, ok_gR rfl fd_X9_58 rfl dX9_tellOne_277 rfl⟩, ?_⟩
  refine ⟨⟨mo_ald, ok_aldn dX9_tellOne_280 rfl rfl⟩, ?_⟩
  refine ⟨⟨mo_gI, ok_gI rfl fd_X9_200 rfl dX9_tellOne_281 rfl⟩, ?_⟩
  refine ⟨⟨mo_alI, ok_iald dX9_tellOne_284 rfl⟩, ?_⟩
  refine ⟨⟨mo_asI, ok_iast dX9_tellOne_285 rfl⟩, ?_⟩
  refine ⟨⟨mo_ald, ok_aldn dX9_tellOne_286 rfl rfl⟩, ?_⟩
  refine ⟨⟨mo_gR, ok_gR rfl fd_X9_55 rfl dX9_tellOne_287 rfl⟩, ?_⟩
  refine ⟨⟨mo_ald, ok_aldn dX9_tellOne_290 rfl rfl⟩, ?_⟩
  refine ⟨⟨mo_gR, ok_gR rfl fd_X9_58 rfl dX9_tellOne_291 rfl⟩, ?_⟩
  refine ⟨⟨mo_ald, ok_aldn dX9_tellOne_294 rfl rfl⟩, ?_⟩
  refine ⟨⟨mo_gI, ok_gI rfl fd_X9_200 rfl dX9_tellOne_295 rfl⟩, ?_⟩
  refine ⟨⟨mo_alI, ok_iald dX9_tellOne_298 rfl⟩, ?_⟩
  refine ⟨⟨mo_ild, ok_ildn dX9_tellOne_299 rfl rfl⟩, ?_⟩
  refine ⟨⟨mo_asI, ok_iast dX9_tellOne_300 rfl⟩, ?_⟩
  refine ⟨⟨mo_goto, ok_goto dX9_tellOne_301 rfl⟩, ?_⟩
  refine ⟨⟨mo_ald, ok_aldn dX9_tellOne_304 rfl rfl⟩, ?_⟩
  refine ⟨⟨mo_ild, ok_ildn dX9_tellOne_305 rfl rfl⟩, ?_⟩
  refine ⟨⟨mo_cvV, ok_cvV mi_X9_actTold lk_X9_238 q1997 qs78 rfl (Nat.le_of_ble_eq_true rfl) (iy_ro_le _) rfl rfl dX9_tellOne_306 rfl⟩, ?_⟩
  refine ⟨⟨mo_keep, ok_keep rfl⟩, ?_⟩
  refine ⟨⟨mo_ald, ok_aldn dX9_tellOne_309 rfl rfl⟩, ?_⟩
  refine ⟨⟨mo_push, ok_iconst dX9_tellOne_310 iv_i4 rfl⟩, ?_⟩
  refine ⟨⟨mo_cvV, ok_cvV mi_X9_must lk_X9_224 q1985 qs75 rfl (Nat.le_of_ble_eq_true rfl) (iy_ro_le _) rfl rfl dX9_tellOne_311 rfl⟩, ?_⟩
  refine ⟨⟨mo_ald, ok_aldn dX9_tellOne_314 rfl rfl⟩, ?_⟩
  refine ⟨⟨mo_dup, ok_dup dX9_tellOne_315 rfl⟩, ?_⟩
  refine ⟨⟨mo_gI, ok_gI rfl fd_X9_197 rfl dX9_tellOne_316 rfl⟩, ?_⟩
  refine ⟨⟨mo_push, ok_iconst dX9_tellOne_319 iv_i1 rfl⟩, ?_⟩
  refine ⟨⟨mo_bin, ok_iadd dX9_tellOne_320 rfl⟩, ?_⟩
  refine ⟨⟨mo_pI, ok_pI rfl fd_X9_197 rfl (Or.inl rfl) dX9_tellOne_321 rfl⟩, ?_⟩
  refine ⟨⟨mo_ret, ok_ret rfl dX9_tellOne_324⟩, ?_⟩
  exact trivial
set_option maxHeartbeats 4000000 in
theorem alX9_handTold : iy_all (iy_calls iy_mi) RX9 "handTold" cX9_handTold 1 (some FieldType.int, []) pcX9_handTold pcX9_handTold stX9_handTold := by
  refine ⟨⟨mo_ald, ok_aldn dX9_handTold_0 rfl rfl⟩, ?_⟩
  refine ⟨⟨mo_cvV, ok_cvV mi_X9_goesOn lk_X9_188 q1969 qs71 rfl (Nat.le_of_ble_eq_true rfl) (iy_ro_le _) rfl rfl dX9_handTold_1 rfl⟩, ?_⟩
  refine ⟨⟨mo_ald, ok_aldn dX9_handTold_4 rfl rfl⟩, ?_⟩
  refine ⟨⟨mo_push, ok_iconst dX9_handTold_5 iv_i0 rfl⟩, ?_⟩
  refine ⟨⟨mo_push, ok_iconst dX9_handTold_6 iv_i3 rfl⟩, ?_⟩
  refine ⟨⟨mo_cvI, ok_cvI mi_X9_bounded lk_X9_220 q1977 qs73 rfl (Nat.le_of_ble_eq_true rfl) (iy_ro_le _) rfl rfl dX9_handTold_7 rfl⟩, ?_⟩
  refine ⟨⟨mo_iret, ok_iret rfl rfl dX9_handTold_10⟩, ?_⟩
  exact trivial
set_option maxHeartbeats 4000000 in
theorem alX9_actTold : iy_all (iy_calls iy_mi) RX9 "actTold" cX9_actTold 3 (none, []) pcX9_actTold pcX9_actTold stX9_actTold := by
  refine ⟨⟨mo_ald, ok_aldn dX9_actTold_0 rfl rfl⟩, ?_⟩
  refine ⟨⟨mo_push, ok_bipush dX9_actTold_1 iv_b30 rfl⟩, ?_⟩
  refine ⟨⟨mo_cvI, ok_cvI mi_X9_is lk_X9_185 q1965 qs70 rfl (Nat.le_of_ble_eq_true rfl) (iy_ro_le _) rfl rfl dX9_actTold_3 rfl⟩, ?_⟩
  refine ⟨⟨mo_ist, ok_istn dX9_actTold_6 rfl (Nat.le_of_ble_eq_true rfl) rfl⟩, ?_⟩
  refine ⟨⟨mo_ild, ok_ildn dX9_actTold_7 rfl rfl⟩, ?_⟩
  refine ⟨⟨mo_ine, ok_ine dX9_actTold_8 rfl rfl⟩, ?_⟩
  refine ⟨⟨mo_ald, ok_aldn dX9_actTold_11 rfl rfl⟩, ?_⟩
  refine ⟨⟨mo_push, ok_bipush dX9_actTold_12 iv_b31 rfl⟩, ?_⟩
  refine ⟨⟨mo_cvI, ok_cvI mi_X9_is lk_X9_185 q1965 qs70 rfl (Nat.le_of_ble_eq_true rfl) (iy_ro_le _) rfl rfl dX9_actTold_14 rfl⟩, ?_⟩
  refine ⟨⟨mo_ine, ok_ine dX9_actTold_17 rfl rfl⟩, ?_⟩
  refine ⟨⟨mo_ald, ok_aldn dX9_actTold_20 rfl rfl⟩, ?_⟩
  refine ⟨⟨mo_push, ok_iconst dX9_actTold_21 iv_i1 rfl⟩, ?_⟩
  refine ⟨⟨mo_cvV, ok_cvV mi_X9_fail lk_X9_182 q1973 qs72 rfl (Nat.le_of_ble_eq_true rfl) (iy_ro_le _) rfl rfl dX9_actTold_22 rfl⟩, ?_⟩
  refine ⟨⟨mo_keep, ok_keep rfl⟩, ?_⟩
  refine ⟨⟨mo_ald, ok_aldn dX9_actTold_25 rfl rfl⟩, ?_⟩
  refine ⟨⟨mo_gI, ok_gI rfl fd_X9_167 rfl dX9_actTold_26 rfl⟩, ?_⟩
  refine ⟨⟨mo_ile, ok_ile dX9_actTold_29 rfl rfl⟩, ?_⟩
  refine ⟨⟨mo_ret, ok_ret rfl dX9_actTold_32⟩, ?_⟩
  refine ⟨⟨mo_ald, ok_aldn dX9_actTold_33 rfl rfl⟩, ?_⟩
  refine ⟨⟨mo_cvV, ok_cvV mi_X9_goesOn lk_X9_188 q1969 qs71 rfl (Nat.le_of_ble_eq_true rfl) (iy_ro_le _) rfl rfl dX9_actTold_34 rfl⟩, ?_⟩
  refine ⟨⟨mo_ald, ok_aldn dX9_actTold_37 rfl rfl⟩, ?_⟩
  refine ⟨⟨mo_gR, ok_gR rfl fd_X9_40 rfl dX9_actTold_38 rfl⟩, ?_⟩
  refine ⟨⟨mo_ild, ok_ildn dX9_actTold_41 rfl rfl⟩, ?_⟩
  refine ⟨⟨mo_ild, ok_ildn dX9_actTold_42 rfl rfl⟩, ?_⟩
  refine ⟨⟨mo_ieq, ok_ieq dX9_actTold_43 rfl rfl⟩, ?_⟩
  refine ⟨⟨mo_push, ok_iconst dX9_actTold_46 iv_i0 rfl⟩, ?_⟩
  refine ⟨⟨mo_goto, ok_goto dX9_actTold_47 rfl⟩, ?_⟩
  refine ⟨⟨mo_push, ok_iconst dX9_actTold_50 iv_i1 rfl⟩, ?_⟩
  refine ⟨⟨mo_keep, ok_keep rfl⟩, ?_⟩
  refine ⟨⟨mo_asI, ok_iast dX9_actTold_51 rfl⟩, ?_⟩
  refine ⟨⟨mo_ald, ok_aldn dX9_actTold_52 rfl rfl⟩, ?_⟩
  refine ⟨⟨mo_ild, ok_ildn dX9_actTold_53 rfl rfl⟩, ?_⟩
  refine ⟨⟨mo_ild, ok_ildn dX9_actTold_54 rfl rfl⟩, ?_⟩
  refine ⟨⟨mo_cvV, ok_cvV mi_X9_termsTold lk_X9_227 q2001 qs79 rfl (Nat.le_of_ble_eq_true rfl) (iy_ro_le _) rfl rfl dX9_actTold_55 rfl⟩, ?_⟩
  refine ⟨⟨mo_ret, ok_ret rfl dX9_actTold_58⟩, ?_⟩
  exact trivial
set_option maxHeartbeats 4000000 in
theorem alX9_termsTold : iy_all (iy_calls iy_mi) RX9 "termsTold" cX9_termsTold 3 (none, []) pcX9_termsTold pcX9_termsTold stX9_termsTold := by
  refine ⟨⟨mo_ald, ok_aldn dX9_termsTold_0 rfl rfl⟩, ?_⟩
  refine ⟨⟨mo_gR, ok_gR rfl fd_X9_46 rfl dX9_termsTold_1 rfl⟩, ?_⟩
  refine ⟨⟨mo_ild, ok_ildn dX9_termsTold_4 rfl rfl⟩, ?_⟩
  refine ⟨⟨mo_ald, ok_aldn dX9_termsTold_5 rfl rfl⟩, ?_⟩
  refine ⟨⟨mo_gI, ok_gI rfl fd_X9_203 rfl dX9_termsTold_6 rfl⟩, ?_⟩
  refine ⟨⟨mo_asI, ok_iast dX9_termsTold_9 rfl⟩, ?_⟩
  refine ⟨⟨mo_ald, ok_aldn dX9_termsTold_10 rfl rfl⟩, ?_⟩
  refine ⟨⟨mo_gI, ok_gI rfl fd_X9_167 rfl dX9_termsTold_11 rfl⟩, ?_⟩
  refine ⟨⟨mo_ine, ok_ine dX9_termsTold_14 rfl rfl⟩, ?_⟩
  refine ⟨⟨mo_ald, ok_aldn dX9_termsTold_17 rfl rfl⟩, ?_⟩
  refine ⟨⟨mo_cvV, ok_cvV mi_X9_expression lk_X9_231 q2005 qs80 rfl (Nat.le_of_ble_eq_true rfl) (iy_ro_le _) rfl rfl dX9_termsTold_18 rfl⟩, ?_⟩
  refine ⟨⟨mo_keep, ok_keep rfl⟩, ?_⟩
  refine ⟨⟨mo_ald, ok_aldn dX9_termsTold_21 rfl rfl⟩, ?_⟩
  refine ⟨⟨mo_gR, ok_gR rfl fd_X9_49 rfl dX9_termsTold_22 rfl⟩, ?_⟩
  refine ⟨⟨mo_ild, ok_ildn dX9_termsTold_25 rfl rfl⟩, ?_⟩
  refine ⟨⟨mo_ald, ok_aldn dX9_termsTold_26 rfl rfl⟩, ?_⟩
  refine ⟨⟨mo_gI, ok_gI rfl fd_X9_203 rfl dX9_termsTold_27 rfl⟩, ?_⟩
  refine ⟨⟨mo_asI, ok_iast dX9_termsTold_30 rfl⟩, ?_⟩
  refine ⟨⟨mo_ald, ok_aldn dX9_termsTold_31 rfl rfl⟩, ?_⟩
  refine ⟨⟨mo_gI, ok_gI rfl fd_X9_167 rfl dX9_termsTold_32 rfl⟩, ?_⟩
  refine ⟨⟨mo_ine, ok_ine dX9_termsTold_35 rfl rfl⟩, ?_⟩
  refine ⟨⟨mo_ild, ok_ildn dX9_termsTold_38 rfl rfl⟩, ?_⟩
  refine ⟨⟨mo_ieq, ok_ieq dX9_termsTold_39 rfl rfl⟩, ?_⟩
  refine ⟨⟨mo_ald, ok_aldn dX9_termsTold_42 rfl rfl⟩, ?_⟩
  refine ⟨⟨mo_cvV, ok_cvV mi_X9_expression lk_X9_231 q2005 qs80 rfl (Nat.le_of_ble_eq_true rfl) (iy_ro_le _) rfl rfl dX9_termsTold_43 rfl⟩, ?_⟩
  refine ⟨⟨mo_keep, ok_keep rfl⟩, ?_⟩
  refine ⟨⟨mo_ald, ok_aldn dX9_termsTold_46 rfl rfl⟩, ?_⟩
  refine ⟨⟨mo_gR, ok_gR rfl fd_X9_52 rfl dX9_termsTold_47 rfl⟩, ?_⟩
  refine ⟨⟨mo_ild, ok_ildn dX9_termsTold_50 rfl rfl⟩, ?_⟩
  refine ⟨⟨mo_ald, ok_aldn dX9_termsTold_51 rfl rfl⟩, ?_⟩
  refine ⟨⟨mo_gI, ok_gI rfl fd_X9_203 rfl dX9_termsTold_52 rfl⟩, ?_⟩
  refine ⟨⟨mo_asI, ok_iast dX9_termsTold_55 rfl⟩, ?_⟩
  refine ⟨⟨mo_ret, ok_ret rfl dX9_termsTold_56⟩, ?_⟩
  exact trivial
set_option maxHeartbeats 4000000 in
theorem alX9_expression : iy_all (iy_calls iy_mi) RX9 "expression" cX9_expression 3 (none, []) pcX9_expression pcX9_expression stX9_expression := by
  refine ⟨⟨mo_ald, ok_aldn dX9_expression_0 rfl rfl⟩, ?_⟩
  refine ⟨⟨mo_push, ok_iconst dX9_expression_1 iv_i0 rfl⟩, ?_⟩
  refine ⟨⟨mo_pI, ok_pI rfl fd_X9_241 rfl (Or.inl rfl) dX9_expression_2 rfl⟩, ?_⟩
  refine ⟨⟨mo_ald, ok_aldn dX9_expression_5 rfl rfl⟩, ?_⟩
  refine ⟨⟨mo_gI, ok_gI rfl fd_X9_194 rfl dX9_expression_6 rfl⟩, ?_⟩
  refine ⟨⟨mo_ist, ok_istn dX9_expression_9 rfl (Nat.le_of_ble_eq_true rfl) rfl⟩, ?_⟩
  refine ⟨⟨mo_push, ok_iconst dX9_expression_10 iv_i1 rfl⟩, ?_⟩
  refine ⟨⟨mo_ist, ok_istn dX9_expression_11 rfl (Nat.le_of_ble_eq_true rfl) rfl⟩, ?_⟩
  refine ⟨⟨mo_keep, ok_keep rfl⟩, ?_⟩
  refine ⟨⟨mo_ild, ok_ildn dX9_expression_12 rfl rfl⟩, ?_⟩
  refine ⟨⟨mo_ieq, ok_ieq dX9_expression_13 rfl rfl⟩, ?_⟩
  refine ⟨⟨mo_ald, ok_aldn dX9_expression_16 rfl rfl⟩, ?_⟩
  refine ⟨⟨mo_gI, ok_gI rfl fd_X9_167 rfl dX9_expression_17 rfl⟩, ?_⟩
  refine ⟨⟨mo_ine, ok_ine dX9_expression_20 rfl rfl⟩, ?_⟩
  refine ⟨⟨mo_keep, ok_keep rfl⟩, ?_⟩
  refine ⟨⟨mo_ald, ok_aldn dX9_expression_23 rfl rfl⟩, ?_⟩
  refine ⟨⟨mo_push, ok_bipush dX9_expression_24 iv_b6 rfl⟩, ?_⟩
  refine ⟨⟨mo_cvI, ok_cvI mi_X9_is lk_X9_185 q1965 qs70 rfl (Nat.le_of_ble_eq_true rfl) (iy_ro_le _) rfl rfl dX9_expression_26 rfl⟩, ?_⟩
  refine ⟨⟨mo_ieq, ok_ieq dX9_expression_29 rfl rfl⟩, ?_⟩
  refine ⟨⟨mo_ald, ok_aldn dX9_expression_32 rfl rfl⟩, ?_⟩
  refine ⟨⟨mo_gI, ok_gI rfl fd_X9_194 rfl dX9_expression_33 rfl⟩, ?_⟩
  refine ⟨⟨mo_push, ok_bipush dX9_expression_36 iv_b6 rfl⟩, ?_⟩
  refine ⟨⟨mo_cne, ok_cne dX9_expression_38 rfl rfl⟩, ?_⟩
  refine ⟨⟨mo_ald, ok_aldn dX9_expression_41 rfl rfl⟩, ?_⟩
  refine ⟨⟨mo_push, ok_iconst dX9_expression_42 iv_i2 rfl⟩, ?_⟩
  refine ⟨⟨mo_cvV, ok_cvV mi_X9_fail lk_X9_182 q1973 qs72 rfl (Nat.le_of_ble_eq_true rfl) (iy_ro_le _) rfl rfl dX9_expression_43 rfl⟩, ?_⟩
  refine ⟨⟨mo_keep, ok_keep rfl⟩, ?_⟩
  refine ⟨⟨mo_ald, ok_aldn dX9_expression_46 rfl rfl⟩, ?_⟩
  refine ⟨⟨mo_dup, ok_dup dX9_expression_47 rfl⟩, ?_⟩
  refine ⟨⟨mo_gI, ok_gI rfl fd_X9_194 rfl dX9_expression_48 rfl⟩, ?_⟩
  refine ⟨⟨mo_push, ok_iconst dX9_expression_51 iv_i1 rfl⟩, ?_⟩
  refine ⟨⟨mo_bin, ok_iadd dX9_expression_52 rfl⟩, ?_⟩
  refine ⟨⟨mo_pI, ok_pI rfl fd_X9_194 rfl (Or.inl rfl) dX9_expression_53 rfl⟩, ?_⟩
  refine ⟨⟨mo_ald, ok_aldn dX9_expression_56 rfl rfl⟩, ?_⟩
  refine ⟨⟨mo_cvV, ok_cvV mi_X9_goesOn lk_X9_188 q1969 qs71 rfl (Nat.le_of_ble_eq_true rfl) (iy_ro_le _) rfl rfl dX9_expression_57 rfl⟩, ?_⟩
  refine ⟨⟨mo_ald, ok_aldn dX9_expression_60 rfl rfl⟩, ?_⟩
  refine ⟨⟨mo_gR, ok_gR rfl fd_X9_67 rfl dX9_expression_61 rfl⟩, ?_⟩
  refine ⟨⟨mo_ald, ok_aldn dX9_expression_64 rfl rfl⟩, ?_⟩
  refine ⟨⟨mo_gI, ok_gI rfl fd_X9_241 rfl dX9_expression_65 rfl⟩, ?_⟩
  refine ⟨⟨mo_push, ok_bipush dX9_expression_68 iv_b6 rfl⟩, ?_⟩
  refine ⟨⟨mo_asI, ok_iast dX9_expression_70 rfl⟩, ?_⟩
  refine ⟨⟨mo_ald, ok_aldn dX9_expression_71 rfl rfl⟩, ?_⟩
  refine ⟨⟨mo_dup, ok_dup dX9_expression_72 rfl⟩, ?_⟩
  refine ⟨⟨mo_gI, ok_gI rfl fd_X9_241 rfl dX9_expression_73 rfl⟩, ?_⟩
  refine ⟨⟨mo_push, ok_iconst dX9_expression_76 iv_i1 rfl⟩, ?_⟩
  refine ⟨⟨mo_bin, ok_iadd dX9_expression_77 rfl⟩, ?_⟩
  refine ⟨⟨mo_pI, ok_pI rfl fd_X9_241 rfl (Or.inl rfl) dX9_expression_78 rfl⟩, ?_⟩
  refine ⟨⟨mo_back, ok_back dX9_expression_81 rfl⟩, ?_⟩
  refine ⟨⟨mo_ald, ok_aldn dX9_expression_84 rfl rfl⟩, ?_⟩
  refine ⟨⟨mo_cvV, ok_cvV mi_X9_unit lk_X9_247 q2009 qs81 rfl (Nat.le_of_ble_eq_true rfl) (iy_ro_le _) rfl rfl dX9_expression_85 rfl⟩, ?_⟩
  refine ⟨⟨mo_ald, ok_aldn dX9_expression_88 rfl rfl⟩, ?_⟩
  refine ⟨⟨mo_gI, ok_gI rfl fd_X9_167 rfl dX9_expression_89 rfl⟩, ?_⟩
  refine ⟨⟨mo_ile, ok_ile dX9_expression_92 rfl rfl⟩, ?_⟩
  refine ⟨⟨mo_ret, ok_ret rfl dX9_expression_95⟩, ?_⟩
  refine ⟨⟨mo_keep, ok_keep rfl⟩, ?_⟩
  refine ⟨⟨mo_ald, ok_aldn dX9_expression_96 rfl rfl⟩, ?_⟩
  refine ⟨⟨mo_push, ok_bipush dX9_expression_97 iv_b7 rfl⟩, ?_⟩
  refine ⟨⟨mo_cvI, ok_cvI mi_X9_is lk_X9_185 q1965 qs70 rfl (Nat.le_of_ble_eq_true rfl) (iy_ro_le _) rfl rfl dX9_expression_99 rfl⟩, ?_⟩
  refine ⟨⟨mo_ieq, ok_ieq dX9_expression_102 rfl rfl⟩, ?_⟩
  refine ⟨⟨mo_ald, ok_aldn dX9_expression_105 rfl rfl⟩, ?_⟩
  refine ⟨⟨mo_gI, ok_gI rfl fd_X9_194 rfl dX9_expression_106 rfl⟩, ?_⟩
  refine ⟨⟨mo_ild, ok_ildn dX9_expression_109 rfl rfl⟩, ?_⟩
  refine ⟨⟨mo_cle, ok_cle dX9_expression_110 rfl rfl⟩, ?_⟩
  refine ⟨⟨mo_ald, ok_aldn dX9_expression_113 rfl rfl⟩, ?_⟩
  refine ⟨⟨mo_push, ok_iconst dX9_expression_114 iv_i0 rfl⟩, ?_⟩
  refine ⟨⟨mo_cvV, ok_cvV mi_X9_comesOut lk_X9_250 q2017 qs83 rfl (Nat.le_of_ble_eq_true rfl) (iy_ro_le _) rfl rfl dX9_expression_115 rfl⟩, ?_⟩
  refine ⟨⟨mo_ald, ok_aldn dX9_expression_118 rfl rfl⟩, ?_⟩
  refine ⟨⟨mo_dup, ok_dup dX9_expression_119 rfl⟩, ?_⟩
  refine ⟨⟨mo_gI, ok_gI rfl fd_X9_241 rfl dX9_expression_120 rfl⟩, ?_⟩
  refine ⟨⟨mo_push, ok_iconst dX9_expression_123 iv_i1 rfl⟩, ?_⟩
  refine ⟨⟨mo_bin, ok_isub dX9_expression_124 rfl⟩, ?_⟩
  refine ⟨⟨mo_pI, ok_pI rfl fd_X9_241 rfl (Or.inl rfl) dX9_expression_125 rfl⟩, ?_⟩
  refine ⟨⟨mo_ald, ok_aldn dX9_expression_128 rfl rfl⟩, ?_⟩
  refine ⟨⟨mo_dup, ok_dup dX9_expression_129 rfl⟩, ?_⟩
  refine ⟨⟨mo_gI, ok_gI rfl fd_X9_194 rfl dX9_expression_130 rfl⟩, ?_⟩
  refine ⟨⟨mo_push, ok_iconst dX9_expression_133 iv_i1 rfl⟩, ?_⟩
  refine ⟨⟨mo_bin, ok_isub dX9_expression_134 rfl⟩, ?_⟩
  refine ⟨⟨mo_pI, ok_pI rfl fd_X9_194 rfl (Or.inl rfl) dX9_expression_135 rfl⟩, ?_⟩
  refine ⟨⟨mo_ald, ok_aldn dX9_expression_138 rfl rfl⟩, ?_⟩
  refine ⟨⟨mo_cvV, ok_cvV mi_X9_goesOn lk_X9_188 q1969 qs71 rfl (Nat.le_of_ble_eq_true rfl) (iy_ro_le _) rfl rfl dX9_expression_139 rfl⟩, ?_⟩
  refine ⟨⟨mo_back, ok_back dX9_expression_142 rfl⟩, ?_⟩
  refine ⟨⟨mo_keep, ok_keep rfl⟩, ?_⟩
  refine ⟨⟨mo_ald, ok_aldn dX9_expression_145 rfl rfl⟩, ?_⟩
  refine ⟨⟨mo_push, ok_bipush dX9_expression_146 iv_b8 rfl⟩, ?_⟩
  refine ⟨⟨mo_cvI, ok_cvI mi_X9_is lk_X9_185 q1965 qs70 rfl (Nat.le_of_ble_eq_true rfl) (iy_ro_le _) rfl rfl dX9_expression_148 rfl⟩, ?_⟩
  refine ⟨⟨mo_ine, ok_ine dX9_expression_151 rfl rfl⟩, ?_⟩
  refine ⟨⟨mo_ald, ok_aldn dX9_expression_154 rfl rfl⟩, ?_⟩
  refine ⟨⟨mo_push, ok_bipush dX9_expression_155 iv_b9 rfl⟩, ?_⟩
  refine ⟨⟨mo_cvI, ok_cvI mi_X9_is lk_X9_185 q1965 qs70 rfl (Nat.le_of_ble_eq_true rfl) (iy_ro_le _) rfl rfl dX9_expression_157 rfl⟩, ?_⟩
  refine ⟨⟨mo_ine, ok_ine dX9_expression_160 rfl rfl⟩, ?_⟩
  refine ⟨⟨mo_ald, ok_aldn dX9_expression_163 rfl rfl⟩, ?_⟩
  refine ⟨⟨mo_push, ok_bipush dX9_expression_164 iv_b10 rfl⟩, ?_⟩
  refine ⟨⟨mo_cvI, ok_cvI mi_X9_is lk_X9_185 q1965 qs70 rfl (Nat.le_of_ble_eq_true rfl) (iy_ro_le _) rfl rfl dX9_expression_166 rfl⟩, ?_⟩
  refine ⟨⟨mo_ine, ok_ine dX9_expression_169 rfl rfl⟩, ?_⟩
  refine ⟨⟨mo_ald, ok_aldn dX9_expression_172 rfl rfl⟩, ?_⟩
  refine ⟨⟨mo_push, ok_bipush dX9_expression_173 iv_b15 rfl⟩, ?_⟩
  refine ⟨⟨mo_cvI, ok_cvI mi_X9_is lk_X9_185 q1965 qs70 rfl (Nat.le_of_ble_eq_true rfl) (iy_ro_le _) rfl rfl dX9_expression_175 rfl⟩, ?_⟩
  refine ⟨⟨mo_ine, ok_ine dX9_expression_178 rfl rfl⟩, ?_⟩
  refine ⟨⟨mo_ald, ok_aldn dX9_expression_181 rfl rfl⟩, ?_⟩
  refine ⟨⟨mo_push, ok_bipush dX9_expression_182 iv_b16 rfl⟩, ?_⟩
  refine ⟨⟨mo_cvI, ok_cvI mi_X9_is lk_X9_185 q1965 qs70 rfl (Nat.le_of_ble_eq_true rfl) (iy_ro_le _) rfl rfl dX9_expression_184 rfl⟩, ?_⟩
  refine ⟨⟨mo_ieq, ok_ieq dX9_expression_187 rfl rfl⟩, ?_⟩
  refine ⟨⟨mo_keep, ok_keep rfl⟩, ?_⟩
  refine ⟨⟨mo_push, ok_iconst dX9_expression_190 iv_i1 rfl⟩, ?_⟩
  refine ⟨⟨mo_goto, ok_goto dX9_expression_191 rfl⟩, ?_⟩
  refine ⟨⟨mo_push, ok_iconst dX9_expression_194 iv_i0 rfl⟩, ?_⟩
  refine ⟨⟨mo_keep, ok_keep rfl⟩, ?_⟩
  refine ⟨⟨mo_ist, ok_istn dX9_expression_195 rfl (Nat.le_of_ble_eq_true rfl) rfl⟩, ?_⟩
  refine ⟨⟨mo_ild, ok_ildn dX9_expression_196 rfl rfl⟩, ?_⟩
  refine ⟨⟨mo_ine, ok_ine dX9_expression_197 rfl rfl⟩, ?_⟩
  refine ⟨⟨mo_ald, ok_aldn dX9_expression_200 rfl rfl⟩, ?_⟩
  refine ⟨⟨mo_gI, ok_gI rfl fd_X9_194 rfl dX9_expression_201 rfl⟩, ?_⟩
  refine ⟨⟨mo_ild, ok_ildn dX9_expression_204 rfl rfl⟩, ?_⟩
  refine ⟨⟨mo_cle, ok_cle dX9_expression_205 rfl rfl⟩, ?_⟩
  refine ⟨⟨mo_ald, ok_aldn dX9_expression_208 rfl rfl⟩, ?_⟩
  refine ⟨⟨mo_push, ok_iconst dX9_expression_209 iv_i1 rfl⟩, ?_⟩
  refine ⟨⟨mo_cvV, ok_cvV mi_X9_fail lk_X9_182 q1973 qs72 rfl (Nat.le_of_ble_eq_true rfl) (iy_ro_le _) rfl rfl dX9_expression_210 rfl⟩, ?_⟩
  refine ⟨⟨mo_keep, ok_keep rfl⟩, ?_⟩
  refine ⟨⟨mo_ald, ok_aldn dX9_expression_213 rfl rfl⟩, ?_⟩
  refine ⟨⟨mo_push, ok_iconst dX9_expression_214 iv_i0 rfl⟩, ?_⟩
  refine ⟨⟨mo_cvV, ok_cvV mi_X9_comesOut lk_X9_250 q2017 qs83 rfl (Nat.le_of_ble_eq_true rfl) (iy_ro_le _) rfl rfl dX9_expression_215 rfl⟩, ?_⟩
  refine ⟨⟨mo_ret, ok_ret rfl dX9_expression_218⟩, ?_⟩
  refine ⟨⟨mo_ald, ok_aldn dX9_expression_219 rfl rfl⟩, ?_⟩
  refine ⟨⟨mo_ald, ok_aldn dX9_expression_220 rfl rfl⟩, ?_⟩
  refine ⟨⟨mo_push, ok_bipush dX9_expression_221 iv_b10 rfl⟩, ?_⟩
  refine ⟨⟨mo_cvI, ok_cvI mi_X9_is lk_X9_185 q1965 qs70 rfl (Nat.le_of_ble_eq_true rfl) (iy_ro_le _) rfl rfl dX9_expression_223 rfl⟩, ?_⟩
  refine ⟨⟨mo_ine, ok_ine dX9_expression_226 rfl rfl⟩, ?_⟩
  refine ⟨⟨mo_ald, ok_aldn dX9_expression_229 rfl rfl⟩, ?_⟩
  refine ⟨⟨mo_push, ok_bipush dX9_expression_230 iv_b15 rfl⟩, ?_⟩
  refine ⟨⟨mo_cvI, ok_cvI mi_X9_is lk_X9_185 q1965 qs70 rfl (Nat.le_of_ble_eq_true rfl) (iy_ro_le _) rfl rfl dX9_expression_232 rfl⟩, ?_⟩
  refine ⟨⟨mo_ine, ok_ine dX9_expression_235 rfl rfl⟩, ?_⟩
  refine ⟨⟨mo_ald, ok_aldn dX9_expression_238 rfl rfl⟩, ?_⟩
  refine ⟨⟨mo_push, ok_bipush dX9_expression_239 iv_b16 rfl⟩, ?_⟩
  refine ⟨⟨mo_cvI, ok_cvI mi_X9_is lk_X9_185 q1965 qs70 rfl (Nat.le_of_ble_eq_true rfl) (iy_ro_le _) rfl rfl dX9_expression_241 rfl⟩, ?_⟩
  refine ⟨⟨mo_ieq, ok_ieq dX9_expression_244 rfl rfl⟩, ?_⟩
  refine ⟨⟨mo_keep, ok_keep rfl⟩, ?_⟩
  refine ⟨⟨mo_push, ok_iconst dX9_expression_247 iv_i1 rfl⟩, ?_⟩
  refine ⟨⟨mo_goto, ok_goto dX9_expression_248 rfl⟩, ?_⟩
  refine ⟨⟨mo_push, ok_iconst dX9_expression_251 iv_i0 rfl⟩, ?_⟩
  refine ⟨⟨mo_keep, ok_keep rfl⟩, ?_⟩
  refine ⟨⟨mo_cvV, ok_cvV mi_X9_comesOut lk_X9_250 q2017 qs83 rfl (Nat.le_of_ble_eq_true rfl) (iy_ro_le _) rfl rfl dX9_expression_252 rfl⟩, ?_⟩
  refine ⟨⟨mo_ald, ok_aldn dX9_expression_255 rfl rfl⟩, ?_⟩
  refine ⟨⟨mo_gR, ok_gR rfl fd_X9_67 rfl dX9_expression_256 rfl⟩, ?_⟩
  refine ⟨⟨mo_ald, ok_aldn dX9_expression_259 rfl rfl⟩, ?_⟩
  refine ⟨⟨mo_gI, ok_gI rfl fd_X9_241 rfl dX9_expression_260 rfl⟩, ?_⟩
  refine ⟨⟨mo_ald, ok_aldn dX9_expression_263 rfl rfl⟩, ?_⟩
  refine ⟨⟨mo_gR, ok_gR rfl fd_X9_20 rfl dX9_expression_264 rfl⟩, ?_⟩
  refine ⟨⟨mo_ald, ok_aldn dX9_expression_267 rfl rfl⟩, ?_⟩
  refine ⟨⟨mo_gI, ok_gI rfl fd_X9_170 rfl dX9_expression_268 rfl⟩, ?_⟩
  refine ⟨⟨mo_alI, ok_iald dX9_expression_271 rfl⟩, ?_⟩
  refine ⟨⟨mo_asI, ok_iast dX9_expression_272 rfl⟩, ?_⟩
  refine ⟨⟨mo_ald, ok_aldn dX9_expression_273 rfl rfl⟩, ?_⟩
  refine ⟨⟨mo_dup, ok_dup dX9_expression_274 rfl⟩, ?_⟩
  refine ⟨⟨mo_gI, ok_gI rfl fd_X9_241 rfl dX9_expression_275 rfl⟩, ?_⟩
  refine ⟨⟨mo_push, ok_iconst dX9_expression_278 iv_i1 rfl⟩, ?_⟩
  refine ⟨⟨mo_bin, ok_iadd dX9_expression_279 rfl⟩, ?_⟩
  refine ⟨⟨mo_pI, ok_pI rfl fd_X9_241 rfl (Or.inl rfl) dX9_expression_280 rfl⟩, ?_⟩
  refine ⟨⟨mo_ald, ok_aldn dX9_expression_283 rfl rfl⟩, ?_⟩
  refine ⟨⟨mo_cvV, ok_cvV mi_X9_goesOn lk_X9_188 q1969 qs71 rfl (Nat.le_of_ble_eq_true rfl) (iy_ro_le _) rfl rfl dX9_expression_284 rfl⟩, ?_⟩
  refine ⟨⟨mo_back, ok_back dX9_expression_287 rfl⟩, ?_⟩
  refine ⟨⟨mo_keep, ok_keep rfl⟩, ?_⟩
  refine ⟨⟨mo_ret, ok_ret rfl dX9_expression_290⟩, ?_⟩
  exact trivial
set_option maxHeartbeats 4000000 in
theorem alX9_unit : iy_all (iy_calls iy_mi) RX9 "unit" cX9_unit 1 (none, []) pcX9_unit pcX9_unit stX9_unit := by
  refine ⟨⟨mo_ald, ok_aldn dX9_unit_0 rfl rfl⟩, ?_⟩
  refine ⟨⟨mo_push, ok_iconst dX9_unit_1 iv_i2 rfl⟩, ?_⟩
  refine ⟨⟨mo_cvI, ok_cvI mi_X9_is lk_X9_185 q1965 qs70 rfl (Nat.le_of_ble_eq_true rfl) (iy_ro_le _) rfl rfl dX9_unit_2 rfl⟩, ?_⟩
  refine ⟨⟨mo_ieq, ok_ieq dX9_unit_5 rfl rfl⟩, ?_⟩
  refine ⟨⟨mo_ald, ok_aldn dX9_unit_8 rfl rfl⟩, ?_⟩
  refine ⟨⟨mo_push, ok_iconst dX9_unit_9 iv_i0 rfl⟩, ?_⟩
  refine ⟨⟨mo_ald, ok_aldn dX9_unit_10 rfl rfl⟩, ?_⟩
  refine ⟨⟨mo_gR, ok_gR rfl fd_X9_27 rfl dX9_unit_11 rfl⟩, ?_⟩
  refine ⟨⟨mo_ald, ok_aldn dX9_unit_14 rfl rfl⟩, ?_⟩
  refine ⟨⟨mo_gI, ok_gI rfl fd_X9_170 rfl dX9_unit_15 rfl⟩, ?_⟩
  refine ⟨⟨mo_alI, ok_iald dX9_unit_18 rfl⟩, ?_⟩
  refine ⟨⟨mo_cvV, ok_cvV mi_X9_emit lk_X9_244 q2013 qs82 rfl (Nat.le_of_ble_eq_true rfl) (iy_ro_le _) rfl rfl dX9_unit_19 rfl⟩, ?_⟩
  refine ⟨⟨mo_ald, ok_aldn dX9_unit_22 rfl rfl⟩, ?_⟩
  refine ⟨⟨mo_cvV, ok_cvV mi_X9_goesOn lk_X9_188 q1969 qs71 rfl (Nat.le_of_ble_eq_true rfl) (iy_ro_le _) rfl rfl dX9_unit_23 rfl⟩, ?_⟩
  refine ⟨⟨mo_goto, ok_goto dX9_unit_26 rfl⟩, ?_⟩
  refine ⟨⟨mo_ald, ok_aldn dX9_unit_29 rfl rfl⟩, ?_⟩
  refine ⟨⟨mo_gI, ok_gI rfl fd_X9_167 rfl dX9_unit_30 rfl⟩, ?_⟩
  refine ⟨⟨mo_ine, ok_ine dX9_unit_33 rfl rfl⟩, ?_⟩
  refine ⟨⟨mo_ald, ok_aldn dX9_unit_36 rfl rfl⟩, ?_⟩
  refine ⟨⟨mo_gR, ok_gR rfl fd_X9_20 rfl dX9_unit_37 rfl⟩, ?_⟩
  refine ⟨⟨mo_ald, ok_aldn dX9_unit_40 rfl rfl⟩, ?_⟩
  refine ⟨⟨mo_gI, ok_gI rfl fd_X9_170 rfl dX9_unit_41 rfl⟩, ?_⟩
  refine ⟨⟨mo_alI, ok_iald dX9_unit_44 rfl⟩, ?_⟩
  refine ⟨⟨mo_push, ok_bipush dX9_unit_45 iv_b32 rfl⟩, ?_⟩
  refine ⟨⟨mo_clt, ok_clt dX9_unit_47 rfl rfl⟩, ?_⟩
  refine ⟨⟨mo_ald, ok_aldn dX9_unit_50 rfl rfl⟩, ?_⟩
  refine ⟨⟨mo_gR, ok_gR rfl fd_X9_20 rfl dX9_unit_51 rfl⟩, ?_⟩
  refine ⟨⟨mo_ald, ok_aldn dX9_unit_54 rfl rfl⟩, ?_⟩
  refine ⟨⟨mo_gI, ok_gI rfl fd_X9_170 rfl dX9_unit_55 rfl⟩, ?_⟩
  refine ⟨⟨mo_alI, ok_iald dX9_unit_58 rfl⟩, ?_⟩
  refine ⟨⟨mo_push, ok_bipush dX9_unit_59 iv_b37 rfl⟩, ?_⟩
  refine ⟨⟨mo_cgt, ok_cgt dX9_unit_61 rfl rfl⟩, ?_⟩
  refine ⟨⟨mo_ald, ok_aldn dX9_unit_64 rfl rfl⟩, ?_⟩
  refine ⟨⟨mo_push, ok_iconst dX9_unit_65 iv_i1 rfl⟩, ?_⟩
  refine ⟨⟨mo_ald, ok_aldn dX9_unit_66 rfl rfl⟩, ?_⟩
  refine ⟨⟨mo_gR, ok_gR rfl fd_X9_20 rfl dX9_unit_67 rfl⟩, ?_⟩
  refine ⟨⟨mo_ald, ok_aldn dX9_unit_70 rfl rfl⟩, ?_⟩
  refine ⟨⟨mo_gI, ok_gI rfl fd_X9_170 rfl dX9_unit_71 rfl⟩, ?_⟩
  refine ⟨⟨mo_alI, ok_iald dX9_unit_74 rfl⟩, ?_⟩
  refine ⟨⟨mo_push, ok_bipush dX9_unit_75 iv_b32 rfl⟩, ?_⟩
  refine ⟨⟨mo_bin, ok_isub dX9_unit_77 rfl⟩, ?_⟩
  refine ⟨⟨mo_cvV, ok_cvV mi_X9_emit lk_X9_244 q2013 qs82 rfl (Nat.le_of_ble_eq_true rfl) (iy_ro_le _) rfl rfl dX9_unit_78 rfl⟩, ?_⟩
  refine ⟨⟨mo_ald, ok_aldn dX9_unit_81 rfl rfl⟩, ?_⟩
  refine ⟨⟨mo_cvV, ok_cvV mi_X9_goesOn lk_X9_188 q1969 qs71 rfl (Nat.le_of_ble_eq_true rfl) (iy_ro_le _) rfl rfl dX9_unit_82 rfl⟩, ?_⟩
  refine ⟨⟨mo_goto, ok_goto dX9_unit_85 rfl⟩, ?_⟩
  refine ⟨⟨mo_keep, ok_keep rfl⟩, ?_⟩
  refine ⟨⟨mo_ald, ok_aldn dX9_unit_88 rfl rfl⟩, ?_⟩
  refine ⟨⟨mo_push, ok_iconst dX9_unit_89 iv_i1 rfl⟩, ?_⟩
  refine ⟨⟨mo_cvV, ok_cvV mi_X9_fail lk_X9_182 q1973 qs72 rfl (Nat.le_of_ble_eq_true rfl) (iy_ro_le _) rfl rfl dX9_unit_90 rfl⟩, ?_⟩
  refine ⟨⟨mo_keep, ok_keep rfl⟩, ?_⟩
  refine ⟨⟨mo_ret, ok_ret rfl dX9_unit_93⟩, ?_⟩
  exact trivial
set_option maxHeartbeats 4000000 in
theorem alX9_emit : iy_all (iy_calls iy_mi) RX9 "emit" cX9_emit 3 (none, []) pcX9_emit pcX9_emit stX9_emit := by
  refine ⟨⟨mo_ald, ok_aldn dX9_emit_0 rfl rfl⟩, ?_⟩
  refine ⟨⟨mo_gR, ok_gR rfl fd_X9_61 rfl dX9_emit_1 rfl⟩, ?_⟩
  refine ⟨⟨mo_ald, ok_aldn dX9_emit_4 rfl rfl⟩, ?_⟩
  refine ⟨⟨mo_gI, ok_gI rfl fd_X9_203 rfl dX9_emit_5 rfl⟩, ?_⟩
  refine ⟨⟨mo_ild, ok_ildn dX9_emit_8 rfl rfl⟩, ?_⟩
  refine ⟨⟨mo_asI, ok_iast dX9_emit_9 rfl⟩, ?_⟩
  refine ⟨⟨mo_ald, ok_aldn dX9_emit_10 rfl rfl⟩, ?_⟩
  refine ⟨⟨mo_gR, ok_gR rfl fd_X9_64 rfl dX9_emit_11 rfl⟩, ?_⟩
  refine ⟨⟨mo_ald, ok_aldn dX9_emit_14 rfl rfl⟩, ?_⟩
  refine ⟨⟨mo_gI, ok_gI rfl fd_X9_203 rfl dX9_emit_15 rfl⟩, ?_⟩
  refine ⟨⟨mo_ild, ok_ildn dX9_emit_18 rfl rfl⟩, ?_⟩
  refine ⟨⟨mo_asI, ok_iast dX9_emit_19 rfl⟩, ?_⟩
  refine ⟨⟨mo_ald, ok_aldn dX9_emit_20 rfl rfl⟩, ?_⟩
  refine ⟨⟨mo_dup, ok_dup dX9_emit_21 rfl⟩, ?_⟩
  refine ⟨⟨mo_gI, ok_gI rfl fd_X9_203 rfl dX9_emit_22 rfl⟩, ?_⟩
  refine ⟨⟨mo_push, ok_iconst dX9_emit_25 iv_i1 rfl⟩, ?_⟩
  refine ⟨⟨mo_bin, ok_iadd dX9_emit_26 rfl⟩, ?_⟩
  refine ⟨⟨mo_pI, ok_pI rfl fd_X9_203 rfl (Or.inl rfl) dX9_emit_27 rfl⟩, ?_⟩
  refine ⟨⟨mo_ret, ok_ret rfl dX9_emit_30⟩, ?_⟩
  exact trivial
set_option maxHeartbeats 4000000 in
theorem alX9_comesOut : iy_all (iy_calls iy_mi) RX9 "comesOut" cX9_comesOut 3 (none, []) pcX9_comesOut pcX9_comesOut stX9_comesOut := by
  refine ⟨⟨mo_keep, ok_keep rfl⟩, ?_⟩
  refine ⟨⟨mo_ald, ok_aldn dX9_comesOut_0 rfl rfl⟩, ?_⟩
  refine ⟨⟨mo_gI, ok_gI rfl fd_X9_241 rfl dX9_comesOut_1 rfl⟩, ?_⟩
  refine ⟨⟨mo_ile, ok_ile dX9_comesOut_4 rfl rfl⟩, ?_⟩
  refine ⟨⟨mo_ald, ok_aldn dX9_comesOut_7 rfl rfl⟩, ?_⟩
  refine ⟨⟨mo_gR, ok_gR rfl fd_X9_67 rfl dX9_comesOut_8 rfl⟩, ?_⟩
  refine ⟨⟨mo_ald, ok_aldn dX9_comesOut_11 rfl rfl⟩, ?_⟩
  refine ⟨⟨mo_gI, ok_gI rfl fd_X9_241 rfl dX9_comesOut_12 rfl⟩, ?_⟩
  refine ⟨⟨mo_push, ok_iconst dX9_comesOut_15 iv_i1 rfl⟩, ?_⟩
  refine ⟨⟨mo_bin, ok_isub dX9_comesOut_16 rfl⟩, ?_⟩
  refine ⟨⟨mo_alI, ok_iald dX9_comesOut_17 rfl⟩, ?_⟩
  refine ⟨⟨mo_ist, ok_istn dX9_comesOut_18 rfl (Nat.le_of_ble_eq_true rfl) rfl⟩, ?_⟩
  refine ⟨⟨mo_ild, ok_ildn dX9_comesOut_19 rfl rfl⟩, ?_⟩
  refine ⟨⟨mo_push, ok_bipush dX9_comesOut_20 iv_b6 rfl⟩, ?_⟩
  refine ⟨⟨mo_ceq, ok_ceq dX9_comesOut_22 rfl rfl⟩, ?_⟩
  refine ⟨⟨mo_ild, ok_ildn dX9_comesOut_25 rfl rfl⟩, ?_⟩
  refine ⟨⟨mo_ieq, ok_ieq dX9_comesOut_26 rfl rfl⟩, ?_⟩
  refine ⟨⟨mo_ild, ok_ildn dX9_comesOut_29 rfl rfl⟩, ?_⟩
  refine ⟨⟨mo_push, ok_bipush dX9_comesOut_30 iv_b8 rfl⟩, ?_⟩
  refine ⟨⟨mo_ceq, ok_ceq dX9_comesOut_32 rfl rfl⟩, ?_⟩
  refine ⟨⟨mo_ild, ok_ildn dX9_comesOut_35 rfl rfl⟩, ?_⟩
  refine ⟨⟨mo_push, ok_bipush dX9_comesOut_36 iv_b9 rfl⟩, ?_⟩
  refine ⟨⟨mo_cne, ok_cne dX9_comesOut_38 rfl rfl⟩, ?_⟩
  refine ⟨⟨mo_keep, ok_keep rfl⟩, ?_⟩
  refine ⟨⟨mo_ret, ok_ret rfl dX9_comesOut_41⟩, ?_⟩
  refine ⟨⟨mo_keep, ok_keep rfl⟩, ?_⟩
  refine ⟨⟨mo_ald, ok_aldn dX9_comesOut_42 rfl rfl⟩, ?_⟩
  refine ⟨⟨mo_dup, ok_dup dX9_comesOut_43 rfl⟩, ?_⟩
  refine ⟨⟨mo_gI, ok_gI rfl fd_X9_241 rfl dX9_comesOut_44 rfl⟩, ?_⟩
  refine ⟨⟨mo_push, ok_iconst dX9_comesOut_47 iv_i1 rfl⟩, ?_⟩
  refine ⟨⟨mo_bin, ok_isub dX9_comesOut_48 rfl⟩, ?_⟩
  refine ⟨⟨mo_pI, ok_pI rfl fd_X9_241 rfl (Or.inl rfl) dX9_comesOut_49 rfl⟩, ?_⟩
  refine ⟨⟨mo_ald, ok_aldn dX9_comesOut_52 rfl rfl⟩, ?_⟩
  refine ⟨⟨mo_ild, ok_ildn dX9_comesOut_53 rfl rfl⟩, ?_⟩
  refine ⟨⟨mo_push, ok_bipush dX9_comesOut_54 iv_b8 rfl⟩, ?_⟩
  refine ⟨⟨mo_cne, ok_cne dX9_comesOut_56 rfl rfl⟩, ?_⟩
  refine ⟨⟨mo_push, ok_iconst dX9_comesOut_59 iv_i2 rfl⟩, ?_⟩
  refine ⟨⟨mo_goto, ok_goto dX9_comesOut_60 rfl⟩, ?_⟩
  refine ⟨⟨mo_ild, ok_ildn dX9_comesOut_63 rfl rfl⟩, ?_⟩
  refine ⟨⟨mo_push, ok_bipush dX9_comesOut_64 iv_b9 rfl⟩, ?_⟩
  refine ⟨⟨mo_cne, ok_cne dX9_comesOut_66 rfl rfl⟩, ?_⟩
  refine ⟨⟨mo_push, ok_iconst dX9_comesOut_69 iv_i3 rfl⟩, ?_⟩
  refine ⟨⟨mo_goto, ok_goto dX9_comesOut_70 rfl⟩, ?_⟩
  refine ⟨⟨mo_ild, ok_ildn dX9_comesOut_73 rfl rfl⟩, ?_⟩
  refine ⟨⟨mo_push, ok_bipush dX9_comesOut_74 iv_b10 rfl⟩, ?_⟩
  refine ⟨⟨mo_cne, ok_cne dX9_comesOut_76 rfl rfl⟩, ?_⟩
  refine ⟨⟨mo_push, ok_iconst dX9_comesOut_79 iv_i4 rfl⟩, ?_⟩
  refine ⟨⟨mo_goto, ok_goto dX9_comesOut_80 rfl⟩, ?_⟩
  refine ⟨⟨mo_ild, ok_ildn dX9_comesOut_83 rfl rfl⟩, ?_⟩
  refine ⟨⟨mo_push, ok_bipush dX9_comesOut_84 iv_b15 rfl⟩, ?_⟩
  refine ⟨⟨mo_cne, ok_cne dX9_comesOut_86 rfl rfl⟩, ?_⟩
  refine ⟨⟨mo_push, ok_iconst dX9_comesOut_89 iv_i5 rfl⟩, ?_⟩
  refine ⟨⟨mo_goto, ok_goto dX9_comesOut_90 rfl⟩, ?_⟩
  refine ⟨⟨mo_push, ok_bipush dX9_comesOut_93 iv_b6 rfl⟩, ?_⟩
  refine ⟨⟨mo_keep, ok_keep rfl⟩, ?_⟩
  refine ⟨⟨mo_push, ok_iconst dX9_comesOut_95 iv_i0 rfl⟩, ?_⟩
  refine ⟨⟨mo_cvV, ok_cvV mi_X9_emit lk_X9_244 q2013 qs82 rfl (Nat.le_of_ble_eq_true rfl) (iy_ro_le _) rfl rfl dX9_comesOut_96 rfl⟩, ?_⟩
  refine ⟨⟨mo_back, ok_back dX9_comesOut_99 rfl⟩, ?_⟩
  refine ⟨⟨mo_ret, ok_ret rfl dX9_comesOut_102⟩, ?_⟩
  exact trivial
set_option maxHeartbeats 4000000 in
theorem alX9_runs : iy_all (iy_calls iy_mi) RX9 "runs" cX9_runs 5 (none, []) pcX9_runs pcX9_runs stX9_runs := by
  refine ⟨⟨mo_push, ok_iconst dX9_runs_0 iv_i0 rfl⟩, ?_⟩
  refine ⟨⟨mo_ist, ok_istn dX9_runs_1 rfl (Nat.le_of_ble_eq_true rfl) rfl⟩, ?_⟩
  refine ⟨⟨mo_push, ok_iconst dX9_runs_2 iv_i0 rfl⟩, ?_⟩
  refine ⟨⟨mo_ist, ok_istn dX9_runs_3 rfl (Nat.le_of_ble_eq_true rfl) rfl⟩, ?_⟩
  refine ⟨⟨mo_push, ok_iconst dX9_runs_4 iv_i0 rfl⟩, ?_⟩
  refine ⟨⟨mo_ist, ok_istn dX9_runs_5 rfl (Nat.le_of_ble_eq_true rfl) rfl⟩, ?_⟩
  refine ⟨⟨mo_keep, ok_keep rfl⟩, ?_⟩
  refine ⟨⟨mo_ild, ok_ildn dX9_runs_6 rfl rfl⟩, ?_⟩
  refine ⟨⟨mo_ald, ok_aldn dX9_runs_7 rfl rfl⟩, ?_⟩
  refine ⟨⟨mo_gI, ok_gI rfl fd_X9_197 rfl dX9_runs_8 rfl⟩, ?_⟩
  refine ⟨⟨mo_cge, ok_cge dX9_runs_11 rfl rfl⟩, ?_⟩
  refine ⟨⟨mo_ald, ok_aldn dX9_runs_14 rfl rfl⟩, ?_⟩
  refine ⟨⟨mo_gR, ok_gR rfl fd_X9_80 rfl dX9_runs_15 rfl⟩, ?_⟩
  refine ⟨⟨mo_push, ok_iconst dX9_runs_18 iv_i4 rfl⟩, ?_⟩
  refine ⟨⟨mo_alI, ok_iald dX9_runs_19 rfl⟩, ?_⟩
  refine ⟨⟨mo_push, ok_sipush dX9_runs_20 iv_s400 rfl⟩, ?_⟩
  refine ⟨⟨mo_cge, ok_cge dX9_runs_23 rfl rfl⟩, ?_⟩
  refine ⟨⟨mo_ald, ok_aldn dX9_runs_26 rfl rfl⟩, ?_⟩
  refine ⟨⟨mo_gR, ok_gR rfl fd_X9_40 rfl dX9_runs_27 rfl⟩, ?_⟩
  refine ⟨⟨mo_ild, ok_ildn dX9_runs_30 rfl rfl⟩, ?_⟩
  refine ⟨⟨mo_alI, ok_iald dX9_runs_31 rfl⟩, ?_⟩
  refine ⟨⟨mo_ist, ok_ist dX9_runs_32 (Nat.le_of_ble_eq_true rfl) rfl⟩, ?_⟩
  refine ⟨⟨mo_ild, ok_ild dX9_runs_34 rfl⟩, ?_⟩
  refine ⟨⟨mo_push, ok_bipush dX9_runs_36 iv_b6 rfl⟩, ?_⟩
  refine ⟨⟨mo_cne, ok_cne dX9_runs_38 rfl rfl⟩, ?_⟩
  refine ⟨⟨mo_ald, ok_aldn dX9_runs_41 rfl rfl⟩, ?_⟩
  refine ⟨⟨mo_gR, ok_gR rfl fd_X9_46 rfl dX9_runs_42 rfl⟩, ?_⟩
  refine ⟨⟨mo_ild, ok_ildn dX9_runs_45 rfl rfl⟩, ?_⟩
  refine ⟨⟨mo_alI, ok_iald dX9_runs_46 rfl⟩, ?_⟩
  refine ⟨⟨mo_ine, ok_ine dX9_runs_47 rfl rfl⟩, ?_⟩
  refine ⟨⟨mo_ald, ok_aldn dX9_runs_50 rfl rfl⟩, ?_⟩
  refine ⟨⟨mo_gR, ok_gR rfl fd_X9_55 rfl dX9_runs_51 rfl⟩, ?_⟩
  refine ⟨⟨mo_ild, ok_ildn dX9_runs_54 rfl rfl⟩, ?_⟩
  refine ⟨⟨mo_alI, ok_iald dX9_runs_55 rfl⟩, ?_⟩
  refine ⟨⟨mo_ist, ok_istn dX9_runs_56 rfl (Nat.le_of_ble_eq_true rfl) rfl⟩, ?_⟩
  refine ⟨⟨mo_goto, ok_goto dX9_runs_57 rfl⟩, ?_⟩
  refine ⟨⟨mo_ald, ok_aldn dX9_runs_60 rfl rfl⟩, ?_⟩
  refine ⟨⟨mo_gR, ok_gR rfl fd_X9_76 rfl dX9_runs_61 rfl⟩, ?_⟩
  refine ⟨⟨mo_ild, ok_ildn dX9_runs_64 rfl rfl⟩, ?_⟩
  refine ⟨⟨mo_push, ok_iconst dX9_runs_65 iv_i0 rfl⟩, ?_⟩
  refine ⟨⟨mo_asI, ok_iast dX9_runs_66 rfl⟩, ?_⟩
  refine ⟨⟨mo_inc, ok_inc dX9_runs_67 iv_i1 (Nat.le_of_ble_eq_true rfl) rfl⟩, ?_⟩
  refine ⟨⟨mo_goto, ok_goto dX9_runs_70 rfl⟩, ?_⟩
  refine ⟨⟨mo_ild, ok_ild dX9_runs_73 rfl⟩, ?_⟩
  refine ⟨⟨mo_push, ok_bipush dX9_runs_75 iv_b7 rfl⟩, ?_⟩
  refine ⟨⟨mo_cne, ok_cne dX9_runs_77 rfl rfl⟩, ?_⟩
  refine ⟨⟨mo_ald, ok_aldn dX9_runs_80 rfl rfl⟩, ?_⟩
  refine ⟨⟨mo_gR, ok_gR rfl fd_X9_76 rfl dX9_runs_81 rfl⟩, ?_⟩
  refine ⟨⟨mo_ild, ok_ildn dX9_runs_84 rfl rfl⟩, ?_⟩
  refine ⟨⟨mo_push, ok_iconst dX9_runs_85 iv_i1 rfl⟩, ?_⟩
  refine ⟨⟨mo_bin, ok_isub dX9_runs_86 rfl⟩, ?_⟩
  refine ⟨⟨mo_dup2, ok_dup2 dX9_runs_87 rfl⟩, ?_⟩
  refine ⟨⟨mo_alI, ok_iald dX9_runs_88 rfl⟩, ?_⟩
  refine ⟨⟨mo_push, ok_iconst dX9_runs_89 iv_i1 rfl⟩, ?_⟩
  refine ⟨⟨mo_bin, ok_iadd dX9_runs_90 rfl⟩, ?_⟩
  refine ⟨⟨mo_asI, ok_iast dX9_runs_91 rfl⟩, ?_⟩
  refine ⟨⟨mo_ald, ok_aldn dX9_runs_92 rfl rfl⟩, ?_⟩
  refine ⟨⟨mo_gR, ok_gR rfl fd_X9_76 rfl dX9_runs_93 rfl⟩, ?_⟩
  refine ⟨⟨mo_ild, ok_ildn dX9_runs_96 rfl rfl⟩, ?_⟩
  refine ⟨⟨mo_push, ok_iconst dX9_runs_97 iv_i1 rfl⟩, ?_⟩
  refine ⟨⟨mo_bin, ok_isub dX9_runs_98 rfl⟩, ?_⟩
  refine ⟨⟨mo_alI, ok_iald dX9_runs_99 rfl⟩, ?_⟩
  refine ⟨⟨mo_ald, ok_aldn dX9_runs_100 rfl rfl⟩, ?_⟩
  refine ⟨⟨mo_gR, ok_gR rfl fd_X9_46 rfl dX9_runs_101 rfl⟩, ?_⟩
  refine ⟨⟨mo_ald, ok_aldn dX9_runs_104 rfl rfl⟩, ?_⟩
  refine ⟨⟨mo_gR, ok_gR rfl fd_X9_55 rfl dX9_runs_105 rfl⟩, ?_⟩
  refine ⟨⟨mo_ild, ok_ildn dX9_runs_108 rfl rfl⟩, ?_⟩
  refine ⟨⟨mo_alI, ok_iald dX9_runs_109 rfl⟩, ?_⟩
  refine ⟨⟨mo_alI, ok_iald dX9_runs_110 rfl⟩, ?_⟩
  refine ⟨⟨mo_cge, ok_cge dX9_runs_111 rfl rfl⟩, ?_⟩
  refine ⟨⟨mo_ald, ok_aldn dX9_runs_114 rfl rfl⟩, ?_⟩
  refine ⟨⟨mo_gR, ok_gR rfl fd_X9_55 rfl dX9_runs_115 rfl⟩, ?_⟩
  refine ⟨⟨mo_ild, ok_ildn dX9_runs_118 rfl rfl⟩, ?_⟩
  refine ⟨⟨mo_alI, ok_iald dX9_runs_119 rfl⟩, ?_⟩
  refine ⟨⟨mo_ist, ok_istn dX9_runs_120 rfl (Nat.le_of_ble_eq_true rfl) rfl⟩, ?_⟩
  refine ⟨⟨mo_goto, ok_goto dX9_runs_121 rfl⟩, ?_⟩
  refine ⟨⟨mo_inc, ok_inc dX9_runs_124 iv_im1 (Nat.le_of_ble_eq_true rfl) rfl⟩, ?_⟩
  refine ⟨⟨mo_goto, ok_goto dX9_runs_127 rfl⟩, ?_⟩
  refine ⟨⟨mo_ald, ok_aldn dX9_runs_130 rfl rfl⟩, ?_⟩
  refine ⟨⟨mo_gR, ok_gR rfl fd_X9_80 rfl dX9_runs_131 rfl⟩, ?_⟩
  refine ⟨⟨mo_push, ok_iconst dX9_runs_134 iv_i4 rfl⟩, ?_⟩
  refine ⟨⟨mo_dup2, ok_dup2 dX9_runs_135 rfl⟩, ?_⟩
  refine ⟨⟨mo_alI, ok_iald dX9_runs_136 rfl⟩, ?_⟩
  refine ⟨⟨mo_push, ok_iconst dX9_runs_137 iv_i1 rfl⟩, ?_⟩
  refine ⟨⟨mo_bin, ok_iadd dX9_runs_138 rfl⟩, ?_⟩
  refine ⟨⟨mo_asI, ok_iast dX9_runs_139 rfl⟩, ?_⟩
  refine ⟨⟨mo_ald, ok_aldn dX9_runs_140 rfl rfl⟩, ?_⟩
  refine ⟨⟨mo_gR, ok_gR rfl fd_X9_70 rfl dX9_runs_141 rfl⟩, ?_⟩
  refine ⟨⟨mo_push, ok_iconst dX9_runs_144 iv_i0 rfl⟩, ?_⟩
  refine ⟨⟨mo_ild, ok_ildn dX9_runs_145 rfl rfl⟩, ?_⟩
  refine ⟨⟨mo_ile, ok_ile dX9_runs_146 rfl rfl⟩, ?_⟩
  refine ⟨⟨mo_ald, ok_aldn dX9_runs_149 rfl rfl⟩, ?_⟩
  refine ⟨⟨mo_gR, ok_gR rfl fd_X9_76 rfl dX9_runs_150 rfl⟩, ?_⟩
  refine ⟨⟨mo_ild, ok_ildn dX9_runs_153 rfl rfl⟩, ?_⟩
  refine ⟨⟨mo_push, ok_iconst dX9_runs_154 iv_i1 rfl⟩, ?_⟩
  refine ⟨⟨mo_bin, ok_isub dX9_runs_155 rfl⟩, ?_⟩
  refine ⟨⟨mo_alI, ok_iald dX9_runs_156 rfl⟩, ?_⟩
  refine ⟨⟨mo_goto, ok_goto dX9_runs_157 rfl⟩, ?_⟩
  refine ⟨⟨mo_push, ok_iconst dX9_runs_160 iv_i0 rfl⟩, ?_⟩
  refine ⟨⟨mo_keep, ok_keep rfl⟩, ?_⟩
  refine ⟨⟨mo_asI, ok_iast dX9_runs_161 rfl⟩, ?_⟩
  refine ⟨⟨mo_ald, ok_aldn dX9_runs_162 rfl rfl⟩, ?_⟩
  refine ⟨⟨mo_gR, ok_gR rfl fd_X9_70 rfl dX9_runs_163 rfl⟩, ?_⟩
  refine ⟨⟨mo_push, ok_iconst dX9_runs_166 iv_i1 rfl⟩, ?_⟩
  refine ⟨⟨mo_ild, ok_ildn dX9_runs_167 rfl rfl⟩, ?_⟩
  refine ⟨⟨mo_push, ok_iconst dX9_runs_168 iv_i1 rfl⟩, ?_⟩
  refine ⟨⟨mo_cle, ok_cle dX9_runs_169 rfl rfl⟩, ?_⟩
  refine ⟨⟨mo_ald, ok_aldn dX9_runs_172 rfl rfl⟩, ?_⟩
  refine ⟨⟨mo_gR, ok_gR rfl fd_X9_76 rfl dX9_runs_173 rfl⟩, ?_⟩
  refine ⟨⟨mo_ild, ok_ildn dX9_runs_176 rfl rfl⟩, ?_⟩
  refine ⟨⟨mo_push, ok_iconst dX9_runs_177 iv_i2 rfl⟩, ?_⟩
  refine ⟨⟨mo_bin, ok_isub dX9_runs_178 rfl⟩, ?_⟩
  refine ⟨⟨mo_alI, ok_iald dX9_runs_179 rfl⟩, ?_⟩
  refine ⟨⟨mo_goto, ok_goto dX9_runs_180 rfl⟩, ?_⟩
  refine ⟨⟨mo_push, ok_iconst dX9_runs_183 iv_i0 rfl⟩, ?_⟩
  refine ⟨⟨mo_keep, ok_keep rfl⟩, ?_⟩
  refine ⟨⟨mo_asI, ok_iast dX9_runs_184 rfl⟩, ?_⟩
  refine ⟨⟨mo_ild, ok_ild dX9_runs_185 rfl⟩, ?_⟩
  refine ⟨⟨mo_push, ok_iconst dX9_runs_187 iv_i3 rfl⟩, ?_⟩
  refine ⟨⟨mo_cge, ok_cge dX9_runs_188 rfl rfl⟩, ?_⟩
  refine ⟨⟨mo_ald, ok_aldn dX9_runs_191 rfl rfl⟩, ?_⟩
  refine ⟨⟨mo_ild, ok_ildn dX9_runs_192 rfl rfl⟩, ?_⟩
  refine ⟨⟨mo_ild, ok_ildn dX9_runs_193 rfl rfl⟩, ?_⟩
  refine ⟨⟨mo_cvI, ok_cvI mi_X9_actDone lk_X9_254 q2025 qs85 rfl (Nat.le_of_ble_eq_true rfl) (iy_ro_le _) rfl rfl dX9_runs_194 rfl⟩, ?_⟩
  refine ⟨⟨mo_ist, ok_istn dX9_runs_197 rfl (Nat.le_of_ble_eq_true rfl) rfl⟩, ?_⟩
  refine ⟨⟨mo_keep, ok_keep rfl⟩, ?_⟩
  refine ⟨⟨mo_ild, ok_ild dX9_runs_198 rfl⟩, ?_⟩
  refine ⟨⟨mo_push, ok_iconst dX9_runs_200 iv_i3 rfl⟩, ?_⟩
  refine ⟨⟨mo_cne, ok_cne dX9_runs_201 rfl rfl⟩, ?_⟩
  refine ⟨⟨mo_ald, ok_aldn dX9_runs_204 rfl rfl⟩, ?_⟩
  refine ⟨⟨mo_ald, ok_aldn dX9_runs_205 rfl rfl⟩, ?_⟩
  refine ⟨⟨mo_gR, ok_gR rfl fd_X9_43 rfl dX9_runs_206 rfl⟩, ?_⟩
  refine ⟨⟨mo_ild, ok_ildn dX9_runs_209 rfl rfl⟩, ?_⟩
  refine ⟨⟨mo_alI, ok_iald dX9_runs_210 rfl⟩, ?_⟩
  refine ⟨⟨mo_cvV, ok_cvV mi_X9_steps lk_X9_257 q2087 qs99 rfl (Nat.le_of_ble_eq_true rfl) (iy_ro_le _) rfl rfl dX9_runs_211 rfl⟩, ?_⟩
  refine ⟨⟨mo_keep, ok_keep rfl⟩, ?_⟩
  refine ⟨⟨mo_ild, ok_ild dX9_runs_214 rfl⟩, ?_⟩
  refine ⟨⟨mo_push, ok_iconst dX9_runs_216 iv_i4 rfl⟩, ?_⟩
  refine ⟨⟨mo_cne, ok_cne dX9_runs_217 rfl rfl⟩, ?_⟩
  refine ⟨⟨mo_ald, ok_aldn dX9_runs_220 rfl rfl⟩, ?_⟩
  refine ⟨⟨mo_ald, ok_aldn dX9_runs_221 rfl rfl⟩, ?_⟩
  refine ⟨⟨mo_gR, ok_gR rfl fd_X9_43 rfl dX9_runs_222 rfl⟩, ?_⟩
  refine ⟨⟨mo_ild, ok_ildn dX9_runs_225 rfl rfl⟩, ?_⟩
  refine ⟨⟨mo_alI, ok_iald dX9_runs_226 rfl⟩, ?_⟩
  refine ⟨⟨mo_cvI, ok_cvI mi_X9_closes lk_X9_260 q2083 qs98 rfl (Nat.le_of_ble_eq_true rfl) (iy_ro_le _) rfl rfl dX9_runs_227 rfl⟩, ?_⟩
  refine ⟨⟨mo_pop, ok_pop dX9_runs_230 rfl⟩, ?_⟩
  refine ⟨⟨mo_keep, ok_keep rfl⟩, ?_⟩
  refine ⟨⟨mo_ild, ok_ild dX9_runs_231 rfl⟩, ?_⟩
  refine ⟨⟨mo_push, ok_iconst dX9_runs_233 iv_i5 rfl⟩, ?_⟩
  refine ⟨⟨mo_cne, ok_cne dX9_runs_234 rfl rfl⟩, ?_⟩
  refine ⟨⟨mo_ald, ok_aldn dX9_runs_237 rfl rfl⟩, ?_⟩
  refine ⟨⟨mo_cvI, ok_cvI mi_X9_sweeps lk_X9_263 q2215 qs131 rfl (Nat.le_of_ble_eq_true rfl) (iy_ro_le _) rfl rfl dX9_runs_238 rfl⟩, ?_⟩
  refine ⟨⟨mo_pop, ok_pop dX9_runs_241 rfl⟩, ?_⟩
  refine ⟨⟨mo_keep, ok_keep rfl⟩, ?_⟩
  refine ⟨⟨mo_inc, ok_inc dX9_runs_242 iv_i1 (Nat.le_of_ble_eq_true rfl) rfl⟩, ?_⟩
  refine ⟨⟨mo_back, ok_back dX9_runs_245 rfl⟩, ?_⟩
  refine ⟨⟨mo_keep, ok_keep rfl⟩, ?_⟩
  refine ⟨⟨mo_ret, ok_ret rfl dX9_runs_248⟩, ?_⟩
  exact trivial
set_option maxHeartbeats 4000000 in
theorem alX9_actDone : iy_all (iy_calls iy_mi) RX9 "actDone" cX9_actDone 8 (some FieldType.int, []) pcX9_actDone pcX9_actDone stX9_actDone := by
  refine ⟨⟨mo_ald, ok_aldn dX9_actDone_0 rfl rfl⟩, ?_⟩
  refine ⟨⟨mo_cvV, ok_cvV mi_X9_fillsAll lk_X9_266 q2029 qs86 rfl (Nat.le_of_ble_eq_true rfl) (iy_ro_le _) rfl rfl dX9_actDone_1 rfl⟩, ?_⟩
  refine ⟨⟨mo_ald, ok_aldn dX9_actDone_4 rfl rfl⟩, ?_⟩
  refine ⟨⟨mo_gR, ok_gR rfl fd_X9_70 rfl dX9_actDone_5 rfl⟩, ?_⟩
  refine ⟨⟨mo_push, ok_iconst dX9_actDone_8 iv_i2 rfl⟩, ?_⟩
  refine ⟨⟨mo_ald, ok_aldn dX9_actDone_9 rfl rfl⟩, ?_⟩
  refine ⟨⟨mo_gI, ok_gI rfl fd_X9_269 rfl dX9_actDone_10 rfl⟩, ?_⟩
  refine ⟨⟨mo_asI, ok_iast dX9_actDone_13 rfl⟩, ?_⟩
  refine ⟨⟨mo_ald, ok_aldn dX9_actDone_14 rfl rfl⟩, ?_⟩
  refine ⟨⟨mo_gR, ok_gR rfl fd_X9_70 rfl dX9_actDone_15 rfl⟩, ?_⟩
  refine ⟨⟨mo_push, ok_iconst dX9_actDone_18 iv_i3 rfl⟩, ?_⟩
  refine ⟨⟨mo_ild, ok_ildn dX9_actDone_19 rfl rfl⟩, ?_⟩
  refine ⟨⟨mo_asI, ok_iast dX9_actDone_20 rfl⟩, ?_⟩
  refine ⟨⟨mo_ald, ok_aldn dX9_actDone_21 rfl rfl⟩, ?_⟩
  refine ⟨⟨mo_gR, ok_gR rfl fd_X9_70 rfl dX9_actDone_22 rfl⟩, ?_⟩
  refine ⟨⟨mo_push, ok_iconst dX9_actDone_25 iv_i4 rfl⟩, ?_⟩
  refine ⟨⟨mo_ald, ok_aldn dX9_actDone_26 rfl rfl⟩, ?_⟩
  refine ⟨⟨mo_gR, ok_gR rfl fd_X9_80 rfl dX9_actDone_27 rfl⟩, ?_⟩
  refine ⟨⟨mo_push, ok_iconst dX9_actDone_30 iv_i0 rfl⟩, ?_⟩
  refine ⟨⟨mo_alI, ok_iald dX9_actDone_31 rfl⟩, ?_⟩
  refine ⟨⟨mo_asI, ok_iast dX9_actDone_32 rfl⟩, ?_⟩
  refine ⟨⟨mo_ald, ok_aldn dX9_actDone_33 rfl rfl⟩, ?_⟩
  refine ⟨⟨mo_gR, ok_gR rfl fd_X9_70 rfl dX9_actDone_34 rfl⟩, ?_⟩
  refine ⟨⟨mo_push, ok_iconst dX9_actDone_37 iv_i5 rfl⟩, ?_⟩
  refine ⟨⟨mo_ald, ok_aldn dX9_actDone_38 rfl rfl⟩, ?_⟩
  refine ⟨⟨mo_gR, ok_gR rfl fd_X9_80 rfl dX9_actDone_39 rfl⟩, ?_⟩
  refine ⟨⟨mo_push, ok_iconst dX9_actDone_42 iv_i3 rfl⟩, ?_⟩
  refine ⟨⟨mo_alI, ok_iald dX9_actDone_43 rfl⟩, ?_⟩
  refine ⟨⟨mo_asI, ok_iast dX9_actDone_44 rfl⟩, ?_⟩
  refine ⟨⟨mo_ald, ok_aldn dX9_actDone_45 rfl rfl⟩, ?_⟩
  refine ⟨⟨mo_ald, ok_aldn dX9_actDone_46 rfl rfl⟩, ?_⟩
  refine ⟨⟨mo_gR, ok_gR rfl fd_X9_46 rfl dX9_actDone_47 rfl⟩, ?_⟩
  refine ⟨⟨mo_ild, ok_ildn dX9_actDone_50 rfl rfl⟩, ?_⟩
  refine ⟨⟨mo_alI, ok_iald dX9_actDone_51 rfl⟩, ?_⟩
  refine ⟨⟨mo_ald, ok_aldn dX9_actDone_52 rfl rfl⟩, ?_⟩
  refine ⟨⟨mo_gR, ok_gR rfl fd_X9_49 rfl dX9_actDone_53 rfl⟩, ?_⟩
  refine ⟨⟨mo_ild, ok_ildn dX9_actDone_56 rfl rfl⟩, ?_⟩
  refine ⟨⟨mo_alI, ok_iald dX9_actDone_57 rfl⟩, ?_⟩
  refine ⟨⟨mo_cvI, ok_cvI mi_X9_termOf lk_X9_272 q2072 qs96 rfl (Nat.le_of_ble_eq_true rfl) (iy_ro_le _) rfl rfl dX9_actDone_58 rfl⟩, ?_⟩
  refine ⟨⟨mo_csI, ok_csI mi_X9_keyOf lk_X9_275 q2075 dX9_actDone_61 rfl⟩, ?_⟩
  refine ⟨⟨mo_ist, ok_istn dX9_actDone_64 rfl (Nat.le_of_ble_eq_true rfl) rfl⟩, ?_⟩
  refine ⟨⟨mo_ald, ok_aldn dX9_actDone_65 rfl rfl⟩, ?_⟩
  refine ⟨⟨mo_gR, ok_gR rfl fd_X9_40 rfl dX9_actDone_66 rfl⟩, ?_⟩
  refine ⟨⟨mo_ild, ok_ildn dX9_actDone_69 rfl rfl⟩, ?_⟩
  refine ⟨⟨mo_alI, ok_iald dX9_actDone_70 rfl⟩, ?_⟩
  refine ⟨⟨mo_ist, ok_ist dX9_actDone_71 (Nat.le_of_ble_eq_true rfl) rfl⟩, ?_⟩
  refine ⟨⟨mo_ild, ok_ild dX9_actDone_73 rfl⟩, ?_⟩
  refine ⟨⟨mo_ine, ok_ine dX9_actDone_75 rfl rfl⟩, ?_⟩
  refine ⟨⟨mo_ald, ok_aldn dX9_actDone_78 rfl rfl⟩, ?_⟩
  refine ⟨⟨mo_ald, ok_aldn dX9_actDone_79 rfl rfl⟩, ?_⟩
  refine ⟨⟨mo_gR, ok_gR rfl fd_X9_49 rfl dX9_actDone_80 rfl⟩, ?_⟩
  refine ⟨⟨mo_ild, ok_ildn dX9_actDone_83 rfl rfl⟩, ?_⟩
  refine ⟨⟨mo_alI, ok_iald dX9_actDone_84 rfl⟩, ?_⟩
  refine ⟨⟨mo_ald, ok_aldn dX9_actDone_85 rfl rfl⟩, ?_⟩
  refine ⟨⟨mo_gR, ok_gR rfl fd_X9_52 rfl dX9_actDone_86 rfl⟩, ?_⟩
  refine ⟨⟨mo_ild, ok_ildn dX9_actDone_89 rfl rfl⟩, ?_⟩
  refine ⟨⟨mo_alI, ok_iald dX9_actDone_90 rfl⟩, ?_⟩
  refine ⟨⟨mo_cvI, ok_cvI mi_X9_termOf lk_X9_272 q2072 qs96 rfl (Nat.le_of_ble_eq_true rfl) (iy_ro_le _) rfl rfl dX9_actDone_91 rfl⟩, ?_⟩
  refine ⟨⟨mo_goto, ok_goto dX9_actDone_94 rfl⟩, ?_⟩
  refine ⟨⟨mo_push, ok_iconst dX9_actDone_97 iv_i0 rfl⟩, ?_⟩
  refine ⟨⟨mo_keep, ok_keep rfl⟩, ?_⟩
  refine ⟨⟨mo_ist, ok_ist dX9_actDone_98 (Nat.le_of_ble_eq_true rfl) rfl⟩, ?_⟩
  refine ⟨⟨mo_ald, ok_aldn dX9_actDone_100 rfl rfl⟩, ?_⟩
  refine ⟨⟨mo_gR, ok_gR rfl fd_X9_43 rfl dX9_actDone_101 rfl⟩, ?_⟩
  refine ⟨⟨mo_ild, ok_ildn dX9_actDone_104 rfl rfl⟩, ?_⟩
  refine ⟨⟨mo_alI, ok_iald dX9_actDone_105 rfl⟩, ?_⟩
  refine ⟨⟨mo_ige, ok_ige dX9_actDone_106 rfl rfl⟩, ?_⟩
  refine ⟨⟨mo_push, ok_iconst dX9_actDone_109 iv_i0 rfl⟩, ?_⟩
  refine ⟨⟨mo_goto, ok_goto dX9_actDone_110 rfl⟩, ?_⟩
  refine ⟨⟨mo_ald, ok_aldn dX9_actDone_113 rfl rfl⟩, ?_⟩
  refine ⟨⟨mo_gR, ok_gR rfl fd_X9_43 rfl dX9_actDone_114 rfl⟩, ?_⟩
  refine ⟨⟨mo_ild, ok_ildn dX9_actDone_117 rfl rfl⟩, ?_⟩
  refine ⟨⟨mo_alI, ok_iald dX9_actDone_118 rfl⟩, ?_⟩
  refine ⟨⟨mo_keep, ok_keep rfl⟩, ?_⟩
  refine ⟨⟨mo_ist, ok_ist dX9_actDone_119 (Nat.le_of_ble_eq_true rfl) rfl⟩, ?_⟩
  refine ⟨⟨mo_ald, ok_aldn dX9_actDone_121 rfl rfl⟩, ?_⟩
  refine ⟨⟨mo_ild, ok_ild dX9_actDone_122 rfl⟩, ?_⟩
  refine ⟨⟨mo_ild, ok_ild dX9_actDone_124 rfl⟩, ?_⟩
  refine ⟨⟨mo_push, ok_iconst dX9_actDone_126 iv_i1 rfl⟩, ?_⟩
  refine ⟨⟨mo_bin, ok_iadd dX9_actDone_127 rfl⟩, ?_⟩
  refine ⟨⟨mo_ild, ok_ildn dX9_actDone_128 rfl rfl⟩, ?_⟩
  refine ⟨⟨mo_ild, ok_ild dX9_actDone_129 rfl⟩, ?_⟩
  refine ⟨⟨mo_cvI, ok_cvI mi_X9_starts lk_X9_278 q2079 qs97 rfl (Nat.le_of_ble_eq_true rfl) (iy_ro_le _) rfl rfl dX9_actDone_131 rfl⟩, ?_⟩
  refine ⟨⟨mo_ist, ok_ist dX9_actDone_134 (Nat.le_of_ble_eq_true rfl) rfl⟩, ?_⟩
  refine ⟨⟨mo_ild, ok_ild dX9_actDone_136 rfl⟩, ?_⟩
  refine ⟨⟨mo_ieq, ok_ieq dX9_actDone_138 rfl rfl⟩, ?_⟩
  refine ⟨⟨mo_ald, ok_aldn dX9_actDone_141 rfl rfl⟩, ?_⟩
  refine ⟨⟨mo_gR, ok_gR rfl fd_X9_43 rfl dX9_actDone_142 rfl⟩, ?_⟩
  refine ⟨⟨mo_ild, ok_ildn dX9_actDone_145 rfl rfl⟩, ?_⟩
  refine ⟨⟨mo_alI, ok_iald dX9_actDone_146 rfl⟩, ?_⟩
  refine ⟨⟨mo_ige, ok_ige dX9_actDone_147 rfl rfl⟩, ?_⟩
  refine ⟨⟨mo_ald, ok_aldn dX9_actDone_150 rfl rfl⟩, ?_⟩
  refine ⟨⟨mo_push, ok_iconst dX9_actDone_151 iv_i0 rfl⟩, ?_⟩
  refine ⟨⟨mo_cvI, ok_cvI mi_X9_closes lk_X9_260 q2083 qs98 rfl (Nat.le_of_ble_eq_true rfl) (iy_ro_le _) rfl rfl dX9_actDone_152 rfl⟩, ?_⟩
  refine ⟨⟨mo_pop, ok_pop dX9_actDone_155 rfl⟩, ?_⟩
  refine ⟨⟨mo_keep, ok_keep rfl⟩, ?_⟩
  refine ⟨⟨mo_ild, ok_ild dX9_actDone_156 rfl⟩, ?_⟩
  refine ⟨⟨mo_ieq, ok_ieq dX9_actDone_158 rfl rfl⟩, ?_⟩
  refine ⟨⟨mo_ild, ok_ild dX9_actDone_161 rfl⟩, ?_⟩
  refine ⟨⟨mo_ine, ok_ine dX9_actDone_163 rfl rfl⟩, ?_⟩
  refine ⟨⟨mo_ild, ok_ildn dX9_actDone_166 rfl rfl⟩, ?_⟩
  refine ⟨⟨mo_goto, ok_goto dX9_actDone_167 rfl⟩, ?_⟩
  refine ⟨⟨mo_keep, ok_keep rfl⟩, ?_⟩
  refine ⟨⟨mo_ild, ok_ildn dX9_actDone_170 rfl rfl⟩, ?_⟩
  refine ⟨⟨mo_keep, ok_keep rfl⟩, ?_⟩
  refine ⟨⟨mo_iret, ok_iret rfl rfl dX9_actDone_171⟩, ?_⟩
  exact trivial
set_option maxHeartbeats 4000000 in
theorem alX9_fillsAll : iy_all (iy_calls iy_mi) RX9 "fillsAll" cX9_fillsAll 3 (none, []) pcX9_fillsAll pcX9_fillsAll stX9_fillsAll := by
  refine ⟨⟨mo_push, ok_iconst dX9_fillsAll_0 iv_i1 rfl⟩, ?_⟩
  refine ⟨⟨mo_ist, ok_istn dX9_fillsAll_1 rfl (Nat.le_of_ble_eq_true rfl) rfl⟩, ?_⟩
  refine ⟨⟨mo_ald, ok_aldn dX9_fillsAll_2 rfl rfl⟩, ?_⟩
  refine ⟨⟨mo_push, ok_iconst dX9_fillsAll_3 iv_i0 rfl⟩, ?_⟩
  refine ⟨⟨mo_pI, ok_pI rfl fd_X9_269 rfl (Or.inl rfl) dX9_fillsAll_4 rfl⟩, ?_⟩
  refine ⟨⟨mo_keep, ok_keep rfl⟩, ?_⟩
  refine ⟨⟨mo_ild, ok_ildn dX9_fillsAll_7 rfl rfl⟩, ?_⟩
  refine ⟨⟨mo_ilt, ok_ilt dX9_fillsAll_8 rfl rfl⟩, ?_⟩
  refine ⟨⟨mo_ald, ok_aldn dX9_fillsAll_11 rfl rfl⟩, ?_⟩
  refine ⟨⟨mo_ild, ok_ildn dX9_fillsAll_12 rfl rfl⟩, ?_⟩
  refine ⟨⟨mo_cvV, ok_cvV mi_X9_fillsHas lk_X9_339 q2033 qs87 rfl (Nat.le_of_ble_eq_true rfl) (iy_ro_le _) rfl rfl dX9_fillsAll_13 rfl⟩, ?_⟩
  refine ⟨⟨mo_push, ok_iconst dX9_fillsAll_16 iv_i0 rfl⟩, ?_⟩
  refine ⟨⟨mo_ist, ok_istn dX9_fillsAll_17 rfl (Nat.le_of_ble_eq_true rfl) rfl⟩, ?_⟩
  refine ⟨⟨mo_keep, ok_keep rfl⟩, ?_⟩
  refine ⟨⟨mo_ild, ok_ildn dX9_fillsAll_18 rfl rfl⟩, ?_⟩
  refine ⟨⟨mo_ald, ok_aldn dX9_fillsAll_19 rfl rfl⟩, ?_⟩
  refine ⟨⟨mo_gI, ok_gI rfl fd_X9_309 rfl dX9_fillsAll_20 rfl⟩, ?_⟩
  refine ⟨⟨mo_cge, ok_cge dX9_fillsAll_23 rfl rfl⟩, ?_⟩
  refine ⟨⟨mo_ald, ok_aldn dX9_fillsAll_26 rfl rfl⟩, ?_⟩
  refine ⟨⟨mo_gR, ok_gR rfl fd_X9_98 rfl dX9_fillsAll_27 rfl⟩, ?_⟩
  refine ⟨⟨mo_ald, ok_aldn dX9_fillsAll_30 rfl rfl⟩, ?_⟩
  refine ⟨⟨mo_gI, ok_gI rfl fd_X9_269 rfl dX9_fillsAll_31 rfl⟩, ?_⟩
  refine ⟨⟨mo_ald, ok_aldn dX9_fillsAll_34 rfl rfl⟩, ?_⟩
  refine ⟨⟨mo_gR, ok_gR rfl fd_X9_86 rfl dX9_fillsAll_35 rfl⟩, ?_⟩
  refine ⟨⟨mo_ild, ok_ildn dX9_fillsAll_38 rfl rfl⟩, ?_⟩
  refine ⟨⟨mo_alI, ok_iald dX9_fillsAll_39 rfl⟩, ?_⟩
  refine ⟨⟨mo_asI, ok_iast dX9_fillsAll_40 rfl⟩, ?_⟩
  refine ⟨⟨mo_ald, ok_aldn dX9_fillsAll_41 rfl rfl⟩, ?_⟩
  refine ⟨⟨mo_gR, ok_gR rfl fd_X9_101 rfl dX9_fillsAll_42 rfl⟩, ?_⟩
  refine ⟨⟨mo_ald, ok_aldn dX9_fillsAll_45 rfl rfl⟩, ?_⟩
  refine ⟨⟨mo_gI, ok_gI rfl fd_X9_269 rfl dX9_fillsAll_46 rfl⟩, ?_⟩
  refine ⟨⟨mo_ald, ok_aldn dX9_fillsAll_49 rfl rfl⟩, ?_⟩
  refine ⟨⟨mo_gR, ok_gR rfl fd_X9_89 rfl dX9_fillsAll_50 rfl⟩, ?_⟩
  refine ⟨⟨mo_ild, ok_ildn dX9_fillsAll_53 rfl rfl⟩, ?_⟩
  refine ⟨⟨mo_alI, ok_iald dX9_fillsAll_54 rfl⟩, ?_⟩
  refine ⟨⟨mo_asI, ok_iast dX9_fillsAll_55 rfl⟩, ?_⟩
  refine ⟨⟨mo_ald, ok_aldn dX9_fillsAll_56 rfl rfl⟩, ?_⟩
  refine ⟨⟨mo_dup, ok_dup dX9_fillsAll_57 rfl⟩, ?_⟩
  refine ⟨⟨mo_gI, ok_gI rfl fd_X9_269 rfl dX9_fillsAll_58 rfl⟩, ?_⟩
  refine ⟨⟨mo_push, ok_iconst dX9_fillsAll_61 iv_i1 rfl⟩, ?_⟩
  refine ⟨⟨mo_bin, ok_iadd dX9_fillsAll_62 rfl⟩, ?_⟩
  refine ⟨⟨mo_pI, ok_pI rfl fd_X9_269 rfl (Or.inl rfl) dX9_fillsAll_63 rfl⟩, ?_⟩
  refine ⟨⟨mo_inc, ok_inc dX9_fillsAll_66 iv_i1 (Nat.le_of_ble_eq_true rfl) rfl⟩, ?_⟩
  refine ⟨⟨mo_back, ok_back dX9_fillsAll_69 rfl⟩, ?_⟩
  refine ⟨⟨mo_ald, ok_aldn dX9_fillsAll_72 rfl rfl⟩, ?_⟩
  refine ⟨⟨mo_gI, ok_gI rfl fd_X9_327 rfl dX9_fillsAll_73 rfl⟩, ?_⟩
  refine ⟨⟨mo_ist, ok_istn dX9_fillsAll_76 rfl (Nat.le_of_ble_eq_true rfl) rfl⟩, ?_⟩
  refine ⟨⟨mo_back, ok_back dX9_fillsAll_77 rfl⟩, ?_⟩
  refine ⟨⟨mo_ret, ok_ret rfl dX9_fillsAll_80⟩, ?_⟩
  exact trivial
set_option maxHeartbeats 4000000 in
theorem alX9_fillsHas : iy_all (iy_calls iy_mi) RX9 "fillsHas" cX9_fillsHas 3 (none, []) pcX9_fillsHas pcX9_fillsHas stX9_fillsHas := by
  refine ⟨⟨mo_ald, ok_aldn dX9_fillsHas_0 rfl rfl⟩, ?_⟩
  refine ⟨⟨mo_ild, ok_ildn dX9_fillsHas_1 rfl rfl⟩, ?_⟩
  refine ⟨⟨mo_cvV, ok_cvV mi_X9_fillsChain lk_X9_306 q2037 qs88 rfl (Nat.le_of_ble_eq_true rfl) (iy_ro_le _) rfl rfl dX9_fillsHas_2 rfl⟩, ?_⟩
  refine ⟨⟨mo_ald, ok_aldn dX9_fillsHas_5 rfl rfl⟩, ?_⟩
  refine ⟨⟨mo_push, ok_iconst dX9_fillsHas_6 iv_i0 rfl⟩, ?_⟩
  refine ⟨⟨mo_pI, ok_pI rfl fd_X9_309 rfl (Or.inl rfl) dX9_fillsHas_7 rfl⟩, ?_⟩
  refine ⟨⟨mo_ald, ok_aldn dX9_fillsHas_10 rfl rfl⟩, ?_⟩
  refine ⟨⟨mo_gI, ok_gI rfl fd_X9_303 rfl dX9_fillsHas_11 rfl⟩, ?_⟩
  refine ⟨⟨mo_push, ok_iconst dX9_fillsHas_14 iv_i1 rfl⟩, ?_⟩
  refine ⟨⟨mo_bin, ok_isub dX9_fillsHas_15 rfl⟩, ?_⟩
  refine ⟨⟨mo_ist, ok_istn dX9_fillsHas_16 rfl (Nat.le_of_ble_eq_true rfl) rfl⟩, ?_⟩
  refine ⟨⟨mo_keep, ok_keep rfl⟩, ?_⟩
  refine ⟨⟨mo_ild, ok_ildn dX9_fillsHas_17 rfl rfl⟩, ?_⟩
  refine ⟨⟨mo_ilt, ok_ilt dX9_fillsHas_18 rfl rfl⟩, ?_⟩
  refine ⟨⟨mo_ald, ok_aldn dX9_fillsHas_21 rfl rfl⟩, ?_⟩
  refine ⟨⟨mo_ald, ok_aldn dX9_fillsHas_22 rfl rfl⟩, ?_⟩
  refine ⟨⟨mo_gR, ok_gR rfl fd_X9_83 rfl dX9_fillsHas_23 rfl⟩, ?_⟩
  refine ⟨⟨mo_ild, ok_ildn dX9_fillsHas_26 rfl rfl⟩, ?_⟩
  refine ⟨⟨mo_alI, ok_iald dX9_fillsHas_27 rfl⟩, ?_⟩
  refine ⟨⟨mo_cvV, ok_cvV mi_X9_applies lk_X9_336 q2045 qs90 rfl (Nat.le_of_ble_eq_true rfl) (iy_ro_le _) rfl rfl dX9_fillsHas_28 rfl⟩, ?_⟩
  refine ⟨⟨mo_inc, ok_inc dX9_fillsHas_31 iv_im1 (Nat.le_of_ble_eq_true rfl) rfl⟩, ?_⟩
  refine ⟨⟨mo_back, ok_back dX9_fillsHas_34 rfl⟩, ?_⟩
  refine ⟨⟨mo_ret, ok_ret rfl dX9_fillsHas_37⟩, ?_⟩
  exact trivial
set_option maxHeartbeats 4000000 in
theorem alX9_fillsChain : iy_all (iy_calls iy_mi) RX9 "fillsChain" cX9_fillsChain 3 (none, []) pcX9_fillsChain pcX9_fillsChain stX9_fillsChain := by
  refine ⟨⟨mo_ald, ok_aldn dX9_fillsChain_0 rfl rfl⟩, ?_⟩
  refine ⟨⟨mo_ild, ok_ildn dX9_fillsChain_1 rfl rfl⟩, ?_⟩
  refine ⟨⟨mo_cvI, ok_cvI mi_X9_topOf lk_X9_300 q2041 qs89 rfl (Nat.le_of_ble_eq_true rfl) (iy_ro_le _) rfl rfl dX9_fillsChain_2 rfl⟩, ?_⟩
  refine ⟨⟨mo_ist, ok_istn dX9_fillsChain_5 rfl (Nat.le_of_ble_eq_true rfl) rfl⟩, ?_⟩
  refine ⟨⟨mo_ald, ok_aldn dX9_fillsChain_6 rfl rfl⟩, ?_⟩
  refine ⟨⟨mo_push, ok_iconst dX9_fillsChain_7 iv_i0 rfl⟩, ?_⟩
  refine ⟨⟨mo_pI, ok_pI rfl fd_X9_303 rfl (Or.inl rfl) dX9_fillsChain_8 rfl⟩, ?_⟩
  refine ⟨⟨mo_keep, ok_keep rfl⟩, ?_⟩
  refine ⟨⟨mo_ild, ok_ildn dX9_fillsChain_11 rfl rfl⟩, ?_⟩
  refine ⟨⟨mo_ilt, ok_ilt dX9_fillsChain_12 rfl rfl⟩, ?_⟩
  refine ⟨⟨mo_ald, ok_aldn dX9_fillsChain_15 rfl rfl⟩, ?_⟩
  refine ⟨⟨mo_gR, ok_gR rfl fd_X9_83 rfl dX9_fillsChain_16 rfl⟩, ?_⟩
  refine ⟨⟨mo_ald, ok_aldn dX9_fillsChain_19 rfl rfl⟩, ?_⟩
  refine ⟨⟨mo_gI, ok_gI rfl fd_X9_303 rfl dX9_fillsChain_20 rfl⟩, ?_⟩
  refine ⟨⟨mo_ild, ok_ildn dX9_fillsChain_23 rfl rfl⟩, ?_⟩
  refine ⟨⟨mo_asI, ok_iast dX9_fillsChain_24 rfl⟩, ?_⟩
  refine ⟨⟨mo_ald, ok_aldn dX9_fillsChain_25 rfl rfl⟩, ?_⟩
  refine ⟨⟨mo_dup, ok_dup dX9_fillsChain_26 rfl⟩, ?_⟩
  refine ⟨⟨mo_gI, ok_gI rfl fd_X9_303 rfl dX9_fillsChain_27 rfl⟩, ?_⟩
  refine ⟨⟨mo_push, ok_iconst dX9_fillsChain_30 iv_i1 rfl⟩, ?_⟩
  refine ⟨⟨mo_bin, ok_iadd dX9_fillsChain_31 rfl⟩, ?_⟩
  refine ⟨⟨mo_pI, ok_pI rfl fd_X9_303 rfl (Or.inl rfl) dX9_fillsChain_32 rfl⟩, ?_⟩
  refine ⟨⟨mo_ald, ok_aldn dX9_fillsChain_35 rfl rfl⟩, ?_⟩
  refine ⟨⟨mo_ild, ok_ildn dX9_fillsChain_36 rfl rfl⟩, ?_⟩
  refine ⟨⟨mo_push, ok_iconst dX9_fillsChain_37 iv_i3 rfl⟩, ?_⟩
  refine ⟨⟨mo_cvI, ok_cvI mi_X9_ofRecord lk_X9_288 q1753 qs63 rfl (Nat.le_of_ble_eq_true rfl) (iy_ro_le _) rfl rfl dX9_fillsChain_38 rfl⟩, ?_⟩
  refine ⟨⟨mo_ist, ok_istn dX9_fillsChain_41 rfl (Nat.le_of_ble_eq_true rfl) rfl⟩, ?_⟩
  refine ⟨⟨mo_back, ok_back dX9_fillsChain_42 rfl⟩, ?_⟩
  refine ⟨⟨mo_ret, ok_ret rfl dX9_fillsChain_45⟩, ?_⟩
  exact trivial
set_option maxHeartbeats 4000000 in
theorem alX9_topOf : iy_all (iy_calls iy_mi) RX9 "topOf" cX9_topOf 2 (some FieldType.int, []) pcX9_topOf pcX9_topOf stX9_topOf := by
  refine ⟨⟨mo_ald, ok_aldn dX9_topOf_0 rfl rfl⟩, ?_⟩
  refine ⟨⟨mo_gR, ok_gR rfl fd_X9_80 rfl dX9_topOf_1 rfl⟩, ?_⟩
  refine ⟨⟨mo_push, ok_bipush dX9_topOf_4 iv_b10 rfl⟩, ?_⟩
  refine ⟨⟨mo_ild, ok_ildn dX9_topOf_6 rfl rfl⟩, ?_⟩
  refine ⟨⟨mo_bin, ok_iadd dX9_topOf_7 rfl⟩, ?_⟩
  refine ⟨⟨mo_alI, ok_iald dX9_topOf_8 rfl⟩, ?_⟩
  refine ⟨⟨mo_iret, ok_iret rfl rfl dX9_topOf_9⟩, ?_⟩
  exact trivial
set_option maxHeartbeats 4000000 in
theorem alX9_applies : iy_all (iy_calls iy_mi) RX9 "applies" cX9_applies 4 (none, []) pcX9_applies pcX9_applies stX9_applies := by
  refine ⟨⟨mo_ald, ok_aldn dX9_applies_0 rfl rfl⟩, ?_⟩
  refine ⟨⟨mo_ild, ok_ildn dX9_applies_1 rfl rfl⟩, ?_⟩
  refine ⟨⟨mo_push, ok_iconst dX9_applies_2 iv_i1 rfl⟩, ?_⟩
  refine ⟨⟨mo_cvI, ok_cvI mi_X9_ofRecord lk_X9_288 q1753 qs63 rfl (Nat.le_of_ble_eq_true rfl) (iy_ro_le _) rfl rfl dX9_applies_3 rfl⟩, ?_⟩
  refine ⟨⟨mo_ist, ok_istn dX9_applies_6 rfl (Nat.le_of_ble_eq_true rfl) rfl⟩, ?_⟩
  refine ⟨⟨mo_ald, ok_aldn dX9_applies_7 rfl rfl⟩, ?_⟩
  refine ⟨⟨mo_ild, ok_ildn dX9_applies_8 rfl rfl⟩, ?_⟩
  refine ⟨⟨mo_push, ok_iconst dX9_applies_9 iv_i2 rfl⟩, ?_⟩
  refine ⟨⟨mo_cvI, ok_cvI mi_X9_ofRecord lk_X9_288 q1753 qs63 rfl (Nat.le_of_ble_eq_true rfl) (iy_ro_le _) rfl rfl dX9_applies_10 rfl⟩, ?_⟩
  refine ⟨⟨mo_ist, ok_istn dX9_applies_13 rfl (Nat.le_of_ble_eq_true rfl) rfl⟩, ?_⟩
  refine ⟨⟨mo_ald, ok_aldn dX9_applies_14 rfl rfl⟩, ?_⟩
  refine ⟨⟨mo_ild, ok_ildn dX9_applies_15 rfl rfl⟩, ?_⟩
  refine ⟨⟨mo_push, ok_iconst dX9_applies_16 iv_i0 rfl⟩, ?_⟩
  refine ⟨⟨mo_cvI, ok_cvI mi_X9_ofRecord lk_X9_288 q1753 qs63 rfl (Nat.le_of_ble_eq_true rfl) (iy_ro_le _) rfl rfl dX9_applies_17 rfl⟩, ?_⟩
  refine ⟨⟨mo_sw, ok_tsw dX9_applies_20 rfl rfl (by decide +kernel)⟩, ?_⟩
  refine ⟨⟨mo_ald, ok_aldn dX9_applies_68 rfl rfl⟩, ?_⟩
  refine ⟨⟨mo_ild, ok_ildn dX9_applies_69 rfl rfl⟩, ?_⟩
  refine ⟨⟨mo_cvV, ok_cvV mi_X9_takesIn lk_X9_330 q2049 qs91 rfl (Nat.le_of_ble_eq_true rfl) (iy_ro_le _) rfl rfl dX9_applies_70 rfl⟩, ?_⟩
  refine ⟨⟨mo_goto, ok_goto dX9_applies_73 rfl⟩, ?_⟩
  refine ⟨⟨mo_keep, ok_keep rfl⟩, ?_⟩
  refine ⟨⟨mo_ald, ok_aldn dX9_applies_76 rfl rfl⟩, ?_⟩
  refine ⟨⟨mo_ild, ok_ildn dX9_applies_77 rfl rfl⟩, ?_⟩
  refine ⟨⟨mo_ild, ok_ildn dX9_applies_78 rfl rfl⟩, ?_⟩
  refine ⟨⟨mo_cvV, ok_cvV mi_X9_setsIn lk_X9_321 q2056 qs92 rfl (Nat.le_of_ble_eq_true rfl) (iy_ro_le _) rfl rfl dX9_applies_79 rfl⟩, ?_⟩
  refine ⟨⟨mo_goto, ok_goto dX9_applies_82 rfl⟩, ?_⟩
  refine ⟨⟨mo_keep, ok_keep rfl⟩, ?_⟩
  refine ⟨⟨mo_ald, ok_aldn dX9_applies_85 rfl rfl⟩, ?_⟩
  refine ⟨⟨mo_ild, ok_ildn dX9_applies_86 rfl rfl⟩, ?_⟩
  refine ⟨⟨mo_cvV, ok_cvV mi_X9_takesOut lk_X9_333 q2068 qs95 rfl (Nat.le_of_ble_eq_true rfl) (iy_ro_le _) rfl rfl dX9_applies_87 rfl⟩, ?_⟩
  refine ⟨⟨mo_goto, ok_goto dX9_applies_90 rfl⟩, ?_⟩
  refine ⟨⟨mo_ald, ok_aldn dX9_applies_93 rfl rfl⟩, ?_⟩
  refine ⟨⟨mo_ald, ok_aldn dX9_applies_94 rfl rfl⟩, ?_⟩
  refine ⟨⟨mo_ild, ok_ildn dX9_applies_95 rfl rfl⟩, ?_⟩
  refine ⟨⟨mo_cvI, ok_cvI mi_X9_whereOf lk_X9_312 q2060 qs93 rfl (Nat.le_of_ble_eq_true rfl) (iy_ro_le _) rfl rfl dX9_applies_96 rfl⟩, ?_⟩
  refine ⟨⟨mo_pI, ok_pI rfl fd_X9_309 rfl (Or.inl rfl) dX9_applies_99 rfl⟩, ?_⟩
  refine ⟨⟨mo_ald, ok_aldn dX9_applies_102 rfl rfl⟩, ?_⟩
  refine ⟨⟨mo_ild, ok_ildn dX9_applies_103 rfl rfl⟩, ?_⟩
  refine ⟨⟨mo_pI, ok_pI rfl fd_X9_324 rfl (Or.inl rfl) dX9_applies_104 rfl⟩, ?_⟩
  refine ⟨⟨mo_ald, ok_aldn dX9_applies_107 rfl rfl⟩, ?_⟩
  refine ⟨⟨mo_ild, ok_ildn dX9_applies_108 rfl rfl⟩, ?_⟩
  refine ⟨⟨mo_pI, ok_pI rfl fd_X9_327 rfl (Or.inl rfl) dX9_applies_109 rfl⟩, ?_⟩
  refine ⟨⟨mo_goto, ok_goto dX9_applies_112 rfl⟩, ?_⟩
  refine ⟨⟨mo_ald, ok_aldn dX9_applies_115 rfl rfl⟩, ?_⟩
  refine ⟨⟨mo_ald, ok_aldn dX9_applies_116 rfl rfl⟩, ?_⟩
  refine ⟨⟨mo_ild, ok_ildn dX9_applies_117 rfl rfl⟩, ?_⟩
  refine ⟨⟨mo_push, ok_bipush dX9_applies_118 iv_b9 rfl⟩, ?_⟩
  refine ⟨⟨mo_cvI, ok_cvI mi_X9_ofRecord lk_X9_288 q1753 qs63 rfl (Nat.le_of_ble_eq_true rfl) (iy_ro_le _) rfl rfl dX9_applies_120 rfl⟩, ?_⟩
  refine ⟨⟨mo_cvV, ok_cvV mi_X9_takesIn lk_X9_330 q2049 qs91 rfl (Nat.le_of_ble_eq_true rfl) (iy_ro_le _) rfl rfl dX9_applies_123 rfl⟩, ?_⟩
  refine ⟨⟨mo_goto, ok_goto dX9_applies_126 rfl⟩, ?_⟩
  refine ⟨⟨mo_keep, ok_keep rfl⟩, ?_⟩
  refine ⟨⟨mo_ret, ok_ret rfl dX9_applies_129⟩, ?_⟩
  exact trivial
set_option maxHeartbeats 4000000 in
theorem alX9_takesIn : iy_all (iy_calls iy_mi) RX9 "takesIn" cX9_takesIn 3 (none, []) pcX9_takesIn pcX9_takesIn stX9_takesIn := by
  refine ⟨⟨mo_push, ok_iconst dX9_takesIn_0 iv_i0 rfl⟩, ?_⟩
  refine ⟨⟨mo_ist, ok_istn dX9_takesIn_1 rfl (Nat.le_of_ble_eq_true rfl) rfl⟩, ?_⟩
  refine ⟨⟨mo_keep, ok_keep rfl⟩, ?_⟩
  refine ⟨⟨mo_ild, ok_ildn dX9_takesIn_2 rfl rfl⟩, ?_⟩
  refine ⟨⟨mo_ald, ok_aldn dX9_takesIn_3 rfl rfl⟩, ?_⟩
  refine ⟨⟨mo_ild, ok_ildn dX9_takesIn_4 rfl rfl⟩, ?_⟩
  refine ⟨⟨mo_push, ok_bipush dX9_takesIn_5 iv_b6 rfl⟩, ?_⟩
  refine ⟨⟨mo_cvI, ok_cvI mi_X9_ofRecord lk_X9_288 q1753 qs63 rfl (Nat.le_of_ble_eq_true rfl) (iy_ro_le _) rfl rfl dX9_takesIn_7 rfl⟩, ?_⟩
  refine ⟨⟨mo_cge, ok_cge dX9_takesIn_10 rfl rfl⟩, ?_⟩
  refine ⟨⟨mo_ald, ok_aldn dX9_takesIn_13 rfl rfl⟩, ?_⟩
  refine ⟨⟨mo_ald, ok_aldn dX9_takesIn_14 rfl rfl⟩, ?_⟩
  refine ⟨⟨mo_gR, ok_gR rfl fd_X9_80 rfl dX9_takesIn_15 rfl⟩, ?_⟩
  refine ⟨⟨mo_ild, ok_ildn dX9_takesIn_18 rfl rfl⟩, ?_⟩
  refine ⟨⟨mo_ild, ok_ildn dX9_takesIn_19 rfl rfl⟩, ?_⟩
  refine ⟨⟨mo_csI, ok_csI mi_X9_baseAt lk_X9_318 q2052 dX9_takesIn_20 rfl⟩, ?_⟩
  refine ⟨⟨mo_alI, ok_iald dX9_takesIn_23 rfl⟩, ?_⟩
  refine ⟨⟨mo_ald, ok_aldn dX9_takesIn_24 rfl rfl⟩, ?_⟩
  refine ⟨⟨mo_gR, ok_gR rfl fd_X9_80 rfl dX9_takesIn_25 rfl⟩, ?_⟩
  refine ⟨⟨mo_ild, ok_ildn dX9_takesIn_28 rfl rfl⟩, ?_⟩
  refine ⟨⟨mo_ild, ok_ildn dX9_takesIn_29 rfl rfl⟩, ?_⟩
  refine ⟨⟨mo_csI, ok_csI mi_X9_baseAt lk_X9_318 q2052 dX9_takesIn_30 rfl⟩, ?_⟩
  refine ⟨⟨mo_push, ok_iconst dX9_takesIn_33 iv_i1 rfl⟩, ?_⟩
  refine ⟨⟨mo_bin, ok_iadd dX9_takesIn_34 rfl⟩, ?_⟩
  refine ⟨⟨mo_alI, ok_iald dX9_takesIn_35 rfl⟩, ?_⟩
  refine ⟨⟨mo_cvV, ok_cvV mi_X9_setsIn lk_X9_321 q2056 qs92 rfl (Nat.le_of_ble_eq_true rfl) (iy_ro_le _) rfl rfl dX9_takesIn_36 rfl⟩, ?_⟩
  refine ⟨⟨mo_inc, ok_inc dX9_takesIn_39 iv_i1 (Nat.le_of_ble_eq_true rfl) rfl⟩, ?_⟩
  refine ⟨⟨mo_back, ok_back dX9_takesIn_42 rfl⟩, ?_⟩
  refine ⟨⟨mo_ald, ok_aldn dX9_takesIn_45 rfl rfl⟩, ?_⟩
  refine ⟨⟨mo_ald, ok_aldn dX9_takesIn_46 rfl rfl⟩, ?_⟩
  refine ⟨⟨mo_ild, ok_ildn dX9_takesIn_47 rfl rfl⟩, ?_⟩
  refine ⟨⟨mo_push, ok_bipush dX9_takesIn_48 iv_b7 rfl⟩, ?_⟩
  refine ⟨⟨mo_cvI, ok_cvI mi_X9_ofRecord lk_X9_288 q1753 qs63 rfl (Nat.le_of_ble_eq_true rfl) (iy_ro_le _) rfl rfl dX9_takesIn_50 rfl⟩, ?_⟩
  refine ⟨⟨mo_pI, ok_pI rfl fd_X9_324 rfl (Or.inl rfl) dX9_takesIn_53 rfl⟩, ?_⟩
  refine ⟨⟨mo_ald, ok_aldn dX9_takesIn_56 rfl rfl⟩, ?_⟩
  refine ⟨⟨mo_ald, ok_aldn dX9_takesIn_57 rfl rfl⟩, ?_⟩
  refine ⟨⟨mo_ild, ok_ildn dX9_takesIn_58 rfl rfl⟩, ?_⟩
  refine ⟨⟨mo_push, ok_bipush dX9_takesIn_59 iv_b8 rfl⟩, ?_⟩
  refine ⟨⟨mo_cvI, ok_cvI mi_X9_ofRecord lk_X9_288 q1753 qs63 rfl (Nat.le_of_ble_eq_true rfl) (iy_ro_le _) rfl rfl dX9_takesIn_61 rfl⟩, ?_⟩
  refine ⟨⟨mo_pI, ok_pI rfl fd_X9_327 rfl (Or.inl rfl) dX9_takesIn_64 rfl⟩, ?_⟩
  refine ⟨⟨mo_ret, ok_ret rfl dX9_takesIn_67⟩, ?_⟩
  exact trivial
set_option maxHeartbeats 4000000 in
theorem alX9_baseAt : iy_all (iy_calls iy_mi) RX9 "baseAt" cX9_baseAt 2 (some FieldType.int, []) pcX9_baseAt pcX9_baseAt stX9_baseAt := by
  refine ⟨⟨mo_push, ok_sipush dX9_baseAt_0 iv_s14100 rfl⟩, ?_⟩
  refine ⟨⟨mo_push, ok_bipush dX9_baseAt_3 iv_b88 rfl⟩, ?_⟩
  refine ⟨⟨mo_ild, ok_ildn dX9_baseAt_5 rfl rfl⟩, ?_⟩
  refine ⟨⟨mo_bin, ok_imul dX9_baseAt_6 rfl⟩, ?_⟩
  refine ⟨⟨mo_bin, ok_iadd dX9_baseAt_7 rfl⟩, ?_⟩
  refine ⟨⟨mo_push, ok_iconst dX9_baseAt_8 iv_i2 rfl⟩, ?_⟩
  refine ⟨⟨mo_ild, ok_ildn dX9_baseAt_9 rfl rfl⟩, ?_⟩
  refine ⟨⟨mo_bin, ok_imul dX9_baseAt_10 rfl⟩, ?_⟩
  refine ⟨⟨mo_bin, ok_iadd dX9_baseAt_11 rfl⟩, ?_⟩
  refine ⟨⟨mo_iret, ok_iret rfl rfl dX9_baseAt_12⟩, ?_⟩
  exact trivial
set_option maxHeartbeats 4000000 in
theorem alX9_setsIn : iy_all (iy_calls iy_mi) RX9 "setsIn" cX9_setsIn 5 (none, []) pcX9_setsIn pcX9_setsIn stX9_setsIn := by
  refine ⟨⟨mo_ald, ok_aldn dX9_setsIn_0 rfl rfl⟩, ?_⟩
  refine ⟨⟨mo_ild, ok_ildn dX9_setsIn_1 rfl rfl⟩, ?_⟩
  refine ⟨⟨mo_cvI, ok_cvI mi_X9_whereOf lk_X9_312 q2060 qs93 rfl (Nat.le_of_ble_eq_true rfl) (iy_ro_le _) rfl rfl dX9_setsIn_2 rfl⟩, ?_⟩
  refine ⟨⟨mo_ist, ok_istn dX9_setsIn_5 rfl (Nat.le_of_ble_eq_true rfl) rfl⟩, ?_⟩
  refine ⟨⟨mo_ald, ok_aldn dX9_setsIn_6 rfl rfl⟩, ?_⟩
  refine ⟨⟨mo_ild, ok_ildn dX9_setsIn_7 rfl rfl⟩, ?_⟩
  refine ⟨⟨mo_cvI, ok_cvI mi_X9_isThere lk_X9_315 q2064 qs94 rfl (Nat.le_of_ble_eq_true rfl) (iy_ro_le _) rfl rfl dX9_setsIn_8 rfl⟩, ?_⟩
  refine ⟨⟨mo_ine, ok_ine dX9_setsIn_11 rfl rfl⟩, ?_⟩
  refine ⟨⟨mo_ald, ok_aldn dX9_setsIn_14 rfl rfl⟩, ?_⟩
  refine ⟨⟨mo_gI, ok_gI rfl fd_X9_309 rfl dX9_setsIn_15 rfl⟩, ?_⟩
  refine ⟨⟨mo_ist, ok_ist dX9_setsIn_18 (Nat.le_of_ble_eq_true rfl) rfl⟩, ?_⟩
  refine ⟨⟨mo_keep, ok_keep rfl⟩, ?_⟩
  refine ⟨⟨mo_ild, ok_ild dX9_setsIn_20 rfl⟩, ?_⟩
  refine ⟨⟨mo_ild, ok_ildn dX9_setsIn_22 rfl rfl⟩, ?_⟩
  refine ⟨⟨mo_cle, ok_cle dX9_setsIn_23 rfl rfl⟩, ?_⟩
  refine ⟨⟨mo_ald, ok_aldn dX9_setsIn_26 rfl rfl⟩, ?_⟩
  refine ⟨⟨mo_gR, ok_gR rfl fd_X9_86 rfl dX9_setsIn_27 rfl⟩, ?_⟩
  refine ⟨⟨mo_ild, ok_ild dX9_setsIn_30 rfl⟩, ?_⟩
  refine ⟨⟨mo_ald, ok_aldn dX9_setsIn_32 rfl rfl⟩, ?_⟩
  refine ⟨⟨mo_gR, ok_gR rfl fd_X9_86 rfl dX9_setsIn_33 rfl⟩, ?_⟩
  refine ⟨⟨mo_ild, ok_ild dX9_setsIn_36 rfl⟩, ?_⟩
  refine ⟨⟨mo_push, ok_iconst dX9_setsIn_38 iv_i1 rfl⟩, ?_⟩
  refine ⟨⟨mo_bin, ok_isub dX9_setsIn_39 rfl⟩, ?_⟩
  refine ⟨⟨mo_alI, ok_iald dX9_setsIn_40 rfl⟩, ?_⟩
  refine ⟨⟨mo_asI, ok_iast dX9_setsIn_41 rfl⟩, ?_⟩
  refine ⟨⟨mo_ald, ok_aldn dX9_setsIn_42 rfl rfl⟩, ?_⟩
  refine ⟨⟨mo_gR, ok_gR rfl fd_X9_89 rfl dX9_setsIn_43 rfl⟩, ?_⟩
  refine ⟨⟨mo_ild, ok_ild dX9_setsIn_46 rfl⟩, ?_⟩
  refine ⟨⟨mo_ald, ok_aldn dX9_setsIn_48 rfl rfl⟩, ?_⟩
  refine ⟨⟨mo_gR, ok_gR rfl fd_X9_89 rfl dX9_setsIn_49 rfl⟩, ?_⟩
  refine ⟨⟨mo_ild, ok_ild dX9_setsIn_52 rfl⟩, ?_⟩
  refine ⟨⟨mo_push, ok_iconst dX9_setsIn_54 iv_i1 rfl⟩, ?_⟩
  refine ⟨⟨mo_bin, ok_isub dX9_setsIn_55 rfl⟩, ?_⟩
  refine ⟨⟨mo_alI, ok_iald dX9_setsIn_56 rfl⟩, ?_⟩
  refine ⟨⟨mo_asI, ok_iast dX9_setsIn_57 rfl⟩, ?_⟩
  refine ⟨⟨mo_inc, ok_inc dX9_setsIn_58 iv_im1 (Nat.le_of_ble_eq_true rfl) rfl⟩, ?_⟩
  refine ⟨⟨mo_back, ok_back dX9_setsIn_61 rfl⟩, ?_⟩
  refine ⟨⟨mo_ald, ok_aldn dX9_setsIn_64 rfl rfl⟩, ?_⟩
  refine ⟨⟨mo_dup, ok_dup dX9_setsIn_65 rfl⟩, ?_⟩
  refine ⟨⟨mo_gI, ok_gI rfl fd_X9_309 rfl dX9_setsIn_66 rfl⟩, ?_⟩
  refine ⟨⟨mo_push, ok_iconst dX9_setsIn_69 iv_i1 rfl⟩, ?_⟩
  refine ⟨⟨mo_bin, ok_iadd dX9_setsIn_70 rfl⟩, ?_⟩
  refine ⟨⟨mo_pI, ok_pI rfl fd_X9_309 rfl (Or.inl rfl) dX9_setsIn_71 rfl⟩, ?_⟩
  refine ⟨⟨mo_keep, ok_keep rfl⟩, ?_⟩
  refine ⟨⟨mo_ald, ok_aldn dX9_setsIn_74 rfl rfl⟩, ?_⟩
  refine ⟨⟨mo_gR, ok_gR rfl fd_X9_86 rfl dX9_setsIn_75 rfl⟩, ?_⟩
  refine ⟨⟨mo_ild, ok_ildn dX9_setsIn_78 rfl rfl⟩, ?_⟩
  refine ⟨⟨mo_ild, ok_ildn dX9_setsIn_79 rfl rfl⟩, ?_⟩
  refine ⟨⟨mo_asI, ok_iast dX9_setsIn_80 rfl⟩, ?_⟩
  refine ⟨⟨mo_ald, ok_aldn dX9_setsIn_81 rfl rfl⟩, ?_⟩
  refine ⟨⟨mo_gR, ok_gR rfl fd_X9_89 rfl dX9_setsIn_82 rfl⟩, ?_⟩
  refine ⟨⟨mo_ild, ok_ildn dX9_setsIn_85 rfl rfl⟩, ?_⟩
  refine ⟨⟨mo_ild, ok_ildn dX9_setsIn_86 rfl rfl⟩, ?_⟩
  refine ⟨⟨mo_asI, ok_iast dX9_setsIn_87 rfl⟩, ?_⟩
  refine ⟨⟨mo_ret, ok_ret rfl dX9_setsIn_88⟩, ?_⟩
  exact trivial
set_option maxHeartbeats 4000000 in
theorem alX9_whereOf : iy_all (iy_calls iy_mi) RX9 "whereOf" cX9_whereOf 3 (some FieldType.int, []) pcX9_whereOf pcX9_whereOf stX9_whereOf := by
  refine ⟨⟨mo_push, ok_iconst dX9_whereOf_0 iv_i0 rfl⟩, ?_⟩
  refine ⟨⟨mo_ist, ok_istn dX9_whereOf_1 rfl (Nat.le_of_ble_eq_true rfl) rfl⟩, ?_⟩
  refine ⟨⟨mo_keep, ok_keep rfl⟩, ?_⟩
  refine ⟨⟨mo_ild, ok_ildn dX9_whereOf_2 rfl rfl⟩, ?_⟩
  refine ⟨⟨mo_ald, ok_aldn dX9_whereOf_3 rfl rfl⟩, ?_⟩
  refine ⟨⟨mo_gI, ok_gI rfl fd_X9_309 rfl dX9_whereOf_4 rfl⟩, ?_⟩
  refine ⟨⟨mo_cge, ok_cge dX9_whereOf_7 rfl rfl⟩, ?_⟩
  refine ⟨⟨mo_ald, ok_aldn dX9_whereOf_10 rfl rfl⟩, ?_⟩
  refine ⟨⟨mo_gR, ok_gR rfl fd_X9_86 rfl dX9_whereOf_11 rfl⟩, ?_⟩
  refine ⟨⟨mo_ild, ok_ildn dX9_whereOf_14 rfl rfl⟩, ?_⟩
  refine ⟨⟨mo_alI, ok_iald dX9_whereOf_15 rfl⟩, ?_⟩
  refine ⟨⟨mo_ild, ok_ildn dX9_whereOf_16 rfl rfl⟩, ?_⟩
  refine ⟨⟨mo_cge, ok_cge dX9_whereOf_17 rfl rfl⟩, ?_⟩
  refine ⟨⟨mo_inc, ok_inc dX9_whereOf_20 iv_i1 (Nat.le_of_ble_eq_true rfl) rfl⟩, ?_⟩
  refine ⟨⟨mo_back, ok_back dX9_whereOf_23 rfl⟩, ?_⟩
  refine ⟨⟨mo_keep, ok_keep rfl⟩, ?_⟩
  refine ⟨⟨mo_ild, ok_ildn dX9_whereOf_26 rfl rfl⟩, ?_⟩
  refine ⟨⟨mo_iret, ok_iret rfl rfl dX9_whereOf_27⟩, ?_⟩
  exact trivial
set_option maxHeartbeats 4000000 in
theorem alX9_isThere : iy_all (iy_calls iy_mi) RX9 "isThere" cX9_isThere 3 (some FieldType.boolean, []) pcX9_isThere pcX9_isThere stX9_isThere := by
  refine ⟨⟨mo_ald, ok_aldn dX9_isThere_0 rfl rfl⟩, ?_⟩
  refine ⟨⟨mo_ild, ok_ildn dX9_isThere_1 rfl rfl⟩, ?_⟩
  refine ⟨⟨mo_cvI, ok_cvI mi_X9_whereOf lk_X9_312 q2060 qs93 rfl (Nat.le_of_ble_eq_true rfl) (iy_ro_le _) rfl rfl dX9_isThere_2 rfl⟩, ?_⟩
  refine ⟨⟨mo_ist, ok_istn dX9_isThere_5 rfl (Nat.le_of_ble_eq_true rfl) rfl⟩, ?_⟩
  refine ⟨⟨mo_ild, ok_ildn dX9_isThere_6 rfl rfl⟩, ?_⟩
  refine ⟨⟨mo_ald, ok_aldn dX9_isThere_7 rfl rfl⟩, ?_⟩
  refine ⟨⟨mo_gI, ok_gI rfl fd_X9_309 rfl dX9_isThere_8 rfl⟩, ?_⟩
  refine ⟨⟨mo_cge, ok_cge dX9_isThere_11 rfl rfl⟩, ?_⟩
  refine ⟨⟨mo_ald, ok_aldn dX9_isThere_14 rfl rfl⟩, ?_⟩
  refine ⟨⟨mo_gR, ok_gR rfl fd_X9_86 rfl dX9_isThere_15 rfl⟩, ?_⟩
  refine ⟨⟨mo_ild, ok_ildn dX9_isThere_18 rfl rfl⟩, ?_⟩
  refine ⟨⟨mo_alI, ok_iald dX9_isThere_19 rfl⟩, ?_⟩
  refine ⟨⟨mo_ild, ok_ildn dX9_isThere_20 rfl rfl⟩, ?_⟩
  refine ⟨⟨mo_cne, ok_cne dX9_isThere_21 rfl rfl⟩, ?_⟩
  refine ⟨⟨mo_push, ok_iconst dX9_isThere_24 iv_i1 rfl⟩, ?_⟩
  refine ⟨⟨mo_goto, ok_goto dX9_isThere_25 rfl⟩, ?_⟩
  refine ⟨⟨mo_keep, ok_keep rfl⟩, ?_⟩
  refine ⟨⟨mo_push, ok_iconst dX9_isThere_28 iv_i0 rfl⟩, ?_⟩
  refine ⟨⟨mo_keep, ok_keep rfl⟩, ?_⟩
  refine ⟨⟨mo_iret, ok_iret rfl rfl dX9_isThere_29⟩, ?_⟩
  exact trivial
set_option maxHeartbeats 4000000 in
theorem alX9_takesOut : iy_all (iy_calls iy_mi) RX9 "takesOut" cX9_takesOut 3 (none, []) pcX9_takesOut pcX9_takesOut stX9_takesOut := by
  refine ⟨⟨mo_ald, ok_aldn dX9_takesOut_0 rfl rfl⟩, ?_⟩
  refine ⟨⟨mo_ild, ok_ildn dX9_takesOut_1 rfl rfl⟩, ?_⟩
  refine ⟨⟨mo_cvI, ok_cvI mi_X9_isThere lk_X9_315 q2064 qs94 rfl (Nat.le_of_ble_eq_true rfl) (iy_ro_le _) rfl rfl dX9_takesOut_2 rfl⟩, ?_⟩
  refine ⟨⟨mo_ine, ok_ine dX9_takesOut_5 rfl rfl⟩, ?_⟩
  refine ⟨⟨mo_ret, ok_ret rfl dX9_takesOut_8⟩, ?_⟩
  refine ⟨⟨mo_ald, ok_aldn dX9_takesOut_9 rfl rfl⟩, ?_⟩
  refine ⟨⟨mo_ild, ok_ildn dX9_takesOut_10 rfl rfl⟩, ?_⟩
  refine ⟨⟨mo_cvI, ok_cvI mi_X9_whereOf lk_X9_312 q2060 qs93 rfl (Nat.le_of_ble_eq_true rfl) (iy_ro_le _) rfl rfl dX9_takesOut_11 rfl⟩, ?_⟩
  refine ⟨⟨mo_ist, ok_istn dX9_takesOut_14 rfl (Nat.le_of_ble_eq_true rfl) rfl⟩, ?_⟩
  refine ⟨⟨mo_keep, ok_keep rfl⟩, ?_⟩
  refine ⟨⟨mo_ild, ok_ildn dX9_takesOut_15 rfl rfl⟩, ?_⟩
  refine ⟨⟨mo_push, ok_iconst dX9_takesOut_16 iv_i1 rfl⟩, ?_⟩
  refine ⟨⟨mo_bin, ok_iadd dX9_takesOut_17 rfl⟩, ?_⟩
  refine ⟨⟨mo_ald, ok_aldn dX9_takesOut_18 rfl rfl⟩, ?_⟩
  refine ⟨⟨mo_gI, ok_gI rfl fd_X9_309 rfl dX9_takesOut_19 rfl⟩, ?_⟩
  refine ⟨⟨mo_cge, ok_cge dX9_takesOut_22 rfl rfl⟩, ?_⟩
  refine ⟨⟨mo_ald, ok_aldn dX9_takesOut_25 rfl rfl⟩, ?_⟩
  refine ⟨⟨mo_gR, ok_gR rfl fd_X9_86 rfl dX9_takesOut_26 rfl⟩, ?_⟩
  refine ⟨⟨mo_ild, ok_ildn dX9_takesOut_29 rfl rfl⟩, ?_⟩
  refine ⟨⟨mo_ald, ok_aldn dX9_takesOut_30 rfl rfl⟩, ?_⟩
  refine ⟨⟨mo_gR, ok_gR rfl fd_X9_86 rfl dX9_takesOut_31 rfl⟩, ?_⟩
  refine ⟨⟨mo_ild, ok_ildn dX9_takesOut_34 rfl rfl⟩, ?_⟩
  refine ⟨⟨mo_push, ok_iconst dX9_takesOut_35 iv_i1 rfl⟩, ?_⟩
  refine ⟨⟨mo_bin, ok_iadd dX9_takesOut_36 rfl⟩, ?_⟩
  refine ⟨⟨mo_alI, ok_iald dX9_takesOut_37 rfl⟩, ?_⟩
  refine ⟨⟨mo_asI, ok_iast dX9_takesOut_38 rfl⟩, ?_⟩
  refine ⟨⟨mo_ald, ok_aldn dX9_takesOut_39 rfl rfl⟩, ?_⟩
  refine ⟨⟨mo_gR, ok_gR rfl fd_X9_89 rfl dX9_takesOut_40 rfl⟩, ?_⟩
  refine ⟨⟨mo_ild, ok_ildn dX9_takesOut_43 rfl rfl⟩, ?_⟩
  refine ⟨⟨mo_ald, ok_aldn dX9_takesOut_44 rfl rfl⟩, ?_⟩
  refine ⟨⟨mo_gR, ok_gR rfl fd_X9_89 rfl dX9_takesOut_45 rfl⟩, ?_⟩
  refine ⟨⟨mo_ild, ok_ildn dX9_takesOut_48 rfl rfl⟩, ?_⟩
  refine ⟨⟨mo_push, ok_iconst dX9_takesOut_49 iv_i1 rfl⟩, ?_⟩
  refine ⟨⟨mo_bin, ok_iadd dX9_takesOut_50 rfl⟩, ?_⟩
  refine ⟨⟨mo_alI, ok_iald dX9_takesOut_51 rfl⟩, ?_⟩
  refine ⟨⟨mo_asI, ok_iast dX9_takesOut_52 rfl⟩, ?_⟩
  refine ⟨⟨mo_inc, ok_inc dX9_takesOut_53 iv_i1 (Nat.le_of_ble_eq_true rfl) rfl⟩, ?_⟩
  refine ⟨⟨mo_back, ok_back dX9_takesOut_56 rfl⟩, ?_⟩
  refine ⟨⟨mo_ald, ok_aldn dX9_takesOut_59 rfl rfl⟩, ?_⟩
  refine ⟨⟨mo_dup, ok_dup dX9_takesOut_60 rfl⟩, ?_⟩
  refine ⟨⟨mo_gI, ok_gI rfl fd_X9_309 rfl dX9_takesOut_61 rfl⟩, ?_⟩
  refine ⟨⟨mo_push, ok_iconst dX9_takesOut_64 iv_i1 rfl⟩, ?_⟩
  refine ⟨⟨mo_bin, ok_isub dX9_takesOut_65 rfl⟩, ?_⟩
  refine ⟨⟨mo_pI, ok_pI rfl fd_X9_309 rfl (Or.inl rfl) dX9_takesOut_66 rfl⟩, ?_⟩
  refine ⟨⟨mo_ret, ok_ret rfl dX9_takesOut_69⟩, ?_⟩
  exact trivial
set_option maxHeartbeats 4000000 in
theorem alX9_termOf : iy_all (iy_calls iy_mi) RX9 "termOf" cX9_termOf 8 (some FieldType.int, []) pcX9_termOf pcX9_termOf stX9_termOf := by
  refine ⟨⟨mo_push, ok_iconst dX9_termOf_0 iv_i0 rfl⟩, ?_⟩
  refine ⟨⟨mo_ist, ok_istn dX9_termOf_1 rfl (Nat.le_of_ble_eq_true rfl) rfl⟩, ?_⟩
  refine ⟨⟨mo_ild, ok_ildn dX9_termOf_2 rfl rfl⟩, ?_⟩
  refine ⟨⟨mo_ist, ok_ist dX9_termOf_3 (Nat.le_of_ble_eq_true rfl) rfl⟩, ?_⟩
  refine ⟨⟨mo_keep, ok_keep rfl⟩, ?_⟩
  refine ⟨⟨mo_ild, ok_ild dX9_termOf_5 rfl⟩, ?_⟩
  refine ⟨⟨mo_ild, ok_ildn dX9_termOf_7 rfl rfl⟩, ?_⟩
  refine ⟨⟨mo_cge, ok_cge dX9_termOf_8 rfl rfl⟩, ?_⟩
  refine ⟨⟨mo_ald, ok_aldn dX9_termOf_11 rfl rfl⟩, ?_⟩
  refine ⟨⟨mo_gR, ok_gR rfl fd_X9_61 rfl dX9_termOf_12 rfl⟩, ?_⟩
  refine ⟨⟨mo_ild, ok_ild dX9_termOf_15 rfl⟩, ?_⟩
  refine ⟨⟨mo_alI, ok_iald dX9_termOf_17 rfl⟩, ?_⟩
  refine ⟨⟨mo_ist, ok_ist dX9_termOf_18 (Nat.le_of_ble_eq_true rfl) rfl⟩, ?_⟩
  refine ⟨⟨mo_ild, ok_ild dX9_termOf_20 rfl⟩, ?_⟩
  refine ⟨⟨mo_push, ok_iconst dX9_termOf_22 iv_i2 rfl⟩, ?_⟩
  refine ⟨⟨mo_cge, ok_cge dX9_termOf_23 rfl rfl⟩, ?_⟩
  refine ⟨⟨mo_ald, ok_aldn dX9_termOf_26 rfl rfl⟩, ?_⟩
  refine ⟨⟨mo_gR, ok_gR rfl fd_X9_73 rfl dX9_termOf_27 rfl⟩, ?_⟩
  refine ⟨⟨mo_ild, ok_ildn dX9_termOf_30 rfl rfl⟩, ?_⟩
  refine ⟨⟨mo_ild, ok_ild dX9_termOf_31 rfl⟩, ?_⟩
  refine ⟨⟨mo_ine, ok_ine dX9_termOf_33 rfl rfl⟩, ?_⟩
  refine ⟨⟨mo_ald, ok_aldn dX9_termOf_36 rfl rfl⟩, ?_⟩
  refine ⟨⟨mo_gR, ok_gR rfl fd_X9_64 rfl dX9_termOf_37 rfl⟩, ?_⟩
  refine ⟨⟨mo_ild, ok_ild dX9_termOf_40 rfl⟩, ?_⟩
  refine ⟨⟨mo_alI, ok_iald dX9_termOf_42 rfl⟩, ?_⟩
  refine ⟨⟨mo_goto, ok_goto dX9_termOf_43 rfl⟩, ?_⟩
  refine ⟨⟨mo_ald, ok_aldn dX9_termOf_46 rfl rfl⟩, ?_⟩
  refine ⟨⟨mo_gR, ok_gR rfl fd_X9_70 rfl dX9_termOf_47 rfl⟩, ?_⟩
  refine ⟨⟨mo_ald, ok_aldn dX9_termOf_50 rfl rfl⟩, ?_⟩
  refine ⟨⟨mo_gR, ok_gR rfl fd_X9_64 rfl dX9_termOf_51 rfl⟩, ?_⟩
  refine ⟨⟨mo_ild, ok_ild dX9_termOf_54 rfl⟩, ?_⟩
  refine ⟨⟨mo_alI, ok_iald dX9_termOf_56 rfl⟩, ?_⟩
  refine ⟨⟨mo_alI, ok_iald dX9_termOf_57 rfl⟩, ?_⟩
  refine ⟨⟨mo_keep, ok_keep rfl⟩, ?_⟩
  refine ⟨⟨mo_asI, ok_iast dX9_termOf_58 rfl⟩, ?_⟩
  refine ⟨⟨mo_inc, ok_inc dX9_termOf_59 iv_i1 (Nat.le_of_ble_eq_true rfl) rfl⟩, ?_⟩
  refine ⟨⟨mo_goto, ok_goto dX9_termOf_62 rfl⟩, ?_⟩
  refine ⟨⟨mo_inc, ok_inc dX9_termOf_65 iv_im1 (Nat.le_of_ble_eq_true rfl) rfl⟩, ?_⟩
  refine ⟨⟨mo_ald, ok_aldn dX9_termOf_68 rfl rfl⟩, ?_⟩
  refine ⟨⟨mo_gR, ok_gR rfl fd_X9_73 rfl dX9_termOf_69 rfl⟩, ?_⟩
  refine ⟨⟨mo_ild, ok_ildn dX9_termOf_72 rfl rfl⟩, ?_⟩
  refine ⟨⟨mo_push, ok_iconst dX9_termOf_73 iv_i1 rfl⟩, ?_⟩
  refine ⟨⟨mo_bin, ok_isub dX9_termOf_74 rfl⟩, ?_⟩
  refine ⟨⟨mo_alI, ok_iald dX9_termOf_75 rfl⟩, ?_⟩
  refine ⟨⟨mo_ist, ok_ist dX9_termOf_76 (Nat.le_of_ble_eq_true rfl) rfl⟩, ?_⟩
  refine ⟨⟨mo_ald, ok_aldn dX9_termOf_78 rfl rfl⟩, ?_⟩
  refine ⟨⟨mo_gR, ok_gR rfl fd_X9_73 rfl dX9_termOf_79 rfl⟩, ?_⟩
  refine ⟨⟨mo_ild, ok_ildn dX9_termOf_82 rfl rfl⟩, ?_⟩
  refine ⟨⟨mo_alI, ok_iald dX9_termOf_83 rfl⟩, ?_⟩
  refine ⟨⟨mo_ist, ok_ist dX9_termOf_84 (Nat.le_of_ble_eq_true rfl) rfl⟩, ?_⟩
  refine ⟨⟨mo_ild, ok_ild dX9_termOf_86 rfl⟩, ?_⟩
  refine ⟨⟨mo_push, ok_iconst dX9_termOf_88 iv_i4 rfl⟩, ?_⟩
  refine ⟨⟨mo_cle, ok_cle dX9_termOf_89 rfl rfl⟩, ?_⟩
  refine ⟨⟨mo_ald, ok_aldn dX9_termOf_92 rfl rfl⟩, ?_⟩
  refine ⟨⟨mo_gR, ok_gR rfl fd_X9_73 rfl dX9_termOf_93 rfl⟩, ?_⟩
  refine ⟨⟨mo_ild, ok_ildn dX9_termOf_96 rfl rfl⟩, ?_⟩
  refine ⟨⟨mo_push, ok_iconst dX9_termOf_97 iv_i1 rfl⟩, ?_⟩
  refine ⟨⟨mo_bin, ok_isub dX9_termOf_98 rfl⟩, ?_⟩
  refine ⟨⟨mo_ild, ok_ild dX9_termOf_99 rfl⟩, ?_⟩
  refine ⟨⟨mo_ine, ok_ine dX9_termOf_101 rfl rfl⟩, ?_⟩
  refine ⟨⟨mo_push, ok_iconst dX9_termOf_104 iv_i0 rfl⟩, ?_⟩
  refine ⟨⟨mo_goto, ok_goto dX9_termOf_105 rfl⟩, ?_⟩
  refine ⟨⟨mo_ild, ok_ild dX9_termOf_108 rfl⟩, ?_⟩
  refine ⟨⟨mo_push, ok_iconst dX9_termOf_110 iv_i5 rfl⟩, ?_⟩
  refine ⟨⟨mo_cne, ok_cne dX9_termOf_111 rfl rfl⟩, ?_⟩
  refine ⟨⟨mo_ild, ok_ild dX9_termOf_114 rfl⟩, ?_⟩
  refine ⟨⟨mo_ild, ok_ild dX9_termOf_116 rfl⟩, ?_⟩
  refine ⟨⟨mo_div, ok_idiv dX9_termOf_118 rfl⟩, ?_⟩
  refine ⟨⟨mo_goto, ok_goto dX9_termOf_119 rfl⟩, ?_⟩
  refine ⟨⟨mo_ild, ok_ild dX9_termOf_122 rfl⟩, ?_⟩
  refine ⟨⟨mo_ild, ok_ild dX9_termOf_124 rfl⟩, ?_⟩
  refine ⟨⟨mo_div, ok_irem dX9_termOf_126 rfl⟩, ?_⟩
  refine ⟨⟨mo_keep, ok_keep rfl⟩, ?_⟩
  refine ⟨⟨mo_asI, ok_iast dX9_termOf_127 rfl⟩, ?_⟩
  refine ⟨⟨mo_goto, ok_goto dX9_termOf_128 rfl⟩, ?_⟩
  refine ⟨⟨mo_ald, ok_aldn dX9_termOf_131 rfl rfl⟩, ?_⟩
  refine ⟨⟨mo_gR, ok_gR rfl fd_X9_73 rfl dX9_termOf_132 rfl⟩, ?_⟩
  refine ⟨⟨mo_ild, ok_ildn dX9_termOf_135 rfl rfl⟩, ?_⟩
  refine ⟨⟨mo_push, ok_iconst dX9_termOf_136 iv_i1 rfl⟩, ?_⟩
  refine ⟨⟨mo_bin, ok_isub dX9_termOf_137 rfl⟩, ?_⟩
  refine ⟨⟨mo_ild, ok_ild dX9_termOf_138 rfl⟩, ?_⟩
  refine ⟨⟨mo_push, ok_iconst dX9_termOf_140 iv_i2 rfl⟩, ?_⟩
  refine ⟨⟨mo_cne, ok_cne dX9_termOf_141 rfl rfl⟩, ?_⟩
  refine ⟨⟨mo_ild, ok_ild dX9_termOf_144 rfl⟩, ?_⟩
  refine ⟨⟨mo_ild, ok_ild dX9_termOf_146 rfl⟩, ?_⟩
  refine ⟨⟨mo_bin, ok_iadd dX9_termOf_148 rfl⟩, ?_⟩
  refine ⟨⟨mo_goto, ok_goto dX9_termOf_149 rfl⟩, ?_⟩
  refine ⟨⟨mo_ild, ok_ild dX9_termOf_152 rfl⟩, ?_⟩
  refine ⟨⟨mo_push, ok_iconst dX9_termOf_154 iv_i3 rfl⟩, ?_⟩
  refine ⟨⟨mo_cne, ok_cne dX9_termOf_155 rfl rfl⟩, ?_⟩
  refine ⟨⟨mo_ild, ok_ild dX9_termOf_158 rfl⟩, ?_⟩
  refine ⟨⟨mo_ild, ok_ild dX9_termOf_160 rfl⟩, ?_⟩
  refine ⟨⟨mo_bin, ok_isub dX9_termOf_162 rfl⟩, ?_⟩
  refine ⟨⟨mo_goto, ok_goto dX9_termOf_163 rfl⟩, ?_⟩
  refine ⟨⟨mo_ild, ok_ild dX9_termOf_166 rfl⟩, ?_⟩
  refine ⟨⟨mo_ild, ok_ild dX9_termOf_168 rfl⟩, ?_⟩
  refine ⟨⟨mo_bin, ok_imul dX9_termOf_170 rfl⟩, ?_⟩
  refine ⟨⟨mo_keep, ok_keep rfl⟩, ?_⟩
  refine ⟨⟨mo_asI, ok_iast dX9_termOf_171 rfl⟩, ?_⟩
  refine ⟨⟨mo_keep, ok_keep rfl⟩, ?_⟩
  refine ⟨⟨mo_inc, ok_inc dX9_termOf_172 iv_i1 (Nat.le_of_ble_eq_true rfl) rfl⟩, ?_⟩
  refine ⟨⟨mo_back, ok_back dX9_termOf_175 rfl⟩, ?_⟩
  refine ⟨⟨mo_ald, ok_aldn dX9_termOf_178 rfl rfl⟩, ?_⟩
  refine ⟨⟨mo_gR, ok_gR rfl fd_X9_73 rfl dX9_termOf_179 rfl⟩, ?_⟩
  refine ⟨⟨mo_push, ok_iconst dX9_termOf_182 iv_i0 rfl⟩, ?_⟩
  refine ⟨⟨mo_alI, ok_iald dX9_termOf_183 rfl⟩, ?_⟩
  refine ⟨⟨mo_iret, ok_iret rfl rfl dX9_termOf_184⟩, ?_⟩
  exact trivial
set_option maxHeartbeats 4000000 in
theorem alX9_keyOf : iy_all (iy_calls iy_mi) RX9 "keyOf" cX9_keyOf 2 (some FieldType.int, []) pcX9_keyOf pcX9_keyOf stX9_keyOf := by
  refine ⟨⟨mo_ild, ok_ildn dX9_keyOf_0 rfl rfl⟩, ?_⟩
  refine ⟨⟨mo_push, ok_sipush dX9_keyOf_1 iv_s1000 rfl⟩, ?_⟩
  refine ⟨⟨mo_div, ok_irem dX9_keyOf_4 rfl⟩, ?_⟩
  refine ⟨⟨mo_ist, ok_istn dX9_keyOf_5 rfl (Nat.le_of_ble_eq_true rfl) rfl⟩, ?_⟩
  refine ⟨⟨mo_ild, ok_ildn dX9_keyOf_6 rfl rfl⟩, ?_⟩
  refine ⟨⟨mo_ige, ok_ige dX9_keyOf_7 rfl rfl⟩, ?_⟩
  refine ⟨⟨mo_ild, ok_ildn dX9_keyOf_10 rfl rfl⟩, ?_⟩
  refine ⟨⟨mo_push, ok_sipush dX9_keyOf_11 iv_s1000 rfl⟩, ?_⟩
  refine ⟨⟨mo_bin, ok_iadd dX9_keyOf_14 rfl⟩, ?_⟩
  refine ⟨⟨mo_goto, ok_goto dX9_keyOf_15 rfl⟩, ?_⟩
  refine ⟨⟨mo_ild, ok_ildn dX9_keyOf_18 rfl rfl⟩, ?_⟩
  refine ⟨⟨mo_keep, ok_keep rfl⟩, ?_⟩
  refine ⟨⟨mo_iret, ok_iret rfl rfl dX9_keyOf_19⟩, ?_⟩
  exact trivial
set_option maxHeartbeats 4000000 in
theorem alX9_starts : iy_all (iy_calls iy_mi) RX9 "starts" cX9_starts 6 (some FieldType.boolean, []) pcX9_starts pcX9_starts stX9_starts := by
  refine ⟨⟨mo_ild, ok_ildn dX9_starts_0 rfl rfl⟩, ?_⟩
  refine ⟨⟨mo_csI, ok_csI mi_X9_hand0 lk_X9_291 q1734 dX9_starts_1 rfl⟩, ?_⟩
  refine ⟨⟨mo_ist, ok_ist dX9_starts_4 (Nat.le_of_ble_eq_true rfl) rfl⟩, ?_⟩
  refine ⟨⟨mo_ald, ok_aldn dX9_starts_6 rfl rfl⟩, ?_⟩
  refine ⟨⟨mo_gR, ok_gR rfl fd_X9_80 rfl dX9_starts_7 rfl⟩, ?_⟩
  refine ⟨⟨mo_ild, ok_ild dX9_starts_10 rfl⟩, ?_⟩
  refine ⟨⟨mo_push, ok_iconst dX9_starts_12 iv_i1 rfl⟩, ?_⟩
  refine ⟨⟨mo_bin, ok_iadd dX9_starts_13 rfl⟩, ?_⟩
  refine ⟨⟨mo_alI, ok_iald dX9_starts_14 rfl⟩, ?_⟩
  refine ⟨⟨mo_igt, ok_igt dX9_starts_15 rfl rfl⟩, ?_⟩
  refine ⟨⟨mo_ald, ok_aldn dX9_starts_18 rfl rfl⟩, ?_⟩
  refine ⟨⟨mo_gR, ok_gR rfl fd_X9_80 rfl dX9_starts_19 rfl⟩, ?_⟩
  refine ⟨⟨mo_push, ok_iconst dX9_starts_22 iv_i0 rfl⟩, ?_⟩
  refine ⟨⟨mo_alI, ok_iald dX9_starts_23 rfl⟩, ?_⟩
  refine ⟨⟨mo_push, ok_sipush dX9_starts_24 iv_s640 rfl⟩, ?_⟩
  refine ⟨⟨mo_cge, ok_cge dX9_starts_27 rfl rfl⟩, ?_⟩
  refine ⟨⟨mo_ald, ok_aldn dX9_starts_30 rfl rfl⟩, ?_⟩
  refine ⟨⟨mo_gR, ok_gR rfl fd_X9_80 rfl dX9_starts_31 rfl⟩, ?_⟩
  refine ⟨⟨mo_push, ok_iconst dX9_starts_34 iv_i1 rfl⟩, ?_⟩
  refine ⟨⟨mo_alI, ok_iald dX9_starts_35 rfl⟩, ?_⟩
  refine ⟨⟨mo_push, ok_bipush dX9_starts_36 iv_b28 rfl⟩, ?_⟩
  refine ⟨⟨mo_clt, ok_clt dX9_starts_38 rfl rfl⟩, ?_⟩
  refine ⟨⟨mo_keep, ok_keep rfl⟩, ?_⟩
  refine ⟨⟨mo_push, ok_iconst dX9_starts_41 iv_i0 rfl⟩, ?_⟩
  refine ⟨⟨mo_iret, ok_iret rfl rfl dX9_starts_42⟩, ?_⟩
  refine ⟨⟨mo_ald, ok_aldn dX9_starts_43 rfl rfl⟩, ?_⟩
  refine ⟨⟨mo_gR, ok_gR rfl fd_X9_80 rfl dX9_starts_44 rfl⟩, ?_⟩
  refine ⟨⟨mo_ild, ok_ild dX9_starts_47 rfl⟩, ?_⟩
  refine ⟨⟨mo_push, ok_iconst dX9_starts_49 iv_i0 rfl⟩, ?_⟩
  refine ⟨⟨mo_bin, ok_iadd dX9_starts_50 rfl⟩, ?_⟩
  refine ⟨⟨mo_ild, ok_ildn dX9_starts_51 rfl rfl⟩, ?_⟩
  refine ⟨⟨mo_asI, ok_iast dX9_starts_52 rfl⟩, ?_⟩
  refine ⟨⟨mo_ald, ok_aldn dX9_starts_53 rfl rfl⟩, ?_⟩
  refine ⟨⟨mo_gR, ok_gR rfl fd_X9_80 rfl dX9_starts_54 rfl⟩, ?_⟩
  refine ⟨⟨mo_ild, ok_ild dX9_starts_57 rfl⟩, ?_⟩
  refine ⟨⟨mo_push, ok_iconst dX9_starts_59 iv_i1 rfl⟩, ?_⟩
  refine ⟨⟨mo_bin, ok_iadd dX9_starts_60 rfl⟩, ?_⟩
  refine ⟨⟨mo_push, ok_iconst dX9_starts_61 iv_i1 rfl⟩, ?_⟩
  refine ⟨⟨mo_asI, ok_iast dX9_starts_62 rfl⟩, ?_⟩
  refine ⟨⟨mo_ald, ok_aldn dX9_starts_63 rfl rfl⟩, ?_⟩
  refine ⟨⟨mo_gR, ok_gR rfl fd_X9_80 rfl dX9_starts_64 rfl⟩, ?_⟩
  refine ⟨⟨mo_ild, ok_ild dX9_starts_67 rfl⟩, ?_⟩
  refine ⟨⟨mo_push, ok_iconst dX9_starts_69 iv_i5 rfl⟩, ?_⟩
  refine ⟨⟨mo_bin, ok_iadd dX9_starts_70 rfl⟩, ?_⟩
  refine ⟨⟨mo_ald, ok_aldn dX9_starts_71 rfl rfl⟩, ?_⟩
  refine ⟨⟨mo_gR, ok_gR rfl fd_X9_80 rfl dX9_starts_72 rfl⟩, ?_⟩
  refine ⟨⟨mo_push, ok_iconst dX9_starts_75 iv_i2 rfl⟩, ?_⟩
  refine ⟨⟨mo_alI, ok_iald dX9_starts_76 rfl⟩, ?_⟩
  refine ⟨⟨mo_asI, ok_iast dX9_starts_77 rfl⟩, ?_⟩
  refine ⟨⟨mo_ald, ok_aldn dX9_starts_78 rfl rfl⟩, ?_⟩
  refine ⟨⟨mo_gR, ok_gR rfl fd_X9_80 rfl dX9_starts_79 rfl⟩, ?_⟩
  refine ⟨⟨mo_ild, ok_ild dX9_starts_82 rfl⟩, ?_⟩
  refine ⟨⟨mo_push, ok_bipush dX9_starts_84 iv_b6 rfl⟩, ?_⟩
  refine ⟨⟨mo_bin, ok_iadd dX9_starts_86 rfl⟩, ?_⟩
  refine ⟨⟨mo_ild, ok_ildn dX9_starts_87 rfl rfl⟩, ?_⟩
  refine ⟨⟨mo_asI, ok_iast dX9_starts_88 rfl⟩, ?_⟩
  refine ⟨⟨mo_ald, ok_aldn dX9_starts_89 rfl rfl⟩, ?_⟩
  refine ⟨⟨mo_gR, ok_gR rfl fd_X9_80 rfl dX9_starts_90 rfl⟩, ?_⟩
  refine ⟨⟨mo_ild, ok_ild dX9_starts_93 rfl⟩, ?_⟩
  refine ⟨⟨mo_push, ok_bipush dX9_starts_95 iv_b7 rfl⟩, ?_⟩
  refine ⟨⟨mo_bin, ok_iadd dX9_starts_97 rfl⟩, ?_⟩
  refine ⟨⟨mo_ild, ok_ild dX9_starts_98 rfl⟩, ?_⟩
  refine ⟨⟨mo_asI, ok_iast dX9_starts_100 rfl⟩, ?_⟩
  refine ⟨⟨mo_ald, ok_aldn dX9_starts_101 rfl rfl⟩, ?_⟩
  refine ⟨⟨mo_gR, ok_gR rfl fd_X9_80 rfl dX9_starts_102 rfl⟩, ?_⟩
  refine ⟨⟨mo_ild, ok_ild dX9_starts_105 rfl⟩, ?_⟩
  refine ⟨⟨mo_push, ok_bipush dX9_starts_107 iv_b8 rfl⟩, ?_⟩
  refine ⟨⟨mo_bin, ok_iadd dX9_starts_109 rfl⟩, ?_⟩
  refine ⟨⟨mo_push, ok_iconst dX9_starts_110 iv_i0 rfl⟩, ?_⟩
  refine ⟨⟨mo_asI, ok_iast dX9_starts_111 rfl⟩, ?_⟩
  refine ⟨⟨mo_ald, ok_aldn dX9_starts_112 rfl rfl⟩, ?_⟩
  refine ⟨⟨mo_gR, ok_gR rfl fd_X9_80 rfl dX9_starts_113 rfl⟩, ?_⟩
  refine ⟨⟨mo_ild, ok_ild dX9_starts_116 rfl⟩, ?_⟩
  refine ⟨⟨mo_push, ok_bipush dX9_starts_118 iv_b9 rfl⟩, ?_⟩
  refine ⟨⟨mo_bin, ok_iadd dX9_starts_120 rfl⟩, ?_⟩
  refine ⟨⟨mo_push, ok_iconst dX9_starts_121 iv_i0 rfl⟩, ?_⟩
  refine ⟨⟨mo_asI, ok_iast dX9_starts_122 rfl⟩, ?_⟩
  refine ⟨⟨mo_push, ok_iconst dX9_starts_123 iv_i1 rfl⟩, ?_⟩
  refine ⟨⟨mo_iret, ok_iret rfl rfl dX9_starts_124⟩, ?_⟩
  exact trivial
set_option maxHeartbeats 4000000 in
theorem alX9_closes : iy_all (iy_calls iy_mi) RX9 "closes" cX9_closes 3 (some FieldType.int, []) pcX9_closes pcX9_closes stX9_closes := by
  refine ⟨⟨mo_push, ok_iconst dX9_closes_0 iv_i0 rfl⟩, ?_⟩
  refine ⟨⟨mo_ist, ok_istn dX9_closes_1 rfl (Nat.le_of_ble_eq_true rfl) rfl⟩, ?_⟩
  refine ⟨⟨mo_keep, ok_keep rfl⟩, ?_⟩
  refine ⟨⟨mo_ild, ok_ildn dX9_closes_2 rfl rfl⟩, ?_⟩
  refine ⟨⟨mo_push, ok_sipush dX9_closes_3 iv_s200 rfl⟩, ?_⟩
  refine ⟨⟨mo_cge, ok_cge dX9_closes_6 rfl rfl⟩, ?_⟩
  refine ⟨⟨mo_ald, ok_aldn dX9_closes_9 rfl rfl⟩, ?_⟩
  refine ⟨⟨mo_gR, ok_gR rfl fd_X9_80 rfl dX9_closes_10 rfl⟩, ?_⟩
  refine ⟨⟨mo_ild, ok_ildn dX9_closes_13 rfl rfl⟩, ?_⟩
  refine ⟨⟨mo_csI, ok_csI mi_X9_hand0 lk_X9_291 q1734 dX9_closes_14 rfl⟩, ?_⟩
  refine ⟨⟨mo_push, ok_iconst dX9_closes_17 iv_i1 rfl⟩, ?_⟩
  refine ⟨⟨mo_bin, ok_iadd dX9_closes_18 rfl⟩, ?_⟩
  refine ⟨⟨mo_alI, ok_iald dX9_closes_19 rfl⟩, ?_⟩
  refine ⟨⟨mo_ile, ok_ile dX9_closes_20 rfl rfl⟩, ?_⟩
  refine ⟨⟨mo_ald, ok_aldn dX9_closes_23 rfl rfl⟩, ?_⟩
  refine ⟨⟨mo_ild, ok_ildn dX9_closes_24 rfl rfl⟩, ?_⟩
  refine ⟨⟨mo_cvV, ok_cvV mi_X9_steps lk_X9_257 q2087 qs99 rfl (Nat.le_of_ble_eq_true rfl) (iy_ro_le _) rfl rfl dX9_closes_25 rfl⟩, ?_⟩
  refine ⟨⟨mo_inc, ok_inc dX9_closes_28 iv_i1 (Nat.le_of_ble_eq_true rfl) rfl⟩, ?_⟩
  refine ⟨⟨mo_back, ok_back dX9_closes_31 rfl⟩, ?_⟩
  refine ⟨⟨mo_keep, ok_keep rfl⟩, ?_⟩
  refine ⟨⟨mo_ild, ok_ildn dX9_closes_34 rfl rfl⟩, ?_⟩
  refine ⟨⟨mo_iret, ok_iret rfl rfl dX9_closes_35⟩, ?_⟩
  exact trivial
set_option maxHeartbeats 4000000 in
theorem alX9_steps : iy_all (iy_calls iy_mi) RX9 "steps" cX9_steps 3 (none, []) pcX9_steps pcX9_steps stX9_steps := by
  refine ⟨⟨mo_ild, ok_ildn dX9_steps_0 rfl rfl⟩, ?_⟩
  refine ⟨⟨mo_csI, ok_csI mi_X9_hand0 lk_X9_291 q1734 dX9_steps_1 rfl⟩, ?_⟩
  refine ⟨⟨mo_ist, ok_istn dX9_steps_4 rfl (Nat.le_of_ble_eq_true rfl) rfl⟩, ?_⟩
  refine ⟨⟨mo_ald, ok_aldn dX9_steps_5 rfl rfl⟩, ?_⟩
  refine ⟨⟨mo_gR, ok_gR rfl fd_X9_80 rfl dX9_steps_6 rfl⟩, ?_⟩
  refine ⟨⟨mo_ild, ok_ildn dX9_steps_9 rfl rfl⟩, ?_⟩
  refine ⟨⟨mo_push, ok_iconst dX9_steps_10 iv_i1 rfl⟩, ?_⟩
  refine ⟨⟨mo_bin, ok_iadd dX9_steps_11 rfl⟩, ?_⟩
  refine ⟨⟨mo_alI, ok_iald dX9_steps_12 rfl⟩, ?_⟩
  refine ⟨⟨mo_ine, ok_ine dX9_steps_13 rfl rfl⟩, ?_⟩
  refine ⟨⟨mo_ret, ok_ret rfl dX9_steps_16⟩, ?_⟩
  refine ⟨⟨mo_ald, ok_aldn dX9_steps_17 rfl rfl⟩, ?_⟩
  refine ⟨⟨mo_gR, ok_gR rfl fd_X9_80 rfl dX9_steps_18 rfl⟩, ?_⟩
  refine ⟨⟨mo_ild, ok_ildn dX9_steps_21 rfl rfl⟩, ?_⟩
  refine ⟨⟨mo_push, ok_iconst dX9_steps_22 iv_i4 rfl⟩, ?_⟩
  refine ⟨⟨mo_bin, ok_iadd dX9_steps_23 rfl⟩, ?_⟩
  refine ⟨⟨mo_dup2, ok_dup2 dX9_steps_24 rfl⟩, ?_⟩
  refine ⟨⟨mo_alI, ok_iald dX9_steps_25 rfl⟩, ?_⟩
  refine ⟨⟨mo_push, ok_iconst dX9_steps_26 iv_i1 rfl⟩, ?_⟩
  refine ⟨⟨mo_bin, ok_iadd dX9_steps_27 rfl⟩, ?_⟩
  refine ⟨⟨mo_asI, ok_iast dX9_steps_28 rfl⟩, ?_⟩
  refine ⟨⟨mo_ald, ok_aldn dX9_steps_29 rfl rfl⟩, ?_⟩
  refine ⟨⟨mo_gR, ok_gR rfl fd_X9_80 rfl dX9_steps_30 rfl⟩, ?_⟩
  refine ⟨⟨mo_ild, ok_ildn dX9_steps_33 rfl rfl⟩, ?_⟩
  refine ⟨⟨mo_push, ok_iconst dX9_steps_34 iv_i1 rfl⟩, ?_⟩
  refine ⟨⟨mo_bin, ok_iadd dX9_steps_35 rfl⟩, ?_⟩
  refine ⟨⟨mo_alI, ok_iald dX9_steps_36 rfl⟩, ?_⟩
  refine ⟨⟨mo_sw, ok_tsw dX9_steps_37 rfl rfl (by decide +kernel)⟩, ?_⟩
  refine ⟨⟨mo_ald, ok_aldn dX9_steps_100 rfl rfl⟩, ?_⟩
  refine ⟨⟨mo_ild, ok_ildn dX9_steps_101 rfl rfl⟩, ?_⟩
  refine ⟨⟨mo_cvV, ok_cvV mi_X9_finds lk_X9_402 q2091 qs100 rfl (Nat.le_of_ble_eq_true rfl) (iy_ro_le _) rfl rfl dX9_steps_102 rfl⟩, ?_⟩
  refine ⟨⟨mo_goto, ok_goto dX9_steps_105 rfl⟩, ?_⟩
  refine ⟨⟨mo_ald, ok_aldn dX9_steps_108 rfl rfl⟩, ?_⟩
  refine ⟨⟨mo_ild, ok_ildn dX9_steps_109 rfl rfl⟩, ?_⟩
  refine ⟨⟨mo_cvV, ok_cvV mi_X9_reads lk_X9_405 q2103 qs103 rfl (Nat.le_of_ble_eq_true rfl) (iy_ro_le _) rfl rfl dX9_steps_110 rfl⟩, ?_⟩
  refine ⟨⟨mo_goto, ok_goto dX9_steps_113 rfl⟩, ?_⟩
  refine ⟨⟨mo_ald, ok_aldn dX9_steps_116 rfl rfl⟩, ?_⟩
  refine ⟨⟨mo_ild, ok_ildn dX9_steps_117 rfl rfl⟩, ?_⟩
  refine ⟨⟨mo_cvV, ok_cvV mi_X9_prepends lk_X9_408 q2135 qs111 rfl (Nat.le_of_ble_eq_true rfl) (iy_ro_le _) rfl rfl dX9_steps_118 rfl⟩, ?_⟩
  refine ⟨⟨mo_goto, ok_goto dX9_steps_121 rfl⟩, ?_⟩
  refine ⟨⟨mo_ald, ok_aldn dX9_steps_124 rfl rfl⟩, ?_⟩
  refine ⟨⟨mo_ild, ok_ildn dX9_steps_125 rfl rfl⟩, ?_⟩
  refine ⟨⟨mo_cvV, ok_cvV mi_X9_gathers lk_X9_411 q2155 qs116 rfl (Nat.le_of_ble_eq_true rfl) (iy_ro_le _) rfl rfl dX9_steps_126 rfl⟩, ?_⟩
  refine ⟨⟨mo_goto, ok_goto dX9_steps_129 rfl⟩, ?_⟩
  refine ⟨⟨mo_ald, ok_aldn dX9_steps_132 rfl rfl⟩, ?_⟩
  refine ⟨⟨mo_ild, ok_ildn dX9_steps_133 rfl rfl⟩, ?_⟩
  refine ⟨⟨mo_cvV, ok_cvV mi_X9_swaps lk_X9_414 q2163 qs118 rfl (Nat.le_of_ble_eq_true rfl) (iy_ro_le _) rfl rfl dX9_steps_134 rfl⟩, ?_⟩
  refine ⟨⟨mo_goto, ok_goto dX9_steps_137 rfl⟩, ?_⟩
  refine ⟨⟨mo_ald, ok_aldn dX9_steps_140 rfl rfl⟩, ?_⟩
  refine ⟨⟨mo_ild, ok_ildn dX9_steps_141 rfl rfl⟩, ?_⟩
  refine ⟨⟨mo_cvV, ok_cvV mi_X9_splits lk_X9_417 q2171 qs120 rfl (Nat.le_of_ble_eq_true rfl) (iy_ro_le _) rfl rfl dX9_steps_142 rfl⟩, ?_⟩
  refine ⟨⟨mo_goto, ok_goto dX9_steps_145 rfl⟩, ?_⟩
  refine ⟨⟨mo_ald, ok_aldn dX9_steps_148 rfl rfl⟩, ?_⟩
  refine ⟨⟨mo_ild, ok_ildn dX9_steps_149 rfl rfl⟩, ?_⟩
  refine ⟨⟨mo_cvV, ok_cvV mi_X9_looksUp lk_X9_420 q2175 qs121 rfl (Nat.le_of_ble_eq_true rfl) (iy_ro_le _) rfl rfl dX9_steps_150 rfl⟩, ?_⟩
  refine ⟨⟨mo_goto, ok_goto dX9_steps_153 rfl⟩, ?_⟩
  refine ⟨⟨mo_ald, ok_aldn dX9_steps_156 rfl rfl⟩, ?_⟩
  refine ⟨⟨mo_ild, ok_ildn dX9_steps_157 rfl rfl⟩, ?_⟩
  refine ⟨⟨mo_cvV, ok_cvV mi_X9_enters lk_X9_423 q2179 qs122 rfl (Nat.le_of_ble_eq_true rfl) (iy_ro_le _) rfl rfl dX9_steps_158 rfl⟩, ?_⟩
  refine ⟨⟨mo_goto, ok_goto dX9_steps_161 rfl⟩, ?_⟩
  refine ⟨⟨mo_ald, ok_aldn dX9_steps_164 rfl rfl⟩, ?_⟩
  refine ⟨⟨mo_ild, ok_ildn dX9_steps_165 rfl rfl⟩, ?_⟩
  refine ⟨⟨mo_cvV, ok_cvV mi_X9_removes lk_X9_426 q2187 qs124 rfl (Nat.le_of_ble_eq_true rfl) (iy_ro_le _) rfl rfl dX9_steps_166 rfl⟩, ?_⟩
  refine ⟨⟨mo_goto, ok_goto dX9_steps_169 rfl⟩, ?_⟩
  refine ⟨⟨mo_ald, ok_aldn dX9_steps_172 rfl rfl⟩, ?_⟩
  refine ⟨⟨mo_ild, ok_ildn dX9_steps_173 rfl rfl⟩, ?_⟩
  refine ⟨⟨mo_cvV, ok_cvV mi_X9_goesLeft lk_X9_429 q2195 qs126 rfl (Nat.le_of_ble_eq_true rfl) (iy_ro_le _) rfl rfl dX9_steps_174 rfl⟩, ?_⟩
  refine ⟨⟨mo_goto, ok_goto dX9_steps_177 rfl⟩, ?_⟩
  refine ⟨⟨mo_ald, ok_aldn dX9_steps_180 rfl rfl⟩, ?_⟩
  refine ⟨⟨mo_ild, ok_ildn dX9_steps_181 rfl rfl⟩, ?_⟩
  refine ⟨⟨mo_cvV, ok_cvV mi_X9_merges lk_X9_432 q2199 qs127 rfl (Nat.le_of_ble_eq_true rfl) (iy_ro_le _) rfl rfl dX9_steps_182 rfl⟩, ?_⟩
  refine ⟨⟨mo_goto, ok_goto dX9_steps_185 rfl⟩, ?_⟩
  refine ⟨⟨mo_ald, ok_aldn dX9_steps_188 rfl rfl⟩, ?_⟩
  refine ⟨⟨mo_ild, ok_ildn dX9_steps_189 rfl rfl⟩, ?_⟩
  refine ⟨⟨mo_cvV, ok_cvV mi_X9_looksOn lk_X9_435 q2207 qs129 rfl (Nat.le_of_ble_eq_true rfl) (iy_ro_le _) rfl rfl dX9_steps_190 rfl⟩, ?_⟩
  refine ⟨⟨mo_goto, ok_goto dX9_steps_193 rfl⟩, ?_⟩
  refine ⟨⟨mo_ald, ok_aldn dX9_steps_196 rfl rfl⟩, ?_⟩
  refine ⟨⟨mo_ild, ok_ildn dX9_steps_197 rfl rfl⟩, ?_⟩
  refine ⟨⟨mo_cvV, ok_cvV mi_X9_strikes lk_X9_438 q2211 qs130 rfl (Nat.le_of_ble_eq_true rfl) (iy_ro_le _) rfl rfl dX9_steps_198 rfl⟩, ?_⟩
  refine ⟨⟨mo_keep, ok_keep rfl⟩, ?_⟩
  refine ⟨⟨mo_ret, ok_ret rfl dX9_steps_201⟩, ?_⟩
  exact trivial
set_option maxHeartbeats 4000000 in
theorem alX9_finds : iy_all (iy_calls iy_mi) RX9 "finds" cX9_finds 3 (none, []) pcX9_finds pcX9_finds stX9_finds := by
  refine ⟨⟨mo_ald, ok_aldn dX9_finds_0 rfl rfl⟩, ?_⟩
  refine ⟨⟨mo_cvV, ok_cvV mi_X9_fillsBounds lk_X9_345 q2095 qs101 rfl (Nat.le_of_ble_eq_true rfl) (iy_ro_le _) rfl rfl dX9_finds_1 rfl⟩, ?_⟩
  refine ⟨⟨mo_ald, ok_aldn dX9_finds_4 rfl rfl⟩, ?_⟩
  refine ⟨⟨mo_gI, ok_gI rfl fd_X9_342 rfl dX9_finds_5 rfl⟩, ?_⟩
  refine ⟨⟨mo_push, ok_iconst dX9_finds_8 iv_i1 rfl⟩, ?_⟩
  refine ⟨⟨mo_bin, ok_isub dX9_finds_9 rfl⟩, ?_⟩
  refine ⟨⟨mo_ist, ok_istn dX9_finds_10 rfl (Nat.le_of_ble_eq_true rfl) rfl⟩, ?_⟩
  refine ⟨⟨mo_keep, ok_keep rfl⟩, ?_⟩
  refine ⟨⟨mo_ald, ok_aldn dX9_finds_11 rfl rfl⟩, ?_⟩
  refine ⟨⟨mo_gR, ok_gR rfl fd_X9_92 rfl dX9_finds_12 rfl⟩, ?_⟩
  refine ⟨⟨mo_ild, ok_ildn dX9_finds_15 rfl rfl⟩, ?_⟩
  refine ⟨⟨mo_alI, ok_iald dX9_finds_16 rfl⟩, ?_⟩
  refine ⟨⟨mo_ald, ok_aldn dX9_finds_17 rfl rfl⟩, ?_⟩
  refine ⟨⟨mo_gR, ok_gR rfl fd_X9_80 rfl dX9_finds_18 rfl⟩, ?_⟩
  refine ⟨⟨mo_ild, ok_ildn dX9_finds_21 rfl rfl⟩, ?_⟩
  refine ⟨⟨mo_push, ok_bipush dX9_finds_22 iv_b6 rfl⟩, ?_⟩
  refine ⟨⟨mo_bin, ok_iadd dX9_finds_24 rfl⟩, ?_⟩
  refine ⟨⟨mo_alI, ok_iald dX9_finds_25 rfl⟩, ?_⟩
  refine ⟨⟨mo_cle, ok_cle dX9_finds_26 rfl rfl⟩, ?_⟩
  refine ⟨⟨mo_inc, ok_inc dX9_finds_29 iv_im1 (Nat.le_of_ble_eq_true rfl) rfl⟩, ?_⟩
  refine ⟨⟨mo_back, ok_back dX9_finds_32 rfl⟩, ?_⟩
  refine ⟨⟨mo_ald, ok_aldn dX9_finds_35 rfl rfl⟩, ?_⟩
  refine ⟨⟨mo_gR, ok_gR rfl fd_X9_80 rfl dX9_finds_36 rfl⟩, ?_⟩
  refine ⟨⟨mo_ild, ok_ildn dX9_finds_39 rfl rfl⟩, ?_⟩
  refine ⟨⟨mo_push, ok_iconst dX9_finds_40 iv_i2 rfl⟩, ?_⟩
  refine ⟨⟨mo_bin, ok_iadd dX9_finds_41 rfl⟩, ?_⟩
  refine ⟨⟨mo_ald, ok_aldn dX9_finds_42 rfl rfl⟩, ?_⟩
  refine ⟨⟨mo_gR, ok_gR rfl fd_X9_95 rfl dX9_finds_43 rfl⟩, ?_⟩
  refine ⟨⟨mo_ild, ok_ildn dX9_finds_46 rfl rfl⟩, ?_⟩
  refine ⟨⟨mo_alI, ok_iald dX9_finds_47 rfl⟩, ?_⟩
  refine ⟨⟨mo_asI, ok_iast dX9_finds_48 rfl⟩, ?_⟩
  refine ⟨⟨mo_ald, ok_aldn dX9_finds_49 rfl rfl⟩, ?_⟩
  refine ⟨⟨mo_ild, ok_ildn dX9_finds_50 rfl rfl⟩, ?_⟩
  refine ⟨⟨mo_push, ok_iconst dX9_finds_51 iv_i2 rfl⟩, ?_⟩
  refine ⟨⟨mo_cvV, ok_cvV mi_X9_stands lk_X9_348 q2099 qs102 rfl (Nat.le_of_ble_eq_true rfl) (iy_ro_le _) rfl rfl dX9_finds_52 rfl⟩, ?_⟩
  refine ⟨⟨mo_ret, ok_ret rfl dX9_finds_55⟩, ?_⟩
  exact trivial
set_option maxHeartbeats 4000000 in
theorem alX9_fillsBounds : iy_all (iy_calls iy_mi) RX9 "fillsBounds" cX9_fillsBounds 2 (none, []) pcX9_fillsBounds pcX9_fillsBounds stX9_fillsBounds := by
  refine ⟨⟨mo_ald, ok_aldn dX9_fillsBounds_0 rfl rfl⟩, ?_⟩
  refine ⟨⟨mo_push, ok_iconst dX9_fillsBounds_1 iv_i0 rfl⟩, ?_⟩
  refine ⟨⟨mo_cvV, ok_cvV mi_X9_fillsHas lk_X9_339 q2033 qs87 rfl (Nat.le_of_ble_eq_true rfl) (iy_ro_le _) rfl rfl dX9_fillsBounds_2 rfl⟩, ?_⟩
  refine ⟨⟨mo_ald, ok_aldn dX9_fillsBounds_5 rfl rfl⟩, ?_⟩
  refine ⟨⟨mo_ald, ok_aldn dX9_fillsBounds_6 rfl rfl⟩, ?_⟩
  refine ⟨⟨mo_gI, ok_gI rfl fd_X9_309 rfl dX9_fillsBounds_7 rfl⟩, ?_⟩
  refine ⟨⟨mo_pI, ok_pI rfl fd_X9_342 rfl (Or.inl rfl) dX9_fillsBounds_10 rfl⟩, ?_⟩
  refine ⟨⟨mo_push, ok_iconst dX9_fillsBounds_13 iv_i0 rfl⟩, ?_⟩
  refine ⟨⟨mo_ist, ok_istn dX9_fillsBounds_14 rfl (Nat.le_of_ble_eq_true rfl) rfl⟩, ?_⟩
  refine ⟨⟨mo_keep, ok_keep rfl⟩, ?_⟩
  refine ⟨⟨mo_ild, ok_ildn dX9_fillsBounds_15 rfl rfl⟩, ?_⟩
  refine ⟨⟨mo_ald, ok_aldn dX9_fillsBounds_16 rfl rfl⟩, ?_⟩
  refine ⟨⟨mo_gI, ok_gI rfl fd_X9_309 rfl dX9_fillsBounds_17 rfl⟩, ?_⟩
  refine ⟨⟨mo_cge, ok_cge dX9_fillsBounds_20 rfl rfl⟩, ?_⟩
  refine ⟨⟨mo_ald, ok_aldn dX9_fillsBounds_23 rfl rfl⟩, ?_⟩
  refine ⟨⟨mo_gR, ok_gR rfl fd_X9_92 rfl dX9_fillsBounds_24 rfl⟩, ?_⟩
  refine ⟨⟨mo_ild, ok_ildn dX9_fillsBounds_27 rfl rfl⟩, ?_⟩
  refine ⟨⟨mo_ald, ok_aldn dX9_fillsBounds_28 rfl rfl⟩, ?_⟩
  refine ⟨⟨mo_gR, ok_gR rfl fd_X9_86 rfl dX9_fillsBounds_29 rfl⟩, ?_⟩
  refine ⟨⟨mo_ild, ok_ildn dX9_fillsBounds_32 rfl rfl⟩, ?_⟩
  refine ⟨⟨mo_alI, ok_iald dX9_fillsBounds_33 rfl⟩, ?_⟩
  refine ⟨⟨mo_asI, ok_iast dX9_fillsBounds_34 rfl⟩, ?_⟩
  refine ⟨⟨mo_ald, ok_aldn dX9_fillsBounds_35 rfl rfl⟩, ?_⟩
  refine ⟨⟨mo_gR, ok_gR rfl fd_X9_95 rfl dX9_fillsBounds_36 rfl⟩, ?_⟩
  refine ⟨⟨mo_ild, ok_ildn dX9_fillsBounds_39 rfl rfl⟩, ?_⟩
  refine ⟨⟨mo_ald, ok_aldn dX9_fillsBounds_40 rfl rfl⟩, ?_⟩
  refine ⟨⟨mo_gR, ok_gR rfl fd_X9_89 rfl dX9_fillsBounds_41 rfl⟩, ?_⟩
  refine ⟨⟨mo_ild, ok_ildn dX9_fillsBounds_44 rfl rfl⟩, ?_⟩
  refine ⟨⟨mo_alI, ok_iald dX9_fillsBounds_45 rfl⟩, ?_⟩
  refine ⟨⟨mo_asI, ok_iast dX9_fillsBounds_46 rfl⟩, ?_⟩
  refine ⟨⟨mo_inc, ok_inc dX9_fillsBounds_47 iv_i1 (Nat.le_of_ble_eq_true rfl) rfl⟩, ?_⟩
  refine ⟨⟨mo_back, ok_back dX9_fillsBounds_50 rfl⟩, ?_⟩
  refine ⟨⟨mo_ret, ok_ret rfl dX9_fillsBounds_53⟩, ?_⟩
  exact trivial
set_option maxHeartbeats 4000000 in
theorem alX9_stands : iy_all (iy_calls iy_mi) RX9 "stands" cX9_stands 3 (none, []) pcX9_stands pcX9_stands stX9_stands := by
  refine ⟨⟨mo_ald, ok_aldn dX9_stands_0 rfl rfl⟩, ?_⟩
  refine ⟨⟨mo_gR, ok_gR rfl fd_X9_80 rfl dX9_stands_1 rfl⟩, ?_⟩
  refine ⟨⟨mo_ild, ok_ildn dX9_stands_4 rfl rfl⟩, ?_⟩
  refine ⟨⟨mo_push, ok_iconst dX9_stands_5 iv_i1 rfl⟩, ?_⟩
  refine ⟨⟨mo_bin, ok_iadd dX9_stands_6 rfl⟩, ?_⟩
  refine ⟨⟨mo_ild, ok_ildn dX9_stands_7 rfl rfl⟩, ?_⟩
  refine ⟨⟨mo_asI, ok_iast dX9_stands_8 rfl⟩, ?_⟩
  refine ⟨⟨mo_ret, ok_ret rfl dX9_stands_9⟩, ?_⟩
  exact trivial
set_option maxHeartbeats 4000000 in
theorem alX9_reads : iy_all (iy_calls iy_mi) RX9 "reads" cX9_reads 6 (none, []) pcX9_reads pcX9_reads stX9_reads := by
  refine ⟨⟨mo_ald, ok_aldn dX9_reads_0 rfl rfl⟩, ?_⟩
  refine ⟨⟨mo_gR, ok_gR rfl fd_X9_80 rfl dX9_reads_1 rfl⟩, ?_⟩
  refine ⟨⟨mo_ild, ok_ildn dX9_reads_4 rfl rfl⟩, ?_⟩
  refine ⟨⟨mo_push, ok_iconst dX9_reads_5 iv_i2 rfl⟩, ?_⟩
  refine ⟨⟨mo_bin, ok_iadd dX9_reads_6 rfl⟩, ?_⟩
  refine ⟨⟨mo_alI, ok_iald dX9_reads_7 rfl⟩, ?_⟩
  refine ⟨⟨mo_ist, ok_istn dX9_reads_8 rfl (Nat.le_of_ble_eq_true rfl) rfl⟩, ?_⟩
  refine ⟨⟨mo_ald, ok_aldn dX9_reads_9 rfl rfl⟩, ?_⟩
  refine ⟨⟨mo_gR, ok_gR rfl fd_X9_80 rfl dX9_reads_10 rfl⟩, ?_⟩
  refine ⟨⟨mo_ild, ok_ildn dX9_reads_13 rfl rfl⟩, ?_⟩
  refine ⟨⟨mo_push, ok_bipush dX9_reads_14 iv_b6 rfl⟩, ?_⟩
  refine ⟨⟨mo_bin, ok_iadd dX9_reads_16 rfl⟩, ?_⟩
  refine ⟨⟨mo_alI, ok_iald dX9_reads_17 rfl⟩, ?_⟩
  refine ⟨⟨mo_ist, ok_istn dX9_reads_18 rfl (Nat.le_of_ble_eq_true rfl) rfl⟩, ?_⟩
  refine ⟨⟨mo_ald, ok_aldn dX9_reads_19 rfl rfl⟩, ?_⟩
  refine ⟨⟨mo_ild, ok_ildn dX9_reads_20 rfl rfl⟩, ?_⟩
  refine ⟨⟨mo_cvI, ok_cvI mi_X9_isGone lk_X9_351 q2107 qs104 rfl (Nat.le_of_ble_eq_true rfl) (iy_ro_le _) rfl rfl dX9_reads_21 rfl⟩, ?_⟩
  refine ⟨⟨mo_ieq, ok_ieq dX9_reads_24 rfl rfl⟩, ?_⟩
  refine ⟨⟨mo_ald, ok_aldn dX9_reads_27 rfl rfl⟩, ?_⟩
  refine ⟨⟨mo_ild, ok_ildn dX9_reads_28 rfl rfl⟩, ?_⟩
  refine ⟨⟨mo_ild, ok_ildn dX9_reads_29 rfl rfl⟩, ?_⟩
  refine ⟨⟨mo_cvV, ok_cvV mi_X9_leaves lk_X9_354 q2111 qs105 rfl (Nat.le_of_ble_eq_true rfl) (iy_ro_le _) rfl rfl dX9_reads_30 rfl⟩, ?_⟩
  refine ⟨⟨mo_ret, ok_ret rfl dX9_reads_33⟩, ?_⟩
  refine ⟨⟨mo_ald, ok_aldn dX9_reads_34 rfl rfl⟩, ?_⟩
  refine ⟨⟨mo_cvV, ok_cvV mi_X9_fillsBounds lk_X9_345 q2095 qs101 rfl (Nat.le_of_ble_eq_true rfl) (iy_ro_le _) rfl rfl dX9_reads_35 rfl⟩, ?_⟩
  refine ⟨⟨mo_ald, ok_aldn dX9_reads_38 rfl rfl⟩, ?_⟩
  refine ⟨⟨mo_ild, ok_ildn dX9_reads_39 rfl rfl⟩, ?_⟩
  refine ⟨⟨mo_cvV, ok_cvV mi_X9_fillsHas lk_X9_339 q2033 qs87 rfl (Nat.le_of_ble_eq_true rfl) (iy_ro_le _) rfl rfl dX9_reads_40 rfl⟩, ?_⟩
  refine ⟨⟨mo_ild, ok_ildn dX9_reads_43 rfl rfl⟩, ?_⟩
  refine ⟨⟨mo_ald, ok_aldn dX9_reads_44 rfl rfl⟩, ?_⟩
  refine ⟨⟨mo_gI, ok_gI rfl fd_X9_324 rfl dX9_reads_45 rfl⟩, ?_⟩
  refine ⟨⟨mo_clt, ok_clt dX9_reads_48 rfl rfl⟩, ?_⟩
  refine ⟨⟨mo_ald, ok_aldn dX9_reads_51 rfl rfl⟩, ?_⟩
  refine ⟨⟨mo_ald, ok_aldn dX9_reads_52 rfl rfl⟩, ?_⟩
  refine ⟨⟨mo_gI, ok_gI rfl fd_X9_324 rfl dX9_reads_53 rfl⟩, ?_⟩
  refine ⟨⟨mo_cvI, ok_cvI mi_X9_pageBy lk_X9_357 q2115 qs106 rfl (Nat.le_of_ble_eq_true rfl) (iy_ro_le _) rfl rfl dX9_reads_56 rfl⟩, ?_⟩
  refine ⟨⟨mo_ald, ok_aldn dX9_reads_59 rfl rfl⟩, ?_⟩
  refine ⟨⟨mo_gI, ok_gI rfl fd_X9_327 rfl dX9_reads_60 rfl⟩, ?_⟩
  refine ⟨⟨mo_cne, ok_cne dX9_reads_63 rfl rfl⟩, ?_⟩
  refine ⟨⟨mo_ald, ok_aldn dX9_reads_66 rfl rfl⟩, ?_⟩
  refine ⟨⟨mo_gR, ok_gR rfl fd_X9_80 rfl dX9_reads_67 rfl⟩, ?_⟩
  refine ⟨⟨mo_ild, ok_ildn dX9_reads_70 rfl rfl⟩, ?_⟩
  refine ⟨⟨mo_push, ok_iconst dX9_reads_71 iv_i2 rfl⟩, ?_⟩
  refine ⟨⟨mo_bin, ok_iadd dX9_reads_72 rfl⟩, ?_⟩
  refine ⟨⟨mo_ald, ok_aldn dX9_reads_73 rfl rfl⟩, ?_⟩
  refine ⟨⟨mo_gI, ok_gI rfl fd_X9_327 rfl dX9_reads_74 rfl⟩, ?_⟩
  refine ⟨⟨mo_asI, ok_iast dX9_reads_77 rfl⟩, ?_⟩
  refine ⟨⟨mo_ald, ok_aldn dX9_reads_78 rfl rfl⟩, ?_⟩
  refine ⟨⟨mo_ild, ok_ildn dX9_reads_79 rfl rfl⟩, ?_⟩
  refine ⟨⟨mo_push, ok_iconst dX9_reads_80 iv_i2 rfl⟩, ?_⟩
  refine ⟨⟨mo_cvV, ok_cvV mi_X9_stands lk_X9_348 q2099 qs102 rfl (Nat.le_of_ble_eq_true rfl) (iy_ro_le _) rfl rfl dX9_reads_81 rfl⟩, ?_⟩
  refine ⟨⟨mo_goto, ok_goto dX9_reads_84 rfl⟩, ?_⟩
  refine ⟨⟨mo_ald, ok_aldn dX9_reads_87 rfl rfl⟩, ?_⟩
  refine ⟨⟨mo_ild, ok_ildn dX9_reads_88 rfl rfl⟩, ?_⟩
  refine ⟨⟨mo_ald, ok_aldn dX9_reads_89 rfl rfl⟩, ?_⟩
  refine ⟨⟨mo_gI, ok_gI rfl fd_X9_324 rfl dX9_reads_90 rfl⟩, ?_⟩
  refine ⟨⟨mo_ald, ok_aldn dX9_reads_93 rfl rfl⟩, ?_⟩
  refine ⟨⟨mo_gI, ok_gI rfl fd_X9_327 rfl dX9_reads_94 rfl⟩, ?_⟩
  refine ⟨⟨mo_cvV, ok_cvV mi_X9_notes lk_X9_360 q2119 qs107 rfl (Nat.le_of_ble_eq_true rfl) (iy_ro_le _) rfl rfl dX9_reads_97 rfl⟩, ?_⟩
  refine ⟨⟨mo_keep, ok_keep rfl⟩, ?_⟩
  refine ⟨⟨mo_ret, ok_ret rfl dX9_reads_100⟩, ?_⟩
  refine ⟨⟨mo_ald, ok_aldn dX9_reads_101 rfl rfl⟩, ?_⟩
  refine ⟨⟨mo_ild, ok_ildn dX9_reads_102 rfl rfl⟩, ?_⟩
  refine ⟨⟨mo_cvI, ok_cvI mi_X9_isThere lk_X9_315 q2064 qs94 rfl (Nat.le_of_ble_eq_true rfl) (iy_ro_le _) rfl rfl dX9_reads_103 rfl⟩, ?_⟩
  refine ⟨⟨mo_ist, ok_ist dX9_reads_106 (Nat.le_of_ble_eq_true rfl) rfl⟩, ?_⟩
  refine ⟨⟨mo_ald, ok_aldn dX9_reads_108 rfl rfl⟩, ?_⟩
  refine ⟨⟨mo_gR, ok_gR rfl fd_X9_80 rfl dX9_reads_109 rfl⟩, ?_⟩
  refine ⟨⟨mo_ild, ok_ildn dX9_reads_112 rfl rfl⟩, ?_⟩
  refine ⟨⟨mo_push, ok_iconst dX9_reads_113 iv_i0 rfl⟩, ?_⟩
  refine ⟨⟨mo_bin, ok_iadd dX9_reads_114 rfl⟩, ?_⟩
  refine ⟨⟨mo_alI, ok_iald dX9_reads_115 rfl⟩, ?_⟩
  refine ⟨⟨mo_ist, ok_ist dX9_reads_116 (Nat.le_of_ble_eq_true rfl) rfl⟩, ?_⟩
  refine ⟨⟨mo_ild, ok_ild dX9_reads_118 rfl⟩, ?_⟩
  refine ⟨⟨mo_push, ok_iconst dX9_reads_120 iv_i3 rfl⟩, ?_⟩
  refine ⟨⟨mo_cne, ok_cne dX9_reads_121 rfl rfl⟩, ?_⟩
  refine ⟨⟨mo_ald, ok_aldn dX9_reads_124 rfl rfl⟩, ?_⟩
  refine ⟨⟨mo_ild, ok_ildn dX9_reads_125 rfl rfl⟩, ?_⟩
  refine ⟨⟨mo_ild, ok_ild dX9_reads_126 rfl⟩, ?_⟩
  refine ⟨⟨mo_ieq, ok_ieq dX9_reads_128 rfl rfl⟩, ?_⟩
  refine ⟨⟨mo_ald, ok_aldn dX9_reads_131 rfl rfl⟩, ?_⟩
  refine ⟨⟨mo_gR, ok_gR rfl fd_X9_89 rfl dX9_reads_132 rfl⟩, ?_⟩
  refine ⟨⟨mo_ald, ok_aldn dX9_reads_135 rfl rfl⟩, ?_⟩
  refine ⟨⟨mo_ild, ok_ildn dX9_reads_136 rfl rfl⟩, ?_⟩
  refine ⟨⟨mo_cvI, ok_cvI mi_X9_whereOf lk_X9_312 q2060 qs93 rfl (Nat.le_of_ble_eq_true rfl) (iy_ro_le _) rfl rfl dX9_reads_137 rfl⟩, ?_⟩
  refine ⟨⟨mo_alI, ok_iald dX9_reads_140 rfl⟩, ?_⟩
  refine ⟨⟨mo_goto, ok_goto dX9_reads_141 rfl⟩, ?_⟩
  refine ⟨⟨mo_push, ok_iconst dX9_reads_144 iv_i0 rfl⟩, ?_⟩
  refine ⟨⟨mo_keep, ok_keep rfl⟩, ?_⟩
  refine ⟨⟨mo_cvV, ok_cvV mi_X9_rests lk_X9_363 q2123 qs108 rfl (Nat.le_of_ble_eq_true rfl) (iy_ro_le _) rfl rfl dX9_reads_145 rfl⟩, ?_⟩
  refine ⟨⟨mo_goto, ok_goto dX9_reads_148 rfl⟩, ?_⟩
  refine ⟨⟨mo_ild, ok_ild dX9_reads_151 rfl⟩, ?_⟩
  refine ⟨⟨mo_push, ok_iconst dX9_reads_153 iv_i2 rfl⟩, ?_⟩
  refine ⟨⟨mo_cne, ok_cne dX9_reads_154 rfl rfl⟩, ?_⟩
  refine ⟨⟨mo_ild, ok_ild dX9_reads_157 rfl⟩, ?_⟩
  refine ⟨⟨mo_ine, ok_ine dX9_reads_159 rfl rfl⟩, ?_⟩
  refine ⟨⟨mo_ald, ok_aldn dX9_reads_162 rfl rfl⟩, ?_⟩
  refine ⟨⟨mo_ild, ok_ildn dX9_reads_163 rfl rfl⟩, ?_⟩
  refine ⟨⟨mo_push, ok_iconst dX9_reads_164 iv_i0 rfl⟩, ?_⟩
  refine ⟨⟨mo_cvV, ok_cvV mi_X9_rests lk_X9_363 q2123 qs108 rfl (Nat.le_of_ble_eq_true rfl) (iy_ro_le _) rfl rfl dX9_reads_165 rfl⟩, ?_⟩
  refine ⟨⟨mo_goto, ok_goto dX9_reads_168 rfl⟩, ?_⟩
  refine ⟨⟨mo_keep, ok_keep rfl⟩, ?_⟩
  refine ⟨⟨mo_ald, ok_aldn dX9_reads_171 rfl rfl⟩, ?_⟩
  refine ⟨⟨mo_gI, ok_gI rfl fd_X9_303 rfl dX9_reads_172 rfl⟩, ?_⟩
  refine ⟨⟨mo_push, ok_bipush dX9_reads_175 iv_b24 rfl⟩, ?_⟩
  refine ⟨⟨mo_cle, ok_cle dX9_reads_177 rfl rfl⟩, ?_⟩
  refine ⟨⟨mo_ald, ok_aldn dX9_reads_180 rfl rfl⟩, ?_⟩
  refine ⟨⟨mo_ild, ok_ildn dX9_reads_181 rfl rfl⟩, ?_⟩
  refine ⟨⟨mo_push, ok_iconst dX9_reads_182 iv_i4 rfl⟩, ?_⟩
  refine ⟨⟨mo_cvV, ok_cvV mi_X9_stands lk_X9_348 q2099 qs102 rfl (Nat.le_of_ble_eq_true rfl) (iy_ro_le _) rfl rfl dX9_reads_183 rfl⟩, ?_⟩
  refine ⟨⟨mo_goto, ok_goto dX9_reads_186 rfl⟩, ?_⟩
  refine ⟨⟨mo_ild, ok_ild dX9_reads_189 rfl⟩, ?_⟩
  refine ⟨⟨mo_push, ok_iconst dX9_reads_191 iv_i1 rfl⟩, ?_⟩
  refine ⟨⟨mo_cne, ok_cne dX9_reads_192 rfl rfl⟩, ?_⟩
  refine ⟨⟨mo_ild, ok_ild dX9_reads_195 rfl⟩, ?_⟩
  refine ⟨⟨mo_ine, ok_ine dX9_reads_197 rfl rfl⟩, ?_⟩
  refine ⟨⟨mo_ald, ok_aldn dX9_reads_200 rfl rfl⟩, ?_⟩
  refine ⟨⟨mo_cvI, ok_cvI mi_X9_isFull lk_X9_366 q2127 qs109 rfl (Nat.le_of_ble_eq_true rfl) (iy_ro_le _) rfl rfl dX9_reads_201 rfl⟩, ?_⟩
  refine ⟨⟨mo_ieq, ok_ieq dX9_reads_204 rfl rfl⟩, ?_⟩
  refine ⟨⟨mo_ald, ok_aldn dX9_reads_207 rfl rfl⟩, ?_⟩
  refine ⟨⟨mo_ild, ok_ildn dX9_reads_208 rfl rfl⟩, ?_⟩
  refine ⟨⟨mo_push, ok_bipush dX9_reads_209 iv_bm3 rfl⟩, ?_⟩
  refine ⟨⟨mo_cvV, ok_cvV mi_X9_rests lk_X9_363 q2123 qs108 rfl (Nat.le_of_ble_eq_true rfl) (iy_ro_le _) rfl rfl dX9_reads_211 rfl⟩, ?_⟩
  refine ⟨⟨mo_goto, ok_goto dX9_reads_214 rfl⟩, ?_⟩
  refine ⟨⟨mo_keep, ok_keep rfl⟩, ?_⟩
  refine ⟨⟨mo_ald, ok_aldn dX9_reads_217 rfl rfl⟩, ?_⟩
  refine ⟨⟨mo_ild, ok_ildn dX9_reads_218 rfl rfl⟩, ?_⟩
  refine ⟨⟨mo_ild, ok_ildn dX9_reads_219 rfl rfl⟩, ?_⟩
  refine ⟨⟨mo_push, ok_iconst dX9_reads_220 iv_i3 rfl⟩, ?_⟩
  refine ⟨⟨mo_cvV, ok_cvV mi_X9_sees lk_X9_370 q2131 qs110 rfl (Nat.le_of_ble_eq_true rfl) (iy_ro_le _) rfl rfl dX9_reads_221 rfl⟩, ?_⟩
  refine ⟨⟨mo_keep, ok_keep rfl⟩, ?_⟩
  refine ⟨⟨mo_ret, ok_ret rfl dX9_reads_224⟩, ?_⟩
  exact trivial
set_option maxHeartbeats 4000000 in
theorem alX9_isGone : iy_all (iy_calls iy_mi) RX9 "isGone" cX9_isGone 2 (some FieldType.boolean, []) pcX9_isGone pcX9_isGone stX9_isGone := by
  refine ⟨⟨mo_ald, ok_aldn dX9_isGone_0 rfl rfl⟩, ?_⟩
  refine ⟨⟨mo_ald, ok_aldn dX9_isGone_1 rfl rfl⟩, ?_⟩
  refine ⟨⟨mo_ild, ok_ildn dX9_isGone_2 rfl rfl⟩, ?_⟩
  refine ⟨⟨mo_cvI, ok_cvI mi_X9_topOf lk_X9_300 q2041 qs89 rfl (Nat.le_of_ble_eq_true rfl) (iy_ro_le _) rfl rfl dX9_isGone_3 rfl⟩, ?_⟩
  refine ⟨⟨mo_push, ok_iconst dX9_isGone_6 iv_i0 rfl⟩, ?_⟩
  refine ⟨⟨mo_cvI, ok_cvI mi_X9_ofRecord lk_X9_288 q1753 qs63 rfl (Nat.le_of_ble_eq_true rfl) (iy_ro_le _) rfl rfl dX9_isGone_7 rfl⟩, ?_⟩
  refine ⟨⟨mo_push, ok_iconst dX9_isGone_10 iv_i4 rfl⟩, ?_⟩
  refine ⟨⟨mo_cne, ok_cne dX9_isGone_11 rfl rfl⟩, ?_⟩
  refine ⟨⟨mo_push, ok_iconst dX9_isGone_14 iv_i1 rfl⟩, ?_⟩
  refine ⟨⟨mo_goto, ok_goto dX9_isGone_15 rfl⟩, ?_⟩
  refine ⟨⟨mo_push, ok_iconst dX9_isGone_18 iv_i0 rfl⟩, ?_⟩
  refine ⟨⟨mo_keep, ok_keep rfl⟩, ?_⟩
  refine ⟨⟨mo_iret, ok_iret rfl rfl dX9_isGone_19⟩, ?_⟩
  exact trivial
set_option maxHeartbeats 4000000 in
theorem alX9_leaves : iy_all (iy_calls iy_mi) RX9 "leaves" cX9_leaves 3 (none, []) pcX9_leaves pcX9_leaves stX9_leaves := by
  refine ⟨⟨mo_ald, ok_aldn dX9_leaves_0 rfl rfl⟩, ?_⟩
  refine ⟨⟨mo_gR, ok_gR rfl fd_X9_80 rfl dX9_leaves_1 rfl⟩, ?_⟩
  refine ⟨⟨mo_ild, ok_ildn dX9_leaves_4 rfl rfl⟩, ?_⟩
  refine ⟨⟨mo_push, ok_bipush dX9_leaves_5 iv_b11 rfl⟩, ?_⟩
  refine ⟨⟨mo_bin, ok_iadd dX9_leaves_7 rfl⟩, ?_⟩
  refine ⟨⟨mo_ild, ok_ildn dX9_leaves_8 rfl rfl⟩, ?_⟩
  refine ⟨⟨mo_asI, ok_iast dX9_leaves_9 rfl⟩, ?_⟩
  refine ⟨⟨mo_ald, ok_aldn dX9_leaves_10 rfl rfl⟩, ?_⟩
  refine ⟨⟨mo_ild, ok_ildn dX9_leaves_11 rfl rfl⟩, ?_⟩
  refine ⟨⟨mo_push, ok_bipush dX9_leaves_12 iv_b10 rfl⟩, ?_⟩
  refine ⟨⟨mo_cvV, ok_cvV mi_X9_stands lk_X9_348 q2099 qs102 rfl (Nat.le_of_ble_eq_true rfl) (iy_ro_le _) rfl rfl dX9_leaves_14 rfl⟩, ?_⟩
  refine ⟨⟨mo_ret, ok_ret rfl dX9_leaves_17⟩, ?_⟩
  exact trivial
set_option maxHeartbeats 4000000 in
theorem alX9_pageBy : iy_all (iy_calls iy_mi) RX9 "pageBy" cX9_pageBy 3 (some FieldType.int, []) pcX9_pageBy pcX9_pageBy stX9_pageBy := by
  refine ⟨⟨mo_push, ok_iconst dX9_pageBy_0 iv_i0 rfl⟩, ?_⟩
  refine ⟨⟨mo_ist, ok_istn dX9_pageBy_1 rfl (Nat.le_of_ble_eq_true rfl) rfl⟩, ?_⟩
  refine ⟨⟨mo_keep, ok_keep rfl⟩, ?_⟩
  refine ⟨⟨mo_ild, ok_ildn dX9_pageBy_2 rfl rfl⟩, ?_⟩
  refine ⟨⟨mo_ald, ok_aldn dX9_pageBy_3 rfl rfl⟩, ?_⟩
  refine ⟨⟨mo_gI, ok_gI rfl fd_X9_342 rfl dX9_pageBy_4 rfl⟩, ?_⟩
  refine ⟨⟨mo_cge, ok_cge dX9_pageBy_7 rfl rfl⟩, ?_⟩
  refine ⟨⟨mo_ald, ok_aldn dX9_pageBy_10 rfl rfl⟩, ?_⟩
  refine ⟨⟨mo_gR, ok_gR rfl fd_X9_92 rfl dX9_pageBy_11 rfl⟩, ?_⟩
  refine ⟨⟨mo_ild, ok_ildn dX9_pageBy_14 rfl rfl⟩, ?_⟩
  refine ⟨⟨mo_alI, ok_iald dX9_pageBy_15 rfl⟩, ?_⟩
  refine ⟨⟨mo_ild, ok_ildn dX9_pageBy_16 rfl rfl⟩, ?_⟩
  refine ⟨⟨mo_cne, ok_cne dX9_pageBy_17 rfl rfl⟩, ?_⟩
  refine ⟨⟨mo_ald, ok_aldn dX9_pageBy_20 rfl rfl⟩, ?_⟩
  refine ⟨⟨mo_gR, ok_gR rfl fd_X9_95 rfl dX9_pageBy_21 rfl⟩, ?_⟩
  refine ⟨⟨mo_ild, ok_ildn dX9_pageBy_24 rfl rfl⟩, ?_⟩
  refine ⟨⟨mo_alI, ok_iald dX9_pageBy_25 rfl⟩, ?_⟩
  refine ⟨⟨mo_iret, ok_iret rfl rfl dX9_pageBy_26⟩, ?_⟩
  refine ⟨⟨mo_inc, ok_inc dX9_pageBy_27 iv_i1 (Nat.le_of_ble_eq_true rfl) rfl⟩, ?_⟩
  refine ⟨⟨mo_back, ok_back dX9_pageBy_30 rfl⟩, ?_⟩
  refine ⟨⟨mo_push, ok_iconst dX9_pageBy_33 iv_im1 rfl⟩, ?_⟩
  refine ⟨⟨mo_iret, ok_iret rfl rfl dX9_pageBy_34⟩, ?_⟩
  exact trivial
set_option maxHeartbeats 4000000 in
theorem alX9_notes : iy_all (iy_calls iy_mi) RX9 "notes" cX9_notes 4 (none, []) pcX9_notes pcX9_notes stX9_notes := by
  refine ⟨⟨mo_ald, ok_aldn dX9_notes_0 rfl rfl⟩, ?_⟩
  refine ⟨⟨mo_gR, ok_gR rfl fd_X9_80 rfl dX9_notes_1 rfl⟩, ?_⟩
  refine ⟨⟨mo_ild, ok_ildn dX9_notes_4 rfl rfl⟩, ?_⟩
  refine ⟨⟨mo_push, ok_bipush dX9_notes_5 iv_b12 rfl⟩, ?_⟩
  refine ⟨⟨mo_bin, ok_iadd dX9_notes_7 rfl⟩, ?_⟩
  refine ⟨⟨mo_ild, ok_ildn dX9_notes_8 rfl rfl⟩, ?_⟩
  refine ⟨⟨mo_asI, ok_iast dX9_notes_9 rfl⟩, ?_⟩
  refine ⟨⟨mo_ald, ok_aldn dX9_notes_10 rfl rfl⟩, ?_⟩
  refine ⟨⟨mo_gR, ok_gR rfl fd_X9_80 rfl dX9_notes_11 rfl⟩, ?_⟩
  refine ⟨⟨mo_ild, ok_ildn dX9_notes_14 rfl rfl⟩, ?_⟩
  refine ⟨⟨mo_push, ok_bipush dX9_notes_15 iv_b13 rfl⟩, ?_⟩
  refine ⟨⟨mo_bin, ok_iadd dX9_notes_17 rfl⟩, ?_⟩
  refine ⟨⟨mo_ild, ok_ildn dX9_notes_18 rfl rfl⟩, ?_⟩
  refine ⟨⟨mo_asI, ok_iast dX9_notes_19 rfl⟩, ?_⟩
  refine ⟨⟨mo_ald, ok_aldn dX9_notes_20 rfl rfl⟩, ?_⟩
  refine ⟨⟨mo_ild, ok_ildn dX9_notes_21 rfl rfl⟩, ?_⟩
  refine ⟨⟨mo_push, ok_bipush dX9_notes_22 iv_b7 rfl⟩, ?_⟩
  refine ⟨⟨mo_cvV, ok_cvV mi_X9_stands lk_X9_348 q2099 qs102 rfl (Nat.le_of_ble_eq_true rfl) (iy_ro_le _) rfl rfl dX9_notes_24 rfl⟩, ?_⟩
  refine ⟨⟨mo_ret, ok_ret rfl dX9_notes_27⟩, ?_⟩
  exact trivial
set_option maxHeartbeats 4000000 in
theorem alX9_rests : iy_all (iy_calls iy_mi) RX9 "rests" cX9_rests 3 (none, []) pcX9_rests pcX9_rests stX9_rests := by
  refine ⟨⟨mo_ald, ok_aldn dX9_rests_0 rfl rfl⟩, ?_⟩
  refine ⟨⟨mo_gR, ok_gR rfl fd_X9_80 rfl dX9_rests_1 rfl⟩, ?_⟩
  refine ⟨⟨mo_ild, ok_ildn dX9_rests_4 rfl rfl⟩, ?_⟩
  refine ⟨⟨mo_push, ok_bipush dX9_rests_5 iv_b8 rfl⟩, ?_⟩
  refine ⟨⟨mo_bin, ok_iadd dX9_rests_7 rfl⟩, ?_⟩
  refine ⟨⟨mo_ild, ok_ildn dX9_rests_8 rfl rfl⟩, ?_⟩
  refine ⟨⟨mo_asI, ok_iast dX9_rests_9 rfl⟩, ?_⟩
  refine ⟨⟨mo_ald, ok_aldn dX9_rests_10 rfl rfl⟩, ?_⟩
  refine ⟨⟨mo_gR, ok_gR rfl fd_X9_80 rfl dX9_rests_11 rfl⟩, ?_⟩
  refine ⟨⟨mo_ild, ok_ildn dX9_rests_14 rfl rfl⟩, ?_⟩
  refine ⟨⟨mo_push, ok_bipush dX9_rests_15 iv_b9 rfl⟩, ?_⟩
  refine ⟨⟨mo_bin, ok_iadd dX9_rests_17 rfl⟩, ?_⟩
  refine ⟨⟨mo_push, ok_iconst dX9_rests_18 iv_i1 rfl⟩, ?_⟩
  refine ⟨⟨mo_asI, ok_iast dX9_rests_19 rfl⟩, ?_⟩
  refine ⟨⟨mo_ald, ok_aldn dX9_rests_20 rfl rfl⟩, ?_⟩
  refine ⟨⟨mo_gR, ok_gR rfl fd_X9_80 rfl dX9_rests_21 rfl⟩, ?_⟩
  refine ⟨⟨mo_ild, ok_ildn dX9_rests_24 rfl rfl⟩, ?_⟩
  refine ⟨⟨mo_push, ok_iconst dX9_rests_25 iv_i1 rfl⟩, ?_⟩
  refine ⟨⟨mo_bin, ok_iadd dX9_rests_26 rfl⟩, ?_⟩
  refine ⟨⟨mo_push, ok_iconst dX9_rests_27 iv_i0 rfl⟩, ?_⟩
  refine ⟨⟨mo_asI, ok_iast dX9_rests_28 rfl⟩, ?_⟩
  refine ⟨⟨mo_ret, ok_ret rfl dX9_rests_29⟩, ?_⟩
  exact trivial
set_option maxHeartbeats 4000000 in
theorem alX9_isFull : iy_all (iy_calls iy_mi) RX9 "isFull" cX9_isFull 1 (some FieldType.boolean, []) pcX9_isFull pcX9_isFull stX9_isFull := by
  refine ⟨⟨mo_ald, ok_aldn dX9_isFull_0 rfl rfl⟩, ?_⟩
  refine ⟨⟨mo_cvV, ok_cvV mi_X9_fillsAll lk_X9_266 q2029 qs86 rfl (Nat.le_of_ble_eq_true rfl) (iy_ro_le _) rfl rfl dX9_isFull_1 rfl⟩, ?_⟩
  refine ⟨⟨mo_ald, ok_aldn dX9_isFull_4 rfl rfl⟩, ?_⟩
  refine ⟨⟨mo_gI, ok_gI rfl fd_X9_269 rfl dX9_isFull_5 rfl⟩, ?_⟩
  refine ⟨⟨mo_push, ok_bipush dX9_isFull_8 iv_b40 rfl⟩, ?_⟩
  refine ⟨⟨mo_clt, ok_clt dX9_isFull_10 rfl rfl⟩, ?_⟩
  refine ⟨⟨mo_push, ok_iconst dX9_isFull_13 iv_i1 rfl⟩, ?_⟩
  refine ⟨⟨mo_goto, ok_goto dX9_isFull_14 rfl⟩, ?_⟩
  refine ⟨⟨mo_push, ok_iconst dX9_isFull_17 iv_i0 rfl⟩, ?_⟩
  refine ⟨⟨mo_keep, ok_keep rfl⟩, ?_⟩
  refine ⟨⟨mo_iret, ok_iret rfl rfl dX9_isFull_18⟩, ?_⟩
  exact trivial
set_option maxHeartbeats 4000000 in
theorem alX9_sees : iy_all (iy_calls iy_mi) RX9 "sees" cX9_sees 4 (none, []) pcX9_sees pcX9_sees stX9_sees := by
  refine ⟨⟨mo_ald, ok_aldn dX9_sees_0 rfl rfl⟩, ?_⟩
  refine ⟨⟨mo_gR, ok_gR rfl fd_X9_80 rfl dX9_sees_1 rfl⟩, ?_⟩
  refine ⟨⟨mo_ild, ok_ildn dX9_sees_4 rfl rfl⟩, ?_⟩
  refine ⟨⟨mo_push, ok_bipush dX9_sees_5 iv_b10 rfl⟩, ?_⟩
  refine ⟨⟨mo_bin, ok_iadd dX9_sees_7 rfl⟩, ?_⟩
  refine ⟨⟨mo_ald, ok_aldn dX9_sees_8 rfl rfl⟩, ?_⟩
  refine ⟨⟨mo_ild, ok_ildn dX9_sees_9 rfl rfl⟩, ?_⟩
  refine ⟨⟨mo_cvI, ok_cvI mi_X9_topOf lk_X9_300 q2041 qs89 rfl (Nat.le_of_ble_eq_true rfl) (iy_ro_le _) rfl rfl dX9_sees_10 rfl⟩, ?_⟩
  refine ⟨⟨mo_asI, ok_iast dX9_sees_13 rfl⟩, ?_⟩
  refine ⟨⟨mo_ald, ok_aldn dX9_sees_14 rfl rfl⟩, ?_⟩
  refine ⟨⟨mo_ild, ok_ildn dX9_sees_15 rfl rfl⟩, ?_⟩
  refine ⟨⟨mo_ild, ok_ildn dX9_sees_16 rfl rfl⟩, ?_⟩
  refine ⟨⟨mo_cvV, ok_cvV mi_X9_stands lk_X9_348 q2099 qs102 rfl (Nat.le_of_ble_eq_true rfl) (iy_ro_le _) rfl rfl dX9_sees_17 rfl⟩, ?_⟩
  refine ⟨⟨mo_ret, ok_ret rfl dX9_sees_20⟩, ?_⟩
  exact trivial
set_option maxHeartbeats 4000000 in
theorem alX9_prepends : iy_all (iy_calls iy_mi) RX9 "prepends" cX9_prepends 5 (none, []) pcX9_prepends pcX9_prepends stX9_prepends := by
  refine ⟨⟨mo_ald, ok_aldn dX9_prepends_0 rfl rfl⟩, ?_⟩
  refine ⟨⟨mo_gR, ok_gR rfl fd_X9_80 rfl dX9_prepends_1 rfl⟩, ?_⟩
  refine ⟨⟨mo_ild, ok_ildn dX9_prepends_4 rfl rfl⟩, ?_⟩
  refine ⟨⟨mo_push, ok_iconst dX9_prepends_5 iv_i2 rfl⟩, ?_⟩
  refine ⟨⟨mo_bin, ok_iadd dX9_prepends_6 rfl⟩, ?_⟩
  refine ⟨⟨mo_alI, ok_iald dX9_prepends_7 rfl⟩, ?_⟩
  refine ⟨⟨mo_ist, ok_istn dX9_prepends_8 rfl (Nat.le_of_ble_eq_true rfl) rfl⟩, ?_⟩
  refine ⟨⟨mo_ald, ok_aldn dX9_prepends_9 rfl rfl⟩, ?_⟩
  refine ⟨⟨mo_gR, ok_gR rfl fd_X9_80 rfl dX9_prepends_10 rfl⟩, ?_⟩
  refine ⟨⟨mo_ild, ok_ildn dX9_prepends_13 rfl rfl⟩, ?_⟩
  refine ⟨⟨mo_push, ok_bipush dX9_prepends_14 iv_b6 rfl⟩, ?_⟩
  refine ⟨⟨mo_bin, ok_iadd dX9_prepends_16 rfl⟩, ?_⟩
  refine ⟨⟨mo_alI, ok_iald dX9_prepends_17 rfl⟩, ?_⟩
  refine ⟨⟨mo_ist, ok_istn dX9_prepends_18 rfl (Nat.le_of_ble_eq_true rfl) rfl⟩, ?_⟩
  refine ⟨⟨mo_ald, ok_aldn dX9_prepends_19 rfl rfl⟩, ?_⟩
  refine ⟨⟨mo_ild, ok_ildn dX9_prepends_20 rfl rfl⟩, ?_⟩
  refine ⟨⟨mo_ild, ok_ildn dX9_prepends_21 rfl rfl⟩, ?_⟩
  refine ⟨⟨mo_cvI, ok_cvI mi_X9_isSeen lk_X9_373 q2139 qs112 rfl (Nat.le_of_ble_eq_true rfl) (iy_ro_le _) rfl rfl dX9_prepends_22 rfl⟩, ?_⟩
  refine ⟨⟨mo_ine, ok_ine dX9_prepends_25 rfl rfl⟩, ?_⟩
  refine ⟨⟨mo_ald, ok_aldn dX9_prepends_28 rfl rfl⟩, ?_⟩
  refine ⟨⟨mo_ild, ok_ildn dX9_prepends_29 rfl rfl⟩, ?_⟩
  refine ⟨⟨mo_cvV, ok_cvV mi_X9_loses lk_X9_377 q2143 qs113 rfl (Nat.le_of_ble_eq_true rfl) (iy_ro_le _) rfl rfl dX9_prepends_30 rfl⟩, ?_⟩
  refine ⟨⟨mo_ald, ok_aldn dX9_prepends_33 rfl rfl⟩, ?_⟩
  refine ⟨⟨mo_ild, ok_ildn dX9_prepends_34 rfl rfl⟩, ?_⟩
  refine ⟨⟨mo_push, ok_iconst dX9_prepends_35 iv_i2 rfl⟩, ?_⟩
  refine ⟨⟨mo_cvV, ok_cvV mi_X9_stands lk_X9_348 q2099 qs102 rfl (Nat.le_of_ble_eq_true rfl) (iy_ro_le _) rfl rfl dX9_prepends_36 rfl⟩, ?_⟩
  refine ⟨⟨mo_ret, ok_ret rfl dX9_prepends_39⟩, ?_⟩
  refine ⟨⟨mo_ald, ok_aldn dX9_prepends_40 rfl rfl⟩, ?_⟩
  refine ⟨⟨mo_ild, ok_ildn dX9_prepends_41 rfl rfl⟩, ?_⟩
  refine ⟨⟨mo_cvV, ok_cvV mi_X9_fillsHas lk_X9_339 q2033 qs87 rfl (Nat.le_of_ble_eq_true rfl) (iy_ro_le _) rfl rfl dX9_prepends_42 rfl⟩, ?_⟩
  refine ⟨⟨mo_ald, ok_aldn dX9_prepends_45 rfl rfl⟩, ?_⟩
  refine ⟨⟨mo_ild, ok_ildn dX9_prepends_46 rfl rfl⟩, ?_⟩
  refine ⟨⟨mo_ald, ok_aldn dX9_prepends_47 rfl rfl⟩, ?_⟩
  refine ⟨⟨mo_ild, ok_ildn dX9_prepends_48 rfl rfl⟩, ?_⟩
  refine ⟨⟨mo_cvI, ok_cvI mi_X9_isThere lk_X9_315 q2064 qs94 rfl (Nat.le_of_ble_eq_true rfl) (iy_ro_le _) rfl rfl dX9_prepends_49 rfl⟩, ?_⟩
  refine ⟨⟨mo_ieq, ok_ieq dX9_prepends_52 rfl rfl⟩, ?_⟩
  refine ⟨⟨mo_push, ok_iconst dX9_prepends_55 iv_i1 rfl⟩, ?_⟩
  refine ⟨⟨mo_goto, ok_goto dX9_prepends_56 rfl⟩, ?_⟩
  refine ⟨⟨mo_push, ok_iconst dX9_prepends_59 iv_i0 rfl⟩, ?_⟩
  refine ⟨⟨mo_keep, ok_keep rfl⟩, ?_⟩
  refine ⟨⟨mo_cvV, ok_cvV mi_X9_rests lk_X9_363 q2123 qs108 rfl (Nat.le_of_ble_eq_true rfl) (iy_ro_le _) rfl rfl dX9_prepends_60 rfl⟩, ?_⟩
  refine ⟨⟨mo_ald, ok_aldn dX9_prepends_63 rfl rfl⟩, ?_⟩
  refine ⟨⟨mo_gR, ok_gR rfl fd_X9_80 rfl dX9_prepends_64 rfl⟩, ?_⟩
  refine ⟨⟨mo_ild, ok_ildn dX9_prepends_67 rfl rfl⟩, ?_⟩
  refine ⟨⟨mo_push, ok_iconst dX9_prepends_68 iv_i0 rfl⟩, ?_⟩
  refine ⟨⟨mo_bin, ok_iadd dX9_prepends_69 rfl⟩, ?_⟩
  refine ⟨⟨mo_alI, ok_iald dX9_prepends_70 rfl⟩, ?_⟩
  refine ⟨⟨mo_push, ok_iconst dX9_prepends_71 iv_i1 rfl⟩, ?_⟩
  refine ⟨⟨mo_cne, ok_cne dX9_prepends_72 rfl rfl⟩, ?_⟩
  refine ⟨⟨mo_push, ok_iconst dX9_prepends_75 iv_i1 rfl⟩, ?_⟩
  refine ⟨⟨mo_goto, ok_goto dX9_prepends_76 rfl⟩, ?_⟩
  refine ⟨⟨mo_push, ok_iconst dX9_prepends_79 iv_i0 rfl⟩, ?_⟩
  refine ⟨⟨mo_keep, ok_keep rfl⟩, ?_⟩
  refine ⟨⟨mo_ist, ok_ist dX9_prepends_80 (Nat.le_of_ble_eq_true rfl) rfl⟩, ?_⟩
  refine ⟨⟨mo_ald, ok_aldn dX9_prepends_82 rfl rfl⟩, ?_⟩
  refine ⟨⟨mo_ild, ok_ildn dX9_prepends_83 rfl rfl⟩, ?_⟩
  refine ⟨⟨mo_ald, ok_aldn dX9_prepends_84 rfl rfl⟩, ?_⟩
  refine ⟨⟨mo_ild, ok_ild dX9_prepends_85 rfl⟩, ?_⟩
  refine ⟨⟨mo_ieq, ok_ieq dX9_prepends_87 rfl rfl⟩, ?_⟩
  refine ⟨⟨mo_push, ok_iconst dX9_prepends_90 iv_i1 rfl⟩, ?_⟩
  refine ⟨⟨mo_goto, ok_goto dX9_prepends_91 rfl⟩, ?_⟩
  refine ⟨⟨mo_push, ok_iconst dX9_prepends_94 iv_i2 rfl⟩, ?_⟩
  refine ⟨⟨mo_keep, ok_keep rfl⟩, ?_⟩
  refine ⟨⟨mo_ild, ok_ildn dX9_prepends_95 rfl rfl⟩, ?_⟩
  refine ⟨⟨mo_ild, ok_ild dX9_prepends_96 rfl⟩, ?_⟩
  refine ⟨⟨mo_ieq, ok_ieq dX9_prepends_98 rfl rfl⟩, ?_⟩
  refine ⟨⟨mo_ald, ok_aldn dX9_prepends_101 rfl rfl⟩, ?_⟩
  refine ⟨⟨mo_gR, ok_gR rfl fd_X9_80 rfl dX9_prepends_102 rfl⟩, ?_⟩
  refine ⟨⟨mo_ild, ok_ildn dX9_prepends_105 rfl rfl⟩, ?_⟩
  refine ⟨⟨mo_push, ok_bipush dX9_prepends_106 iv_b7 rfl⟩, ?_⟩
  refine ⟨⟨mo_bin, ok_iadd dX9_prepends_108 rfl⟩, ?_⟩
  refine ⟨⟨mo_alI, ok_iald dX9_prepends_109 rfl⟩, ?_⟩
  refine ⟨⟨mo_goto, ok_goto dX9_prepends_110 rfl⟩, ?_⟩
  refine ⟨⟨mo_push, ok_bipush dX9_prepends_113 iv_bm2 rfl⟩, ?_⟩
  refine ⟨⟨mo_keep, ok_keep rfl⟩, ?_⟩
  refine ⟨⟨mo_ald, ok_aldn dX9_prepends_115 rfl rfl⟩, ?_⟩
  refine ⟨⟨mo_ild, ok_ildn dX9_prepends_116 rfl rfl⟩, ?_⟩
  refine ⟨⟨mo_cvI, ok_cvI mi_X9_topOf lk_X9_300 q2041 qs89 rfl (Nat.le_of_ble_eq_true rfl) (iy_ro_le _) rfl rfl dX9_prepends_117 rfl⟩, ?_⟩
  refine ⟨⟨mo_cvI, ok_cvI mi_X9_newRecord lk_X9_285 q1742 qs61 rfl (Nat.le_of_ble_eq_true rfl) (iy_ro_le _) rfl rfl dX9_prepends_120 rfl⟩, ?_⟩
  refine ⟨⟨mo_cvV, ok_cvV mi_X9_laysTop lk_X9_380 q2147 qs114 rfl (Nat.le_of_ble_eq_true rfl) (iy_ro_le _) rfl rfl dX9_prepends_123 rfl⟩, ?_⟩
  refine ⟨⟨mo_ald, ok_aldn dX9_prepends_126 rfl rfl⟩, ?_⟩
  refine ⟨⟨mo_ild, ok_ildn dX9_prepends_127 rfl rfl⟩, ?_⟩
  refine ⟨⟨mo_cvI, ok_cvI mi_X9_lengthOf lk_X9_383 q2151 qs115 rfl (Nat.le_of_ble_eq_true rfl) (iy_ro_le _) rfl rfl dX9_prepends_128 rfl⟩, ?_⟩
  refine ⟨⟨mo_ald, ok_aldn dX9_prepends_131 rfl rfl⟩, ?_⟩
  refine ⟨⟨mo_gR, ok_gR rfl fd_X9_80 rfl dX9_prepends_132 rfl⟩, ?_⟩
  refine ⟨⟨mo_push, ok_iconst dX9_prepends_135 iv_i5 rfl⟩, ?_⟩
  refine ⟨⟨mo_alI, ok_iald dX9_prepends_136 rfl⟩, ?_⟩
  refine ⟨⟨mo_cle, ok_cle dX9_prepends_137 rfl rfl⟩, ?_⟩
  refine ⟨⟨mo_ald, ok_aldn dX9_prepends_140 rfl rfl⟩, ?_⟩
  refine ⟨⟨mo_ild, ok_ildn dX9_prepends_141 rfl rfl⟩, ?_⟩
  refine ⟨⟨mo_push, ok_iconst dX9_prepends_142 iv_i4 rfl⟩, ?_⟩
  refine ⟨⟨mo_cvV, ok_cvV mi_X9_stands lk_X9_348 q2099 qs102 rfl (Nat.le_of_ble_eq_true rfl) (iy_ro_le _) rfl rfl dX9_prepends_143 rfl⟩, ?_⟩
  refine ⟨⟨mo_keep, ok_keep rfl⟩, ?_⟩
  refine ⟨⟨mo_ret, ok_ret rfl dX9_prepends_146⟩, ?_⟩
  exact trivial
set_option maxHeartbeats 4000000 in
theorem alX9_isSeen : iy_all (iy_calls iy_mi) RX9 "isSeen" cX9_isSeen 3 (some FieldType.boolean, []) pcX9_isSeen pcX9_isSeen stX9_isSeen := by
  refine ⟨⟨mo_ald, ok_aldn dX9_isSeen_0 rfl rfl⟩, ?_⟩
  refine ⟨⟨mo_ild, ok_ildn dX9_isSeen_1 rfl rfl⟩, ?_⟩
  refine ⟨⟨mo_cvI, ok_cvI mi_X9_topOf lk_X9_300 q2041 qs89 rfl (Nat.le_of_ble_eq_true rfl) (iy_ro_le _) rfl rfl dX9_isSeen_2 rfl⟩, ?_⟩
  refine ⟨⟨mo_ald, ok_aldn dX9_isSeen_5 rfl rfl⟩, ?_⟩
  refine ⟨⟨mo_gR, ok_gR rfl fd_X9_80 rfl dX9_isSeen_6 rfl⟩, ?_⟩
  refine ⟨⟨mo_ild, ok_ildn dX9_isSeen_9 rfl rfl⟩, ?_⟩
  refine ⟨⟨mo_push, ok_bipush dX9_isSeen_10 iv_b10 rfl⟩, ?_⟩
  refine ⟨⟨mo_bin, ok_iadd dX9_isSeen_12 rfl⟩, ?_⟩
  refine ⟨⟨mo_alI, ok_iald dX9_isSeen_13 rfl⟩, ?_⟩
  refine ⟨⟨mo_cne, ok_cne dX9_isSeen_14 rfl rfl⟩, ?_⟩
  refine ⟨⟨mo_push, ok_iconst dX9_isSeen_17 iv_i1 rfl⟩, ?_⟩
  refine ⟨⟨mo_goto, ok_goto dX9_isSeen_18 rfl⟩, ?_⟩
  refine ⟨⟨mo_push, ok_iconst dX9_isSeen_21 iv_i0 rfl⟩, ?_⟩
  refine ⟨⟨mo_keep, ok_keep rfl⟩, ?_⟩
  refine ⟨⟨mo_iret, ok_iret rfl rfl dX9_isSeen_22⟩, ?_⟩
  exact trivial
set_option maxHeartbeats 4000000 in
theorem alX9_loses : iy_all (iy_calls iy_mi) RX9 "loses" cX9_loses 2 (none, []) pcX9_loses pcX9_loses stX9_loses := by
  refine ⟨⟨mo_ald, ok_aldn dX9_loses_0 rfl rfl⟩, ?_⟩
  refine ⟨⟨mo_gR, ok_gR rfl fd_X9_80 rfl dX9_loses_1 rfl⟩, ?_⟩
  refine ⟨⟨mo_ild, ok_ildn dX9_loses_4 rfl rfl⟩, ?_⟩
  refine ⟨⟨mo_push, ok_iconst dX9_loses_5 iv_i3 rfl⟩, ?_⟩
  refine ⟨⟨mo_bin, ok_iadd dX9_loses_6 rfl⟩, ?_⟩
  refine ⟨⟨mo_dup2, ok_dup2 dX9_loses_7 rfl⟩, ?_⟩
  refine ⟨⟨mo_alI, ok_iald dX9_loses_8 rfl⟩, ?_⟩
  refine ⟨⟨mo_push, ok_iconst dX9_loses_9 iv_i1 rfl⟩, ?_⟩
  refine ⟨⟨mo_bin, ok_iadd dX9_loses_10 rfl⟩, ?_⟩
  refine ⟨⟨mo_asI, ok_iast dX9_loses_11 rfl⟩, ?_⟩
  refine ⟨⟨mo_ald, ok_aldn dX9_loses_12 rfl rfl⟩, ?_⟩
  refine ⟨⟨mo_gR, ok_gR rfl fd_X9_80 rfl dX9_loses_13 rfl⟩, ?_⟩
  refine ⟨⟨mo_push, ok_iconst dX9_loses_16 iv_i3 rfl⟩, ?_⟩
  refine ⟨⟨mo_dup2, ok_dup2 dX9_loses_17 rfl⟩, ?_⟩
  refine ⟨⟨mo_alI, ok_iald dX9_loses_18 rfl⟩, ?_⟩
  refine ⟨⟨mo_push, ok_iconst dX9_loses_19 iv_i1 rfl⟩, ?_⟩
  refine ⟨⟨mo_bin, ok_iadd dX9_loses_20 rfl⟩, ?_⟩
  refine ⟨⟨mo_asI, ok_iast dX9_loses_21 rfl⟩, ?_⟩
  refine ⟨⟨mo_ret, ok_ret rfl dX9_loses_22⟩, ?_⟩
  exact trivial
set_option maxHeartbeats 4000000 in
theorem alX9_laysTop : iy_all (iy_calls iy_mi) RX9 "laysTop" cX9_laysTop 3 (none, []) pcX9_laysTop pcX9_laysTop stX9_laysTop := by
  refine ⟨⟨mo_ald, ok_aldn dX9_laysTop_0 rfl rfl⟩, ?_⟩
  refine ⟨⟨mo_gR, ok_gR rfl fd_X9_80 rfl dX9_laysTop_1 rfl⟩, ?_⟩
  refine ⟨⟨mo_push, ok_bipush dX9_laysTop_4 iv_b10 rfl⟩, ?_⟩
  refine ⟨⟨mo_ild, ok_ildn dX9_laysTop_6 rfl rfl⟩, ?_⟩
  refine ⟨⟨mo_bin, ok_iadd dX9_laysTop_7 rfl⟩, ?_⟩
  refine ⟨⟨mo_ild, ok_ildn dX9_laysTop_8 rfl rfl⟩, ?_⟩
  refine ⟨⟨mo_asI, ok_iast dX9_laysTop_9 rfl⟩, ?_⟩
  refine ⟨⟨mo_ret, ok_ret rfl dX9_laysTop_10⟩, ?_⟩
  exact trivial
set_option maxHeartbeats 4000000 in
theorem alX9_lengthOf : iy_all (iy_calls iy_mi) RX9 "lengthOf" cX9_lengthOf 2 (some FieldType.int, []) pcX9_lengthOf pcX9_lengthOf stX9_lengthOf := by
  refine ⟨⟨mo_ald, ok_aldn dX9_lengthOf_0 rfl rfl⟩, ?_⟩
  refine ⟨⟨mo_ild, ok_ildn dX9_lengthOf_1 rfl rfl⟩, ?_⟩
  refine ⟨⟨mo_cvV, ok_cvV mi_X9_fillsChain lk_X9_306 q2037 qs88 rfl (Nat.le_of_ble_eq_true rfl) (iy_ro_le _) rfl rfl dX9_lengthOf_2 rfl⟩, ?_⟩
  refine ⟨⟨mo_ald, ok_aldn dX9_lengthOf_5 rfl rfl⟩, ?_⟩
  refine ⟨⟨mo_gI, ok_gI rfl fd_X9_303 rfl dX9_lengthOf_6 rfl⟩, ?_⟩
  refine ⟨⟨mo_push, ok_iconst dX9_lengthOf_9 iv_i1 rfl⟩, ?_⟩
  refine ⟨⟨mo_bin, ok_isub dX9_lengthOf_10 rfl⟩, ?_⟩
  refine ⟨⟨mo_iret, ok_iret rfl rfl dX9_lengthOf_11⟩, ?_⟩
  exact trivial
set_option maxHeartbeats 4000000 in
theorem alX9_gathers : iy_all (iy_calls iy_mi) RX9 "gathers" cX9_gathers 3 (none, []) pcX9_gathers pcX9_gathers stX9_gathers := by
  refine ⟨⟨mo_ald, ok_aldn dX9_gathers_0 rfl rfl⟩, ?_⟩
  refine ⟨⟨mo_gR, ok_gR rfl fd_X9_80 rfl dX9_gathers_1 rfl⟩, ?_⟩
  refine ⟨⟨mo_ild, ok_ildn dX9_gathers_4 rfl rfl⟩, ?_⟩
  refine ⟨⟨mo_push, ok_iconst dX9_gathers_5 iv_i2 rfl⟩, ?_⟩
  refine ⟨⟨mo_bin, ok_iadd dX9_gathers_6 rfl⟩, ?_⟩
  refine ⟨⟨mo_alI, ok_iald dX9_gathers_7 rfl⟩, ?_⟩
  refine ⟨⟨mo_ist, ok_istn dX9_gathers_8 rfl (Nat.le_of_ble_eq_true rfl) rfl⟩, ?_⟩
  refine ⟨⟨mo_ild, ok_ildn dX9_gathers_9 rfl rfl⟩, ?_⟩
  refine ⟨⟨mo_ile, ok_ile dX9_gathers_10 rfl rfl⟩, ?_⟩
  refine ⟨⟨mo_ald, ok_aldn dX9_gathers_13 rfl rfl⟩, ?_⟩
  refine ⟨⟨mo_ild, ok_ildn dX9_gathers_14 rfl rfl⟩, ?_⟩
  refine ⟨⟨mo_cvI, ok_cvI mi_X9_isGone lk_X9_351 q2107 qs104 rfl (Nat.le_of_ble_eq_true rfl) (iy_ro_le _) rfl rfl dX9_gathers_15 rfl⟩, ?_⟩
  refine ⟨⟨mo_ieq, ok_ieq dX9_gathers_18 rfl rfl⟩, ?_⟩
  refine ⟨⟨mo_ald, ok_aldn dX9_gathers_21 rfl rfl⟩, ?_⟩
  refine ⟨⟨mo_ild, ok_ildn dX9_gathers_22 rfl rfl⟩, ?_⟩
  refine ⟨⟨mo_cvV, ok_cvV mi_X9_goOn lk_X9_386 q2159 qs117 rfl (Nat.le_of_ble_eq_true rfl) (iy_ro_le _) rfl rfl dX9_gathers_23 rfl⟩, ?_⟩
  refine ⟨⟨mo_goto, ok_goto dX9_gathers_26 rfl⟩, ?_⟩
  refine ⟨⟨mo_keep, ok_keep rfl⟩, ?_⟩
  refine ⟨⟨mo_ald, ok_aldn dX9_gathers_29 rfl rfl⟩, ?_⟩
  refine ⟨⟨mo_ild, ok_ildn dX9_gathers_30 rfl rfl⟩, ?_⟩
  refine ⟨⟨mo_ild, ok_ildn dX9_gathers_31 rfl rfl⟩, ?_⟩
  refine ⟨⟨mo_push, ok_iconst dX9_gathers_32 iv_i5 rfl⟩, ?_⟩
  refine ⟨⟨mo_cvV, ok_cvV mi_X9_sees lk_X9_370 q2131 qs110 rfl (Nat.le_of_ble_eq_true rfl) (iy_ro_le _) rfl rfl dX9_gathers_33 rfl⟩, ?_⟩
  refine ⟨⟨mo_keep, ok_keep rfl⟩, ?_⟩
  refine ⟨⟨mo_ret, ok_ret rfl dX9_gathers_36⟩, ?_⟩
  exact trivial
set_option maxHeartbeats 4000000 in
theorem alX9_goOn : iy_all (iy_calls iy_mi) RX9 "goOn" cX9_goOn 2 (none, []) pcX9_goOn pcX9_goOn stX9_goOn := by
  refine ⟨⟨mo_ald, ok_aldn dX9_goOn_0 rfl rfl⟩, ?_⟩
  refine ⟨⟨mo_gR, ok_gR rfl fd_X9_80 rfl dX9_goOn_1 rfl⟩, ?_⟩
  refine ⟨⟨mo_ild, ok_ildn dX9_goOn_4 rfl rfl⟩, ?_⟩
  refine ⟨⟨mo_push, ok_iconst dX9_goOn_5 iv_i1 rfl⟩, ?_⟩
  refine ⟨⟨mo_bin, ok_iadd dX9_goOn_6 rfl⟩, ?_⟩
  refine ⟨⟨mo_ald, ok_aldn dX9_goOn_7 rfl rfl⟩, ?_⟩
  refine ⟨⟨mo_gR, ok_gR rfl fd_X9_80 rfl dX9_goOn_8 rfl⟩, ?_⟩
  refine ⟨⟨mo_ild, ok_ildn dX9_goOn_11 rfl rfl⟩, ?_⟩
  refine ⟨⟨mo_push, ok_bipush dX9_goOn_12 iv_b9 rfl⟩, ?_⟩
  refine ⟨⟨mo_bin, ok_iadd dX9_goOn_14 rfl⟩, ?_⟩
  refine ⟨⟨mo_alI, ok_iald dX9_goOn_15 rfl⟩, ?_⟩
  refine ⟨⟨mo_push, ok_iconst dX9_goOn_16 iv_i1 rfl⟩, ?_⟩
  refine ⟨⟨mo_cne, ok_cne dX9_goOn_17 rfl rfl⟩, ?_⟩
  refine ⟨⟨mo_push, ok_iconst dX9_goOn_20 iv_i0 rfl⟩, ?_⟩
  refine ⟨⟨mo_goto, ok_goto dX9_goOn_21 rfl⟩, ?_⟩
  refine ⟨⟨mo_push, ok_iconst dX9_goOn_24 iv_i1 rfl⟩, ?_⟩
  refine ⟨⟨mo_keep, ok_keep rfl⟩, ?_⟩
  refine ⟨⟨mo_asI, ok_iast dX9_goOn_25 rfl⟩, ?_⟩
  refine ⟨⟨mo_ret, ok_ret rfl dX9_goOn_26⟩, ?_⟩
  exact trivial
set_option maxHeartbeats 4000000 in
theorem alX9_swaps : iy_all (iy_calls iy_mi) RX9 "swaps" cX9_swaps 5 (none, []) pcX9_swaps pcX9_swaps stX9_swaps := by
  refine ⟨⟨mo_ald, ok_aldn dX9_swaps_0 rfl rfl⟩, ?_⟩
  refine ⟨⟨mo_gR, ok_gR rfl fd_X9_80 rfl dX9_swaps_1 rfl⟩, ?_⟩
  refine ⟨⟨mo_ild, ok_ildn dX9_swaps_4 rfl rfl⟩, ?_⟩
  refine ⟨⟨mo_push, ok_iconst dX9_swaps_5 iv_i2 rfl⟩, ?_⟩
  refine ⟨⟨mo_bin, ok_iadd dX9_swaps_6 rfl⟩, ?_⟩
  refine ⟨⟨mo_alI, ok_iald dX9_swaps_7 rfl⟩, ?_⟩
  refine ⟨⟨mo_ist, ok_istn dX9_swaps_8 rfl (Nat.le_of_ble_eq_true rfl) rfl⟩, ?_⟩
  refine ⟨⟨mo_ald, ok_aldn dX9_swaps_9 rfl rfl⟩, ?_⟩
  refine ⟨⟨mo_ild, ok_ildn dX9_swaps_10 rfl rfl⟩, ?_⟩
  refine ⟨⟨mo_ild, ok_ildn dX9_swaps_11 rfl rfl⟩, ?_⟩
  refine ⟨⟨mo_cvI, ok_cvI mi_X9_isSeen lk_X9_373 q2139 qs112 rfl (Nat.le_of_ble_eq_true rfl) (iy_ro_le _) rfl rfl dX9_swaps_12 rfl⟩, ?_⟩
  refine ⟨⟨mo_ine, ok_ine dX9_swaps_15 rfl rfl⟩, ?_⟩
  refine ⟨⟨mo_ald, ok_aldn dX9_swaps_18 rfl rfl⟩, ?_⟩
  refine ⟨⟨mo_ild, ok_ildn dX9_swaps_19 rfl rfl⟩, ?_⟩
  refine ⟨⟨mo_cvV, ok_cvV mi_X9_loses lk_X9_377 q2143 qs113 rfl (Nat.le_of_ble_eq_true rfl) (iy_ro_le _) rfl rfl dX9_swaps_20 rfl⟩, ?_⟩
  refine ⟨⟨mo_ald, ok_aldn dX9_swaps_23 rfl rfl⟩, ?_⟩
  refine ⟨⟨mo_ild, ok_ildn dX9_swaps_24 rfl rfl⟩, ?_⟩
  refine ⟨⟨mo_cvV, ok_cvV mi_X9_goOn lk_X9_386 q2159 qs117 rfl (Nat.le_of_ble_eq_true rfl) (iy_ro_le _) rfl rfl dX9_swaps_25 rfl⟩, ?_⟩
  refine ⟨⟨mo_ret, ok_ret rfl dX9_swaps_28⟩, ?_⟩
  refine ⟨⟨mo_ald, ok_aldn dX9_swaps_29 rfl rfl⟩, ?_⟩
  refine ⟨⟨mo_ild, ok_ildn dX9_swaps_30 rfl rfl⟩, ?_⟩
  refine ⟨⟨mo_cvV, ok_cvV mi_X9_fillsHas lk_X9_339 q2033 qs87 rfl (Nat.le_of_ble_eq_true rfl) (iy_ro_le _) rfl rfl dX9_swaps_31 rfl⟩, ?_⟩
  refine ⟨⟨mo_ald, ok_aldn dX9_swaps_34 rfl rfl⟩, ?_⟩
  refine ⟨⟨mo_ald, ok_aldn dX9_swaps_35 rfl rfl⟩, ?_⟩
  refine ⟨⟨mo_gI, ok_gI rfl fd_X9_324 rfl dX9_swaps_36 rfl⟩, ?_⟩
  refine ⟨⟨mo_ald, ok_aldn dX9_swaps_39 rfl rfl⟩, ?_⟩
  refine ⟨⟨mo_gI, ok_gI rfl fd_X9_327 rfl dX9_swaps_40 rfl⟩, ?_⟩
  refine ⟨⟨mo_cvI, ok_cvI mi_X9_newBase lk_X9_294 q1738 qs60 rfl (Nat.le_of_ble_eq_true rfl) (iy_ro_le _) rfl rfl dX9_swaps_43 rfl⟩, ?_⟩
  refine ⟨⟨mo_ist, ok_istn dX9_swaps_46 rfl (Nat.le_of_ble_eq_true rfl) rfl⟩, ?_⟩
  refine ⟨⟨mo_push, ok_iconst dX9_swaps_47 iv_i0 rfl⟩, ?_⟩
  refine ⟨⟨mo_ist, ok_ist dX9_swaps_48 (Nat.le_of_ble_eq_true rfl) rfl⟩, ?_⟩
  refine ⟨⟨mo_keep, ok_keep rfl⟩, ?_⟩
  refine ⟨⟨mo_ild, ok_ild dX9_swaps_50 rfl⟩, ?_⟩
  refine ⟨⟨mo_ald, ok_aldn dX9_swaps_52 rfl rfl⟩, ?_⟩
  refine ⟨⟨mo_gI, ok_gI rfl fd_X9_309 rfl dX9_swaps_53 rfl⟩, ?_⟩
  refine ⟨⟨mo_cge, ok_cge dX9_swaps_56 rfl rfl⟩, ?_⟩
  refine ⟨⟨mo_ald, ok_aldn dX9_swaps_59 rfl rfl⟩, ?_⟩
  refine ⟨⟨mo_ild, ok_ildn dX9_swaps_60 rfl rfl⟩, ?_⟩
  refine ⟨⟨mo_ald, ok_aldn dX9_swaps_61 rfl rfl⟩, ?_⟩
  refine ⟨⟨mo_gR, ok_gR rfl fd_X9_86 rfl dX9_swaps_62 rfl⟩, ?_⟩
  refine ⟨⟨mo_ild, ok_ild dX9_swaps_65 rfl⟩, ?_⟩
  refine ⟨⟨mo_alI, ok_iald dX9_swaps_67 rfl⟩, ?_⟩
  refine ⟨⟨mo_ald, ok_aldn dX9_swaps_68 rfl rfl⟩, ?_⟩
  refine ⟨⟨mo_gR, ok_gR rfl fd_X9_89 rfl dX9_swaps_69 rfl⟩, ?_⟩
  refine ⟨⟨mo_ild, ok_ild dX9_swaps_72 rfl⟩, ?_⟩
  refine ⟨⟨mo_alI, ok_iald dX9_swaps_74 rfl⟩, ?_⟩
  refine ⟨⟨mo_cvV, ok_cvV mi_X9_adds lk_X9_297 q1749 qs62 rfl (Nat.le_of_ble_eq_true rfl) (iy_ro_le _) rfl rfl dX9_swaps_75 rfl⟩, ?_⟩
  refine ⟨⟨mo_inc, ok_inc dX9_swaps_78 iv_i1 (Nat.le_of_ble_eq_true rfl) rfl⟩, ?_⟩
  refine ⟨⟨mo_back, ok_back dX9_swaps_81 rfl⟩, ?_⟩
  refine ⟨⟨mo_push, ok_iconst dX9_swaps_84 iv_i0 rfl⟩, ?_⟩
  refine ⟨⟨mo_ist, ok_ist dX9_swaps_85 (Nat.le_of_ble_eq_true rfl) rfl⟩, ?_⟩
  refine ⟨⟨mo_keep, ok_keep rfl⟩, ?_⟩
  refine ⟨⟨mo_ild, ok_ild dX9_swaps_87 rfl⟩, ?_⟩
  refine ⟨⟨mo_ald, ok_aldn dX9_swaps_89 rfl rfl⟩, ?_⟩
  refine ⟨⟨mo_gI, ok_gI rfl fd_X9_303 rfl dX9_swaps_90 rfl⟩, ?_⟩
  refine ⟨⟨mo_cge, ok_cge dX9_swaps_93 rfl rfl⟩, ?_⟩
  refine ⟨⟨mo_ald, ok_aldn dX9_swaps_96 rfl rfl⟩, ?_⟩
  refine ⟨⟨mo_ald, ok_aldn dX9_swaps_97 rfl rfl⟩, ?_⟩
  refine ⟨⟨mo_gR, ok_gR rfl fd_X9_83 rfl dX9_swaps_98 rfl⟩, ?_⟩
  refine ⟨⟨mo_ild, ok_ild dX9_swaps_101 rfl⟩, ?_⟩
  refine ⟨⟨mo_alI, ok_iald dX9_swaps_103 rfl⟩, ?_⟩
  refine ⟨⟨mo_cvV, ok_cvV mi_X9_retires lk_X9_389 q2167 qs119 rfl (Nat.le_of_ble_eq_true rfl) (iy_ro_le _) rfl rfl dX9_swaps_104 rfl⟩, ?_⟩
  refine ⟨⟨mo_ald, ok_aldn dX9_swaps_107 rfl rfl⟩, ?_⟩
  refine ⟨⟨mo_ald, ok_aldn dX9_swaps_108 rfl rfl⟩, ?_⟩
  refine ⟨⟨mo_gR, ok_gR rfl fd_X9_83 rfl dX9_swaps_109 rfl⟩, ?_⟩
  refine ⟨⟨mo_ild, ok_ild dX9_swaps_112 rfl⟩, ?_⟩
  refine ⟨⟨mo_alI, ok_iald dX9_swaps_114 rfl⟩, ?_⟩
  refine ⟨⟨mo_push, ok_iconst dX9_swaps_115 iv_i0 rfl⟩, ?_⟩
  refine ⟨⟨mo_cvI, ok_cvI mi_X9_ofRecord lk_X9_288 q1753 qs63 rfl (Nat.le_of_ble_eq_true rfl) (iy_ro_le _) rfl rfl dX9_swaps_116 rfl⟩, ?_⟩
  refine ⟨⟨mo_push, ok_iconst dX9_swaps_119 iv_i5 rfl⟩, ?_⟩
  refine ⟨⟨mo_cne, ok_cne dX9_swaps_120 rfl rfl⟩, ?_⟩
  refine ⟨⟨mo_ald, ok_aldn dX9_swaps_123 rfl rfl⟩, ?_⟩
  refine ⟨⟨mo_ald, ok_aldn dX9_swaps_124 rfl rfl⟩, ?_⟩
  refine ⟨⟨mo_ald, ok_aldn dX9_swaps_125 rfl rfl⟩, ?_⟩
  refine ⟨⟨mo_gR, ok_gR rfl fd_X9_83 rfl dX9_swaps_126 rfl⟩, ?_⟩
  refine ⟨⟨mo_ild, ok_ild dX9_swaps_129 rfl⟩, ?_⟩
  refine ⟨⟨mo_alI, ok_iald dX9_swaps_131 rfl⟩, ?_⟩
  refine ⟨⟨mo_push, ok_bipush dX9_swaps_132 iv_b9 rfl⟩, ?_⟩
  refine ⟨⟨mo_cvI, ok_cvI mi_X9_ofRecord lk_X9_288 q1753 qs63 rfl (Nat.le_of_ble_eq_true rfl) (iy_ro_le _) rfl rfl dX9_swaps_134 rfl⟩, ?_⟩
  refine ⟨⟨mo_cvV, ok_cvV mi_X9_retires lk_X9_389 q2167 qs119 rfl (Nat.le_of_ble_eq_true rfl) (iy_ro_le _) rfl rfl dX9_swaps_137 rfl⟩, ?_⟩
  refine ⟨⟨mo_keep, ok_keep rfl⟩, ?_⟩
  refine ⟨⟨mo_inc, ok_inc dX9_swaps_140 iv_i1 (Nat.le_of_ble_eq_true rfl) rfl⟩, ?_⟩
  refine ⟨⟨mo_back, ok_back dX9_swaps_143 rfl⟩, ?_⟩
  refine ⟨⟨mo_ald, ok_aldn dX9_swaps_146 rfl rfl⟩, ?_⟩
  refine ⟨⟨mo_ild, ok_ildn dX9_swaps_147 rfl rfl⟩, ?_⟩
  refine ⟨⟨mo_ild, ok_ildn dX9_swaps_148 rfl rfl⟩, ?_⟩
  refine ⟨⟨mo_cvV, ok_cvV mi_X9_laysTop lk_X9_380 q2147 qs114 rfl (Nat.le_of_ble_eq_true rfl) (iy_ro_le _) rfl rfl dX9_swaps_149 rfl⟩, ?_⟩
  refine ⟨⟨mo_ald, ok_aldn dX9_swaps_152 rfl rfl⟩, ?_⟩
  refine ⟨⟨mo_gR, ok_gR rfl fd_X9_80 rfl dX9_swaps_153 rfl⟩, ?_⟩
  refine ⟨⟨mo_ild, ok_ildn dX9_swaps_156 rfl rfl⟩, ?_⟩
  refine ⟨⟨mo_push, ok_bipush dX9_swaps_157 iv_b10 rfl⟩, ?_⟩
  refine ⟨⟨mo_bin, ok_iadd dX9_swaps_159 rfl⟩, ?_⟩
  refine ⟨⟨mo_ild, ok_ildn dX9_swaps_160 rfl rfl⟩, ?_⟩
  refine ⟨⟨mo_asI, ok_iast dX9_swaps_161 rfl⟩, ?_⟩
  refine ⟨⟨mo_ild, ok_ildn dX9_swaps_162 rfl rfl⟩, ?_⟩
  refine ⟨⟨mo_ile, ok_ile dX9_swaps_163 rfl rfl⟩, ?_⟩
  refine ⟨⟨mo_ald, ok_aldn dX9_swaps_166 rfl rfl⟩, ?_⟩
  refine ⟨⟨mo_gI, ok_gI rfl fd_X9_309 rfl dX9_swaps_167 rfl⟩, ?_⟩
  refine ⟨⟨mo_ald, ok_aldn dX9_swaps_170 rfl rfl⟩, ?_⟩
  refine ⟨⟨mo_gR, ok_gR rfl fd_X9_80 rfl dX9_swaps_171 rfl⟩, ?_⟩
  refine ⟨⟨mo_push, ok_bipush dX9_swaps_174 iv_b6 rfl⟩, ?_⟩
  refine ⟨⟨mo_alI, ok_iald dX9_swaps_176 rfl⟩, ?_⟩
  refine ⟨⟨mo_cle, ok_cle dX9_swaps_177 rfl rfl⟩, ?_⟩
  refine ⟨⟨mo_ald, ok_aldn dX9_swaps_180 rfl rfl⟩, ?_⟩
  refine ⟨⟨mo_ild, ok_ildn dX9_swaps_181 rfl rfl⟩, ?_⟩
  refine ⟨⟨mo_push, ok_bipush dX9_swaps_182 iv_b6 rfl⟩, ?_⟩
  refine ⟨⟨mo_cvV, ok_cvV mi_X9_stands lk_X9_348 q2099 qs102 rfl (Nat.le_of_ble_eq_true rfl) (iy_ro_le _) rfl rfl dX9_swaps_184 rfl⟩, ?_⟩
  refine ⟨⟨mo_goto, ok_goto dX9_swaps_187 rfl⟩, ?_⟩
  refine ⟨⟨mo_keep, ok_keep rfl⟩, ?_⟩
  refine ⟨⟨mo_ild, ok_ildn dX9_swaps_190 rfl rfl⟩, ?_⟩
  refine ⟨⟨mo_ile, ok_ile dX9_swaps_191 rfl rfl⟩, ?_⟩
  refine ⟨⟨mo_ald, ok_aldn dX9_swaps_194 rfl rfl⟩, ?_⟩
  refine ⟨⟨mo_gI, ok_gI rfl fd_X9_309 rfl dX9_swaps_195 rfl⟩, ?_⟩
  refine ⟨⟨mo_ald, ok_aldn dX9_swaps_198 rfl rfl⟩, ?_⟩
  refine ⟨⟨mo_gR, ok_gR rfl fd_X9_80 rfl dX9_swaps_199 rfl⟩, ?_⟩
  refine ⟨⟨mo_push, ok_bipush dX9_swaps_202 iv_b7 rfl⟩, ?_⟩
  refine ⟨⟨mo_alI, ok_iald dX9_swaps_204 rfl⟩, ?_⟩
  refine ⟨⟨mo_cge, ok_cge dX9_swaps_205 rfl rfl⟩, ?_⟩
  refine ⟨⟨mo_ald, ok_aldn dX9_swaps_208 rfl rfl⟩, ?_⟩
  refine ⟨⟨mo_ild, ok_ildn dX9_swaps_209 rfl rfl⟩, ?_⟩
  refine ⟨⟨mo_push, ok_bipush dX9_swaps_210 iv_b9 rfl⟩, ?_⟩
  refine ⟨⟨mo_cvV, ok_cvV mi_X9_stands lk_X9_348 q2099 qs102 rfl (Nat.le_of_ble_eq_true rfl) (iy_ro_le _) rfl rfl dX9_swaps_212 rfl⟩, ?_⟩
  refine ⟨⟨mo_goto, ok_goto dX9_swaps_215 rfl⟩, ?_⟩
  refine ⟨⟨mo_keep, ok_keep rfl⟩, ?_⟩
  refine ⟨⟨mo_ald, ok_aldn dX9_swaps_218 rfl rfl⟩, ?_⟩
  refine ⟨⟨mo_ild, ok_ildn dX9_swaps_219 rfl rfl⟩, ?_⟩
  refine ⟨⟨mo_cvV, ok_cvV mi_X9_goOn lk_X9_386 q2159 qs117 rfl (Nat.le_of_ble_eq_true rfl) (iy_ro_le _) rfl rfl dX9_swaps_220 rfl⟩, ?_⟩
  refine ⟨⟨mo_keep, ok_keep rfl⟩, ?_⟩
  refine ⟨⟨mo_ret, ok_ret rfl dX9_swaps_223⟩, ?_⟩
  exact trivial
set_option maxHeartbeats 4000000 in
theorem alX9_retires : iy_all (iy_calls iy_mi) RX9 "retires" cX9_retires 2 (none, []) pcX9_retires pcX9_retires stX9_retires := by
  refine ⟨⟨mo_ald, ok_aldn dX9_retires_0 rfl rfl⟩, ?_⟩
  refine ⟨⟨mo_gR, ok_gR rfl fd_X9_80 rfl dX9_retires_1 rfl⟩, ?_⟩
  refine ⟨⟨mo_ild, ok_ildn dX9_retires_4 rfl rfl⟩, ?_⟩
  refine ⟨⟨mo_csI, ok_csI mi_X9_record0 lk_X9_282 q1745 dX9_retires_5 rfl⟩, ?_⟩
  refine ⟨⟨mo_push, ok_iconst dX9_retires_8 iv_i4 rfl⟩, ?_⟩
  refine ⟨⟨mo_bin, ok_iadd dX9_retires_9 rfl⟩, ?_⟩
  refine ⟨⟨mo_ald, ok_aldn dX9_retires_10 rfl rfl⟩, ?_⟩
  refine ⟨⟨mo_gR, ok_gR rfl fd_X9_80 rfl dX9_retires_11 rfl⟩, ?_⟩
  refine ⟨⟨mo_push, ok_iconst dX9_retires_14 iv_i2 rfl⟩, ?_⟩
  refine ⟨⟨mo_alI, ok_iald dX9_retires_15 rfl⟩, ?_⟩
  refine ⟨⟨mo_asI, ok_iast dX9_retires_16 rfl⟩, ?_⟩
  refine ⟨⟨mo_ret, ok_ret rfl dX9_retires_17⟩, ?_⟩
  exact trivial
set_option maxHeartbeats 4000000 in
theorem alX9_splits : iy_all (iy_calls iy_mi) RX9 "splits" cX9_splits 7 (none, []) pcX9_splits pcX9_splits stX9_splits := by
  refine ⟨⟨mo_ald, ok_aldn dX9_splits_0 rfl rfl⟩, ?_⟩
  refine ⟨⟨mo_gR, ok_gR rfl fd_X9_80 rfl dX9_splits_1 rfl⟩, ?_⟩
  refine ⟨⟨mo_ild, ok_ildn dX9_splits_4 rfl rfl⟩, ?_⟩
  refine ⟨⟨mo_push, ok_iconst dX9_splits_5 iv_i2 rfl⟩, ?_⟩
  refine ⟨⟨mo_bin, ok_iadd dX9_splits_6 rfl⟩, ?_⟩
  refine ⟨⟨mo_alI, ok_iald dX9_splits_7 rfl⟩, ?_⟩
  refine ⟨⟨mo_ist, ok_istn dX9_splits_8 rfl (Nat.le_of_ble_eq_true rfl) rfl⟩, ?_⟩
  refine ⟨⟨mo_ald, ok_aldn dX9_splits_9 rfl rfl⟩, ?_⟩
  refine ⟨⟨mo_ild, ok_ildn dX9_splits_10 rfl rfl⟩, ?_⟩
  refine ⟨⟨mo_ild, ok_ildn dX9_splits_11 rfl rfl⟩, ?_⟩
  refine ⟨⟨mo_cvI, ok_cvI mi_X9_isSeen lk_X9_373 q2139 qs112 rfl (Nat.le_of_ble_eq_true rfl) (iy_ro_le _) rfl rfl dX9_splits_12 rfl⟩, ?_⟩
  refine ⟨⟨mo_ieq, ok_ieq dX9_splits_15 rfl rfl⟩, ?_⟩
  refine ⟨⟨mo_ald, ok_aldn dX9_splits_18 rfl rfl⟩, ?_⟩
  refine ⟨⟨mo_gR, ok_gR rfl fd_X9_80 rfl dX9_splits_19 rfl⟩, ?_⟩
  refine ⟨⟨mo_push, ok_iconst dX9_splits_22 iv_i1 rfl⟩, ?_⟩
  refine ⟨⟨mo_alI, ok_iald dX9_splits_23 rfl⟩, ?_⟩
  refine ⟨⟨mo_push, ok_bipush dX9_splits_24 iv_b32 rfl⟩, ?_⟩
  refine ⟨⟨mo_clt, ok_clt dX9_splits_26 rfl rfl⟩, ?_⟩
  refine ⟨⟨mo_keep, ok_keep rfl⟩, ?_⟩
  refine ⟨⟨mo_ald, ok_aldn dX9_splits_29 rfl rfl⟩, ?_⟩
  refine ⟨⟨mo_ild, ok_ildn dX9_splits_30 rfl rfl⟩, ?_⟩
  refine ⟨⟨mo_cvV, ok_cvV mi_X9_goOn lk_X9_386 q2159 qs117 rfl (Nat.le_of_ble_eq_true rfl) (iy_ro_le _) rfl rfl dX9_splits_31 rfl⟩, ?_⟩
  refine ⟨⟨mo_ret, ok_ret rfl dX9_splits_34⟩, ?_⟩
  refine ⟨⟨mo_ald, ok_aldn dX9_splits_35 rfl rfl⟩, ?_⟩
  refine ⟨⟨mo_ild, ok_ildn dX9_splits_36 rfl rfl⟩, ?_⟩
  refine ⟨⟨mo_cvV, ok_cvV mi_X9_fillsHas lk_X9_339 q2033 qs87 rfl (Nat.le_of_ble_eq_true rfl) (iy_ro_le _) rfl rfl dX9_splits_37 rfl⟩, ?_⟩
  refine ⟨⟨mo_ald, ok_aldn dX9_splits_40 rfl rfl⟩, ?_⟩
  refine ⟨⟨mo_gI, ok_gI rfl fd_X9_309 rfl dX9_splits_41 rfl⟩, ?_⟩
  refine ⟨⟨mo_push, ok_iconst dX9_splits_44 iv_i2 rfl⟩, ?_⟩
  refine ⟨⟨mo_div, ok_idiv dX9_splits_45 rfl⟩, ?_⟩
  refine ⟨⟨mo_ist, ok_istn dX9_splits_46 rfl (Nat.le_of_ble_eq_true rfl) rfl⟩, ?_⟩
  refine ⟨⟨mo_ald, ok_aldn dX9_splits_47 rfl rfl⟩, ?_⟩
  refine ⟨⟨mo_gR, ok_gR rfl fd_X9_80 rfl dX9_splits_48 rfl⟩, ?_⟩
  refine ⟨⟨mo_push, ok_iconst dX9_splits_51 iv_i1 rfl⟩, ?_⟩
  refine ⟨⟨mo_alI, ok_iald dX9_splits_52 rfl⟩, ?_⟩
  refine ⟨⟨mo_ist, ok_ist dX9_splits_53 (Nat.le_of_ble_eq_true rfl) rfl⟩, ?_⟩
  refine ⟨⟨mo_ald, ok_aldn dX9_splits_55 rfl rfl⟩, ?_⟩
  refine ⟨⟨mo_ald, ok_aldn dX9_splits_56 rfl rfl⟩, ?_⟩
  refine ⟨⟨mo_gI, ok_gI rfl fd_X9_324 rfl dX9_splits_57 rfl⟩, ?_⟩
  refine ⟨⟨mo_ald, ok_aldn dX9_splits_60 rfl rfl⟩, ?_⟩
  refine ⟨⟨mo_gI, ok_gI rfl fd_X9_327 rfl dX9_splits_61 rfl⟩, ?_⟩
  refine ⟨⟨mo_cvI, ok_cvI mi_X9_newBase lk_X9_294 q1738 qs60 rfl (Nat.le_of_ble_eq_true rfl) (iy_ro_le _) rfl rfl dX9_splits_64 rfl⟩, ?_⟩
  refine ⟨⟨mo_ist, ok_ist dX9_splits_67 (Nat.le_of_ble_eq_true rfl) rfl⟩, ?_⟩
  refine ⟨⟨mo_ild, ok_ildn dX9_splits_69 rfl rfl⟩, ?_⟩
  refine ⟨⟨mo_ist, ok_ist dX9_splits_70 (Nat.le_of_ble_eq_true rfl) rfl⟩, ?_⟩
  refine ⟨⟨mo_keep, ok_keep rfl⟩, ?_⟩
  refine ⟨⟨mo_ild, ok_ild dX9_splits_72 rfl⟩, ?_⟩
  refine ⟨⟨mo_ald, ok_aldn dX9_splits_74 rfl rfl⟩, ?_⟩
  refine ⟨⟨mo_gI, ok_gI rfl fd_X9_309 rfl dX9_splits_75 rfl⟩, ?_⟩
  refine ⟨⟨mo_cge, ok_cge dX9_splits_78 rfl rfl⟩, ?_⟩
  refine ⟨⟨mo_ald, ok_aldn dX9_splits_81 rfl rfl⟩, ?_⟩
  refine ⟨⟨mo_ild, ok_ild dX9_splits_82 rfl⟩, ?_⟩
  refine ⟨⟨mo_ald, ok_aldn dX9_splits_84 rfl rfl⟩, ?_⟩
  refine ⟨⟨mo_gR, ok_gR rfl fd_X9_86 rfl dX9_splits_85 rfl⟩, ?_⟩
  refine ⟨⟨mo_ild, ok_ild dX9_splits_88 rfl⟩, ?_⟩
  refine ⟨⟨mo_alI, ok_iald dX9_splits_90 rfl⟩, ?_⟩
  refine ⟨⟨mo_ald, ok_aldn dX9_splits_91 rfl rfl⟩, ?_⟩
  refine ⟨⟨mo_gR, ok_gR rfl fd_X9_89 rfl dX9_splits_92 rfl⟩, ?_⟩
  refine ⟨⟨mo_ild, ok_ild dX9_splits_95 rfl⟩, ?_⟩
  refine ⟨⟨mo_alI, ok_iald dX9_splits_97 rfl⟩, ?_⟩
  refine ⟨⟨mo_cvV, ok_cvV mi_X9_adds lk_X9_297 q1749 qs62 rfl (Nat.le_of_ble_eq_true rfl) (iy_ro_le _) rfl rfl dX9_splits_98 rfl⟩, ?_⟩
  refine ⟨⟨mo_inc, ok_inc dX9_splits_101 iv_i1 (Nat.le_of_ble_eq_true rfl) rfl⟩, ?_⟩
  refine ⟨⟨mo_back, ok_back dX9_splits_104 rfl⟩, ?_⟩
  refine ⟨⟨mo_ald, ok_aldn dX9_splits_107 rfl rfl⟩, ?_⟩
  refine ⟨⟨mo_ild, ok_ild dX9_splits_108 rfl⟩, ?_⟩
  refine ⟨⟨mo_ild, ok_ild dX9_splits_110 rfl⟩, ?_⟩
  refine ⟨⟨mo_cvV, ok_cvV mi_X9_laysTop lk_X9_380 q2147 qs114 rfl (Nat.le_of_ble_eq_true rfl) (iy_ro_le _) rfl rfl dX9_splits_112 rfl⟩, ?_⟩
  refine ⟨⟨mo_ald, ok_aldn dX9_splits_115 rfl rfl⟩, ?_⟩
  refine ⟨⟨mo_gR, ok_gR rfl fd_X9_80 rfl dX9_splits_116 rfl⟩, ?_⟩
  refine ⟨⟨mo_push, ok_iconst dX9_splits_119 iv_i1 rfl⟩, ?_⟩
  refine ⟨⟨mo_dup2, ok_dup2 dX9_splits_120 rfl⟩, ?_⟩
  refine ⟨⟨mo_alI, ok_iald dX9_splits_121 rfl⟩, ?_⟩
  refine ⟨⟨mo_push, ok_iconst dX9_splits_122 iv_i1 rfl⟩, ?_⟩
  refine ⟨⟨mo_bin, ok_iadd dX9_splits_123 rfl⟩, ?_⟩
  refine ⟨⟨mo_asI, ok_iast dX9_splits_124 rfl⟩, ?_⟩
  refine ⟨⟨mo_ald, ok_aldn dX9_splits_125 rfl rfl⟩, ?_⟩
  refine ⟨⟨mo_ild, ok_ildn dX9_splits_126 rfl rfl⟩, ?_⟩
  refine ⟨⟨mo_ald, ok_aldn dX9_splits_127 rfl rfl⟩, ?_⟩
  refine ⟨⟨mo_push, ok_iconst dX9_splits_128 iv_i3 rfl⟩, ?_⟩
  refine ⟨⟨mo_ald, ok_aldn dX9_splits_129 rfl rfl⟩, ?_⟩
  refine ⟨⟨mo_gR, ok_gR rfl fd_X9_86 rfl dX9_splits_130 rfl⟩, ?_⟩
  refine ⟨⟨mo_ild, ok_ildn dX9_splits_133 rfl rfl⟩, ?_⟩
  refine ⟨⟨mo_alI, ok_iald dX9_splits_134 rfl⟩, ?_⟩
  refine ⟨⟨mo_ild, ok_ild dX9_splits_135 rfl⟩, ?_⟩
  refine ⟨⟨mo_ald, ok_aldn dX9_splits_137 rfl rfl⟩, ?_⟩
  refine ⟨⟨mo_ild, ok_ildn dX9_splits_138 rfl rfl⟩, ?_⟩
  refine ⟨⟨mo_cvI, ok_cvI mi_X9_topOf lk_X9_300 q2041 qs89 rfl (Nat.le_of_ble_eq_true rfl) (iy_ro_le _) rfl rfl dX9_splits_139 rfl⟩, ?_⟩
  refine ⟨⟨mo_cvI, ok_cvI mi_X9_newRecord lk_X9_285 q1742 qs61 rfl (Nat.le_of_ble_eq_true rfl) (iy_ro_le _) rfl rfl dX9_splits_142 rfl⟩, ?_⟩
  refine ⟨⟨mo_cvV, ok_cvV mi_X9_laysTop lk_X9_380 q2147 qs114 rfl (Nat.le_of_ble_eq_true rfl) (iy_ro_le _) rfl rfl dX9_splits_145 rfl⟩, ?_⟩
  refine ⟨⟨mo_ald, ok_aldn dX9_splits_148 rfl rfl⟩, ?_⟩
  refine ⟨⟨mo_ild, ok_ildn dX9_splits_149 rfl rfl⟩, ?_⟩
  refine ⟨⟨mo_ald, ok_aldn dX9_splits_150 rfl rfl⟩, ?_⟩
  refine ⟨⟨mo_gR, ok_gR rfl fd_X9_86 rfl dX9_splits_151 rfl⟩, ?_⟩
  refine ⟨⟨mo_ild, ok_ildn dX9_splits_154 rfl rfl⟩, ?_⟩
  refine ⟨⟨mo_alI, ok_iald dX9_splits_155 rfl⟩, ?_⟩
  refine ⟨⟨mo_ild, ok_ild dX9_splits_156 rfl⟩, ?_⟩
  refine ⟨⟨mo_cvV, ok_cvV mi_X9_notes lk_X9_360 q2119 qs107 rfl (Nat.le_of_ble_eq_true rfl) (iy_ro_le _) rfl rfl dX9_splits_158 rfl⟩, ?_⟩
  refine ⟨⟨mo_ret, ok_ret rfl dX9_splits_161⟩, ?_⟩
  exact trivial
set_option maxHeartbeats 4000000 in
theorem alX9_looksUp : iy_all (iy_calls iy_mi) RX9 "looksUp" cX9_looksUp 3 (none, []) pcX9_looksUp pcX9_looksUp stX9_looksUp := by
  refine ⟨⟨mo_ald, ok_aldn dX9_looksUp_0 rfl rfl⟩, ?_⟩
  refine ⟨⟨mo_cvV, ok_cvV mi_X9_fillsBounds lk_X9_345 q2095 qs101 rfl (Nat.le_of_ble_eq_true rfl) (iy_ro_le _) rfl rfl dX9_looksUp_1 rfl⟩, ?_⟩
  refine ⟨⟨mo_ald, ok_aldn dX9_looksUp_4 rfl rfl⟩, ?_⟩
  refine ⟨⟨mo_ald, ok_aldn dX9_looksUp_5 rfl rfl⟩, ?_⟩
  refine ⟨⟨mo_gR, ok_gR rfl fd_X9_80 rfl dX9_looksUp_6 rfl⟩, ?_⟩
  refine ⟨⟨mo_ild, ok_ildn dX9_looksUp_9 rfl rfl⟩, ?_⟩
  refine ⟨⟨mo_push, ok_bipush dX9_looksUp_10 iv_b12 rfl⟩, ?_⟩
  refine ⟨⟨mo_bin, ok_iadd dX9_looksUp_12 rfl⟩, ?_⟩
  refine ⟨⟨mo_alI, ok_iald dX9_looksUp_13 rfl⟩, ?_⟩
  refine ⟨⟨mo_cvI, ok_cvI mi_X9_pageBy lk_X9_357 q2115 qs106 rfl (Nat.le_of_ble_eq_true rfl) (iy_ro_le _) rfl rfl dX9_looksUp_14 rfl⟩, ?_⟩
  refine ⟨⟨mo_ist, ok_istn dX9_looksUp_17 rfl (Nat.le_of_ble_eq_true rfl) rfl⟩, ?_⟩
  refine ⟨⟨mo_ild, ok_ildn dX9_looksUp_18 rfl rfl⟩, ?_⟩
  refine ⟨⟨mo_ald, ok_aldn dX9_looksUp_19 rfl rfl⟩, ?_⟩
  refine ⟨⟨mo_gR, ok_gR rfl fd_X9_80 rfl dX9_looksUp_20 rfl⟩, ?_⟩
  refine ⟨⟨mo_ild, ok_ildn dX9_looksUp_23 rfl rfl⟩, ?_⟩
  refine ⟨⟨mo_push, ok_bipush dX9_looksUp_24 iv_b13 rfl⟩, ?_⟩
  refine ⟨⟨mo_bin, ok_iadd dX9_looksUp_26 rfl⟩, ?_⟩
  refine ⟨⟨mo_alI, ok_iald dX9_looksUp_27 rfl⟩, ?_⟩
  refine ⟨⟨mo_cne, ok_cne dX9_looksUp_28 rfl rfl⟩, ?_⟩
  refine ⟨⟨mo_ald, ok_aldn dX9_looksUp_31 rfl rfl⟩, ?_⟩
  refine ⟨⟨mo_ild, ok_ildn dX9_looksUp_32 rfl rfl⟩, ?_⟩
  refine ⟨⟨mo_cvV, ok_cvV mi_X9_goOn lk_X9_386 q2159 qs117 rfl (Nat.le_of_ble_eq_true rfl) (iy_ro_le _) rfl rfl dX9_looksUp_33 rfl⟩, ?_⟩
  refine ⟨⟨mo_goto, ok_goto dX9_looksUp_36 rfl⟩, ?_⟩
  refine ⟨⟨mo_ild, ok_ildn dX9_looksUp_39 rfl rfl⟩, ?_⟩
  refine ⟨⟨mo_ilt, ok_ilt dX9_looksUp_40 rfl rfl⟩, ?_⟩
  refine ⟨⟨mo_ald, ok_aldn dX9_looksUp_43 rfl rfl⟩, ?_⟩
  refine ⟨⟨mo_gR, ok_gR rfl fd_X9_80 rfl dX9_looksUp_44 rfl⟩, ?_⟩
  refine ⟨⟨mo_ild, ok_ildn dX9_looksUp_47 rfl rfl⟩, ?_⟩
  refine ⟨⟨mo_push, ok_bipush dX9_looksUp_48 iv_b11 rfl⟩, ?_⟩
  refine ⟨⟨mo_bin, ok_iadd dX9_looksUp_50 rfl⟩, ?_⟩
  refine ⟨⟨mo_ild, ok_ildn dX9_looksUp_51 rfl rfl⟩, ?_⟩
  refine ⟨⟨mo_asI, ok_iast dX9_looksUp_52 rfl⟩, ?_⟩
  refine ⟨⟨mo_ald, ok_aldn dX9_looksUp_53 rfl rfl⟩, ?_⟩
  refine ⟨⟨mo_ild, ok_ildn dX9_looksUp_54 rfl rfl⟩, ?_⟩
  refine ⟨⟨mo_push, ok_bipush dX9_looksUp_55 iv_b12 rfl⟩, ?_⟩
  refine ⟨⟨mo_cvV, ok_cvV mi_X9_stands lk_X9_348 q2099 qs102 rfl (Nat.le_of_ble_eq_true rfl) (iy_ro_le _) rfl rfl dX9_looksUp_57 rfl⟩, ?_⟩
  refine ⟨⟨mo_goto, ok_goto dX9_looksUp_60 rfl⟩, ?_⟩
  refine ⟨⟨mo_ald, ok_aldn dX9_looksUp_63 rfl rfl⟩, ?_⟩
  refine ⟨⟨mo_ild, ok_ildn dX9_looksUp_64 rfl rfl⟩, ?_⟩
  refine ⟨⟨mo_push, ok_iconst dX9_looksUp_65 iv_i0 rfl⟩, ?_⟩
  refine ⟨⟨mo_push, ok_bipush dX9_looksUp_66 iv_b8 rfl⟩, ?_⟩
  refine ⟨⟨mo_cvV, ok_cvV mi_X9_sees lk_X9_370 q2131 qs110 rfl (Nat.le_of_ble_eq_true rfl) (iy_ro_le _) rfl rfl dX9_looksUp_68 rfl⟩, ?_⟩
  refine ⟨⟨mo_keep, ok_keep rfl⟩, ?_⟩
  refine ⟨⟨mo_ret, ok_ret rfl dX9_looksUp_71⟩, ?_⟩
  exact trivial
set_option maxHeartbeats 4000000 in
theorem alX9_enters : iy_all (iy_calls iy_mi) RX9 "enters" cX9_enters 2 (none, []) pcX9_enters pcX9_enters stX9_enters := by
  refine ⟨⟨mo_ald, ok_aldn dX9_enters_0 rfl rfl⟩, ?_⟩
  refine ⟨⟨mo_ild, ok_ildn dX9_enters_1 rfl rfl⟩, ?_⟩
  refine ⟨⟨mo_push, ok_iconst dX9_enters_2 iv_i0 rfl⟩, ?_⟩
  refine ⟨⟨mo_cvI, ok_cvI mi_X9_isSeen lk_X9_373 q2139 qs112 rfl (Nat.le_of_ble_eq_true rfl) (iy_ro_le _) rfl rfl dX9_enters_3 rfl⟩, ?_⟩
  refine ⟨⟨mo_ieq, ok_ieq dX9_enters_6 rfl rfl⟩, ?_⟩
  refine ⟨⟨mo_ald, ok_aldn dX9_enters_9 rfl rfl⟩, ?_⟩
  refine ⟨⟨mo_ild, ok_ildn dX9_enters_10 rfl rfl⟩, ?_⟩
  refine ⟨⟨mo_push, ok_bipush dX9_enters_11 iv_b6 rfl⟩, ?_⟩
  refine ⟨⟨mo_ald, ok_aldn dX9_enters_13 rfl rfl⟩, ?_⟩
  refine ⟨⟨mo_gR, ok_gR rfl fd_X9_80 rfl dX9_enters_14 rfl⟩, ?_⟩
  refine ⟨⟨mo_ild, ok_ildn dX9_enters_17 rfl rfl⟩, ?_⟩
  refine ⟨⟨mo_push, ok_bipush dX9_enters_18 iv_b12 rfl⟩, ?_⟩
  refine ⟨⟨mo_bin, ok_iadd dX9_enters_20 rfl⟩, ?_⟩
  refine ⟨⟨mo_alI, ok_iald dX9_enters_21 rfl⟩, ?_⟩
  refine ⟨⟨mo_ald, ok_aldn dX9_enters_22 rfl rfl⟩, ?_⟩
  refine ⟨⟨mo_gR, ok_gR rfl fd_X9_80 rfl dX9_enters_23 rfl⟩, ?_⟩
  refine ⟨⟨mo_ild, ok_ildn dX9_enters_26 rfl rfl⟩, ?_⟩
  refine ⟨⟨mo_push, ok_bipush dX9_enters_27 iv_b13 rfl⟩, ?_⟩
  refine ⟨⟨mo_bin, ok_iadd dX9_enters_29 rfl⟩, ?_⟩
  refine ⟨⟨mo_alI, ok_iald dX9_enters_30 rfl⟩, ?_⟩
  refine ⟨⟨mo_cvV, ok_cvV mi_X9_changes lk_X9_392 q2183 qs123 rfl (Nat.le_of_ble_eq_true rfl) (iy_ro_le _) rfl rfl dX9_enters_31 rfl⟩, ?_⟩
  refine ⟨⟨mo_ret, ok_ret rfl dX9_enters_34⟩, ?_⟩
  refine ⟨⟨mo_ald, ok_aldn dX9_enters_35 rfl rfl⟩, ?_⟩
  refine ⟨⟨mo_ild, ok_ildn dX9_enters_36 rfl rfl⟩, ?_⟩
  refine ⟨⟨mo_cvV, ok_cvV mi_X9_loses lk_X9_377 q2143 qs113 rfl (Nat.le_of_ble_eq_true rfl) (iy_ro_le _) rfl rfl dX9_enters_37 rfl⟩, ?_⟩
  refine ⟨⟨mo_ald, ok_aldn dX9_enters_40 rfl rfl⟩, ?_⟩
  refine ⟨⟨mo_ild, ok_ildn dX9_enters_41 rfl rfl⟩, ?_⟩
  refine ⟨⟨mo_push, ok_bipush dX9_enters_42 iv_b7 rfl⟩, ?_⟩
  refine ⟨⟨mo_cvV, ok_cvV mi_X9_stands lk_X9_348 q2099 qs102 rfl (Nat.le_of_ble_eq_true rfl) (iy_ro_le _) rfl rfl dX9_enters_44 rfl⟩, ?_⟩
  refine ⟨⟨mo_ret, ok_ret rfl dX9_enters_47⟩, ?_⟩
  exact trivial
set_option maxHeartbeats 4000000 in
theorem alX9_changes : iy_all (iy_calls iy_mi) RX9 "changes" cX9_changes 5 (none, []) pcX9_changes pcX9_changes stX9_changes := by
  refine ⟨⟨mo_ald, ok_aldn dX9_changes_0 rfl rfl⟩, ?_⟩
  refine ⟨⟨mo_push, ok_iconst dX9_changes_1 iv_i0 rfl⟩, ?_⟩
  refine ⟨⟨mo_ald, ok_aldn dX9_changes_2 rfl rfl⟩, ?_⟩
  refine ⟨⟨mo_ild, ok_ildn dX9_changes_3 rfl rfl⟩, ?_⟩
  refine ⟨⟨mo_ild, ok_ildn dX9_changes_4 rfl rfl⟩, ?_⟩
  refine ⟨⟨mo_ild, ok_ild dX9_changes_5 rfl⟩, ?_⟩
  refine ⟨⟨mo_ald, ok_aldn dX9_changes_7 rfl rfl⟩, ?_⟩
  refine ⟨⟨mo_push, ok_iconst dX9_changes_8 iv_i0 rfl⟩, ?_⟩
  refine ⟨⟨mo_cvI, ok_cvI mi_X9_topOf lk_X9_300 q2041 qs89 rfl (Nat.le_of_ble_eq_true rfl) (iy_ro_le _) rfl rfl dX9_changes_9 rfl⟩, ?_⟩
  refine ⟨⟨mo_cvI, ok_cvI mi_X9_newRecord lk_X9_285 q1742 qs61 rfl (Nat.le_of_ble_eq_true rfl) (iy_ro_le _) rfl rfl dX9_changes_12 rfl⟩, ?_⟩
  refine ⟨⟨mo_cvV, ok_cvV mi_X9_laysTop lk_X9_380 q2147 qs114 rfl (Nat.le_of_ble_eq_true rfl) (iy_ro_le _) rfl rfl dX9_changes_15 rfl⟩, ?_⟩
  refine ⟨⟨mo_ald, ok_aldn dX9_changes_18 rfl rfl⟩, ?_⟩
  refine ⟨⟨mo_push, ok_iconst dX9_changes_19 iv_i0 rfl⟩, ?_⟩
  refine ⟨⟨mo_cvI, ok_cvI mi_X9_lengthOf lk_X9_383 q2151 qs115 rfl (Nat.le_of_ble_eq_true rfl) (iy_ro_le _) rfl rfl dX9_changes_20 rfl⟩, ?_⟩
  refine ⟨⟨mo_ald, ok_aldn dX9_changes_23 rfl rfl⟩, ?_⟩
  refine ⟨⟨mo_gR, ok_gR rfl fd_X9_80 rfl dX9_changes_24 rfl⟩, ?_⟩
  refine ⟨⟨mo_push, ok_iconst dX9_changes_27 iv_i5 rfl⟩, ?_⟩
  refine ⟨⟨mo_alI, ok_iald dX9_changes_28 rfl⟩, ?_⟩
  refine ⟨⟨mo_cle, ok_cle dX9_changes_29 rfl rfl⟩, ?_⟩
  refine ⟨⟨mo_ald, ok_aldn dX9_changes_32 rfl rfl⟩, ?_⟩
  refine ⟨⟨mo_gR, ok_gR rfl fd_X9_80 rfl dX9_changes_33 rfl⟩, ?_⟩
  refine ⟨⟨mo_ild, ok_ildn dX9_changes_36 rfl rfl⟩, ?_⟩
  refine ⟨⟨mo_push, ok_iconst dX9_changes_37 iv_i2 rfl⟩, ?_⟩
  refine ⟨⟨mo_bin, ok_iadd dX9_changes_38 rfl⟩, ?_⟩
  refine ⟨⟨mo_push, ok_iconst dX9_changes_39 iv_i0 rfl⟩, ?_⟩
  refine ⟨⟨mo_asI, ok_iast dX9_changes_40 rfl⟩, ?_⟩
  refine ⟨⟨mo_ald, ok_aldn dX9_changes_41 rfl rfl⟩, ?_⟩
  refine ⟨⟨mo_ild, ok_ildn dX9_changes_42 rfl rfl⟩, ?_⟩
  refine ⟨⟨mo_push, ok_iconst dX9_changes_43 iv_i4 rfl⟩, ?_⟩
  refine ⟨⟨mo_cvV, ok_cvV mi_X9_stands lk_X9_348 q2099 qs102 rfl (Nat.le_of_ble_eq_true rfl) (iy_ro_le _) rfl rfl dX9_changes_44 rfl⟩, ?_⟩
  refine ⟨⟨mo_goto, ok_goto dX9_changes_47 rfl⟩, ?_⟩
  refine ⟨⟨mo_ald, ok_aldn dX9_changes_50 rfl rfl⟩, ?_⟩
  refine ⟨⟨mo_ild, ok_ildn dX9_changes_51 rfl rfl⟩, ?_⟩
  refine ⟨⟨mo_cvV, ok_cvV mi_X9_goOn lk_X9_386 q2159 qs117 rfl (Nat.le_of_ble_eq_true rfl) (iy_ro_le _) rfl rfl dX9_changes_52 rfl⟩, ?_⟩
  refine ⟨⟨mo_keep, ok_keep rfl⟩, ?_⟩
  refine ⟨⟨mo_ret, ok_ret rfl dX9_changes_55⟩, ?_⟩
  exact trivial
set_option maxHeartbeats 4000000 in
theorem alX9_removes : iy_all (iy_calls iy_mi) RX9 "removes" cX9_removes 4 (none, []) pcX9_removes pcX9_removes stX9_removes := by
  refine ⟨⟨mo_ald, ok_aldn dX9_removes_0 rfl rfl⟩, ?_⟩
  refine ⟨⟨mo_gR, ok_gR rfl fd_X9_80 rfl dX9_removes_1 rfl⟩, ?_⟩
  refine ⟨⟨mo_ild, ok_ildn dX9_removes_4 rfl rfl⟩, ?_⟩
  refine ⟨⟨mo_push, ok_iconst dX9_removes_5 iv_i2 rfl⟩, ?_⟩
  refine ⟨⟨mo_bin, ok_iadd dX9_removes_6 rfl⟩, ?_⟩
  refine ⟨⟨mo_alI, ok_iald dX9_removes_7 rfl⟩, ?_⟩
  refine ⟨⟨mo_ist, ok_istn dX9_removes_8 rfl (Nat.le_of_ble_eq_true rfl) rfl⟩, ?_⟩
  refine ⟨⟨mo_ald, ok_aldn dX9_removes_9 rfl rfl⟩, ?_⟩
  refine ⟨⟨mo_cvV, ok_cvV mi_X9_fillsBounds lk_X9_345 q2095 qs101 rfl (Nat.le_of_ble_eq_true rfl) (iy_ro_le _) rfl rfl dX9_removes_10 rfl⟩, ?_⟩
  refine ⟨⟨mo_ald, ok_aldn dX9_removes_13 rfl rfl⟩, ?_⟩
  refine ⟨⟨mo_ild, ok_ildn dX9_removes_14 rfl rfl⟩, ?_⟩
  refine ⟨⟨mo_cvI, ok_cvI mi_X9_boundOf lk_X9_396 q2191 qs125 rfl (Nat.le_of_ble_eq_true rfl) (iy_ro_le _) rfl rfl dX9_removes_15 rfl⟩, ?_⟩
  refine ⟨⟨mo_ist, ok_istn dX9_removes_18 rfl (Nat.le_of_ble_eq_true rfl) rfl⟩, ?_⟩
  refine ⟨⟨mo_ald, ok_aldn dX9_removes_19 rfl rfl⟩, ?_⟩
  refine ⟨⟨mo_ild, ok_ildn dX9_removes_20 rfl rfl⟩, ?_⟩
  refine ⟨⟨mo_ild, ok_ildn dX9_removes_21 rfl rfl⟩, ?_⟩
  refine ⟨⟨mo_cvI, ok_cvI mi_X9_isSeen lk_X9_373 q2139 qs112 rfl (Nat.le_of_ble_eq_true rfl) (iy_ro_le _) rfl rfl dX9_removes_22 rfl⟩, ?_⟩
  refine ⟨⟨mo_ieq, ok_ieq dX9_removes_25 rfl rfl⟩, ?_⟩
  refine ⟨⟨mo_ild, ok_ildn dX9_removes_28 rfl rfl⟩, ?_⟩
  refine ⟨⟨mo_ilt, ok_ilt dX9_removes_29 rfl rfl⟩, ?_⟩
  refine ⟨⟨mo_ald, ok_aldn dX9_removes_32 rfl rfl⟩, ?_⟩
  refine ⟨⟨mo_gR, ok_gR rfl fd_X9_92 rfl dX9_removes_33 rfl⟩, ?_⟩
  refine ⟨⟨mo_ild, ok_ildn dX9_removes_36 rfl rfl⟩, ?_⟩
  refine ⟨⟨mo_alI, ok_iald dX9_removes_37 rfl⟩, ?_⟩
  refine ⟨⟨mo_ine, ok_ine dX9_removes_38 rfl rfl⟩, ?_⟩
  refine ⟨⟨mo_keep, ok_keep rfl⟩, ?_⟩
  refine ⟨⟨mo_ald, ok_aldn dX9_removes_41 rfl rfl⟩, ?_⟩
  refine ⟨⟨mo_ild, ok_ildn dX9_removes_42 rfl rfl⟩, ?_⟩
  refine ⟨⟨mo_cvV, ok_cvV mi_X9_goOn lk_X9_386 q2159 qs117 rfl (Nat.le_of_ble_eq_true rfl) (iy_ro_le _) rfl rfl dX9_removes_43 rfl⟩, ?_⟩
  refine ⟨⟨mo_ret, ok_ret rfl dX9_removes_46⟩, ?_⟩
  refine ⟨⟨mo_ald, ok_aldn dX9_removes_47 rfl rfl⟩, ?_⟩
  refine ⟨⟨mo_ild, ok_ildn dX9_removes_48 rfl rfl⟩, ?_⟩
  refine ⟨⟨mo_ald, ok_aldn dX9_removes_49 rfl rfl⟩, ?_⟩
  refine ⟨⟨mo_push, ok_iconst dX9_removes_50 iv_i4 rfl⟩, ?_⟩
  refine ⟨⟨mo_push, ok_bipush dX9_removes_51 iv_bm2 rfl⟩, ?_⟩
  refine ⟨⟨mo_push, ok_bipush dX9_removes_53 iv_bm2 rfl⟩, ?_⟩
  refine ⟨⟨mo_ald, ok_aldn dX9_removes_55 rfl rfl⟩, ?_⟩
  refine ⟨⟨mo_ild, ok_ildn dX9_removes_56 rfl rfl⟩, ?_⟩
  refine ⟨⟨mo_cvI, ok_cvI mi_X9_topOf lk_X9_300 q2041 qs89 rfl (Nat.le_of_ble_eq_true rfl) (iy_ro_le _) rfl rfl dX9_removes_57 rfl⟩, ?_⟩
  refine ⟨⟨mo_cvI, ok_cvI mi_X9_newRecord lk_X9_285 q1742 qs61 rfl (Nat.le_of_ble_eq_true rfl) (iy_ro_le _) rfl rfl dX9_removes_60 rfl⟩, ?_⟩
  refine ⟨⟨mo_cvV, ok_cvV mi_X9_laysTop lk_X9_380 q2147 qs114 rfl (Nat.le_of_ble_eq_true rfl) (iy_ro_le _) rfl rfl dX9_removes_63 rfl⟩, ?_⟩
  refine ⟨⟨mo_ald, ok_aldn dX9_removes_66 rfl rfl⟩, ?_⟩
  refine ⟨⟨mo_ild, ok_ildn dX9_removes_67 rfl rfl⟩, ?_⟩
  refine ⟨⟨mo_ild, ok_ildn dX9_removes_68 rfl rfl⟩, ?_⟩
  refine ⟨⟨mo_cvV, ok_cvV mi_X9_leaves lk_X9_354 q2111 qs105 rfl (Nat.le_of_ble_eq_true rfl) (iy_ro_le _) rfl rfl dX9_removes_69 rfl⟩, ?_⟩
  refine ⟨⟨mo_ret, ok_ret rfl dX9_removes_72⟩, ?_⟩
  exact trivial
set_option maxHeartbeats 4000000 in
theorem alX9_boundOf : iy_all (iy_calls iy_mi) RX9 "boundOf" cX9_boundOf 3 (some FieldType.int, []) pcX9_boundOf pcX9_boundOf stX9_boundOf := by
  refine ⟨⟨mo_push, ok_iconst dX9_boundOf_0 iv_i0 rfl⟩, ?_⟩
  refine ⟨⟨mo_ist, ok_istn dX9_boundOf_1 rfl (Nat.le_of_ble_eq_true rfl) rfl⟩, ?_⟩
  refine ⟨⟨mo_keep, ok_keep rfl⟩, ?_⟩
  refine ⟨⟨mo_ild, ok_ildn dX9_boundOf_2 rfl rfl⟩, ?_⟩
  refine ⟨⟨mo_ald, ok_aldn dX9_boundOf_3 rfl rfl⟩, ?_⟩
  refine ⟨⟨mo_gI, ok_gI rfl fd_X9_342 rfl dX9_boundOf_4 rfl⟩, ?_⟩
  refine ⟨⟨mo_cge, ok_cge dX9_boundOf_7 rfl rfl⟩, ?_⟩
  refine ⟨⟨mo_ald, ok_aldn dX9_boundOf_10 rfl rfl⟩, ?_⟩
  refine ⟨⟨mo_gR, ok_gR rfl fd_X9_95 rfl dX9_boundOf_11 rfl⟩, ?_⟩
  refine ⟨⟨mo_ild, ok_ildn dX9_boundOf_14 rfl rfl⟩, ?_⟩
  refine ⟨⟨mo_alI, ok_iald dX9_boundOf_15 rfl⟩, ?_⟩
  refine ⟨⟨mo_ild, ok_ildn dX9_boundOf_16 rfl rfl⟩, ?_⟩
  refine ⟨⟨mo_cne, ok_cne dX9_boundOf_17 rfl rfl⟩, ?_⟩
  refine ⟨⟨mo_ild, ok_ildn dX9_boundOf_20 rfl rfl⟩, ?_⟩
  refine ⟨⟨mo_iret, ok_iret rfl rfl dX9_boundOf_21⟩, ?_⟩
  refine ⟨⟨mo_inc, ok_inc dX9_boundOf_22 iv_i1 (Nat.le_of_ble_eq_true rfl) rfl⟩, ?_⟩
  refine ⟨⟨mo_back, ok_back dX9_boundOf_25 rfl⟩, ?_⟩
  refine ⟨⟨mo_push, ok_iconst dX9_boundOf_28 iv_im1 rfl⟩, ?_⟩
  refine ⟨⟨mo_iret, ok_iret rfl rfl dX9_boundOf_29⟩, ?_⟩
  exact trivial
set_option maxHeartbeats 4000000 in
theorem alX9_goesLeft : iy_all (iy_calls iy_mi) RX9 "goesLeft" cX9_goesLeft 5 (none, []) pcX9_goesLeft pcX9_goesLeft stX9_goesLeft := by
  refine ⟨⟨mo_ald, ok_aldn dX9_goesLeft_0 rfl rfl⟩, ?_⟩
  refine ⟨⟨mo_gR, ok_gR rfl fd_X9_80 rfl dX9_goesLeft_1 rfl⟩, ?_⟩
  refine ⟨⟨mo_ild, ok_ildn dX9_goesLeft_4 rfl rfl⟩, ?_⟩
  refine ⟨⟨mo_push, ok_bipush dX9_goesLeft_5 iv_b11 rfl⟩, ?_⟩
  refine ⟨⟨mo_bin, ok_iadd dX9_goesLeft_7 rfl⟩, ?_⟩
  refine ⟨⟨mo_alI, ok_iald dX9_goesLeft_8 rfl⟩, ?_⟩
  refine ⟨⟨mo_ist, ok_istn dX9_goesLeft_9 rfl (Nat.le_of_ble_eq_true rfl) rfl⟩, ?_⟩
  refine ⟨⟨mo_ald, ok_aldn dX9_goesLeft_10 rfl rfl⟩, ?_⟩
  refine ⟨⟨mo_cvV, ok_cvV mi_X9_fillsBounds lk_X9_345 q2095 qs101 rfl (Nat.le_of_ble_eq_true rfl) (iy_ro_le _) rfl rfl dX9_goesLeft_11 rfl⟩, ?_⟩
  refine ⟨⟨mo_ald, ok_aldn dX9_goesLeft_14 rfl rfl⟩, ?_⟩
  refine ⟨⟨mo_ild, ok_ildn dX9_goesLeft_15 rfl rfl⟩, ?_⟩
  refine ⟨⟨mo_cvI, ok_cvI mi_X9_boundOf lk_X9_396 q2191 qs125 rfl (Nat.le_of_ble_eq_true rfl) (iy_ro_le _) rfl rfl dX9_goesLeft_16 rfl⟩, ?_⟩
  refine ⟨⟨mo_ist, ok_istn dX9_goesLeft_19 rfl (Nat.le_of_ble_eq_true rfl) rfl⟩, ?_⟩
  refine ⟨⟨mo_ild, ok_ildn dX9_goesLeft_20 rfl rfl⟩, ?_⟩
  refine ⟨⟨mo_push, ok_iconst dX9_goesLeft_21 iv_i1 rfl⟩, ?_⟩
  refine ⟨⟨mo_cge, ok_cge dX9_goesLeft_22 rfl rfl⟩, ?_⟩
  refine ⟨⟨mo_ald, ok_aldn dX9_goesLeft_25 rfl rfl⟩, ?_⟩
  refine ⟨⟨mo_ild, ok_ildn dX9_goesLeft_26 rfl rfl⟩, ?_⟩
  refine ⟨⟨mo_cvV, ok_cvV mi_X9_goOn lk_X9_386 q2159 qs117 rfl (Nat.le_of_ble_eq_true rfl) (iy_ro_le _) rfl rfl dX9_goesLeft_27 rfl⟩, ?_⟩
  refine ⟨⟨mo_ret, ok_ret rfl dX9_goesLeft_30⟩, ?_⟩
  refine ⟨⟨mo_ald, ok_aldn dX9_goesLeft_31 rfl rfl⟩, ?_⟩
  refine ⟨⟨mo_gR, ok_gR rfl fd_X9_95 rfl dX9_goesLeft_32 rfl⟩, ?_⟩
  refine ⟨⟨mo_ild, ok_ildn dX9_goesLeft_35 rfl rfl⟩, ?_⟩
  refine ⟨⟨mo_push, ok_iconst dX9_goesLeft_36 iv_i1 rfl⟩, ?_⟩
  refine ⟨⟨mo_bin, ok_isub dX9_goesLeft_37 rfl⟩, ?_⟩
  refine ⟨⟨mo_alI, ok_iald dX9_goesLeft_38 rfl⟩, ?_⟩
  refine ⟨⟨mo_ist, ok_ist dX9_goesLeft_39 (Nat.le_of_ble_eq_true rfl) rfl⟩, ?_⟩
  refine ⟨⟨mo_ald, ok_aldn dX9_goesLeft_41 rfl rfl⟩, ?_⟩
  refine ⟨⟨mo_ild, ok_ild dX9_goesLeft_42 rfl⟩, ?_⟩
  refine ⟨⟨mo_cvI, ok_cvI mi_X9_isGone lk_X9_351 q2107 qs104 rfl (Nat.le_of_ble_eq_true rfl) (iy_ro_le _) rfl rfl dX9_goesLeft_44 rfl⟩, ?_⟩
  refine ⟨⟨mo_ieq, ok_ieq dX9_goesLeft_47 rfl rfl⟩, ?_⟩
  refine ⟨⟨mo_ald, ok_aldn dX9_goesLeft_50 rfl rfl⟩, ?_⟩
  refine ⟨⟨mo_ild, ok_ildn dX9_goesLeft_51 rfl rfl⟩, ?_⟩
  refine ⟨⟨mo_ild, ok_ild dX9_goesLeft_52 rfl⟩, ?_⟩
  refine ⟨⟨mo_cvV, ok_cvV mi_X9_leaves lk_X9_354 q2111 qs105 rfl (Nat.le_of_ble_eq_true rfl) (iy_ro_le _) rfl rfl dX9_goesLeft_54 rfl⟩, ?_⟩
  refine ⟨⟨mo_ret, ok_ret rfl dX9_goesLeft_57⟩, ?_⟩
  refine ⟨⟨mo_ald, ok_aldn dX9_goesLeft_58 rfl rfl⟩, ?_⟩
  refine ⟨⟨mo_ild, ok_ild dX9_goesLeft_59 rfl⟩, ?_⟩
  refine ⟨⟨mo_cvV, ok_cvV mi_X9_fillsHas lk_X9_339 q2033 qs87 rfl (Nat.le_of_ble_eq_true rfl) (iy_ro_le _) rfl rfl dX9_goesLeft_61 rfl⟩, ?_⟩
  refine ⟨⟨mo_ald, ok_aldn dX9_goesLeft_64 rfl rfl⟩, ?_⟩
  refine ⟨⟨mo_gI, ok_gI rfl fd_X9_324 rfl dX9_goesLeft_65 rfl⟩, ?_⟩
  refine ⟨⟨mo_ald, ok_aldn dX9_goesLeft_68 rfl rfl⟩, ?_⟩
  refine ⟨⟨mo_gR, ok_gR rfl fd_X9_92 rfl dX9_goesLeft_69 rfl⟩, ?_⟩
  refine ⟨⟨mo_ild, ok_ildn dX9_goesLeft_72 rfl rfl⟩, ?_⟩
  refine ⟨⟨mo_alI, ok_iald dX9_goesLeft_73 rfl⟩, ?_⟩
  refine ⟨⟨mo_cge, ok_cge dX9_goesLeft_74 rfl rfl⟩, ?_⟩
  refine ⟨⟨mo_ald, ok_aldn dX9_goesLeft_77 rfl rfl⟩, ?_⟩
  refine ⟨⟨mo_ild, ok_ildn dX9_goesLeft_78 rfl rfl⟩, ?_⟩
  refine ⟨⟨mo_ald, ok_aldn dX9_goesLeft_79 rfl rfl⟩, ?_⟩
  refine ⟨⟨mo_gI, ok_gI rfl fd_X9_324 rfl dX9_goesLeft_80 rfl⟩, ?_⟩
  refine ⟨⟨mo_ald, ok_aldn dX9_goesLeft_83 rfl rfl⟩, ?_⟩
  refine ⟨⟨mo_gI, ok_gI rfl fd_X9_327 rfl dX9_goesLeft_84 rfl⟩, ?_⟩
  refine ⟨⟨mo_cvV, ok_cvV mi_X9_notes lk_X9_360 q2119 qs107 rfl (Nat.le_of_ble_eq_true rfl) (iy_ro_le _) rfl rfl dX9_goesLeft_87 rfl⟩, ?_⟩
  refine ⟨⟨mo_goto, ok_goto dX9_goesLeft_90 rfl⟩, ?_⟩
  refine ⟨⟨mo_ald, ok_aldn dX9_goesLeft_93 rfl rfl⟩, ?_⟩
  refine ⟨⟨mo_gI, ok_gI rfl fd_X9_324 rfl dX9_goesLeft_94 rfl⟩, ?_⟩
  refine ⟨⟨mo_ald, ok_aldn dX9_goesLeft_97 rfl rfl⟩, ?_⟩
  refine ⟨⟨mo_gR, ok_gR rfl fd_X9_92 rfl dX9_goesLeft_98 rfl⟩, ?_⟩
  refine ⟨⟨mo_ild, ok_ildn dX9_goesLeft_101 rfl rfl⟩, ?_⟩
  refine ⟨⟨mo_alI, ok_iald dX9_goesLeft_102 rfl⟩, ?_⟩
  refine ⟨⟨mo_cne, ok_cne dX9_goesLeft_103 rfl rfl⟩, ?_⟩
  refine ⟨⟨mo_ald, ok_aldn dX9_goesLeft_106 rfl rfl⟩, ?_⟩
  refine ⟨⟨mo_gI, ok_gI rfl fd_X9_327 rfl dX9_goesLeft_107 rfl⟩, ?_⟩
  refine ⟨⟨mo_ild, ok_ildn dX9_goesLeft_110 rfl rfl⟩, ?_⟩
  refine ⟨⟨mo_cne, ok_cne dX9_goesLeft_111 rfl rfl⟩, ?_⟩
  refine ⟨⟨mo_ald, ok_aldn dX9_goesLeft_114 rfl rfl⟩, ?_⟩
  refine ⟨⟨mo_gR, ok_gR rfl fd_X9_80 rfl dX9_goesLeft_115 rfl⟩, ?_⟩
  refine ⟨⟨mo_ild, ok_ildn dX9_goesLeft_118 rfl rfl⟩, ?_⟩
  refine ⟨⟨mo_push, ok_bipush dX9_goesLeft_119 iv_b12 rfl⟩, ?_⟩
  refine ⟨⟨mo_bin, ok_iadd dX9_goesLeft_121 rfl⟩, ?_⟩
  refine ⟨⟨mo_ald, ok_aldn dX9_goesLeft_122 rfl rfl⟩, ?_⟩
  refine ⟨⟨mo_gR, ok_gR rfl fd_X9_92 rfl dX9_goesLeft_123 rfl⟩, ?_⟩
  refine ⟨⟨mo_ild, ok_ildn dX9_goesLeft_126 rfl rfl⟩, ?_⟩
  refine ⟨⟨mo_alI, ok_iald dX9_goesLeft_127 rfl⟩, ?_⟩
  refine ⟨⟨mo_asI, ok_iast dX9_goesLeft_128 rfl⟩, ?_⟩
  refine ⟨⟨mo_ald, ok_aldn dX9_goesLeft_129 rfl rfl⟩, ?_⟩
  refine ⟨⟨mo_gR, ok_gR rfl fd_X9_80 rfl dX9_goesLeft_130 rfl⟩, ?_⟩
  refine ⟨⟨mo_ild, ok_ildn dX9_goesLeft_133 rfl rfl⟩, ?_⟩
  refine ⟨⟨mo_push, ok_bipush dX9_goesLeft_134 iv_b13 rfl⟩, ?_⟩
  refine ⟨⟨mo_bin, ok_iadd dX9_goesLeft_136 rfl⟩, ?_⟩
  refine ⟨⟨mo_ild, ok_ild dX9_goesLeft_137 rfl⟩, ?_⟩
  refine ⟨⟨mo_asI, ok_iast dX9_goesLeft_139 rfl⟩, ?_⟩
  refine ⟨⟨mo_ald, ok_aldn dX9_goesLeft_140 rfl rfl⟩, ?_⟩
  refine ⟨⟨mo_ild, ok_ildn dX9_goesLeft_141 rfl rfl⟩, ?_⟩
  refine ⟨⟨mo_ild, ok_ild dX9_goesLeft_142 rfl⟩, ?_⟩
  refine ⟨⟨mo_push, ok_bipush dX9_goesLeft_144 iv_b11 rfl⟩, ?_⟩
  refine ⟨⟨mo_cvV, ok_cvV mi_X9_sees lk_X9_370 q2131 qs110 rfl (Nat.le_of_ble_eq_true rfl) (iy_ro_le _) rfl rfl dX9_goesLeft_146 rfl⟩, ?_⟩
  refine ⟨⟨mo_goto, ok_goto dX9_goesLeft_149 rfl⟩, ?_⟩
  refine ⟨⟨mo_keep, ok_keep rfl⟩, ?_⟩
  refine ⟨⟨mo_ald, ok_aldn dX9_goesLeft_152 rfl rfl⟩, ?_⟩
  refine ⟨⟨mo_ild, ok_ildn dX9_goesLeft_153 rfl rfl⟩, ?_⟩
  refine ⟨⟨mo_push, ok_bipush dX9_goesLeft_154 iv_b12 rfl⟩, ?_⟩
  refine ⟨⟨mo_cvV, ok_cvV mi_X9_stands lk_X9_348 q2099 qs102 rfl (Nat.le_of_ble_eq_true rfl) (iy_ro_le _) rfl rfl dX9_goesLeft_156 rfl⟩, ?_⟩
  refine ⟨⟨mo_keep, ok_keep rfl⟩, ?_⟩
  refine ⟨⟨mo_ret, ok_ret rfl dX9_goesLeft_159⟩, ?_⟩
  exact trivial
set_option maxHeartbeats 4000000 in
theorem alX9_merges : iy_all (iy_calls iy_mi) RX9 "merges" cX9_merges 6 (none, []) pcX9_merges pcX9_merges stX9_merges := by
  refine ⟨⟨mo_ald, ok_aldn dX9_merges_0 rfl rfl⟩, ?_⟩
  refine ⟨⟨mo_gR, ok_gR rfl fd_X9_80 rfl dX9_merges_1 rfl⟩, ?_⟩
  refine ⟨⟨mo_ild, ok_ildn dX9_merges_4 rfl rfl⟩, ?_⟩
  refine ⟨⟨mo_push, ok_bipush dX9_merges_5 iv_b13 rfl⟩, ?_⟩
  refine ⟨⟨mo_bin, ok_iadd dX9_merges_7 rfl⟩, ?_⟩
  refine ⟨⟨mo_alI, ok_iald dX9_merges_8 rfl⟩, ?_⟩
  refine ⟨⟨mo_ist, ok_istn dX9_merges_9 rfl (Nat.le_of_ble_eq_true rfl) rfl⟩, ?_⟩
  refine ⟨⟨mo_ald, ok_aldn dX9_merges_10 rfl rfl⟩, ?_⟩
  refine ⟨⟨mo_gR, ok_gR rfl fd_X9_80 rfl dX9_merges_11 rfl⟩, ?_⟩
  refine ⟨⟨mo_ild, ok_ildn dX9_merges_14 rfl rfl⟩, ?_⟩
  refine ⟨⟨mo_push, ok_bipush dX9_merges_15 iv_b11 rfl⟩, ?_⟩
  refine ⟨⟨mo_bin, ok_iadd dX9_merges_17 rfl⟩, ?_⟩
  refine ⟨⟨mo_alI, ok_iald dX9_merges_18 rfl⟩, ?_⟩
  refine ⟨⟨mo_ist, ok_istn dX9_merges_19 rfl (Nat.le_of_ble_eq_true rfl) rfl⟩, ?_⟩
  refine ⟨⟨mo_ald, ok_aldn dX9_merges_20 rfl rfl⟩, ?_⟩
  refine ⟨⟨mo_ild, ok_ildn dX9_merges_21 rfl rfl⟩, ?_⟩
  refine ⟨⟨mo_ild, ok_ildn dX9_merges_22 rfl rfl⟩, ?_⟩
  refine ⟨⟨mo_cvI, ok_cvI mi_X9_isSeen lk_X9_373 q2139 qs112 rfl (Nat.le_of_ble_eq_true rfl) (iy_ro_le _) rfl rfl dX9_merges_23 rfl⟩, ?_⟩
  refine ⟨⟨mo_ine, ok_ine dX9_merges_26 rfl rfl⟩, ?_⟩
  refine ⟨⟨mo_ald, ok_aldn dX9_merges_29 rfl rfl⟩, ?_⟩
  refine ⟨⟨mo_ild, ok_ildn dX9_merges_30 rfl rfl⟩, ?_⟩
  refine ⟨⟨mo_cvV, ok_cvV mi_X9_loses lk_X9_377 q2143 qs113 rfl (Nat.le_of_ble_eq_true rfl) (iy_ro_le _) rfl rfl dX9_merges_31 rfl⟩, ?_⟩
  refine ⟨⟨mo_ald, ok_aldn dX9_merges_34 rfl rfl⟩, ?_⟩
  refine ⟨⟨mo_ild, ok_ildn dX9_merges_35 rfl rfl⟩, ?_⟩
  refine ⟨⟨mo_push, ok_bipush dX9_merges_36 iv_b10 rfl⟩, ?_⟩
  refine ⟨⟨mo_cvV, ok_cvV mi_X9_stands lk_X9_348 q2099 qs102 rfl (Nat.le_of_ble_eq_true rfl) (iy_ro_le _) rfl rfl dX9_merges_38 rfl⟩, ?_⟩
  refine ⟨⟨mo_ret, ok_ret rfl dX9_merges_41⟩, ?_⟩
  refine ⟨⟨mo_ald, ok_aldn dX9_merges_42 rfl rfl⟩, ?_⟩
  refine ⟨⟨mo_ild, ok_ildn dX9_merges_43 rfl rfl⟩, ?_⟩
  refine ⟨⟨mo_cvI, ok_cvI mi_X9_baseOf lk_X9_399 q2203 qs128 rfl (Nat.le_of_ble_eq_true rfl) (iy_ro_le _) rfl rfl dX9_merges_44 rfl⟩, ?_⟩
  refine ⟨⟨mo_ist, ok_ist dX9_merges_47 (Nat.le_of_ble_eq_true rfl) rfl⟩, ?_⟩
  refine ⟨⟨mo_ald, ok_aldn dX9_merges_49 rfl rfl⟩, ?_⟩
  refine ⟨⟨mo_push, ok_iconst dX9_merges_50 iv_i5 rfl⟩, ?_⟩
  refine ⟨⟨mo_ald, ok_aldn dX9_merges_51 rfl rfl⟩, ?_⟩
  refine ⟨⟨mo_gR, ok_gR rfl fd_X9_80 rfl dX9_merges_52 rfl⟩, ?_⟩
  refine ⟨⟨mo_ild, ok_ildn dX9_merges_55 rfl rfl⟩, ?_⟩
  refine ⟨⟨mo_push, ok_bipush dX9_merges_56 iv_b12 rfl⟩, ?_⟩
  refine ⟨⟨mo_bin, ok_iadd dX9_merges_58 rfl⟩, ?_⟩
  refine ⟨⟨mo_alI, ok_iald dX9_merges_59 rfl⟩, ?_⟩
  refine ⟨⟨mo_ild, ok_ildn dX9_merges_60 rfl rfl⟩, ?_⟩
  refine ⟨⟨mo_ald, ok_aldn dX9_merges_61 rfl rfl⟩, ?_⟩
  refine ⟨⟨mo_ild, ok_ildn dX9_merges_62 rfl rfl⟩, ?_⟩
  refine ⟨⟨mo_cvI, ok_cvI mi_X9_topOf lk_X9_300 q2041 qs89 rfl (Nat.le_of_ble_eq_true rfl) (iy_ro_le _) rfl rfl dX9_merges_63 rfl⟩, ?_⟩
  refine ⟨⟨mo_cvI, ok_cvI mi_X9_newRecord lk_X9_285 q1742 qs61 rfl (Nat.le_of_ble_eq_true rfl) (iy_ro_le _) rfl rfl dX9_merges_66 rfl⟩, ?_⟩
  refine ⟨⟨mo_ist, ok_ist dX9_merges_69 (Nat.le_of_ble_eq_true rfl) rfl⟩, ?_⟩
  refine ⟨⟨mo_ald, ok_aldn dX9_merges_71 rfl rfl⟩, ?_⟩
  refine ⟨⟨mo_gR, ok_gR rfl fd_X9_80 rfl dX9_merges_72 rfl⟩, ?_⟩
  refine ⟨⟨mo_ild, ok_ild dX9_merges_75 rfl⟩, ?_⟩
  refine ⟨⟨mo_csI, ok_csI mi_X9_record0 lk_X9_282 q1745 dX9_merges_77 rfl⟩, ?_⟩
  refine ⟨⟨mo_push, ok_bipush dX9_merges_80 iv_b9 rfl⟩, ?_⟩
  refine ⟨⟨mo_bin, ok_iadd dX9_merges_82 rfl⟩, ?_⟩
  refine ⟨⟨mo_ild, ok_ild dX9_merges_83 rfl⟩, ?_⟩
  refine ⟨⟨mo_asI, ok_iast dX9_merges_85 rfl⟩, ?_⟩
  refine ⟨⟨mo_ald, ok_aldn dX9_merges_86 rfl rfl⟩, ?_⟩
  refine ⟨⟨mo_ild, ok_ildn dX9_merges_87 rfl rfl⟩, ?_⟩
  refine ⟨⟨mo_ild, ok_ild dX9_merges_88 rfl⟩, ?_⟩
  refine ⟨⟨mo_cvV, ok_cvV mi_X9_laysTop lk_X9_380 q2147 qs114 rfl (Nat.le_of_ble_eq_true rfl) (iy_ro_le _) rfl rfl dX9_merges_90 rfl⟩, ?_⟩
  refine ⟨⟨mo_ald, ok_aldn dX9_merges_93 rfl rfl⟩, ?_⟩
  refine ⟨⟨mo_ild, ok_ildn dX9_merges_94 rfl rfl⟩, ?_⟩
  refine ⟨⟨mo_push, ok_bipush dX9_merges_95 iv_b12 rfl⟩, ?_⟩
  refine ⟨⟨mo_cvV, ok_cvV mi_X9_stands lk_X9_348 q2099 qs102 rfl (Nat.le_of_ble_eq_true rfl) (iy_ro_le _) rfl rfl dX9_merges_97 rfl⟩, ?_⟩
  refine ⟨⟨mo_ret, ok_ret rfl dX9_merges_100⟩, ?_⟩
  exact trivial
set_option maxHeartbeats 4000000 in
theorem alX9_baseOf : iy_all (iy_calls iy_mi) RX9 "baseOf" cX9_baseOf 2 (some FieldType.int, []) pcX9_baseOf pcX9_baseOf stX9_baseOf := by
  refine ⟨⟨mo_ald, ok_aldn dX9_baseOf_0 rfl rfl⟩, ?_⟩
  refine ⟨⟨mo_ild, ok_ildn dX9_baseOf_1 rfl rfl⟩, ?_⟩
  refine ⟨⟨mo_cvV, ok_cvV mi_X9_fillsChain lk_X9_306 q2037 qs88 rfl (Nat.le_of_ble_eq_true rfl) (iy_ro_le _) rfl rfl dX9_baseOf_2 rfl⟩, ?_⟩
  refine ⟨⟨mo_ald, ok_aldn dX9_baseOf_5 rfl rfl⟩, ?_⟩
  refine ⟨⟨mo_gR, ok_gR rfl fd_X9_83 rfl dX9_baseOf_6 rfl⟩, ?_⟩
  refine ⟨⟨mo_ald, ok_aldn dX9_baseOf_9 rfl rfl⟩, ?_⟩
  refine ⟨⟨mo_gI, ok_gI rfl fd_X9_303 rfl dX9_baseOf_10 rfl⟩, ?_⟩
  refine ⟨⟨mo_push, ok_iconst dX9_baseOf_13 iv_i1 rfl⟩, ?_⟩
  refine ⟨⟨mo_bin, ok_isub dX9_baseOf_14 rfl⟩, ?_⟩
  refine ⟨⟨mo_alI, ok_iald dX9_baseOf_15 rfl⟩, ?_⟩
  refine ⟨⟨mo_iret, ok_iret rfl rfl dX9_baseOf_16⟩, ?_⟩
  exact trivial
set_option maxHeartbeats 4000000 in
theorem alX9_looksOn : iy_all (iy_calls iy_mi) RX9 "looksOn" cX9_looksOn 2 (none, []) pcX9_looksOn pcX9_looksOn stX9_looksOn := by
  refine ⟨⟨mo_ald, ok_aldn dX9_looksOn_0 rfl rfl⟩, ?_⟩
  refine ⟨⟨mo_cvV, ok_cvV mi_X9_fillsBounds lk_X9_345 q2095 qs101 rfl (Nat.le_of_ble_eq_true rfl) (iy_ro_le _) rfl rfl dX9_looksOn_1 rfl⟩, ?_⟩
  refine ⟨⟨mo_ald, ok_aldn dX9_looksOn_4 rfl rfl⟩, ?_⟩
  refine ⟨⟨mo_ald, ok_aldn dX9_looksOn_5 rfl rfl⟩, ?_⟩
  refine ⟨⟨mo_gR, ok_gR rfl fd_X9_80 rfl dX9_looksOn_6 rfl⟩, ?_⟩
  refine ⟨⟨mo_ild, ok_ildn dX9_looksOn_9 rfl rfl⟩, ?_⟩
  refine ⟨⟨mo_push, ok_bipush dX9_looksOn_10 iv_b11 rfl⟩, ?_⟩
  refine ⟨⟨mo_bin, ok_iadd dX9_looksOn_12 rfl⟩, ?_⟩
  refine ⟨⟨mo_alI, ok_iald dX9_looksOn_13 rfl⟩, ?_⟩
  refine ⟨⟨mo_cvI, ok_cvI mi_X9_boundOf lk_X9_396 q2191 qs125 rfl (Nat.le_of_ble_eq_true rfl) (iy_ro_le _) rfl rfl dX9_looksOn_14 rfl⟩, ?_⟩
  refine ⟨⟨mo_ige, ok_ige dX9_looksOn_17 rfl rfl⟩, ?_⟩
  refine ⟨⟨mo_ald, ok_aldn dX9_looksOn_20 rfl rfl⟩, ?_⟩
  refine ⟨⟨mo_ild, ok_ildn dX9_looksOn_21 rfl rfl⟩, ?_⟩
  refine ⟨⟨mo_cvV, ok_cvV mi_X9_goOn lk_X9_386 q2159 qs117 rfl (Nat.le_of_ble_eq_true rfl) (iy_ro_le _) rfl rfl dX9_looksOn_22 rfl⟩, ?_⟩
  refine ⟨⟨mo_goto, ok_goto dX9_looksOn_25 rfl⟩, ?_⟩
  refine ⟨⟨mo_ald, ok_aldn dX9_looksOn_28 rfl rfl⟩, ?_⟩
  refine ⟨⟨mo_ild, ok_ildn dX9_looksOn_29 rfl rfl⟩, ?_⟩
  refine ⟨⟨mo_push, ok_iconst dX9_looksOn_30 iv_i0 rfl⟩, ?_⟩
  refine ⟨⟨mo_push, ok_bipush dX9_looksOn_31 iv_b13 rfl⟩, ?_⟩
  refine ⟨⟨mo_cvV, ok_cvV mi_X9_sees lk_X9_370 q2131 qs110 rfl (Nat.le_of_ble_eq_true rfl) (iy_ro_le _) rfl rfl dX9_looksOn_33 rfl⟩, ?_⟩
  refine ⟨⟨mo_keep, ok_keep rfl⟩, ?_⟩
  refine ⟨⟨mo_ret, ok_ret rfl dX9_looksOn_36⟩, ?_⟩
  exact trivial
set_option maxHeartbeats 4000000 in
theorem alX9_strikes : iy_all (iy_calls iy_mi) RX9 "strikes" cX9_strikes 4 (none, []) pcX9_strikes pcX9_strikes stX9_strikes := by
  refine ⟨⟨mo_ald, ok_aldn dX9_strikes_0 rfl rfl⟩, ?_⟩
  refine ⟨⟨mo_gR, ok_gR rfl fd_X9_80 rfl dX9_strikes_1 rfl⟩, ?_⟩
  refine ⟨⟨mo_ild, ok_ildn dX9_strikes_4 rfl rfl⟩, ?_⟩
  refine ⟨⟨mo_push, ok_bipush dX9_strikes_5 iv_b11 rfl⟩, ?_⟩
  refine ⟨⟨mo_bin, ok_iadd dX9_strikes_7 rfl⟩, ?_⟩
  refine ⟨⟨mo_alI, ok_iald dX9_strikes_8 rfl⟩, ?_⟩
  refine ⟨⟨mo_ist, ok_istn dX9_strikes_9 rfl (Nat.le_of_ble_eq_true rfl) rfl⟩, ?_⟩
  refine ⟨⟨mo_ald, ok_aldn dX9_strikes_10 rfl rfl⟩, ?_⟩
  refine ⟨⟨mo_ild, ok_ildn dX9_strikes_11 rfl rfl⟩, ?_⟩
  refine ⟨⟨mo_push, ok_iconst dX9_strikes_12 iv_i0 rfl⟩, ?_⟩
  refine ⟨⟨mo_cvI, ok_cvI mi_X9_isSeen lk_X9_373 q2139 qs112 rfl (Nat.le_of_ble_eq_true rfl) (iy_ro_le _) rfl rfl dX9_strikes_13 rfl⟩, ?_⟩
  refine ⟨⟨mo_ine, ok_ine dX9_strikes_16 rfl rfl⟩, ?_⟩
  refine ⟨⟨mo_ald, ok_aldn dX9_strikes_19 rfl rfl⟩, ?_⟩
  refine ⟨⟨mo_ild, ok_ildn dX9_strikes_20 rfl rfl⟩, ?_⟩
  refine ⟨⟨mo_cvV, ok_cvV mi_X9_loses lk_X9_377 q2143 qs113 rfl (Nat.le_of_ble_eq_true rfl) (iy_ro_le _) rfl rfl dX9_strikes_21 rfl⟩, ?_⟩
  refine ⟨⟨mo_ald, ok_aldn dX9_strikes_24 rfl rfl⟩, ?_⟩
  refine ⟨⟨mo_ild, ok_ildn dX9_strikes_25 rfl rfl⟩, ?_⟩
  refine ⟨⟨mo_push, ok_bipush dX9_strikes_26 iv_b12 rfl⟩, ?_⟩
  refine ⟨⟨mo_cvV, ok_cvV mi_X9_stands lk_X9_348 q2099 qs102 rfl (Nat.le_of_ble_eq_true rfl) (iy_ro_le _) rfl rfl dX9_strikes_28 rfl⟩, ?_⟩
  refine ⟨⟨mo_ret, ok_ret rfl dX9_strikes_31⟩, ?_⟩
  refine ⟨⟨mo_ald, ok_aldn dX9_strikes_32 rfl rfl⟩, ?_⟩
  refine ⟨⟨mo_cvV, ok_cvV mi_X9_fillsBounds lk_X9_345 q2095 qs101 rfl (Nat.le_of_ble_eq_true rfl) (iy_ro_le _) rfl rfl dX9_strikes_33 rfl⟩, ?_⟩
  refine ⟨⟨mo_ald, ok_aldn dX9_strikes_36 rfl rfl⟩, ?_⟩
  refine ⟨⟨mo_gR, ok_gR rfl fd_X9_92 rfl dX9_strikes_37 rfl⟩, ?_⟩
  refine ⟨⟨mo_ald, ok_aldn dX9_strikes_40 rfl rfl⟩, ?_⟩
  refine ⟨⟨mo_ild, ok_ildn dX9_strikes_41 rfl rfl⟩, ?_⟩
  refine ⟨⟨mo_cvI, ok_cvI mi_X9_boundOf lk_X9_396 q2191 qs125 rfl (Nat.le_of_ble_eq_true rfl) (iy_ro_le _) rfl rfl dX9_strikes_42 rfl⟩, ?_⟩
  refine ⟨⟨mo_alI, ok_iald dX9_strikes_45 rfl⟩, ?_⟩
  refine ⟨⟨mo_ist, ok_istn dX9_strikes_46 rfl (Nat.le_of_ble_eq_true rfl) rfl⟩, ?_⟩
  refine ⟨⟨mo_ald, ok_aldn dX9_strikes_47 rfl rfl⟩, ?_⟩
  refine ⟨⟨mo_ild, ok_ildn dX9_strikes_48 rfl rfl⟩, ?_⟩
  refine ⟨⟨mo_cvI, ok_cvI mi_X9_isGone lk_X9_351 q2107 qs104 rfl (Nat.le_of_ble_eq_true rfl) (iy_ro_le _) rfl rfl dX9_strikes_49 rfl⟩, ?_⟩
  refine ⟨⟨mo_ieq, ok_ieq dX9_strikes_52 rfl rfl⟩, ?_⟩
  refine ⟨⟨mo_ald, ok_aldn dX9_strikes_55 rfl rfl⟩, ?_⟩
  refine ⟨⟨mo_ald, ok_aldn dX9_strikes_56 rfl rfl⟩, ?_⟩
  refine ⟨⟨mo_ild, ok_ildn dX9_strikes_57 rfl rfl⟩, ?_⟩
  refine ⟨⟨mo_cvI, ok_cvI mi_X9_topOf lk_X9_300 q2041 qs89 rfl (Nat.le_of_ble_eq_true rfl) (iy_ro_le _) rfl rfl dX9_strikes_58 rfl⟩, ?_⟩
  refine ⟨⟨mo_cvV, ok_cvV mi_X9_retires lk_X9_389 q2167 qs119 rfl (Nat.le_of_ble_eq_true rfl) (iy_ro_le _) rfl rfl dX9_strikes_61 rfl⟩, ?_⟩
  refine ⟨⟨mo_keep, ok_keep rfl⟩, ?_⟩
  refine ⟨⟨mo_ald, ok_aldn dX9_strikes_64 rfl rfl⟩, ?_⟩
  refine ⟨⟨mo_ild, ok_ildn dX9_strikes_65 rfl rfl⟩, ?_⟩
  refine ⟨⟨mo_push, ok_bipush dX9_strikes_66 iv_b7 rfl⟩, ?_⟩
  refine ⟨⟨mo_ild, ok_ildn dX9_strikes_68 rfl rfl⟩, ?_⟩
  refine ⟨⟨mo_push, ok_bipush dX9_strikes_69 iv_bm2 rfl⟩, ?_⟩
  refine ⟨⟨mo_cvV, ok_cvV mi_X9_changes lk_X9_392 q2183 qs123 rfl (Nat.le_of_ble_eq_true rfl) (iy_ro_le _) rfl rfl dX9_strikes_71 rfl⟩, ?_⟩
  refine ⟨⟨mo_ret, ok_ret rfl dX9_strikes_74⟩, ?_⟩
  exact trivial
set_option maxHeartbeats 4000000 in
theorem alX9_sweeps : iy_all (iy_calls iy_mi) RX9 "sweeps" cX9_sweeps 5 (some FieldType.int, []) pcX9_sweeps pcX9_sweeps stX9_sweeps := by
  refine ⟨⟨mo_ald, ok_aldn dX9_sweeps_0 rfl rfl⟩, ?_⟩
  refine ⟨⟨mo_gR, ok_gR rfl fd_X9_80 rfl dX9_sweeps_1 rfl⟩, ?_⟩
  refine ⟨⟨mo_push, ok_iconst dX9_sweeps_4 iv_i2 rfl⟩, ?_⟩
  refine ⟨⟨mo_dup2, ok_dup2 dX9_sweeps_5 rfl⟩, ?_⟩
  refine ⟨⟨mo_alI, ok_iald dX9_sweeps_6 rfl⟩, ?_⟩
  refine ⟨⟨mo_push, ok_iconst dX9_sweeps_7 iv_i1 rfl⟩, ?_⟩
  refine ⟨⟨mo_bin, ok_iadd dX9_sweeps_8 rfl⟩, ?_⟩
  refine ⟨⟨mo_asI, ok_iast dX9_sweeps_9 rfl⟩, ?_⟩
  refine ⟨⟨mo_ald, ok_aldn dX9_sweeps_10 rfl rfl⟩, ?_⟩
  refine ⟨⟨mo_gR, ok_gR rfl fd_X9_80 rfl dX9_sweeps_11 rfl⟩, ?_⟩
  refine ⟨⟨mo_push, ok_iconst dX9_sweeps_14 iv_i2 rfl⟩, ?_⟩
  refine ⟨⟨mo_alI, ok_iald dX9_sweeps_15 rfl⟩, ?_⟩
  refine ⟨⟨mo_ist, ok_istn dX9_sweeps_16 rfl (Nat.le_of_ble_eq_true rfl) rfl⟩, ?_⟩
  refine ⟨⟨mo_push, ok_iconst dX9_sweeps_17 iv_i0 rfl⟩, ?_⟩
  refine ⟨⟨mo_ist, ok_istn dX9_sweeps_18 rfl (Nat.le_of_ble_eq_true rfl) rfl⟩, ?_⟩
  refine ⟨⟨mo_keep, ok_keep rfl⟩, ?_⟩
  refine ⟨⟨mo_ild, ok_ildn dX9_sweeps_19 rfl rfl⟩, ?_⟩
  refine ⟨⟨mo_push, ok_iconst dX9_sweeps_20 iv_i4 rfl⟩, ?_⟩
  refine ⟨⟨mo_cge, ok_cge dX9_sweeps_21 rfl rfl⟩, ?_⟩
  refine ⟨⟨mo_ald, ok_aldn dX9_sweeps_24 rfl rfl⟩, ?_⟩
  refine ⟨⟨mo_gR, ok_gR rfl fd_X9_80 rfl dX9_sweeps_25 rfl⟩, ?_⟩
  refine ⟨⟨mo_ild, ok_ildn dX9_sweeps_28 rfl rfl⟩, ?_⟩
  refine ⟨⟨mo_csI, ok_csI mi_X9_hand0 lk_X9_291 q1734 dX9_sweeps_29 rfl⟩, ?_⟩
  refine ⟨⟨mo_push, ok_iconst dX9_sweeps_32 iv_i1 rfl⟩, ?_⟩
  refine ⟨⟨mo_bin, ok_iadd dX9_sweeps_33 rfl⟩, ?_⟩
  refine ⟨⟨mo_alI, ok_iald dX9_sweeps_34 rfl⟩, ?_⟩
  refine ⟨⟨mo_ile, ok_ile dX9_sweeps_35 rfl rfl⟩, ?_⟩
  refine ⟨⟨mo_ald, ok_aldn dX9_sweeps_38 rfl rfl⟩, ?_⟩
  refine ⟨⟨mo_gR, ok_gR rfl fd_X9_80 rfl dX9_sweeps_39 rfl⟩, ?_⟩
  refine ⟨⟨mo_ild, ok_ildn dX9_sweeps_42 rfl rfl⟩, ?_⟩
  refine ⟨⟨mo_csI, ok_csI mi_X9_hand0 lk_X9_291 q1734 dX9_sweeps_43 rfl⟩, ?_⟩
  refine ⟨⟨mo_push, ok_iconst dX9_sweeps_46 iv_i5 rfl⟩, ?_⟩
  refine ⟨⟨mo_bin, ok_iadd dX9_sweeps_47 rfl⟩, ?_⟩
  refine ⟨⟨mo_alI, ok_iald dX9_sweeps_48 rfl⟩, ?_⟩
  refine ⟨⟨mo_ild, ok_ildn dX9_sweeps_49 rfl rfl⟩, ?_⟩
  refine ⟨⟨mo_cge, ok_cge dX9_sweeps_50 rfl rfl⟩, ?_⟩
  refine ⟨⟨mo_ald, ok_aldn dX9_sweeps_53 rfl rfl⟩, ?_⟩
  refine ⟨⟨mo_gR, ok_gR rfl fd_X9_80 rfl dX9_sweeps_54 rfl⟩, ?_⟩
  refine ⟨⟨mo_ild, ok_ildn dX9_sweeps_57 rfl rfl⟩, ?_⟩
  refine ⟨⟨mo_csI, ok_csI mi_X9_hand0 lk_X9_291 q1734 dX9_sweeps_58 rfl⟩, ?_⟩
  refine ⟨⟨mo_push, ok_iconst dX9_sweeps_61 iv_i5 rfl⟩, ?_⟩
  refine ⟨⟨mo_bin, ok_iadd dX9_sweeps_62 rfl⟩, ?_⟩
  refine ⟨⟨mo_alI, ok_iald dX9_sweeps_63 rfl⟩, ?_⟩
  refine ⟨⟨mo_ist, ok_istn dX9_sweeps_64 rfl (Nat.le_of_ble_eq_true rfl) rfl⟩, ?_⟩
  refine ⟨⟨mo_keep, ok_keep rfl⟩, ?_⟩
  refine ⟨⟨mo_inc, ok_inc dX9_sweeps_65 iv_i1 (Nat.le_of_ble_eq_true rfl) rfl⟩, ?_⟩
  refine ⟨⟨mo_back, ok_back dX9_sweeps_68 rfl⟩, ?_⟩
  refine ⟨⟨mo_push, ok_iconst dX9_sweeps_71 iv_i0 rfl⟩, ?_⟩
  refine ⟨⟨mo_ist, ok_istn dX9_sweeps_72 rfl (Nat.le_of_ble_eq_true rfl) rfl⟩, ?_⟩
  refine ⟨⟨mo_push, ok_iconst dX9_sweeps_73 iv_i0 rfl⟩, ?_⟩
  refine ⟨⟨mo_ist, ok_istn dX9_sweeps_74 rfl (Nat.le_of_ble_eq_true rfl) rfl⟩, ?_⟩
  refine ⟨⟨mo_keep, ok_keep rfl⟩, ?_⟩
  refine ⟨⟨mo_ild, ok_ildn dX9_sweeps_75 rfl rfl⟩, ?_⟩
  refine ⟨⟨mo_ald, ok_aldn dX9_sweeps_76 rfl rfl⟩, ?_⟩
  refine ⟨⟨mo_gR, ok_gR rfl fd_X9_80 rfl dX9_sweeps_77 rfl⟩, ?_⟩
  refine ⟨⟨mo_push, ok_iconst dX9_sweeps_80 iv_i0 rfl⟩, ?_⟩
  refine ⟨⟨mo_alI, ok_iald dX9_sweeps_81 rfl⟩, ?_⟩
  refine ⟨⟨mo_cge, ok_cge dX9_sweeps_82 rfl rfl⟩, ?_⟩
  refine ⟨⟨mo_ild, ok_ildn dX9_sweeps_85 rfl rfl⟩, ?_⟩
  refine ⟨⟨mo_csI, ok_csI mi_X9_record0 lk_X9_282 q1745 dX9_sweeps_86 rfl⟩, ?_⟩
  refine ⟨⟨mo_ist, ok_ist dX9_sweeps_89 (Nat.le_of_ble_eq_true rfl) rfl⟩, ?_⟩
  refine ⟨⟨mo_ald, ok_aldn dX9_sweeps_91 rfl rfl⟩, ?_⟩
  refine ⟨⟨mo_gR, ok_gR rfl fd_X9_80 rfl dX9_sweeps_92 rfl⟩, ?_⟩
  refine ⟨⟨mo_ild, ok_ild dX9_sweeps_95 rfl⟩, ?_⟩
  refine ⟨⟨mo_push, ok_iconst dX9_sweeps_97 iv_i4 rfl⟩, ?_⟩
  refine ⟨⟨mo_bin, ok_iadd dX9_sweeps_98 rfl⟩, ?_⟩
  refine ⟨⟨mo_alI, ok_iald dX9_sweeps_99 rfl⟩, ?_⟩
  refine ⟨⟨mo_ilt, ok_ilt dX9_sweeps_100 rfl rfl⟩, ?_⟩
  refine ⟨⟨mo_ald, ok_aldn dX9_sweeps_103 rfl rfl⟩, ?_⟩
  refine ⟨⟨mo_gR, ok_gR rfl fd_X9_80 rfl dX9_sweeps_104 rfl⟩, ?_⟩
  refine ⟨⟨mo_ild, ok_ild dX9_sweeps_107 rfl⟩, ?_⟩
  refine ⟨⟨mo_push, ok_iconst dX9_sweeps_109 iv_i4 rfl⟩, ?_⟩
  refine ⟨⟨mo_bin, ok_iadd dX9_sweeps_110 rfl⟩, ?_⟩
  refine ⟨⟨mo_alI, ok_iald dX9_sweeps_111 rfl⟩, ?_⟩
  refine ⟨⟨mo_ild, ok_ildn dX9_sweeps_112 rfl rfl⟩, ?_⟩
  refine ⟨⟨mo_cge, ok_cge dX9_sweeps_113 rfl rfl⟩, ?_⟩
  refine ⟨⟨mo_ald, ok_aldn dX9_sweeps_116 rfl rfl⟩, ?_⟩
  refine ⟨⟨mo_gR, ok_gR rfl fd_X9_80 rfl dX9_sweeps_117 rfl⟩, ?_⟩
  refine ⟨⟨mo_ild, ok_ild dX9_sweeps_120 rfl⟩, ?_⟩
  refine ⟨⟨mo_push, ok_iconst dX9_sweeps_122 iv_i5 rfl⟩, ?_⟩
  refine ⟨⟨mo_bin, ok_iadd dX9_sweeps_123 rfl⟩, ?_⟩
  refine ⟨⟨mo_alI, ok_iald dX9_sweeps_124 rfl⟩, ?_⟩
  refine ⟨⟨mo_push, ok_iconst dX9_sweeps_125 iv_i1 rfl⟩, ?_⟩
  refine ⟨⟨mo_cne, ok_cne dX9_sweeps_126 rfl rfl⟩, ?_⟩
  refine ⟨⟨mo_goto, ok_goto dX9_sweeps_129 rfl⟩, ?_⟩
  refine ⟨⟨mo_ald, ok_aldn dX9_sweeps_132 rfl rfl⟩, ?_⟩
  refine ⟨⟨mo_gR, ok_gR rfl fd_X9_80 rfl dX9_sweeps_133 rfl⟩, ?_⟩
  refine ⟨⟨mo_ild, ok_ild dX9_sweeps_136 rfl⟩, ?_⟩
  refine ⟨⟨mo_push, ok_iconst dX9_sweeps_138 iv_i5 rfl⟩, ?_⟩
  refine ⟨⟨mo_bin, ok_iadd dX9_sweeps_139 rfl⟩, ?_⟩
  refine ⟨⟨mo_push, ok_iconst dX9_sweeps_140 iv_i1 rfl⟩, ?_⟩
  refine ⟨⟨mo_asI, ok_iast dX9_sweeps_141 rfl⟩, ?_⟩
  refine ⟨⟨mo_inc, ok_inc dX9_sweeps_142 iv_i1 (Nat.le_of_ble_eq_true rfl) rfl⟩, ?_⟩
  refine ⟨⟨mo_keep, ok_keep rfl⟩, ?_⟩
  refine ⟨⟨mo_inc, ok_inc dX9_sweeps_145 iv_i1 (Nat.le_of_ble_eq_true rfl) rfl⟩, ?_⟩
  refine ⟨⟨mo_back, ok_back dX9_sweeps_148 rfl⟩, ?_⟩
  refine ⟨⟨mo_ild, ok_ildn dX9_sweeps_151 rfl rfl⟩, ?_⟩
  refine ⟨⟨mo_iret, ok_iret rfl rfl dX9_sweeps_152⟩, ?_⟩
  exact trivial
set_option maxHeartbeats 4000000 in
theorem alX9_place : iy_all (iy_calls iy_mi) RX9 "place" cX9_place 1 (some FieldType.int, []) pcX9_place pcX9_place stX9_place := by
  refine ⟨⟨mo_ald, ok_aldn dX9_place_0 rfl rfl⟩, ?_⟩
  refine ⟨⟨mo_gI, ok_gI rfl fd_X9_37 rfl dX9_place_1 rfl⟩, ?_⟩
  refine ⟨⟨mo_iret, ok_iret rfl rfl dX9_place_4⟩, ?_⟩
  exact trivial
set_option maxHeartbeats 4000000 in
theorem alX9_begin : iy_all (iy_calls iy_mi) RX9 "begin" cX9_begin 5 (some FieldType.boolean, []) pcX9_begin pcX9_begin stX9_begin := by
  refine ⟨⟨mo_ild, ok_ildn dX9_begin_0 rfl rfl⟩, ?_⟩
  refine ⟨⟨mo_csI, ok_csI mi_X9_isHand lk_X9_445 q2226 dX9_begin_1 rfl⟩, ?_⟩
  refine ⟨⟨mo_ieq, ok_ieq dX9_begin_4 rfl rfl⟩, ?_⟩
  refine ⟨⟨mo_ild, ok_ildn dX9_begin_7 rfl rfl⟩, ?_⟩
  refine ⟨⟨mo_push, ok_iconst dX9_begin_8 iv_i1 rfl⟩, ?_⟩
  refine ⟨⟨mo_push, ok_iconst dX9_begin_9 iv_i3 rfl⟩, ?_⟩
  refine ⟨⟨mo_csI, ok_csI mi_X9_in lk_X9_441 q2229 dX9_begin_10 rfl⟩, ?_⟩
  refine ⟨⟨mo_ieq, ok_ieq dX9_begin_13 rfl rfl⟩, ?_⟩
  refine ⟨⟨mo_ild, ok_ildn dX9_begin_16 rfl rfl⟩, ?_⟩
  refine ⟨⟨mo_csI, ok_csI mi_X9_isKey lk_X9_448 q2232 dX9_begin_17 rfl⟩, ?_⟩
  refine ⟨⟨mo_ieq, ok_ieq dX9_begin_20 rfl rfl⟩, ?_⟩
  refine ⟨⟨mo_ald, ok_aldn dX9_begin_23 rfl rfl⟩, ?_⟩
  refine ⟨⟨mo_ild, ok_ildn dX9_begin_24 rfl rfl⟩, ?_⟩
  refine ⟨⟨mo_ild, ok_ildn dX9_begin_25 rfl rfl⟩, ?_⟩
  refine ⟨⟨mo_ild, ok_ildn dX9_begin_26 rfl rfl⟩, ?_⟩
  refine ⟨⟨mo_ild, ok_ild dX9_begin_27 rfl⟩, ?_⟩
  refine ⟨⟨mo_cvI, ok_cvI mi_X9_starts lk_X9_278 q2079 qs97 rfl (Nat.le_of_ble_eq_true rfl) (iy_ro_le _) rfl rfl dX9_begin_29 rfl⟩, ?_⟩
  refine ⟨⟨mo_ieq, ok_ieq dX9_begin_32 rfl rfl⟩, ?_⟩
  refine ⟨⟨mo_push, ok_iconst dX9_begin_35 iv_i1 rfl⟩, ?_⟩
  refine ⟨⟨mo_goto, ok_goto dX9_begin_36 rfl⟩, ?_⟩
  refine ⟨⟨mo_keep, ok_keep rfl⟩, ?_⟩
  refine ⟨⟨mo_push, ok_iconst dX9_begin_39 iv_i0 rfl⟩, ?_⟩
  refine ⟨⟨mo_keep, ok_keep rfl⟩, ?_⟩
  refine ⟨⟨mo_iret, ok_iret rfl rfl dX9_begin_40⟩, ?_⟩
  exact trivial
set_option maxHeartbeats 4000000 in
theorem alX9_isHand : iy_all (iy_calls iy_mi) RX9 "isHand" cX9_isHand 1 (some FieldType.boolean, []) pcX9_isHand pcX9_isHand stX9_isHand := by
  refine ⟨⟨mo_ild, ok_ildn dX9_isHand_0 rfl rfl⟩, ?_⟩
  refine ⟨⟨mo_push, ok_iconst dX9_isHand_1 iv_i0 rfl⟩, ?_⟩
  refine ⟨⟨mo_push, ok_iconst dX9_isHand_2 iv_i3 rfl⟩, ?_⟩
  refine ⟨⟨mo_csI, ok_csI mi_X9_in lk_X9_441 q2229 dX9_isHand_3 rfl⟩, ?_⟩
  refine ⟨⟨mo_iret, ok_iret rfl rfl dX9_isHand_6⟩, ?_⟩
  exact trivial
set_option maxHeartbeats 4000000 in
theorem alX9_in : iy_all (iy_calls iy_mi) RX9 "in" cX9_in 3 (some FieldType.boolean, []) pcX9_in pcX9_in stX9_in := by
  refine ⟨⟨mo_ild, ok_ildn dX9_in_0 rfl rfl⟩, ?_⟩
  refine ⟨⟨mo_ild, ok_ildn dX9_in_1 rfl rfl⟩, ?_⟩
  refine ⟨⟨mo_clt, ok_clt dX9_in_2 rfl rfl⟩, ?_⟩
  refine ⟨⟨mo_ild, ok_ildn dX9_in_5 rfl rfl⟩, ?_⟩
  refine ⟨⟨mo_ild, ok_ildn dX9_in_6 rfl rfl⟩, ?_⟩
  refine ⟨⟨mo_cgt, ok_cgt dX9_in_7 rfl rfl⟩, ?_⟩
  refine ⟨⟨mo_push, ok_iconst dX9_in_10 iv_i1 rfl⟩, ?_⟩
  refine ⟨⟨mo_goto, ok_goto dX9_in_11 rfl⟩, ?_⟩
  refine ⟨⟨mo_keep, ok_keep rfl⟩, ?_⟩
  refine ⟨⟨mo_push, ok_iconst dX9_in_14 iv_i0 rfl⟩, ?_⟩
  refine ⟨⟨mo_keep, ok_keep rfl⟩, ?_⟩
  refine ⟨⟨mo_iret, ok_iret rfl rfl dX9_in_15⟩, ?_⟩
  exact trivial
set_option maxHeartbeats 4000000 in
theorem alX9_isKey : iy_all (iy_calls iy_mi) RX9 "isKey" cX9_isKey 1 (some FieldType.boolean, []) pcX9_isKey pcX9_isKey stX9_isKey := by
  refine ⟨⟨mo_ild, ok_ildn dX9_isKey_0 rfl rfl⟩, ?_⟩
  refine ⟨⟨mo_push, ok_iconst dX9_isKey_1 iv_i0 rfl⟩, ?_⟩
  refine ⟨⟨mo_push, ok_sipush dX9_isKey_2 iv_s999 rfl⟩, ?_⟩
  refine ⟨⟨mo_csI, ok_csI mi_X9_in lk_X9_441 q2229 dX9_isKey_5 rfl⟩, ?_⟩
  refine ⟨⟨mo_iret, ok_iret rfl rfl dX9_isKey_8⟩, ?_⟩
  exact trivial
set_option maxHeartbeats 4000000 in
theorem alX9_step : iy_all (iy_calls iy_mi) RX9 "step" cX9_step 2 (some FieldType.int, []) pcX9_step pcX9_step stX9_step := by
  refine ⟨⟨mo_ild, ok_ildn dX9_step_0 rfl rfl⟩, ?_⟩
  refine ⟨⟨mo_csI, ok_csI mi_X9_isHand lk_X9_445 q2226 dX9_step_1 rfl⟩, ?_⟩
  refine ⟨⟨mo_ieq, ok_ieq dX9_step_4 rfl rfl⟩, ?_⟩
  refine ⟨⟨mo_ald, ok_aldn dX9_step_7 rfl rfl⟩, ?_⟩
  refine ⟨⟨mo_gR, ok_gR rfl fd_X9_80 rfl dX9_step_8 rfl⟩, ?_⟩
  refine ⟨⟨mo_ild, ok_ildn dX9_step_11 rfl rfl⟩, ?_⟩
  refine ⟨⟨mo_csI, ok_csI mi_X9_hand0 lk_X9_291 q1734 dX9_step_12 rfl⟩, ?_⟩
  refine ⟨⟨mo_push, ok_iconst dX9_step_15 iv_i1 rfl⟩, ?_⟩
  refine ⟨⟨mo_bin, ok_iadd dX9_step_16 rfl⟩, ?_⟩
  refine ⟨⟨mo_alI, ok_iald dX9_step_17 rfl⟩, ?_⟩
  refine ⟨⟨mo_ine, ok_ine dX9_step_18 rfl rfl⟩, ?_⟩
  refine ⟨⟨mo_keep, ok_keep rfl⟩, ?_⟩
  refine ⟨⟨mo_push, ok_iconst dX9_step_21 iv_im1 rfl⟩, ?_⟩
  refine ⟨⟨mo_iret, ok_iret rfl rfl dX9_step_22⟩, ?_⟩
  refine ⟨⟨mo_ald, ok_aldn dX9_step_23 rfl rfl⟩, ?_⟩
  refine ⟨⟨mo_ild, ok_ildn dX9_step_24 rfl rfl⟩, ?_⟩
  refine ⟨⟨mo_cvV, ok_cvV mi_X9_steps lk_X9_257 q2087 qs99 rfl (Nat.le_of_ble_eq_true rfl) (iy_ro_le _) rfl rfl dX9_step_25 rfl⟩, ?_⟩
  refine ⟨⟨mo_ald, ok_aldn dX9_step_28 rfl rfl⟩, ?_⟩
  refine ⟨⟨mo_gR, ok_gR rfl fd_X9_80 rfl dX9_step_29 rfl⟩, ?_⟩
  refine ⟨⟨mo_ild, ok_ildn dX9_step_32 rfl rfl⟩, ?_⟩
  refine ⟨⟨mo_csI, ok_csI mi_X9_hand0 lk_X9_291 q1734 dX9_step_33 rfl⟩, ?_⟩
  refine ⟨⟨mo_push, ok_iconst dX9_step_36 iv_i1 rfl⟩, ?_⟩
  refine ⟨⟨mo_bin, ok_iadd dX9_step_37 rfl⟩, ?_⟩
  refine ⟨⟨mo_alI, ok_iald dX9_step_38 rfl⟩, ?_⟩
  refine ⟨⟨mo_iret, ok_iret rfl rfl dX9_step_39⟩, ?_⟩
  exact trivial
set_option maxHeartbeats 4000000 in
theorem alX9_close : iy_all (iy_calls iy_mi) RX9 "close" cX9_close 2 (some FieldType.int, []) pcX9_close pcX9_close stX9_close := by
  refine ⟨⟨mo_ild, ok_ildn dX9_close_0 rfl rfl⟩, ?_⟩
  refine ⟨⟨mo_csI, ok_csI mi_X9_isHand lk_X9_445 q2226 dX9_close_1 rfl⟩, ?_⟩
  refine ⟨⟨mo_ieq, ok_ieq dX9_close_4 rfl rfl⟩, ?_⟩
  refine ⟨⟨mo_ald, ok_aldn dX9_close_7 rfl rfl⟩, ?_⟩
  refine ⟨⟨mo_ild, ok_ildn dX9_close_8 rfl rfl⟩, ?_⟩
  refine ⟨⟨mo_cvI, ok_cvI mi_X9_closes lk_X9_260 q2083 qs98 rfl (Nat.le_of_ble_eq_true rfl) (iy_ro_le _) rfl rfl dX9_close_9 rfl⟩, ?_⟩
  refine ⟨⟨mo_goto, ok_goto dX9_close_12 rfl⟩, ?_⟩
  refine ⟨⟨mo_push, ok_iconst dX9_close_15 iv_im1 rfl⟩, ?_⟩
  refine ⟨⟨mo_keep, ok_keep rfl⟩, ?_⟩
  refine ⟨⟨mo_iret, ok_iret rfl rfl dX9_close_16⟩, ?_⟩
  exact trivial
set_option maxHeartbeats 4000000 in
theorem alX9_sweep : iy_all (iy_calls iy_mi) RX9 "sweep" cX9_sweep 1 (some FieldType.int, []) pcX9_sweep pcX9_sweep stX9_sweep := by
  refine ⟨⟨mo_ald, ok_aldn dX9_sweep_0 rfl rfl⟩, ?_⟩
  refine ⟨⟨mo_cvI, ok_cvI mi_X9_sweeps lk_X9_263 q2215 qs131 rfl (Nat.le_of_ble_eq_true rfl) (iy_ro_le _) rfl rfl dX9_sweep_1 rfl⟩, ?_⟩
  refine ⟨⟨mo_iret, ok_iret rfl rfl dX9_sweep_4⟩, ?_⟩
  exact trivial
set_option maxHeartbeats 4000000 in
theorem alX9_has : iy_all (iy_calls iy_mi) RX9 "has" cX9_has 2 (some FieldType.int, []) pcX9_has pcX9_has stX9_has := by
  refine ⟨⟨mo_ild, ok_ildn dX9_has_0 rfl rfl⟩, ?_⟩
  refine ⟨⟨mo_csI, ok_csI mi_X9_isKey lk_X9_448 q2232 dX9_has_1 rfl⟩, ?_⟩
  refine ⟨⟨mo_ine, ok_ine dX9_has_4 rfl rfl⟩, ?_⟩
  refine ⟨⟨mo_push, ok_iconst dX9_has_7 iv_im1 rfl⟩, ?_⟩
  refine ⟨⟨mo_iret, ok_iret rfl rfl dX9_has_8⟩, ?_⟩
  refine ⟨⟨mo_ald, ok_aldn dX9_has_9 rfl rfl⟩, ?_⟩
  refine ⟨⟨mo_cvV, ok_cvV mi_X9_fillsAll lk_X9_266 q2029 qs86 rfl (Nat.le_of_ble_eq_true rfl) (iy_ro_le _) rfl rfl dX9_has_10 rfl⟩, ?_⟩
  refine ⟨⟨mo_ald, ok_aldn dX9_has_13 rfl rfl⟩, ?_⟩
  refine ⟨⟨mo_ild, ok_ildn dX9_has_14 rfl rfl⟩, ?_⟩
  refine ⟨⟨mo_cvI, ok_cvI mi_X9_allAt lk_X9_451 q2252 qs132 rfl (Nat.le_of_ble_eq_true rfl) (iy_ro_le _) rfl rfl dX9_has_15 rfl⟩, ?_⟩
  refine ⟨⟨mo_ige, ok_ige dX9_has_18 rfl rfl⟩, ?_⟩
  refine ⟨⟨mo_push, ok_iconst dX9_has_21 iv_i0 rfl⟩, ?_⟩
  refine ⟨⟨mo_goto, ok_goto dX9_has_22 rfl⟩, ?_⟩
  refine ⟨⟨mo_push, ok_iconst dX9_has_25 iv_i1 rfl⟩, ?_⟩
  refine ⟨⟨mo_keep, ok_keep rfl⟩, ?_⟩
  refine ⟨⟨mo_iret, ok_iret rfl rfl dX9_has_26⟩, ?_⟩
  exact trivial
set_option maxHeartbeats 4000000 in
theorem alX9_allAt : iy_all (iy_calls iy_mi) RX9 "allAt" cX9_allAt 3 (some FieldType.int, []) pcX9_allAt pcX9_allAt stX9_allAt := by
  refine ⟨⟨mo_push, ok_iconst dX9_allAt_0 iv_i0 rfl⟩, ?_⟩
  refine ⟨⟨mo_ist, ok_istn dX9_allAt_1 rfl (Nat.le_of_ble_eq_true rfl) rfl⟩, ?_⟩
  refine ⟨⟨mo_keep, ok_keep rfl⟩, ?_⟩
  refine ⟨⟨mo_ild, ok_ildn dX9_allAt_2 rfl rfl⟩, ?_⟩
  refine ⟨⟨mo_ald, ok_aldn dX9_allAt_3 rfl rfl⟩, ?_⟩
  refine ⟨⟨mo_gI, ok_gI rfl fd_X9_269 rfl dX9_allAt_4 rfl⟩, ?_⟩
  refine ⟨⟨mo_cge, ok_cge dX9_allAt_7 rfl rfl⟩, ?_⟩
  refine ⟨⟨mo_ald, ok_aldn dX9_allAt_10 rfl rfl⟩, ?_⟩
  refine ⟨⟨mo_gR, ok_gR rfl fd_X9_98 rfl dX9_allAt_11 rfl⟩, ?_⟩
  refine ⟨⟨mo_ild, ok_ildn dX9_allAt_14 rfl rfl⟩, ?_⟩
  refine ⟨⟨mo_alI, ok_iald dX9_allAt_15 rfl⟩, ?_⟩
  refine ⟨⟨mo_ild, ok_ildn dX9_allAt_16 rfl rfl⟩, ?_⟩
  refine ⟨⟨mo_cne, ok_cne dX9_allAt_17 rfl rfl⟩, ?_⟩
  refine ⟨⟨mo_ild, ok_ildn dX9_allAt_20 rfl rfl⟩, ?_⟩
  refine ⟨⟨mo_iret, ok_iret rfl rfl dX9_allAt_21⟩, ?_⟩
  refine ⟨⟨mo_inc, ok_inc dX9_allAt_22 iv_i1 (Nat.le_of_ble_eq_true rfl) rfl⟩, ?_⟩
  refine ⟨⟨mo_back, ok_back dX9_allAt_25 rfl⟩, ?_⟩
  refine ⟨⟨mo_push, ok_iconst dX9_allAt_28 iv_im1 rfl⟩, ?_⟩
  refine ⟨⟨mo_iret, ok_iret rfl rfl dX9_allAt_29⟩, ?_⟩
  exact trivial
set_option maxHeartbeats 4000000 in
theorem alX9_value : iy_all (iy_calls iy_mi) RX9 "value" cX9_value 2 (some FieldType.int, []) pcX9_value pcX9_value stX9_value := by
  refine ⟨⟨mo_ild, ok_ildn dX9_value_0 rfl rfl⟩, ?_⟩
  refine ⟨⟨mo_csI, ok_csI mi_X9_isKey lk_X9_448 q2232 dX9_value_1 rfl⟩, ?_⟩
  refine ⟨⟨mo_ine, ok_ine dX9_value_4 rfl rfl⟩, ?_⟩
  refine ⟨⟨mo_push, ok_iconst dX9_value_7 iv_i0 rfl⟩, ?_⟩
  refine ⟨⟨mo_iret, ok_iret rfl rfl dX9_value_8⟩, ?_⟩
  refine ⟨⟨mo_ald, ok_aldn dX9_value_9 rfl rfl⟩, ?_⟩
  refine ⟨⟨mo_cvV, ok_cvV mi_X9_fillsAll lk_X9_266 q2029 qs86 rfl (Nat.le_of_ble_eq_true rfl) (iy_ro_le _) rfl rfl dX9_value_10 rfl⟩, ?_⟩
  refine ⟨⟨mo_ald, ok_aldn dX9_value_13 rfl rfl⟩, ?_⟩
  refine ⟨⟨mo_ild, ok_ildn dX9_value_14 rfl rfl⟩, ?_⟩
  refine ⟨⟨mo_cvI, ok_cvI mi_X9_allAt lk_X9_451 q2252 qs132 rfl (Nat.le_of_ble_eq_true rfl) (iy_ro_le _) rfl rfl dX9_value_15 rfl⟩, ?_⟩
  refine ⟨⟨mo_ige, ok_ige dX9_value_18 rfl rfl⟩, ?_⟩
  refine ⟨⟨mo_push, ok_iconst dX9_value_21 iv_i0 rfl⟩, ?_⟩
  refine ⟨⟨mo_goto, ok_goto dX9_value_22 rfl⟩, ?_⟩
  refine ⟨⟨mo_ald, ok_aldn dX9_value_25 rfl rfl⟩, ?_⟩
  refine ⟨⟨mo_gR, ok_gR rfl fd_X9_101 rfl dX9_value_26 rfl⟩, ?_⟩
  refine ⟨⟨mo_ald, ok_aldn dX9_value_29 rfl rfl⟩, ?_⟩
  refine ⟨⟨mo_ild, ok_ildn dX9_value_30 rfl rfl⟩, ?_⟩
  refine ⟨⟨mo_cvI, ok_cvI mi_X9_allAt lk_X9_451 q2252 qs132 rfl (Nat.le_of_ble_eq_true rfl) (iy_ro_le _) rfl rfl dX9_value_31 rfl⟩, ?_⟩
  refine ⟨⟨mo_alI, ok_iald dX9_value_34 rfl⟩, ?_⟩
  refine ⟨⟨mo_keep, ok_keep rfl⟩, ?_⟩
  refine ⟨⟨mo_iret, ok_iret rfl rfl dX9_value_35⟩, ?_⟩
  exact trivial
set_option maxHeartbeats 4000000 in
theorem alX9_many : iy_all (iy_calls iy_mi) RX9 "many" cX9_many 5 (some FieldType.int, []) pcX9_many pcX9_many stX9_many := by
  refine ⟨⟨mo_ild, ok_ildn dX9_many_0 rfl rfl⟩, ?_⟩
  refine ⟨⟨mo_csI, ok_csI mi_X9_isKey lk_X9_448 q2232 dX9_many_1 rfl⟩, ?_⟩
  refine ⟨⟨mo_ieq, ok_ieq dX9_many_4 rfl rfl⟩, ?_⟩
  refine ⟨⟨mo_ild, ok_ildn dX9_many_7 rfl rfl⟩, ?_⟩
  refine ⟨⟨mo_csI, ok_csI mi_X9_isKey lk_X9_448 q2232 dX9_many_8 rfl⟩, ?_⟩
  refine ⟨⟨mo_ine, ok_ine dX9_many_11 rfl rfl⟩, ?_⟩
  refine ⟨⟨mo_keep, ok_keep rfl⟩, ?_⟩
  refine ⟨⟨mo_push, ok_iconst dX9_many_14 iv_im1 rfl⟩, ?_⟩
  refine ⟨⟨mo_iret, ok_iret rfl rfl dX9_many_15⟩, ?_⟩
  refine ⟨⟨mo_ald, ok_aldn dX9_many_16 rfl rfl⟩, ?_⟩
  refine ⟨⟨mo_cvV, ok_cvV mi_X9_fillsAll lk_X9_266 q2029 qs86 rfl (Nat.le_of_ble_eq_true rfl) (iy_ro_le _) rfl rfl dX9_many_17 rfl⟩, ?_⟩
  refine ⟨⟨mo_push, ok_iconst dX9_many_20 iv_i0 rfl⟩, ?_⟩
  refine ⟨⟨mo_ist, ok_istn dX9_many_21 rfl (Nat.le_of_ble_eq_true rfl) rfl⟩, ?_⟩
  refine ⟨⟨mo_push, ok_iconst dX9_many_22 iv_i0 rfl⟩, ?_⟩
  refine ⟨⟨mo_ist, ok_ist dX9_many_23 (Nat.le_of_ble_eq_true rfl) rfl⟩, ?_⟩
  refine ⟨⟨mo_keep, ok_keep rfl⟩, ?_⟩
  refine ⟨⟨mo_ild, ok_ild dX9_many_25 rfl⟩, ?_⟩
  refine ⟨⟨mo_ald, ok_aldn dX9_many_27 rfl rfl⟩, ?_⟩
  refine ⟨⟨mo_gI, ok_gI rfl fd_X9_269 rfl dX9_many_28 rfl⟩, ?_⟩
  refine ⟨⟨mo_cge, ok_cge dX9_many_31 rfl rfl⟩, ?_⟩
  refine ⟨⟨mo_ald, ok_aldn dX9_many_34 rfl rfl⟩, ?_⟩
  refine ⟨⟨mo_gR, ok_gR rfl fd_X9_98 rfl dX9_many_35 rfl⟩, ?_⟩
  refine ⟨⟨mo_ild, ok_ild dX9_many_38 rfl⟩, ?_⟩
  refine ⟨⟨mo_alI, ok_iald dX9_many_40 rfl⟩, ?_⟩
  refine ⟨⟨mo_ild, ok_ildn dX9_many_41 rfl rfl⟩, ?_⟩
  refine ⟨⟨mo_ild, ok_ildn dX9_many_42 rfl rfl⟩, ?_⟩
  refine ⟨⟨mo_csI, ok_csI mi_X9_in lk_X9_441 q2229 dX9_many_43 rfl⟩, ?_⟩
  refine ⟨⟨mo_ieq, ok_ieq dX9_many_46 rfl rfl⟩, ?_⟩
  refine ⟨⟨mo_inc, ok_inc dX9_many_49 iv_i1 (Nat.le_of_ble_eq_true rfl) rfl⟩, ?_⟩
  refine ⟨⟨mo_keep, ok_keep rfl⟩, ?_⟩
  refine ⟨⟨mo_inc, ok_inc dX9_many_52 iv_i1 (Nat.le_of_ble_eq_true rfl) rfl⟩, ?_⟩
  refine ⟨⟨mo_back, ok_back dX9_many_55 rfl⟩, ?_⟩
  refine ⟨⟨mo_ild, ok_ildn dX9_many_58 rfl rfl⟩, ?_⟩
  refine ⟨⟨mo_iret, ok_iret rfl rfl dX9_many_59⟩, ?_⟩
  exact trivial
set_option maxHeartbeats 4000000 in
theorem alX9_sum : iy_all (iy_calls iy_mi) RX9 "sum" cX9_sum 5 (some FieldType.int, []) pcX9_sum pcX9_sum stX9_sum := by
  refine ⟨⟨mo_ild, ok_ildn dX9_sum_0 rfl rfl⟩, ?_⟩
  refine ⟨⟨mo_csI, ok_csI mi_X9_isKey lk_X9_448 q2232 dX9_sum_1 rfl⟩, ?_⟩
  refine ⟨⟨mo_ieq, ok_ieq dX9_sum_4 rfl rfl⟩, ?_⟩
  refine ⟨⟨mo_ild, ok_ildn dX9_sum_7 rfl rfl⟩, ?_⟩
  refine ⟨⟨mo_csI, ok_csI mi_X9_isKey lk_X9_448 q2232 dX9_sum_8 rfl⟩, ?_⟩
  refine ⟨⟨mo_ine, ok_ine dX9_sum_11 rfl rfl⟩, ?_⟩
  refine ⟨⟨mo_keep, ok_keep rfl⟩, ?_⟩
  refine ⟨⟨mo_push, ok_iconst dX9_sum_14 iv_i0 rfl⟩, ?_⟩
  refine ⟨⟨mo_iret, ok_iret rfl rfl dX9_sum_15⟩, ?_⟩
  refine ⟨⟨mo_ald, ok_aldn dX9_sum_16 rfl rfl⟩, ?_⟩
  refine ⟨⟨mo_cvV, ok_cvV mi_X9_fillsAll lk_X9_266 q2029 qs86 rfl (Nat.le_of_ble_eq_true rfl) (iy_ro_le _) rfl rfl dX9_sum_17 rfl⟩, ?_⟩
  refine ⟨⟨mo_push, ok_iconst dX9_sum_20 iv_i0 rfl⟩, ?_⟩
  refine ⟨⟨mo_ist, ok_istn dX9_sum_21 rfl (Nat.le_of_ble_eq_true rfl) rfl⟩, ?_⟩
  refine ⟨⟨mo_push, ok_iconst dX9_sum_22 iv_i0 rfl⟩, ?_⟩
  refine ⟨⟨mo_ist, ok_ist dX9_sum_23 (Nat.le_of_ble_eq_true rfl) rfl⟩, ?_⟩
  refine ⟨⟨mo_keep, ok_keep rfl⟩, ?_⟩
  refine ⟨⟨mo_ild, ok_ild dX9_sum_25 rfl⟩, ?_⟩
  refine ⟨⟨mo_ald, ok_aldn dX9_sum_27 rfl rfl⟩, ?_⟩
  refine ⟨⟨mo_gI, ok_gI rfl fd_X9_269 rfl dX9_sum_28 rfl⟩, ?_⟩
  refine ⟨⟨mo_cge, ok_cge dX9_sum_31 rfl rfl⟩, ?_⟩
  refine ⟨⟨mo_ald, ok_aldn dX9_sum_34 rfl rfl⟩, ?_⟩
  refine ⟨⟨mo_gR, ok_gR rfl fd_X9_98 rfl dX9_sum_35 rfl⟩, ?_⟩
  refine ⟨⟨mo_ild, ok_ild dX9_sum_38 rfl⟩, ?_⟩
  refine ⟨⟨mo_alI, ok_iald dX9_sum_40 rfl⟩, ?_⟩
  refine ⟨⟨mo_ild, ok_ildn dX9_sum_41 rfl rfl⟩, ?_⟩
  refine ⟨⟨mo_ild, ok_ildn dX9_sum_42 rfl rfl⟩, ?_⟩
  refine ⟨⟨mo_csI, ok_csI mi_X9_in lk_X9_441 q2229 dX9_sum_43 rfl⟩, ?_⟩
  refine ⟨⟨mo_ieq, ok_ieq dX9_sum_46 rfl rfl⟩, ?_⟩
  refine ⟨⟨mo_ild, ok_ildn dX9_sum_49 rfl rfl⟩, ?_⟩
  refine ⟨⟨mo_ald, ok_aldn dX9_sum_50 rfl rfl⟩, ?_⟩
  refine ⟨⟨mo_gR, ok_gR rfl fd_X9_101 rfl dX9_sum_51 rfl⟩, ?_⟩
  refine ⟨⟨mo_ild, ok_ild dX9_sum_54 rfl⟩, ?_⟩
  refine ⟨⟨mo_alI, ok_iald dX9_sum_56 rfl⟩, ?_⟩
  refine ⟨⟨mo_bin, ok_iadd dX9_sum_57 rfl⟩, ?_⟩
  refine ⟨⟨mo_ist, ok_istn dX9_sum_58 rfl (Nat.le_of_ble_eq_true rfl) rfl⟩, ?_⟩
  refine ⟨⟨mo_keep, ok_keep rfl⟩, ?_⟩
  refine ⟨⟨mo_inc, ok_inc dX9_sum_59 iv_i1 (Nat.le_of_ble_eq_true rfl) rfl⟩, ?_⟩
  refine ⟨⟨mo_back, ok_back dX9_sum_62 rfl⟩, ?_⟩
  refine ⟨⟨mo_ild, ok_ildn dX9_sum_65 rfl rfl⟩, ?_⟩
  refine ⟨⟨mo_iret, ok_iret rfl rfl dX9_sum_66⟩, ?_⟩
  exact trivial
set_option maxHeartbeats 4000000 in
theorem alX9_nth : iy_all (iy_calls iy_mi) RX9 "nth" cX9_nth 2 (some FieldType.int, []) pcX9_nth pcX9_nth stX9_nth := by
  refine ⟨⟨mo_ild, ok_ildn dX9_nth_0 rfl rfl⟩, ?_⟩
  refine ⟨⟨mo_ige, ok_ige dX9_nth_1 rfl rfl⟩, ?_⟩
  refine ⟨⟨mo_push, ok_iconst dX9_nth_4 iv_im1 rfl⟩, ?_⟩
  refine ⟨⟨mo_iret, ok_iret rfl rfl dX9_nth_5⟩, ?_⟩
  refine ⟨⟨mo_ald, ok_aldn dX9_nth_6 rfl rfl⟩, ?_⟩
  refine ⟨⟨mo_cvV, ok_cvV mi_X9_fillsAll lk_X9_266 q2029 qs86 rfl (Nat.le_of_ble_eq_true rfl) (iy_ro_le _) rfl rfl dX9_nth_7 rfl⟩, ?_⟩
  refine ⟨⟨mo_ild, ok_ildn dX9_nth_10 rfl rfl⟩, ?_⟩
  refine ⟨⟨mo_ald, ok_aldn dX9_nth_11 rfl rfl⟩, ?_⟩
  refine ⟨⟨mo_gI, ok_gI rfl fd_X9_269 rfl dX9_nth_12 rfl⟩, ?_⟩
  refine ⟨⟨mo_cge, ok_cge dX9_nth_15 rfl rfl⟩, ?_⟩
  refine ⟨⟨mo_ald, ok_aldn dX9_nth_18 rfl rfl⟩, ?_⟩
  refine ⟨⟨mo_gR, ok_gR rfl fd_X9_98 rfl dX9_nth_19 rfl⟩, ?_⟩
  refine ⟨⟨mo_ild, ok_ildn dX9_nth_22 rfl rfl⟩, ?_⟩
  refine ⟨⟨mo_alI, ok_iald dX9_nth_23 rfl⟩, ?_⟩
  refine ⟨⟨mo_goto, ok_goto dX9_nth_24 rfl⟩, ?_⟩
  refine ⟨⟨mo_push, ok_bipush dX9_nth_27 iv_bm2 rfl⟩, ?_⟩
  refine ⟨⟨mo_keep, ok_keep rfl⟩, ?_⟩
  refine ⟨⟨mo_iret, ok_iret rfl rfl dX9_nth_29⟩, ?_⟩
  exact trivial
set_option maxHeartbeats 4000000 in
theorem alX9_page : iy_all (iy_calls iy_mi) RX9 "page" cX9_page 4 (some FieldType.int, []) pcX9_page pcX9_page stX9_page := by
  refine ⟨⟨mo_ild, ok_ildn dX9_page_0 rfl rfl⟩, ?_⟩
  refine ⟨⟨mo_push, ok_iconst dX9_page_1 iv_i0 rfl⟩, ?_⟩
  refine ⟨⟨mo_ald, ok_aldn dX9_page_2 rfl rfl⟩, ?_⟩
  refine ⟨⟨mo_gR, ok_gR rfl fd_X9_80 rfl dX9_page_3 rfl⟩, ?_⟩
  refine ⟨⟨mo_push, ok_iconst dX9_page_6 iv_i1 rfl⟩, ?_⟩
  refine ⟨⟨mo_alI, ok_iald dX9_page_7 rfl⟩, ?_⟩
  refine ⟨⟨mo_push, ok_iconst dX9_page_8 iv_i1 rfl⟩, ?_⟩
  refine ⟨⟨mo_bin, ok_isub dX9_page_9 rfl⟩, ?_⟩
  refine ⟨⟨mo_csI, ok_csI mi_X9_in lk_X9_441 q2229 dX9_page_10 rfl⟩, ?_⟩
  refine ⟨⟨mo_ine, ok_ine dX9_page_13 rfl rfl⟩, ?_⟩
  refine ⟨⟨mo_push, ok_iconst dX9_page_16 iv_im1 rfl⟩, ?_⟩
  refine ⟨⟨mo_iret, ok_iret rfl rfl dX9_page_17⟩, ?_⟩
  refine ⟨⟨mo_ald, ok_aldn dX9_page_18 rfl rfl⟩, ?_⟩
  refine ⟨⟨mo_ild, ok_ildn dX9_page_19 rfl rfl⟩, ?_⟩
  refine ⟨⟨mo_cvV, ok_cvV mi_X9_fillsHas lk_X9_339 q2033 qs87 rfl (Nat.le_of_ble_eq_true rfl) (iy_ro_le _) rfl rfl dX9_page_20 rfl⟩, ?_⟩
  refine ⟨⟨mo_ald, ok_aldn dX9_page_23 rfl rfl⟩, ?_⟩
  refine ⟨⟨mo_ild, ok_ildn dX9_page_24 rfl rfl⟩, ?_⟩
  refine ⟨⟨mo_cvI, ok_cvI mi_X9_isGone lk_X9_351 q2107 qs104 rfl (Nat.le_of_ble_eq_true rfl) (iy_ro_le _) rfl rfl dX9_page_25 rfl⟩, ?_⟩
  refine ⟨⟨mo_ist, ok_istn dX9_page_28 rfl (Nat.le_of_ble_eq_true rfl) rfl⟩, ?_⟩
  refine ⟨⟨mo_ild, ok_ildn dX9_page_29 rfl rfl⟩, ?_⟩
  refine ⟨⟨mo_sw, ok_tsw dX9_page_30 rfl rfl (by decide +kernel)⟩, ?_⟩
  refine ⟨⟨mo_ald, ok_aldn dX9_page_68 rfl rfl⟩, ?_⟩
  refine ⟨⟨mo_ild, ok_ildn dX9_page_69 rfl rfl⟩, ?_⟩
  refine ⟨⟨mo_cvI, ok_cvI mi_X9_topOf lk_X9_300 q2041 qs89 rfl (Nat.le_of_ble_eq_true rfl) (iy_ro_le _) rfl rfl dX9_page_70 rfl⟩, ?_⟩
  refine ⟨⟨mo_iret, ok_iret rfl rfl dX9_page_73⟩, ?_⟩
  refine ⟨⟨mo_ald, ok_aldn dX9_page_74 rfl rfl⟩, ?_⟩
  refine ⟨⟨mo_gI, ok_gI rfl fd_X9_303 rfl dX9_page_75 rfl⟩, ?_⟩
  refine ⟨⟨mo_push, ok_iconst dX9_page_78 iv_i1 rfl⟩, ?_⟩
  refine ⟨⟨mo_bin, ok_isub dX9_page_79 rfl⟩, ?_⟩
  refine ⟨⟨mo_iret, ok_iret rfl rfl dX9_page_80⟩, ?_⟩
  refine ⟨⟨mo_ild, ok_ildn dX9_page_81 rfl rfl⟩, ?_⟩
  refine ⟨⟨mo_ieq, ok_ieq dX9_page_82 rfl rfl⟩, ?_⟩
  refine ⟨⟨mo_push, ok_iconst dX9_page_85 iv_i0 rfl⟩, ?_⟩
  refine ⟨⟨mo_goto, ok_goto dX9_page_86 rfl⟩, ?_⟩
  refine ⟨⟨mo_ald, ok_aldn dX9_page_89 rfl rfl⟩, ?_⟩
  refine ⟨⟨mo_gI, ok_gI rfl fd_X9_309 rfl dX9_page_90 rfl⟩, ?_⟩
  refine ⟨⟨mo_keep, ok_keep rfl⟩, ?_⟩
  refine ⟨⟨mo_iret, ok_iret rfl rfl dX9_page_93⟩, ?_⟩
  refine ⟨⟨mo_ild, ok_ildn dX9_page_94 rfl rfl⟩, ?_⟩
  refine ⟨⟨mo_ine, ok_ine dX9_page_95 rfl rfl⟩, ?_⟩
  refine ⟨⟨mo_ild, ok_ildn dX9_page_98 rfl rfl⟩, ?_⟩
  refine ⟨⟨mo_ine, ok_ine dX9_page_99 rfl rfl⟩, ?_⟩
  refine ⟨⟨mo_keep, ok_keep rfl⟩, ?_⟩
  refine ⟨⟨mo_push, ok_iconst dX9_page_102 iv_i0 rfl⟩, ?_⟩
  refine ⟨⟨mo_goto, ok_goto dX9_page_103 rfl⟩, ?_⟩
  refine ⟨⟨mo_ald, ok_aldn dX9_page_106 rfl rfl⟩, ?_⟩
  refine ⟨⟨mo_gI, ok_gI rfl fd_X9_324 rfl dX9_page_107 rfl⟩, ?_⟩
  refine ⟨⟨mo_keep, ok_keep rfl⟩, ?_⟩
  refine ⟨⟨mo_iret, ok_iret rfl rfl dX9_page_110⟩, ?_⟩
  refine ⟨⟨mo_ild, ok_ildn dX9_page_111 rfl rfl⟩, ?_⟩
  refine ⟨⟨mo_ine, ok_ine dX9_page_112 rfl rfl⟩, ?_⟩
  refine ⟨⟨mo_ild, ok_ildn dX9_page_115 rfl rfl⟩, ?_⟩
  refine ⟨⟨mo_ine, ok_ine dX9_page_116 rfl rfl⟩, ?_⟩
  refine ⟨⟨mo_keep, ok_keep rfl⟩, ?_⟩
  refine ⟨⟨mo_push, ok_bipush dX9_page_119 iv_bm2 rfl⟩, ?_⟩
  refine ⟨⟨mo_goto, ok_goto dX9_page_121 rfl⟩, ?_⟩
  refine ⟨⟨mo_ald, ok_aldn dX9_page_124 rfl rfl⟩, ?_⟩
  refine ⟨⟨mo_gI, ok_gI rfl fd_X9_327 rfl dX9_page_125 rfl⟩, ?_⟩
  refine ⟨⟨mo_keep, ok_keep rfl⟩, ?_⟩
  refine ⟨⟨mo_iret, ok_iret rfl rfl dX9_page_128⟩, ?_⟩
  refine ⟨⟨mo_ild, ok_ildn dX9_page_129 rfl rfl⟩, ?_⟩
  refine ⟨⟨mo_ieq, ok_ieq dX9_page_130 rfl rfl⟩, ?_⟩
  refine ⟨⟨mo_push, ok_iconst dX9_page_133 iv_i1 rfl⟩, ?_⟩
  refine ⟨⟨mo_goto, ok_goto dX9_page_134 rfl⟩, ?_⟩
  refine ⟨⟨mo_push, ok_iconst dX9_page_137 iv_i0 rfl⟩, ?_⟩
  refine ⟨⟨mo_keep, ok_keep rfl⟩, ?_⟩
  refine ⟨⟨mo_iret, ok_iret rfl rfl dX9_page_138⟩, ?_⟩
  refine ⟨⟨mo_push, ok_iconst dX9_page_139 iv_im1 rfl⟩, ?_⟩
  refine ⟨⟨mo_iret, ok_iret rfl rfl dX9_page_140⟩, ?_⟩
  exact trivial
set_option maxHeartbeats 4000000 in
theorem alX9_bound : iy_all (iy_calls iy_mi) RX9 "bound" cX9_bound 3 (some FieldType.int, []) pcX9_bound pcX9_bound stX9_bound := by
  refine ⟨⟨mo_ald, ok_aldn dX9_bound_0 rfl rfl⟩, ?_⟩
  refine ⟨⟨mo_cvV, ok_cvV mi_X9_fillsBounds lk_X9_345 q2095 qs101 rfl (Nat.le_of_ble_eq_true rfl) (iy_ro_le _) rfl rfl dX9_bound_1 rfl⟩, ?_⟩
  refine ⟨⟨mo_ild, ok_ildn dX9_bound_4 rfl rfl⟩, ?_⟩
  refine ⟨⟨mo_push, ok_iconst dX9_bound_5 iv_i0 rfl⟩, ?_⟩
  refine ⟨⟨mo_ald, ok_aldn dX9_bound_6 rfl rfl⟩, ?_⟩
  refine ⟨⟨mo_gI, ok_gI rfl fd_X9_342 rfl dX9_bound_7 rfl⟩, ?_⟩
  refine ⟨⟨mo_push, ok_iconst dX9_bound_10 iv_i1 rfl⟩, ?_⟩
  refine ⟨⟨mo_bin, ok_isub dX9_bound_11 rfl⟩, ?_⟩
  refine ⟨⟨mo_csI, ok_csI mi_X9_in lk_X9_441 q2229 dX9_bound_12 rfl⟩, ?_⟩
  refine ⟨⟨mo_ieq, ok_ieq dX9_bound_15 rfl rfl⟩, ?_⟩
  refine ⟨⟨mo_ild, ok_ildn dX9_bound_18 rfl rfl⟩, ?_⟩
  refine ⟨⟨mo_push, ok_iconst dX9_bound_19 iv_i0 rfl⟩, ?_⟩
  refine ⟨⟨mo_push, ok_iconst dX9_bound_20 iv_i1 rfl⟩, ?_⟩
  refine ⟨⟨mo_csI, ok_csI mi_X9_in lk_X9_441 q2229 dX9_bound_21 rfl⟩, ?_⟩
  refine ⟨⟨mo_ine, ok_ine dX9_bound_24 rfl rfl⟩, ?_⟩
  refine ⟨⟨mo_keep, ok_keep rfl⟩, ?_⟩
  refine ⟨⟨mo_push, ok_iconst dX9_bound_27 iv_im1 rfl⟩, ?_⟩
  refine ⟨⟨mo_iret, ok_iret rfl rfl dX9_bound_28⟩, ?_⟩
  refine ⟨⟨mo_ild, ok_ildn dX9_bound_29 rfl rfl⟩, ?_⟩
  refine ⟨⟨mo_ine, ok_ine dX9_bound_30 rfl rfl⟩, ?_⟩
  refine ⟨⟨mo_ald, ok_aldn dX9_bound_33 rfl rfl⟩, ?_⟩
  refine ⟨⟨mo_gR, ok_gR rfl fd_X9_92 rfl dX9_bound_34 rfl⟩, ?_⟩
  refine ⟨⟨mo_ild, ok_ildn dX9_bound_37 rfl rfl⟩, ?_⟩
  refine ⟨⟨mo_alI, ok_iald dX9_bound_38 rfl⟩, ?_⟩
  refine ⟨⟨mo_goto, ok_goto dX9_bound_39 rfl⟩, ?_⟩
  refine ⟨⟨mo_ald, ok_aldn dX9_bound_42 rfl rfl⟩, ?_⟩
  refine ⟨⟨mo_gR, ok_gR rfl fd_X9_95 rfl dX9_bound_43 rfl⟩, ?_⟩
  refine ⟨⟨mo_ild, ok_ildn dX9_bound_46 rfl rfl⟩, ?_⟩
  refine ⟨⟨mo_alI, ok_iald dX9_bound_47 rfl⟩, ?_⟩
  refine ⟨⟨mo_keep, ok_keep rfl⟩, ?_⟩
  refine ⟨⟨mo_iret, ok_iret rfl rfl dX9_bound_48⟩, ?_⟩
  exact trivial
set_option maxHeartbeats 4000000 in
theorem alX9_record : iy_all (iy_calls iy_mi) RX9 "record" cX9_record 3 (some FieldType.int, []) pcX9_record pcX9_record stX9_record := by
  refine ⟨⟨mo_ald, ok_aldn dX9_record_0 rfl rfl⟩, ?_⟩
  refine ⟨⟨mo_ild, ok_ildn dX9_record_1 rfl rfl⟩, ?_⟩
  refine ⟨⟨mo_cvI, ok_cvI mi_X9_isRecord lk_X9_454 q2284 qs133 rfl (Nat.le_of_ble_eq_true rfl) (iy_ro_le _) rfl rfl dX9_record_2 rfl⟩, ?_⟩
  refine ⟨⟨mo_ieq, ok_ieq dX9_record_5 rfl rfl⟩, ?_⟩
  refine ⟨⟨mo_ild, ok_ildn dX9_record_8 rfl rfl⟩, ?_⟩
  refine ⟨⟨mo_push, ok_iconst dX9_record_9 iv_i0 rfl⟩, ?_⟩
  refine ⟨⟨mo_push, ok_bipush dX9_record_10 iv_b6 rfl⟩, ?_⟩
  refine ⟨⟨mo_csI, ok_csI mi_X9_in lk_X9_441 q2229 dX9_record_12 rfl⟩, ?_⟩
  refine ⟨⟨mo_ieq, ok_ieq dX9_record_15 rfl rfl⟩, ?_⟩
  refine ⟨⟨mo_ald, ok_aldn dX9_record_18 rfl rfl⟩, ?_⟩
  refine ⟨⟨mo_ild, ok_ildn dX9_record_19 rfl rfl⟩, ?_⟩
  refine ⟨⟨mo_ild, ok_ildn dX9_record_20 rfl rfl⟩, ?_⟩
  refine ⟨⟨mo_cvI, ok_cvI mi_X9_ofRecord lk_X9_288 q1753 qs63 rfl (Nat.le_of_ble_eq_true rfl) (iy_ro_le _) rfl rfl dX9_record_21 rfl⟩, ?_⟩
  refine ⟨⟨mo_goto, ok_goto dX9_record_24 rfl⟩, ?_⟩
  refine ⟨⟨mo_keep, ok_keep rfl⟩, ?_⟩
  refine ⟨⟨mo_push, ok_sipush dX9_record_27 iv_sm1000 rfl⟩, ?_⟩
  refine ⟨⟨mo_keep, ok_keep rfl⟩, ?_⟩
  refine ⟨⟨mo_iret, ok_iret rfl rfl dX9_record_30⟩, ?_⟩
  exact trivial
set_option maxHeartbeats 4000000 in
theorem alX9_isRecord : iy_all (iy_calls iy_mi) RX9 "isRecord" cX9_isRecord 2 (some FieldType.boolean, []) pcX9_isRecord pcX9_isRecord stX9_isRecord := by
  refine ⟨⟨mo_ild, ok_ildn dX9_isRecord_0 rfl rfl⟩, ?_⟩
  refine ⟨⟨mo_push, ok_iconst dX9_isRecord_1 iv_i0 rfl⟩, ?_⟩
  refine ⟨⟨mo_ald, ok_aldn dX9_isRecord_2 rfl rfl⟩, ?_⟩
  refine ⟨⟨mo_gR, ok_gR rfl fd_X9_80 rfl dX9_isRecord_3 rfl⟩, ?_⟩
  refine ⟨⟨mo_push, ok_iconst dX9_isRecord_6 iv_i0 rfl⟩, ?_⟩
  refine ⟨⟨mo_alI, ok_iald dX9_isRecord_7 rfl⟩, ?_⟩
  refine ⟨⟨mo_push, ok_iconst dX9_isRecord_8 iv_i1 rfl⟩, ?_⟩
  refine ⟨⟨mo_bin, ok_isub dX9_isRecord_9 rfl⟩, ?_⟩
  refine ⟨⟨mo_csI, ok_csI mi_X9_in lk_X9_441 q2229 dX9_isRecord_10 rfl⟩, ?_⟩
  refine ⟨⟨mo_iret, ok_iret rfl rfl dX9_isRecord_13⟩, ?_⟩
  exact trivial
set_option maxHeartbeats 4000000 in
theorem alX9_base : iy_all (iy_calls iy_mi) RX9 "base" cX9_base 4 (some FieldType.int, []) pcX9_base pcX9_base stX9_base := by
  refine ⟨⟨mo_ald, ok_aldn dX9_base_0 rfl rfl⟩, ?_⟩
  refine ⟨⟨mo_ild, ok_ildn dX9_base_1 rfl rfl⟩, ?_⟩
  refine ⟨⟨mo_cvI, ok_cvI mi_X9_isRecord lk_X9_454 q2284 qs133 rfl (Nat.le_of_ble_eq_true rfl) (iy_ro_le _) rfl rfl dX9_base_2 rfl⟩, ?_⟩
  refine ⟨⟨mo_ieq, ok_ieq dX9_base_5 rfl rfl⟩, ?_⟩
  refine ⟨⟨mo_ild, ok_ildn dX9_base_8 rfl rfl⟩, ?_⟩
  refine ⟨⟨mo_push, ok_iconst dX9_base_9 iv_i0 rfl⟩, ?_⟩
  refine ⟨⟨mo_ald, ok_aldn dX9_base_10 rfl rfl⟩, ?_⟩
  refine ⟨⟨mo_ild, ok_ildn dX9_base_11 rfl rfl⟩, ?_⟩
  refine ⟨⟨mo_push, ok_bipush dX9_base_12 iv_b6 rfl⟩, ?_⟩
  refine ⟨⟨mo_cvI, ok_cvI mi_X9_ofRecord lk_X9_288 q1753 qs63 rfl (Nat.le_of_ble_eq_true rfl) (iy_ro_le _) rfl rfl dX9_base_14 rfl⟩, ?_⟩
  refine ⟨⟨mo_push, ok_iconst dX9_base_17 iv_i1 rfl⟩, ?_⟩
  refine ⟨⟨mo_bin, ok_isub dX9_base_18 rfl⟩, ?_⟩
  refine ⟨⟨mo_csI, ok_csI mi_X9_in lk_X9_441 q2229 dX9_base_19 rfl⟩, ?_⟩
  refine ⟨⟨mo_ieq, ok_ieq dX9_base_22 rfl rfl⟩, ?_⟩
  refine ⟨⟨mo_ild, ok_ildn dX9_base_25 rfl rfl⟩, ?_⟩
  refine ⟨⟨mo_push, ok_iconst dX9_base_26 iv_i0 rfl⟩, ?_⟩
  refine ⟨⟨mo_push, ok_iconst dX9_base_27 iv_i1 rfl⟩, ?_⟩
  refine ⟨⟨mo_csI, ok_csI mi_X9_in lk_X9_441 q2229 dX9_base_28 rfl⟩, ?_⟩
  refine ⟨⟨mo_ieq, ok_ieq dX9_base_31 rfl rfl⟩, ?_⟩
  refine ⟨⟨mo_ald, ok_aldn dX9_base_34 rfl rfl⟩, ?_⟩
  refine ⟨⟨mo_gR, ok_gR rfl fd_X9_80 rfl dX9_base_35 rfl⟩, ?_⟩
  refine ⟨⟨mo_ild, ok_ildn dX9_base_38 rfl rfl⟩, ?_⟩
  refine ⟨⟨mo_ild, ok_ildn dX9_base_39 rfl rfl⟩, ?_⟩
  refine ⟨⟨mo_csI, ok_csI mi_X9_baseAt lk_X9_318 q2052 dX9_base_40 rfl⟩, ?_⟩
  refine ⟨⟨mo_ild, ok_ildn dX9_base_43 rfl rfl⟩, ?_⟩
  refine ⟨⟨mo_bin, ok_iadd dX9_base_44 rfl⟩, ?_⟩
  refine ⟨⟨mo_alI, ok_iald dX9_base_45 rfl⟩, ?_⟩
  refine ⟨⟨mo_goto, ok_goto dX9_base_46 rfl⟩, ?_⟩
  refine ⟨⟨mo_keep, ok_keep rfl⟩, ?_⟩
  refine ⟨⟨mo_push, ok_sipush dX9_base_49 iv_sm1000 rfl⟩, ?_⟩
  refine ⟨⟨mo_keep, ok_keep rfl⟩, ?_⟩
  refine ⟨⟨mo_iret, ok_iret rfl rfl dX9_base_52⟩, ?_⟩
  exact trivial
set_option maxHeartbeats 4000000 in
theorem alX9_hand : iy_all (iy_calls iy_mi) RX9 "hand" cX9_hand 3 (some FieldType.int, []) pcX9_hand pcX9_hand stX9_hand := by
  refine ⟨⟨mo_ild, ok_ildn dX9_hand_0 rfl rfl⟩, ?_⟩
  refine ⟨⟨mo_csI, ok_csI mi_X9_isHand lk_X9_445 q2226 dX9_hand_1 rfl⟩, ?_⟩
  refine ⟨⟨mo_ieq, ok_ieq dX9_hand_4 rfl rfl⟩, ?_⟩
  refine ⟨⟨mo_ild, ok_ildn dX9_hand_7 rfl rfl⟩, ?_⟩
  refine ⟨⟨mo_push, ok_iconst dX9_hand_8 iv_i0 rfl⟩, ?_⟩
  refine ⟨⟨mo_push, ok_bipush dX9_hand_9 iv_b6 rfl⟩, ?_⟩
  refine ⟨⟨mo_csI, ok_csI mi_X9_in lk_X9_441 q2229 dX9_hand_11 rfl⟩, ?_⟩
  refine ⟨⟨mo_ine, ok_ine dX9_hand_14 rfl rfl⟩, ?_⟩
  refine ⟨⟨mo_keep, ok_keep rfl⟩, ?_⟩
  refine ⟨⟨mo_push, ok_iconst dX9_hand_17 iv_im1 rfl⟩, ?_⟩
  refine ⟨⟨mo_iret, ok_iret rfl rfl dX9_hand_18⟩, ?_⟩
  refine ⟨⟨mo_ild, ok_ildn dX9_hand_19 rfl rfl⟩, ?_⟩
  refine ⟨⟨mo_push, ok_iconst dX9_hand_20 iv_i5 rfl⟩, ?_⟩
  refine ⟨⟨mo_cne, ok_cne dX9_hand_21 rfl rfl⟩, ?_⟩
  refine ⟨⟨mo_ald, ok_aldn dX9_hand_24 rfl rfl⟩, ?_⟩
  refine ⟨⟨mo_gR, ok_gR rfl fd_X9_80 rfl dX9_hand_25 rfl⟩, ?_⟩
  refine ⟨⟨mo_ild, ok_ildn dX9_hand_28 rfl rfl⟩, ?_⟩
  refine ⟨⟨mo_csI, ok_csI mi_X9_hand0 lk_X9_291 q1734 dX9_hand_29 rfl⟩, ?_⟩
  refine ⟨⟨mo_push, ok_iconst dX9_hand_32 iv_i1 rfl⟩, ?_⟩
  refine ⟨⟨mo_bin, ok_iadd dX9_hand_33 rfl⟩, ?_⟩
  refine ⟨⟨mo_alI, ok_iald dX9_hand_34 rfl⟩, ?_⟩
  refine ⟨⟨mo_ine, ok_ine dX9_hand_35 rfl rfl⟩, ?_⟩
  refine ⟨⟨mo_push, ok_bipush dX9_hand_38 iv_bm2 rfl⟩, ?_⟩
  refine ⟨⟨mo_goto, ok_goto dX9_hand_40 rfl⟩, ?_⟩
  refine ⟨⟨mo_keep, ok_keep rfl⟩, ?_⟩
  refine ⟨⟨mo_ald, ok_aldn dX9_hand_43 rfl rfl⟩, ?_⟩
  refine ⟨⟨mo_gR, ok_gR rfl fd_X9_80 rfl dX9_hand_44 rfl⟩, ?_⟩
  refine ⟨⟨mo_ild, ok_ildn dX9_hand_47 rfl rfl⟩, ?_⟩
  refine ⟨⟨mo_csI, ok_csI mi_X9_hand0 lk_X9_291 q1734 dX9_hand_48 rfl⟩, ?_⟩
  refine ⟨⟨mo_ild, ok_ildn dX9_hand_51 rfl rfl⟩, ?_⟩
  refine ⟨⟨mo_bin, ok_iadd dX9_hand_52 rfl⟩, ?_⟩
  refine ⟨⟨mo_alI, ok_iald dX9_hand_53 rfl⟩, ?_⟩
  refine ⟨⟨mo_keep, ok_keep rfl⟩, ?_⟩
  refine ⟨⟨mo_iret, ok_iret rfl rfl dX9_hand_54⟩, ?_⟩
  exact trivial
set_option maxHeartbeats 4000000 in
theorem alX9_result : iy_all (iy_calls iy_mi) RX9 "result" cX9_result 2 (some FieldType.int, []) pcX9_result pcX9_result stX9_result := by
  refine ⟨⟨mo_ild, ok_ildn dX9_result_0 rfl rfl⟩, ?_⟩
  refine ⟨⟨mo_csI, ok_csI mi_X9_isHand lk_X9_445 q2226 dX9_result_1 rfl⟩, ?_⟩
  refine ⟨⟨mo_ieq, ok_ieq dX9_result_4 rfl rfl⟩, ?_⟩
  refine ⟨⟨mo_ald, ok_aldn dX9_result_7 rfl rfl⟩, ?_⟩
  refine ⟨⟨mo_gR, ok_gR rfl fd_X9_80 rfl dX9_result_8 rfl⟩, ?_⟩
  refine ⟨⟨mo_ild, ok_ildn dX9_result_11 rfl rfl⟩, ?_⟩
  refine ⟨⟨mo_csI, ok_csI mi_X9_hand0 lk_X9_291 q1734 dX9_result_12 rfl⟩, ?_⟩
  refine ⟨⟨mo_push, ok_bipush dX9_result_15 iv_b9 rfl⟩, ?_⟩
  refine ⟨⟨mo_bin, ok_iadd dX9_result_17 rfl⟩, ?_⟩
  refine ⟨⟨mo_alI, ok_iald dX9_result_18 rfl⟩, ?_⟩
  refine ⟨⟨mo_push, ok_iconst dX9_result_19 iv_i1 rfl⟩, ?_⟩
  refine ⟨⟨mo_cne, ok_cne dX9_result_20 rfl rfl⟩, ?_⟩
  refine ⟨⟨mo_ald, ok_aldn dX9_result_23 rfl rfl⟩, ?_⟩
  refine ⟨⟨mo_gR, ok_gR rfl fd_X9_80 rfl dX9_result_24 rfl⟩, ?_⟩
  refine ⟨⟨mo_ild, ok_ildn dX9_result_27 rfl rfl⟩, ?_⟩
  refine ⟨⟨mo_csI, ok_csI mi_X9_hand0 lk_X9_291 q1734 dX9_result_28 rfl⟩, ?_⟩
  refine ⟨⟨mo_push, ok_bipush dX9_result_31 iv_b8 rfl⟩, ?_⟩
  refine ⟨⟨mo_bin, ok_iadd dX9_result_33 rfl⟩, ?_⟩
  refine ⟨⟨mo_alI, ok_iald dX9_result_34 rfl⟩, ?_⟩
  refine ⟨⟨mo_goto, ok_goto dX9_result_35 rfl⟩, ?_⟩
  refine ⟨⟨mo_keep, ok_keep rfl⟩, ?_⟩
  refine ⟨⟨mo_push, ok_iconst dX9_result_38 iv_i0 rfl⟩, ?_⟩
  refine ⟨⟨mo_keep, ok_keep rfl⟩, ?_⟩
  refine ⟨⟨mo_iret, ok_iret rfl rfl dX9_result_39⟩, ?_⟩
  exact trivial
set_option maxHeartbeats 4000000 in
theorem alX9_halves : iy_all (iy_calls iy_mi) RX9 "halves" cX9_halves 2 (some FieldType.int, []) pcX9_halves pcX9_halves stX9_halves := by
  refine ⟨⟨mo_ild, ok_ildn dX9_halves_0 rfl rfl⟩, ?_⟩
  refine ⟨⟨mo_ine, ok_ine dX9_halves_1 rfl rfl⟩, ?_⟩
  refine ⟨⟨mo_ald, ok_aldn dX9_halves_4 rfl rfl⟩, ?_⟩
  refine ⟨⟨mo_cvI, ok_cvI mi_X9_halfSplits lk_X9_457 q2304 qs134 rfl (Nat.le_of_ble_eq_true rfl) (iy_ro_le _) rfl rfl dX9_halves_5 rfl⟩, ?_⟩
  refine ⟨⟨mo_goto, ok_goto dX9_halves_8 rfl⟩, ?_⟩
  refine ⟨⟨mo_ild, ok_ildn dX9_halves_11 rfl rfl⟩, ?_⟩
  refine ⟨⟨mo_push, ok_iconst dX9_halves_12 iv_i1 rfl⟩, ?_⟩
  refine ⟨⟨mo_cne, ok_cne dX9_halves_13 rfl rfl⟩, ?_⟩
  refine ⟨⟨mo_ald, ok_aldn dX9_halves_16 rfl rfl⟩, ?_⟩
  refine ⟨⟨mo_cvI, ok_cvI mi_X9_halfGone lk_X9_460 q2308 qs135 rfl (Nat.le_of_ble_eq_true rfl) (iy_ro_le _) rfl rfl dX9_halves_17 rfl⟩, ?_⟩
  refine ⟨⟨mo_goto, ok_goto dX9_halves_20 rfl⟩, ?_⟩
  refine ⟨⟨mo_push, ok_iconst dX9_halves_23 iv_im1 rfl⟩, ?_⟩
  refine ⟨⟨mo_keep, ok_keep rfl⟩, ?_⟩
  refine ⟨⟨mo_iret, ok_iret rfl rfl dX9_halves_24⟩, ?_⟩
  exact trivial
set_option maxHeartbeats 4000000 in
theorem alX9_halfSplits : iy_all (iy_calls iy_mi) RX9 "halfSplits" cX9_halfSplits 3 (some FieldType.int, []) pcX9_halfSplits pcX9_halfSplits stX9_halfSplits := by
  refine ⟨⟨mo_ald, ok_aldn dX9_halfSplits_0 rfl rfl⟩, ?_⟩
  refine ⟨⟨mo_cvV, ok_cvV mi_X9_fillsBounds lk_X9_345 q2095 qs101 rfl (Nat.le_of_ble_eq_true rfl) (iy_ro_le _) rfl rfl dX9_halfSplits_1 rfl⟩, ?_⟩
  refine ⟨⟨mo_push, ok_iconst dX9_halfSplits_4 iv_i0 rfl⟩, ?_⟩
  refine ⟨⟨mo_ist, ok_istn dX9_halfSplits_5 rfl (Nat.le_of_ble_eq_true rfl) rfl⟩, ?_⟩
  refine ⟨⟨mo_push, ok_iconst dX9_halfSplits_6 iv_i1 rfl⟩, ?_⟩
  refine ⟨⟨mo_ist, ok_istn dX9_halfSplits_7 rfl (Nat.le_of_ble_eq_true rfl) rfl⟩, ?_⟩
  refine ⟨⟨mo_keep, ok_keep rfl⟩, ?_⟩
  refine ⟨⟨mo_ild, ok_ildn dX9_halfSplits_8 rfl rfl⟩, ?_⟩
  refine ⟨⟨mo_ilt, ok_ilt dX9_halfSplits_9 rfl rfl⟩, ?_⟩
  refine ⟨⟨mo_ald, ok_aldn dX9_halfSplits_12 rfl rfl⟩, ?_⟩
  refine ⟨⟨mo_ild, ok_ildn dX9_halfSplits_13 rfl rfl⟩, ?_⟩
  refine ⟨⟨mo_cvV, ok_cvV mi_X9_fillsHas lk_X9_339 q2033 qs87 rfl (Nat.le_of_ble_eq_true rfl) (iy_ro_le _) rfl rfl dX9_halfSplits_14 rfl⟩, ?_⟩
  refine ⟨⟨mo_ald, ok_aldn dX9_halfSplits_17 rfl rfl⟩, ?_⟩
  refine ⟨⟨mo_gI, ok_gI rfl fd_X9_327 rfl dX9_halfSplits_18 rfl⟩, ?_⟩
  refine ⟨⟨mo_ilt, ok_ilt dX9_halfSplits_21 rfl rfl⟩, ?_⟩
  refine ⟨⟨mo_ald, ok_aldn dX9_halfSplits_24 rfl rfl⟩, ?_⟩
  refine ⟨⟨mo_ild, ok_ildn dX9_halfSplits_25 rfl rfl⟩, ?_⟩
  refine ⟨⟨mo_cvI, ok_cvI mi_X9_isGone lk_X9_351 q2107 qs104 rfl (Nat.le_of_ble_eq_true rfl) (iy_ro_le _) rfl rfl dX9_halfSplits_26 rfl⟩, ?_⟩
  refine ⟨⟨mo_ine, ok_ine dX9_halfSplits_29 rfl rfl⟩, ?_⟩
  refine ⟨⟨mo_ald, ok_aldn dX9_halfSplits_32 rfl rfl⟩, ?_⟩
  refine ⟨⟨mo_ald, ok_aldn dX9_halfSplits_33 rfl rfl⟩, ?_⟩
  refine ⟨⟨mo_gI, ok_gI rfl fd_X9_324 rfl dX9_halfSplits_34 rfl⟩, ?_⟩
  refine ⟨⟨mo_cvI, ok_cvI mi_X9_pageBy lk_X9_357 q2115 qs106 rfl (Nat.le_of_ble_eq_true rfl) (iy_ro_le _) rfl rfl dX9_halfSplits_37 rfl⟩, ?_⟩
  refine ⟨⟨mo_ald, ok_aldn dX9_halfSplits_40 rfl rfl⟩, ?_⟩
  refine ⟨⟨mo_gI, ok_gI rfl fd_X9_327 rfl dX9_halfSplits_41 rfl⟩, ?_⟩
  refine ⟨⟨mo_ceq, ok_ceq dX9_halfSplits_44 rfl rfl⟩, ?_⟩
  refine ⟨⟨mo_inc, ok_inc dX9_halfSplits_47 iv_i1 (Nat.le_of_ble_eq_true rfl) rfl⟩, ?_⟩
  refine ⟨⟨mo_keep, ok_keep rfl⟩, ?_⟩
  refine ⟨⟨mo_ald, ok_aldn dX9_halfSplits_50 rfl rfl⟩, ?_⟩
  refine ⟨⟨mo_gI, ok_gI rfl fd_X9_327 rfl dX9_halfSplits_51 rfl⟩, ?_⟩
  refine ⟨⟨mo_ist, ok_istn dX9_halfSplits_54 rfl (Nat.le_of_ble_eq_true rfl) rfl⟩, ?_⟩
  refine ⟨⟨mo_back, ok_back dX9_halfSplits_55 rfl⟩, ?_⟩
  refine ⟨⟨mo_ild, ok_ildn dX9_halfSplits_58 rfl rfl⟩, ?_⟩
  refine ⟨⟨mo_iret, ok_iret rfl rfl dX9_halfSplits_59⟩, ?_⟩
  exact trivial
set_option maxHeartbeats 4000000 in
theorem alX9_halfGone : iy_all (iy_calls iy_mi) RX9 "halfGone" cX9_halfGone 3 (some FieldType.int, []) pcX9_halfGone pcX9_halfGone stX9_halfGone := by
  refine ⟨⟨mo_ald, ok_aldn dX9_halfGone_0 rfl rfl⟩, ?_⟩
  refine ⟨⟨mo_cvV, ok_cvV mi_X9_fillsBounds lk_X9_345 q2095 qs101 rfl (Nat.le_of_ble_eq_true rfl) (iy_ro_le _) rfl rfl dX9_halfGone_1 rfl⟩, ?_⟩
  refine ⟨⟨mo_push, ok_iconst dX9_halfGone_4 iv_i0 rfl⟩, ?_⟩
  refine ⟨⟨mo_ist, ok_istn dX9_halfGone_5 rfl (Nat.le_of_ble_eq_true rfl) rfl⟩, ?_⟩
  refine ⟨⟨mo_push, ok_iconst dX9_halfGone_6 iv_i0 rfl⟩, ?_⟩
  refine ⟨⟨mo_ist, ok_istn dX9_halfGone_7 rfl (Nat.le_of_ble_eq_true rfl) rfl⟩, ?_⟩
  refine ⟨⟨mo_keep, ok_keep rfl⟩, ?_⟩
  refine ⟨⟨mo_ild, ok_ildn dX9_halfGone_8 rfl rfl⟩, ?_⟩
  refine ⟨⟨mo_ald, ok_aldn dX9_halfGone_9 rfl rfl⟩, ?_⟩
  refine ⟨⟨mo_gR, ok_gR rfl fd_X9_80 rfl dX9_halfGone_10 rfl⟩, ?_⟩
  refine ⟨⟨mo_push, ok_iconst dX9_halfGone_13 iv_i1 rfl⟩, ?_⟩
  refine ⟨⟨mo_alI, ok_iald dX9_halfGone_14 rfl⟩, ?_⟩
  refine ⟨⟨mo_cge, ok_cge dX9_halfGone_15 rfl rfl⟩, ?_⟩
  refine ⟨⟨mo_ald, ok_aldn dX9_halfGone_18 rfl rfl⟩, ?_⟩
  refine ⟨⟨mo_ild, ok_ildn dX9_halfGone_19 rfl rfl⟩, ?_⟩
  refine ⟨⟨mo_cvI, ok_cvI mi_X9_isGone lk_X9_351 q2107 qs104 rfl (Nat.le_of_ble_eq_true rfl) (iy_ro_le _) rfl rfl dX9_halfGone_20 rfl⟩, ?_⟩
  refine ⟨⟨mo_ieq, ok_ieq dX9_halfGone_23 rfl rfl⟩, ?_⟩
  refine ⟨⟨mo_ald, ok_aldn dX9_halfGone_26 rfl rfl⟩, ?_⟩
  refine ⟨⟨mo_ild, ok_ildn dX9_halfGone_27 rfl rfl⟩, ?_⟩
  refine ⟨⟨mo_cvI, ok_cvI mi_X9_boundOf lk_X9_396 q2191 qs125 rfl (Nat.le_of_ble_eq_true rfl) (iy_ro_le _) rfl rfl dX9_halfGone_28 rfl⟩, ?_⟩
  refine ⟨⟨mo_ilt, ok_ilt dX9_halfGone_31 rfl rfl⟩, ?_⟩
  refine ⟨⟨mo_inc, ok_inc dX9_halfGone_34 iv_i1 (Nat.le_of_ble_eq_true rfl) rfl⟩, ?_⟩
  refine ⟨⟨mo_keep, ok_keep rfl⟩, ?_⟩
  refine ⟨⟨mo_inc, ok_inc dX9_halfGone_37 iv_i1 (Nat.le_of_ble_eq_true rfl) rfl⟩, ?_⟩
  refine ⟨⟨mo_back, ok_back dX9_halfGone_40 rfl⟩, ?_⟩
  refine ⟨⟨mo_ild, ok_ildn dX9_halfGone_43 rfl rfl⟩, ?_⟩
  refine ⟨⟨mo_iret, ok_iret rfl rfl dX9_halfGone_44⟩, ?_⟩
  exact trivial
set_option maxHeartbeats 4000000 in
theorem alX9_replay : iy_all (iy_calls iy_mi) RX9 "replay" cX9_replay 12 (some FieldType.int, []) pcX9_replay pcX9_replay stX9_replay := by
  refine ⟨⟨mo_ild, ok_ildn dX9_replay_0 rfl rfl⟩, ?_⟩
  refine ⟨⟨mo_csI, ok_csI mi_X9_isHand lk_X9_445 q2226 dX9_replay_1 rfl⟩, ?_⟩
  refine ⟨⟨mo_ieq, ok_ieq dX9_replay_4 rfl rfl⟩, ?_⟩
  refine ⟨⟨mo_ild, ok_ildn dX9_replay_7 rfl rfl⟩, ?_⟩
  refine ⟨⟨mo_csI, ok_csI mi_X9_isHand lk_X9_445 q2226 dX9_replay_8 rfl⟩, ?_⟩
  refine ⟨⟨mo_ieq, ok_ieq dX9_replay_11 rfl rfl⟩, ?_⟩
  refine ⟨⟨mo_ild, ok_ildn dX9_replay_14 rfl rfl⟩, ?_⟩
  refine ⟨⟨mo_ild, ok_ildn dX9_replay_15 rfl rfl⟩, ?_⟩
  refine ⟨⟨mo_ceq, ok_ceq dX9_replay_16 rfl rfl⟩, ?_⟩
  refine ⟨⟨mo_ild, ok_ildn dX9_replay_19 rfl rfl⟩, ?_⟩
  refine ⟨⟨mo_push, ok_iconst dX9_replay_20 iv_i0 rfl⟩, ?_⟩
  refine ⟨⟨mo_push, ok_bipush dX9_replay_21 iv_b8 rfl⟩, ?_⟩
  refine ⟨⟨mo_csI, ok_csI mi_X9_in lk_X9_441 q2229 dX9_replay_23 rfl⟩, ?_⟩
  refine ⟨⟨mo_ieq, ok_ieq dX9_replay_26 rfl rfl⟩, ?_⟩
  refine ⟨⟨mo_ild, ok_ild dX9_replay_29 rfl⟩, ?_⟩
  refine ⟨⟨mo_push, ok_iconst dX9_replay_31 iv_i0 rfl⟩, ?_⟩
  refine ⟨⟨mo_push, ok_iconst dX9_replay_32 iv_i3 rfl⟩, ?_⟩
  refine ⟨⟨mo_csI, ok_csI mi_X9_in lk_X9_441 q2229 dX9_replay_33 rfl⟩, ?_⟩
  refine ⟨⟨mo_ine, ok_ine dX9_replay_36 rfl rfl⟩, ?_⟩
  refine ⟨⟨mo_keep, ok_keep rfl⟩, ?_⟩
  refine ⟨⟨mo_push, ok_iconst dX9_replay_39 iv_im1 rfl⟩, ?_⟩
  refine ⟨⟨mo_iret, ok_iret rfl rfl dX9_replay_40⟩, ?_⟩
  refine ⟨⟨mo_push, ok_iconst dX9_replay_41 iv_i0 rfl⟩, ?_⟩
  refine ⟨⟨mo_ist, ok_ist dX9_replay_42 (Nat.le_of_ble_eq_true rfl) rfl⟩, ?_⟩
  refine ⟨⟨mo_push, ok_iconst dX9_replay_44 iv_im1 rfl⟩, ?_⟩
  refine ⟨⟨mo_ist, ok_ist dX9_replay_45 (Nat.le_of_ble_eq_true rfl) rfl⟩, ?_⟩
  refine ⟨⟨mo_push, ok_iconst dX9_replay_47 iv_i0 rfl⟩, ?_⟩
  refine ⟨⟨mo_ist, ok_ist dX9_replay_48 (Nat.le_of_ble_eq_true rfl) rfl⟩, ?_⟩
  refine ⟨⟨mo_push, ok_sipush dX9_replay_50 iv_s9999 rfl⟩, ?_⟩
  refine ⟨⟨mo_ist, ok_ist dX9_replay_53 (Nat.le_of_ble_eq_true rfl) rfl⟩, ?_⟩
  refine ⟨⟨mo_ald, ok_aldn dX9_replay_55 rfl rfl⟩, ?_⟩
  refine ⟨⟨mo_cvV, ok_cvV mi_X9_keeps lk_X9_466 q2316 qs136 rfl (Nat.le_of_ble_eq_true rfl) (iy_ro_le _) rfl rfl dX9_replay_56 rfl⟩, ?_⟩
  refine ⟨⟨mo_push, ok_iconst dX9_replay_59 iv_i0 rfl⟩, ?_⟩
  refine ⟨⟨mo_ist, ok_ist dX9_replay_60 (Nat.le_of_ble_eq_true rfl) rfl⟩, ?_⟩
  refine ⟨⟨mo_keep, ok_keep rfl⟩, ?_⟩
  refine ⟨⟨mo_ild, ok_ild dX9_replay_62 rfl⟩, ?_⟩
  refine ⟨⟨mo_push, ok_iconst dX9_replay_64 iv_i1 rfl⟩, ?_⟩
  refine ⟨⟨mo_ild, ok_ildn dX9_replay_65 rfl rfl⟩, ?_⟩
  refine ⟨⟨mo_bin, ok_ishl dX9_replay_66 rfl⟩, ?_⟩
  refine ⟨⟨mo_cge, ok_cge dX9_replay_67 rfl rfl⟩, ?_⟩
  refine ⟨⟨mo_ald, ok_aldn dX9_replay_70 rfl rfl⟩, ?_⟩
  refine ⟨⟨mo_ild, ok_ildn dX9_replay_71 rfl rfl⟩, ?_⟩
  refine ⟨⟨mo_ild, ok_ildn dX9_replay_72 rfl rfl⟩, ?_⟩
  refine ⟨⟨mo_ild, ok_ildn dX9_replay_73 rfl rfl⟩, ?_⟩
  refine ⟨⟨mo_ild, ok_ild dX9_replay_74 rfl⟩, ?_⟩
  refine ⟨⟨mo_cvV, ok_cvV mi_X9_rowDone lk_X9_469 q2320 qs137 rfl (Nat.le_of_ble_eq_true rfl) (iy_ro_le _) rfl rfl dX9_replay_76 rfl⟩, ?_⟩
  refine ⟨⟨mo_ild, ok_ild dX9_replay_79 rfl⟩, ?_⟩
  refine ⟨⟨mo_ine, ok_ine dX9_replay_81 rfl rfl⟩, ?_⟩
  refine ⟨⟨mo_ald, ok_aldn dX9_replay_84 rfl rfl⟩, ?_⟩
  refine ⟨⟨mo_cvV, ok_cvV mi_X9_keepsFirst lk_X9_472 q2324 qs138 rfl (Nat.le_of_ble_eq_true rfl) (iy_ro_le _) rfl rfl dX9_replay_85 rfl⟩, ?_⟩
  refine ⟨⟨mo_keep, ok_keep rfl⟩, ?_⟩
  refine ⟨⟨mo_ald, ok_aldn dX9_replay_88 rfl rfl⟩, ?_⟩
  refine ⟨⟨mo_cvI, ok_cvI mi_X9_isAsFirst lk_X9_475 q2328 qs139 rfl (Nat.le_of_ble_eq_true rfl) (iy_ro_le _) rfl rfl dX9_replay_89 rfl⟩, ?_⟩
  refine ⟨⟨mo_ieq, ok_ieq dX9_replay_92 rfl rfl⟩, ?_⟩
  refine ⟨⟨mo_inc, ok_inc dX9_replay_95 iv_i1 (Nat.le_of_ble_eq_true rfl) rfl⟩, ?_⟩
  refine ⟨⟨mo_keep, ok_keep rfl⟩, ?_⟩
  refine ⟨⟨mo_ald, ok_aldn dX9_replay_98 rfl rfl⟩, ?_⟩
  refine ⟨⟨mo_gR, ok_gR rfl fd_X9_80 rfl dX9_replay_99 rfl⟩, ?_⟩
  refine ⟨⟨mo_push, ok_iconst dX9_replay_102 iv_i3 rfl⟩, ?_⟩
  refine ⟨⟨mo_alI, ok_iald dX9_replay_103 rfl⟩, ?_⟩
  refine ⟨⟨mo_ald, ok_aldn dX9_replay_104 rfl rfl⟩, ?_⟩
  refine ⟨⟨mo_gR, ok_gR rfl fd_X9_104 rfl dX9_replay_105 rfl⟩, ?_⟩
  refine ⟨⟨mo_push, ok_iconst dX9_replay_108 iv_i3 rfl⟩, ?_⟩
  refine ⟨⟨mo_alI, ok_iald dX9_replay_109 rfl⟩, ?_⟩
  refine ⟨⟨mo_bin, ok_isub dX9_replay_110 rfl⟩, ?_⟩
  refine ⟨⟨mo_ist, ok_ist dX9_replay_111 (Nat.le_of_ble_eq_true rfl) rfl⟩, ?_⟩
  refine ⟨⟨mo_ald, ok_aldn dX9_replay_113 rfl rfl⟩, ?_⟩
  refine ⟨⟨mo_gR, ok_gR rfl fd_X9_80 rfl dX9_replay_114 rfl⟩, ?_⟩
  refine ⟨⟨mo_push, ok_iconst dX9_replay_117 iv_i0 rfl⟩, ?_⟩
  refine ⟨⟨mo_alI, ok_iald dX9_replay_118 rfl⟩, ?_⟩
  refine ⟨⟨mo_ald, ok_aldn dX9_replay_119 rfl rfl⟩, ?_⟩
  refine ⟨⟨mo_gR, ok_gR rfl fd_X9_104 rfl dX9_replay_120 rfl⟩, ?_⟩
  refine ⟨⟨mo_push, ok_iconst dX9_replay_123 iv_i0 rfl⟩, ?_⟩
  refine ⟨⟨mo_alI, ok_iald dX9_replay_124 rfl⟩, ?_⟩
  refine ⟨⟨mo_bin, ok_isub dX9_replay_125 rfl⟩, ?_⟩
  refine ⟨⟨mo_ist, ok_ist dX9_replay_126 (Nat.le_of_ble_eq_true rfl) rfl⟩, ?_⟩
  refine ⟨⟨mo_ild, ok_ild dX9_replay_128 rfl⟩, ?_⟩
  refine ⟨⟨mo_ild, ok_ild dX9_replay_130 rfl⟩, ?_⟩
  refine ⟨⟨mo_cle, ok_cle dX9_replay_132 rfl rfl⟩, ?_⟩
  refine ⟨⟨mo_ild, ok_ild dX9_replay_135 rfl⟩, ?_⟩
  refine ⟨⟨mo_ist, ok_ist dX9_replay_137 (Nat.le_of_ble_eq_true rfl) rfl⟩, ?_⟩
  refine ⟨⟨mo_ild, ok_ild dX9_replay_139 rfl⟩, ?_⟩
  refine ⟨⟨mo_ist, ok_ist dX9_replay_141 (Nat.le_of_ble_eq_true rfl) rfl⟩, ?_⟩
  refine ⟨⟨mo_keep, ok_keep rfl⟩, ?_⟩
  refine ⟨⟨mo_ild, ok_ild dX9_replay_143 rfl⟩, ?_⟩
  refine ⟨⟨mo_ild, ok_ild dX9_replay_145 rfl⟩, ?_⟩
  refine ⟨⟨mo_cge, ok_cge dX9_replay_147 rfl rfl⟩, ?_⟩
  refine ⟨⟨mo_ild, ok_ild dX9_replay_150 rfl⟩, ?_⟩
  refine ⟨⟨mo_ist, ok_ist dX9_replay_152 (Nat.le_of_ble_eq_true rfl) rfl⟩, ?_⟩
  refine ⟨⟨mo_keep, ok_keep rfl⟩, ?_⟩
  refine ⟨⟨mo_ald, ok_aldn dX9_replay_154 rfl rfl⟩, ?_⟩
  refine ⟨⟨mo_cvV, ok_cvV mi_X9_givesBack lk_X9_478 q2332 qs140 rfl (Nat.le_of_ble_eq_true rfl) (iy_ro_le _) rfl rfl dX9_replay_155 rfl⟩, ?_⟩
  refine ⟨⟨mo_inc, ok_inc dX9_replay_158 iv_i1 (Nat.le_of_ble_eq_true rfl) rfl⟩, ?_⟩
  refine ⟨⟨mo_back, ok_back dX9_replay_161 rfl⟩, ?_⟩
  refine ⟨⟨mo_ild, ok_ild dX9_replay_164 rfl⟩, ?_⟩
  refine ⟨⟨mo_ine, ok_ine dX9_replay_166 rfl rfl⟩, ?_⟩
  refine ⟨⟨mo_ild, ok_ild dX9_replay_169 rfl⟩, ?_⟩
  refine ⟨⟨mo_goto, ok_goto dX9_replay_171 rfl⟩, ?_⟩
  refine ⟨⟨mo_ild, ok_ild dX9_replay_174 rfl⟩, ?_⟩
  refine ⟨⟨mo_push, ok_iconst dX9_replay_176 iv_i1 rfl⟩, ?_⟩
  refine ⟨⟨mo_cne, ok_cne dX9_replay_177 rfl rfl⟩, ?_⟩
  refine ⟨⟨mo_ild, ok_ild dX9_replay_180 rfl⟩, ?_⟩
  refine ⟨⟨mo_goto, ok_goto dX9_replay_182 rfl⟩, ?_⟩
  refine ⟨⟨mo_ild, ok_ild dX9_replay_185 rfl⟩, ?_⟩
  refine ⟨⟨mo_push, ok_iconst dX9_replay_187 iv_i2 rfl⟩, ?_⟩
  refine ⟨⟨mo_cne, ok_cne dX9_replay_188 rfl rfl⟩, ?_⟩
  refine ⟨⟨mo_ild, ok_ild dX9_replay_191 rfl⟩, ?_⟩
  refine ⟨⟨mo_goto, ok_goto dX9_replay_193 rfl⟩, ?_⟩
  refine ⟨⟨mo_ild, ok_ild dX9_replay_196 rfl⟩, ?_⟩
  refine ⟨⟨mo_keep, ok_keep rfl⟩, ?_⟩
  refine ⟨⟨mo_iret, ok_iret rfl rfl dX9_replay_198⟩, ?_⟩
  exact trivial
set_option maxHeartbeats 4000000 in
theorem alX9_keeps : iy_all (iy_calls iy_mi) RX9 "keeps" cX9_keeps 2 (none, []) pcX9_keeps pcX9_keeps stX9_keeps := by
  refine ⟨⟨mo_push, ok_iconst dX9_keeps_0 iv_i0 rfl⟩, ?_⟩
  refine ⟨⟨mo_ist, ok_istn dX9_keeps_1 rfl (Nat.le_of_ble_eq_true rfl) rfl⟩, ?_⟩
  refine ⟨⟨mo_keep, ok_keep rfl⟩, ?_⟩
  refine ⟨⟨mo_ild, ok_ildn dX9_keeps_2 rfl rfl⟩, ?_⟩
  refine ⟨⟨mo_push, ok_sipush dX9_keeps_3 iv_s14100 rfl⟩, ?_⟩
  refine ⟨⟨mo_cge, ok_cge dX9_keeps_6 rfl rfl⟩, ?_⟩
  refine ⟨⟨mo_ald, ok_aldn dX9_keeps_9 rfl rfl⟩, ?_⟩
  refine ⟨⟨mo_gR, ok_gR rfl fd_X9_104 rfl dX9_keeps_10 rfl⟩, ?_⟩
  refine ⟨⟨mo_ild, ok_ildn dX9_keeps_13 rfl rfl⟩, ?_⟩
  refine ⟨⟨mo_ald, ok_aldn dX9_keeps_14 rfl rfl⟩, ?_⟩
  refine ⟨⟨mo_gR, ok_gR rfl fd_X9_80 rfl dX9_keeps_15 rfl⟩, ?_⟩
  refine ⟨⟨mo_ild, ok_ildn dX9_keeps_18 rfl rfl⟩, ?_⟩
  refine ⟨⟨mo_alI, ok_iald dX9_keeps_19 rfl⟩, ?_⟩
  refine ⟨⟨mo_asI, ok_iast dX9_keeps_20 rfl⟩, ?_⟩
  refine ⟨⟨mo_inc, ok_inc dX9_keeps_21 iv_i1 (Nat.le_of_ble_eq_true rfl) rfl⟩, ?_⟩
  refine ⟨⟨mo_back, ok_back dX9_keeps_24 rfl⟩, ?_⟩
  refine ⟨⟨mo_ret, ok_ret rfl dX9_keeps_27⟩, ?_⟩
  exact trivial
set_option maxHeartbeats 4000000 in
theorem alX9_rowDone : iy_all (iy_calls iy_mi) RX9 "rowDone" cX9_rowDone 6 (none, []) pcX9_rowDone pcX9_rowDone stX9_rowDone := by
  refine ⟨⟨mo_push, ok_iconst dX9_rowDone_0 iv_i0 rfl⟩, ?_⟩
  refine ⟨⟨mo_ist, ok_ist dX9_rowDone_1 (Nat.le_of_ble_eq_true rfl) rfl⟩, ?_⟩
  refine ⟨⟨mo_keep, ok_keep rfl⟩, ?_⟩
  refine ⟨⟨mo_ild, ok_ild dX9_rowDone_3 rfl⟩, ?_⟩
  refine ⟨⟨mo_ild, ok_ildn dX9_rowDone_5 rfl rfl⟩, ?_⟩
  refine ⟨⟨mo_cge, ok_cge dX9_rowDone_6 rfl rfl⟩, ?_⟩
  refine ⟨⟨mo_ald, ok_aldn dX9_rowDone_9 rfl rfl⟩, ?_⟩
  refine ⟨⟨mo_ild, ok_ild dX9_rowDone_10 rfl⟩, ?_⟩
  refine ⟨⟨mo_ild, ok_ild dX9_rowDone_12 rfl⟩, ?_⟩
  refine ⟨⟨mo_bin, ok_ishr dX9_rowDone_14 rfl⟩, ?_⟩
  refine ⟨⟨mo_push, ok_iconst dX9_rowDone_15 iv_i1 rfl⟩, ?_⟩
  refine ⟨⟨mo_bin, ok_iand dX9_rowDone_16 rfl⟩, ?_⟩
  refine ⟨⟨mo_ine, ok_ine dX9_rowDone_17 rfl rfl⟩, ?_⟩
  refine ⟨⟨mo_ild, ok_ildn dX9_rowDone_20 rfl rfl⟩, ?_⟩
  refine ⟨⟨mo_goto, ok_goto dX9_rowDone_21 rfl⟩, ?_⟩
  refine ⟨⟨mo_ild, ok_ildn dX9_rowDone_24 rfl rfl⟩, ?_⟩
  refine ⟨⟨mo_keep, ok_keep rfl⟩, ?_⟩
  refine ⟨⟨mo_cvV, ok_cvV mi_X9_steps lk_X9_257 q2087 qs99 rfl (Nat.le_of_ble_eq_true rfl) (iy_ro_le _) rfl rfl dX9_rowDone_25 rfl⟩, ?_⟩
  refine ⟨⟨mo_inc, ok_inc dX9_rowDone_28 iv_i1 (Nat.le_of_ble_eq_true rfl) rfl⟩, ?_⟩
  refine ⟨⟨mo_back, ok_back dX9_rowDone_31 rfl⟩, ?_⟩
  refine ⟨⟨mo_ald, ok_aldn dX9_rowDone_34 rfl rfl⟩, ?_⟩
  refine ⟨⟨mo_ild, ok_ildn dX9_rowDone_35 rfl rfl⟩, ?_⟩
  refine ⟨⟨mo_cvI, ok_cvI mi_X9_closes lk_X9_260 q2083 qs98 rfl (Nat.le_of_ble_eq_true rfl) (iy_ro_le _) rfl rfl dX9_rowDone_36 rfl⟩, ?_⟩
  refine ⟨⟨mo_pop, ok_pop dX9_rowDone_39 rfl⟩, ?_⟩
  refine ⟨⟨mo_ald, ok_aldn dX9_rowDone_40 rfl rfl⟩, ?_⟩
  refine ⟨⟨mo_ild, ok_ildn dX9_rowDone_41 rfl rfl⟩, ?_⟩
  refine ⟨⟨mo_cvI, ok_cvI mi_X9_closes lk_X9_260 q2083 qs98 rfl (Nat.le_of_ble_eq_true rfl) (iy_ro_le _) rfl rfl dX9_rowDone_42 rfl⟩, ?_⟩
  refine ⟨⟨mo_pop, ok_pop dX9_rowDone_45 rfl⟩, ?_⟩
  refine ⟨⟨mo_ald, ok_aldn dX9_rowDone_46 rfl rfl⟩, ?_⟩
  refine ⟨⟨mo_cvV, ok_cvV mi_X9_fillsAll lk_X9_266 q2029 qs86 rfl (Nat.le_of_ble_eq_true rfl) (iy_ro_le _) rfl rfl dX9_rowDone_47 rfl⟩, ?_⟩
  refine ⟨⟨mo_ret, ok_ret rfl dX9_rowDone_50⟩, ?_⟩
  exact trivial
set_option maxHeartbeats 4000000 in
theorem alX9_keepsFirst : iy_all (iy_calls iy_mi) RX9 "keepsFirst" cX9_keepsFirst 2 (none, []) pcX9_keepsFirst pcX9_keepsFirst stX9_keepsFirst := by
  refine ⟨⟨mo_ald, ok_aldn dX9_keepsFirst_0 rfl rfl⟩, ?_⟩
  refine ⟨⟨mo_ald, ok_aldn dX9_keepsFirst_1 rfl rfl⟩, ?_⟩
  refine ⟨⟨mo_gI, ok_gI rfl fd_X9_269 rfl dX9_keepsFirst_2 rfl⟩, ?_⟩
  refine ⟨⟨mo_pI, ok_pI rfl fd_X9_463 rfl (Or.inl rfl) dX9_keepsFirst_5 rfl⟩, ?_⟩
  refine ⟨⟨mo_push, ok_iconst dX9_keepsFirst_8 iv_i0 rfl⟩, ?_⟩
  refine ⟨⟨mo_ist, ok_istn dX9_keepsFirst_9 rfl (Nat.le_of_ble_eq_true rfl) rfl⟩, ?_⟩
  refine ⟨⟨mo_keep, ok_keep rfl⟩, ?_⟩
  refine ⟨⟨mo_ild, ok_ildn dX9_keepsFirst_10 rfl rfl⟩, ?_⟩
  refine ⟨⟨mo_ald, ok_aldn dX9_keepsFirst_11 rfl rfl⟩, ?_⟩
  refine ⟨⟨mo_gI, ok_gI rfl fd_X9_269 rfl dX9_keepsFirst_12 rfl⟩, ?_⟩
  refine ⟨⟨mo_cge, ok_cge dX9_keepsFirst_15 rfl rfl⟩, ?_⟩
  refine ⟨⟨mo_ald, ok_aldn dX9_keepsFirst_18 rfl rfl⟩, ?_⟩
  refine ⟨⟨mo_gR, ok_gR rfl fd_X9_107 rfl dX9_keepsFirst_19 rfl⟩, ?_⟩
  refine ⟨⟨mo_ild, ok_ildn dX9_keepsFirst_22 rfl rfl⟩, ?_⟩
  refine ⟨⟨mo_ald, ok_aldn dX9_keepsFirst_23 rfl rfl⟩, ?_⟩
  refine ⟨⟨mo_gR, ok_gR rfl fd_X9_98 rfl dX9_keepsFirst_24 rfl⟩, ?_⟩
  refine ⟨⟨mo_ild, ok_ildn dX9_keepsFirst_27 rfl rfl⟩, ?_⟩
  refine ⟨⟨mo_alI, ok_iald dX9_keepsFirst_28 rfl⟩, ?_⟩
  refine ⟨⟨mo_asI, ok_iast dX9_keepsFirst_29 rfl⟩, ?_⟩
  refine ⟨⟨mo_ald, ok_aldn dX9_keepsFirst_30 rfl rfl⟩, ?_⟩
  refine ⟨⟨mo_gR, ok_gR rfl fd_X9_110 rfl dX9_keepsFirst_31 rfl⟩, ?_⟩
  refine ⟨⟨mo_ild, ok_ildn dX9_keepsFirst_34 rfl rfl⟩, ?_⟩
  refine ⟨⟨mo_ald, ok_aldn dX9_keepsFirst_35 rfl rfl⟩, ?_⟩
  refine ⟨⟨mo_gR, ok_gR rfl fd_X9_101 rfl dX9_keepsFirst_36 rfl⟩, ?_⟩
  refine ⟨⟨mo_ild, ok_ildn dX9_keepsFirst_39 rfl rfl⟩, ?_⟩
  refine ⟨⟨mo_alI, ok_iald dX9_keepsFirst_40 rfl⟩, ?_⟩
  refine ⟨⟨mo_asI, ok_iast dX9_keepsFirst_41 rfl⟩, ?_⟩
  refine ⟨⟨mo_inc, ok_inc dX9_keepsFirst_42 iv_i1 (Nat.le_of_ble_eq_true rfl) rfl⟩, ?_⟩
  refine ⟨⟨mo_back, ok_back dX9_keepsFirst_45 rfl⟩, ?_⟩
  refine ⟨⟨mo_ret, ok_ret rfl dX9_keepsFirst_48⟩, ?_⟩
  exact trivial
set_option maxHeartbeats 4000000 in
theorem alX9_isAsFirst : iy_all (iy_calls iy_mi) RX9 "isAsFirst" cX9_isAsFirst 2 (some FieldType.boolean, []) pcX9_isAsFirst pcX9_isAsFirst stX9_isAsFirst := by
  refine ⟨⟨mo_ald, ok_aldn dX9_isAsFirst_0 rfl rfl⟩, ?_⟩
  refine ⟨⟨mo_gI, ok_gI rfl fd_X9_269 rfl dX9_isAsFirst_1 rfl⟩, ?_⟩
  refine ⟨⟨mo_ald, ok_aldn dX9_isAsFirst_4 rfl rfl⟩, ?_⟩
  refine ⟨⟨mo_gI, ok_gI rfl fd_X9_463 rfl dX9_isAsFirst_5 rfl⟩, ?_⟩
  refine ⟨⟨mo_ceq, ok_ceq dX9_isAsFirst_8 rfl rfl⟩, ?_⟩
  refine ⟨⟨mo_push, ok_iconst dX9_isAsFirst_11 iv_i0 rfl⟩, ?_⟩
  refine ⟨⟨mo_iret, ok_iret rfl rfl dX9_isAsFirst_12⟩, ?_⟩
  refine ⟨⟨mo_push, ok_iconst dX9_isAsFirst_13 iv_i0 rfl⟩, ?_⟩
  refine ⟨⟨mo_ist, ok_istn dX9_isAsFirst_14 rfl (Nat.le_of_ble_eq_true rfl) rfl⟩, ?_⟩
  refine ⟨⟨mo_keep, ok_keep rfl⟩, ?_⟩
  refine ⟨⟨mo_ild, ok_ildn dX9_isAsFirst_15 rfl rfl⟩, ?_⟩
  refine ⟨⟨mo_ald, ok_aldn dX9_isAsFirst_16 rfl rfl⟩, ?_⟩
  refine ⟨⟨mo_gI, ok_gI rfl fd_X9_269 rfl dX9_isAsFirst_17 rfl⟩, ?_⟩
  refine ⟨⟨mo_cge, ok_cge dX9_isAsFirst_20 rfl rfl⟩, ?_⟩
  refine ⟨⟨mo_ald, ok_aldn dX9_isAsFirst_23 rfl rfl⟩, ?_⟩
  refine ⟨⟨mo_gR, ok_gR rfl fd_X9_98 rfl dX9_isAsFirst_24 rfl⟩, ?_⟩
  refine ⟨⟨mo_ild, ok_ildn dX9_isAsFirst_27 rfl rfl⟩, ?_⟩
  refine ⟨⟨mo_alI, ok_iald dX9_isAsFirst_28 rfl⟩, ?_⟩
  refine ⟨⟨mo_ald, ok_aldn dX9_isAsFirst_29 rfl rfl⟩, ?_⟩
  refine ⟨⟨mo_gR, ok_gR rfl fd_X9_107 rfl dX9_isAsFirst_30 rfl⟩, ?_⟩
  refine ⟨⟨mo_ild, ok_ildn dX9_isAsFirst_33 rfl rfl⟩, ?_⟩
  refine ⟨⟨mo_alI, ok_iald dX9_isAsFirst_34 rfl⟩, ?_⟩
  refine ⟨⟨mo_cne, ok_cne dX9_isAsFirst_35 rfl rfl⟩, ?_⟩
  refine ⟨⟨mo_ald, ok_aldn dX9_isAsFirst_38 rfl rfl⟩, ?_⟩
  refine ⟨⟨mo_gR, ok_gR rfl fd_X9_101 rfl dX9_isAsFirst_39 rfl⟩, ?_⟩
  refine ⟨⟨mo_ild, ok_ildn dX9_isAsFirst_42 rfl rfl⟩, ?_⟩
  refine ⟨⟨mo_alI, ok_iald dX9_isAsFirst_43 rfl⟩, ?_⟩
  refine ⟨⟨mo_ald, ok_aldn dX9_isAsFirst_44 rfl rfl⟩, ?_⟩
  refine ⟨⟨mo_gR, ok_gR rfl fd_X9_110 rfl dX9_isAsFirst_45 rfl⟩, ?_⟩
  refine ⟨⟨mo_ild, ok_ildn dX9_isAsFirst_48 rfl rfl⟩, ?_⟩
  refine ⟨⟨mo_alI, ok_iald dX9_isAsFirst_49 rfl⟩, ?_⟩
  refine ⟨⟨mo_ceq, ok_ceq dX9_isAsFirst_50 rfl rfl⟩, ?_⟩
  refine ⟨⟨mo_keep, ok_keep rfl⟩, ?_⟩
  refine ⟨⟨mo_push, ok_iconst dX9_isAsFirst_53 iv_i0 rfl⟩, ?_⟩
  refine ⟨⟨mo_iret, ok_iret rfl rfl dX9_isAsFirst_54⟩, ?_⟩
  refine ⟨⟨mo_inc, ok_inc dX9_isAsFirst_55 iv_i1 (Nat.le_of_ble_eq_true rfl) rfl⟩, ?_⟩
  refine ⟨⟨mo_back, ok_back dX9_isAsFirst_58 rfl⟩, ?_⟩
  refine ⟨⟨mo_push, ok_iconst dX9_isAsFirst_61 iv_i1 rfl⟩, ?_⟩
  refine ⟨⟨mo_iret, ok_iret rfl rfl dX9_isAsFirst_62⟩, ?_⟩
  exact trivial
set_option maxHeartbeats 4000000 in
theorem alX9_givesBack : iy_all (iy_calls iy_mi) RX9 "givesBack" cX9_givesBack 2 (none, []) pcX9_givesBack pcX9_givesBack stX9_givesBack := by
  refine ⟨⟨mo_push, ok_iconst dX9_givesBack_0 iv_i0 rfl⟩, ?_⟩
  refine ⟨⟨mo_ist, ok_istn dX9_givesBack_1 rfl (Nat.le_of_ble_eq_true rfl) rfl⟩, ?_⟩
  refine ⟨⟨mo_keep, ok_keep rfl⟩, ?_⟩
  refine ⟨⟨mo_ild, ok_ildn dX9_givesBack_2 rfl rfl⟩, ?_⟩
  refine ⟨⟨mo_push, ok_sipush dX9_givesBack_3 iv_s14100 rfl⟩, ?_⟩
  refine ⟨⟨mo_cge, ok_cge dX9_givesBack_6 rfl rfl⟩, ?_⟩
  refine ⟨⟨mo_ald, ok_aldn dX9_givesBack_9 rfl rfl⟩, ?_⟩
  refine ⟨⟨mo_gR, ok_gR rfl fd_X9_80 rfl dX9_givesBack_10 rfl⟩, ?_⟩
  refine ⟨⟨mo_ild, ok_ildn dX9_givesBack_13 rfl rfl⟩, ?_⟩
  refine ⟨⟨mo_ald, ok_aldn dX9_givesBack_14 rfl rfl⟩, ?_⟩
  refine ⟨⟨mo_gR, ok_gR rfl fd_X9_104 rfl dX9_givesBack_15 rfl⟩, ?_⟩
  refine ⟨⟨mo_ild, ok_ildn dX9_givesBack_18 rfl rfl⟩, ?_⟩
  refine ⟨⟨mo_alI, ok_iald dX9_givesBack_19 rfl⟩, ?_⟩
  refine ⟨⟨mo_asI, ok_iast dX9_givesBack_20 rfl⟩, ?_⟩
  refine ⟨⟨mo_inc, ok_inc dX9_givesBack_21 iv_i1 (Nat.le_of_ble_eq_true rfl) rfl⟩, ?_⟩
  refine ⟨⟨mo_back, ok_back dX9_givesBack_24 rfl⟩, ?_⟩
  refine ⟨⟨mo_ret, ok_ret rfl dX9_givesBack_27⟩, ?_⟩
  exact trivial
set_option maxHeartbeats 4000000 in
theorem alX9_hold : iy_all (iy_calls iy_mi) RX9 "hold" cX9_hold 3 (some FieldType.boolean, []) pcX9_hold pcX9_hold stX9_hold := by
  refine ⟨⟨mo_ild, ok_ildn dX9_hold_0 rfl rfl⟩, ?_⟩
  refine ⟨⟨mo_push, ok_iconst dX9_hold_1 iv_i0 rfl⟩, ?_⟩
  refine ⟨⟨mo_push, ok_iconst dX9_hold_2 iv_i2 rfl⟩, ?_⟩
  refine ⟨⟨mo_csI, ok_csI mi_X9_in lk_X9_441 q2229 dX9_hold_3 rfl⟩, ?_⟩
  refine ⟨⟨mo_ine, ok_ine dX9_hold_6 rfl rfl⟩, ?_⟩
  refine ⟨⟨mo_push, ok_iconst dX9_hold_9 iv_i0 rfl⟩, ?_⟩
  refine ⟨⟨mo_iret, ok_iret rfl rfl dX9_hold_10⟩, ?_⟩
  refine ⟨⟨mo_ald, ok_aldn dX9_hold_11 rfl rfl⟩, ?_⟩
  refine ⟨⟨mo_gR, ok_gR rfl fd_X9_113 rfl dX9_hold_12 rfl⟩, ?_⟩
  refine ⟨⟨mo_ild, ok_ildn dX9_hold_15 rfl rfl⟩, ?_⟩
  refine ⟨⟨mo_push, ok_iconst dX9_hold_16 iv_i1 rfl⟩, ?_⟩
  refine ⟨⟨mo_asI, ok_zast dX9_hold_17 rfl⟩, ?_⟩
  refine ⟨⟨mo_push, ok_iconst dX9_hold_18 iv_i0 rfl⟩, ?_⟩
  refine ⟨⟨mo_ist, ok_istn dX9_hold_19 rfl (Nat.le_of_ble_eq_true rfl) rfl⟩, ?_⟩
  refine ⟨⟨mo_keep, ok_keep rfl⟩, ?_⟩
  refine ⟨⟨mo_ild, ok_ildn dX9_hold_20 rfl rfl⟩, ?_⟩
  refine ⟨⟨mo_push, ok_ldc dX9_hold_21 q1720 rfl⟩, ?_⟩
  refine ⟨⟨mo_cge, ok_cge dX9_hold_23 rfl rfl⟩, ?_⟩
  refine ⟨⟨mo_ald, ok_aldn dX9_hold_26 rfl rfl⟩, ?_⟩
  refine ⟨⟨mo_gR, ok_gR rfl fd_X9_118 rfl dX9_hold_27 rfl⟩, ?_⟩
  refine ⟨⟨mo_push, ok_ldc dX9_hold_30 q1720 rfl⟩, ?_⟩
  refine ⟨⟨mo_ild, ok_ildn dX9_hold_32 rfl rfl⟩, ?_⟩
  refine ⟨⟨mo_bin, ok_imul dX9_hold_33 rfl⟩, ?_⟩
  refine ⟨⟨mo_ild, ok_ildn dX9_hold_34 rfl rfl⟩, ?_⟩
  refine ⟨⟨mo_bin, ok_iadd dX9_hold_35 rfl⟩, ?_⟩
  refine ⟨⟨mo_ald, ok_aldn dX9_hold_36 rfl rfl⟩, ?_⟩
  refine ⟨⟨mo_gR, ok_gR rfl fd_X9_80 rfl dX9_hold_37 rfl⟩, ?_⟩
  refine ⟨⟨mo_ild, ok_ildn dX9_hold_40 rfl rfl⟩, ?_⟩
  refine ⟨⟨mo_alI, ok_iald dX9_hold_41 rfl⟩, ?_⟩
  refine ⟨⟨mo_asI, ok_iast dX9_hold_42 rfl⟩, ?_⟩
  refine ⟨⟨mo_inc, ok_inc dX9_hold_43 iv_i1 (Nat.le_of_ble_eq_true rfl) rfl⟩, ?_⟩
  refine ⟨⟨mo_back, ok_back dX9_hold_46 rfl⟩, ?_⟩
  refine ⟨⟨mo_push, ok_iconst dX9_hold_49 iv_i1 rfl⟩, ?_⟩
  refine ⟨⟨mo_iret, ok_iret rfl rfl dX9_hold_50⟩, ?_⟩
  exact trivial
set_option maxHeartbeats 4000000 in
theorem alX9_restore : iy_all (iy_calls iy_mi) RX9 "restore" cX9_restore 3 (some FieldType.boolean, []) pcX9_restore pcX9_restore stX9_restore := by
  refine ⟨⟨mo_ild, ok_ildn dX9_restore_0 rfl rfl⟩, ?_⟩
  refine ⟨⟨mo_push, ok_iconst dX9_restore_1 iv_i0 rfl⟩, ?_⟩
  refine ⟨⟨mo_push, ok_iconst dX9_restore_2 iv_i2 rfl⟩, ?_⟩
  refine ⟨⟨mo_csI, ok_csI mi_X9_in lk_X9_441 q2229 dX9_restore_3 rfl⟩, ?_⟩
  refine ⟨⟨mo_ieq, ok_ieq dX9_restore_6 rfl rfl⟩, ?_⟩
  refine ⟨⟨mo_ald, ok_aldn dX9_restore_9 rfl rfl⟩, ?_⟩
  refine ⟨⟨mo_gR, ok_gR rfl fd_X9_113 rfl dX9_restore_10 rfl⟩, ?_⟩
  refine ⟨⟨mo_ild, ok_ildn dX9_restore_13 rfl rfl⟩, ?_⟩
  refine ⟨⟨mo_alI, ok_zald dX9_restore_14 rfl⟩, ?_⟩
  refine ⟨⟨mo_ine, ok_ine dX9_restore_15 rfl rfl⟩, ?_⟩
  refine ⟨⟨mo_keep, ok_keep rfl⟩, ?_⟩
  refine ⟨⟨mo_push, ok_iconst dX9_restore_18 iv_i0 rfl⟩, ?_⟩
  refine ⟨⟨mo_iret, ok_iret rfl rfl dX9_restore_19⟩, ?_⟩
  refine ⟨⟨mo_push, ok_iconst dX9_restore_20 iv_i0 rfl⟩, ?_⟩
  refine ⟨⟨mo_ist, ok_istn dX9_restore_21 rfl (Nat.le_of_ble_eq_true rfl) rfl⟩, ?_⟩
  refine ⟨⟨mo_keep, ok_keep rfl⟩, ?_⟩
  refine ⟨⟨mo_ild, ok_ildn dX9_restore_22 rfl rfl⟩, ?_⟩
  refine ⟨⟨mo_push, ok_ldc dX9_restore_23 q1720 rfl⟩, ?_⟩
  refine ⟨⟨mo_cge, ok_cge dX9_restore_25 rfl rfl⟩, ?_⟩
  refine ⟨⟨mo_ald, ok_aldn dX9_restore_28 rfl rfl⟩, ?_⟩
  refine ⟨⟨mo_gR, ok_gR rfl fd_X9_80 rfl dX9_restore_29 rfl⟩, ?_⟩
  refine ⟨⟨mo_ild, ok_ildn dX9_restore_32 rfl rfl⟩, ?_⟩
  refine ⟨⟨mo_ald, ok_aldn dX9_restore_33 rfl rfl⟩, ?_⟩
  refine ⟨⟨mo_gR, ok_gR rfl fd_X9_118 rfl dX9_restore_34 rfl⟩, ?_⟩
  refine ⟨⟨mo_push, ok_ldc dX9_restore_37 q1720 rfl⟩, ?_⟩
  refine ⟨⟨mo_ild, ok_ildn dX9_restore_39 rfl rfl⟩, ?_⟩
  refine ⟨⟨mo_bin, ok_imul dX9_restore_40 rfl⟩, ?_⟩
  refine ⟨⟨mo_ild, ok_ildn dX9_restore_41 rfl rfl⟩, ?_⟩
  refine ⟨⟨mo_bin, ok_iadd dX9_restore_42 rfl⟩, ?_⟩
  refine ⟨⟨mo_alI, ok_iald dX9_restore_43 rfl⟩, ?_⟩
  refine ⟨⟨mo_asI, ok_iast dX9_restore_44 rfl⟩, ?_⟩
  refine ⟨⟨mo_inc, ok_inc dX9_restore_45 iv_i1 (Nat.le_of_ble_eq_true rfl) rfl⟩, ?_⟩
  refine ⟨⟨mo_back, ok_back dX9_restore_48 rfl⟩, ?_⟩
  refine ⟨⟨mo_push, ok_iconst dX9_restore_51 iv_i1 rfl⟩, ?_⟩
  refine ⟨⟨mo_iret, ok_iret rfl rfl dX9_restore_52⟩, ?_⟩
  exact trivial
set_option maxHeartbeats 4000000 in
theorem alX9_count : iy_all (iy_calls iy_mi) RX9 "count" cX9_count 4 (some FieldType.int, []) pcX9_count pcX9_count stX9_count := by
  refine ⟨⟨mo_push, ok_iconst dX9_count_0 iv_i0 rfl⟩, ?_⟩
  refine ⟨⟨mo_ist, ok_istn dX9_count_1 rfl (Nat.le_of_ble_eq_true rfl) rfl⟩, ?_⟩
  refine ⟨⟨mo_ild, ok_ildn dX9_count_2 rfl rfl⟩, ?_⟩
  refine ⟨⟨mo_sw, ok_tsw dX9_count_3 rfl rfl (by decide +kernel)⟩, ?_⟩
  refine ⟨⟨mo_ald, ok_aldn dX9_count_72 rfl rfl⟩, ?_⟩
  refine ⟨⟨mo_cvV, ok_cvV mi_X9_fillsAll lk_X9_266 q2029 qs86 rfl (Nat.le_of_ble_eq_true rfl) (iy_ro_le _) rfl rfl dX9_count_73 rfl⟩, ?_⟩
  refine ⟨⟨mo_ald, ok_aldn dX9_count_76 rfl rfl⟩, ?_⟩
  refine ⟨⟨mo_gI, ok_gI rfl fd_X9_269 rfl dX9_count_77 rfl⟩, ?_⟩
  refine ⟨⟨mo_iret, ok_iret rfl rfl dX9_count_80⟩, ?_⟩
  refine ⟨⟨mo_ald, ok_aldn dX9_count_81 rfl rfl⟩, ?_⟩
  refine ⟨⟨mo_gR, ok_gR rfl fd_X9_80 rfl dX9_count_82 rfl⟩, ?_⟩
  refine ⟨⟨mo_push, ok_iconst dX9_count_85 iv_i0 rfl⟩, ?_⟩
  refine ⟨⟨mo_alI, ok_iald dX9_count_86 rfl⟩, ?_⟩
  refine ⟨⟨mo_iret, ok_iret rfl rfl dX9_count_87⟩, ?_⟩
  refine ⟨⟨mo_ald, ok_aldn dX9_count_88 rfl rfl⟩, ?_⟩
  refine ⟨⟨mo_gR, ok_gR rfl fd_X9_80 rfl dX9_count_89 rfl⟩, ?_⟩
  refine ⟨⟨mo_push, ok_iconst dX9_count_92 iv_i1 rfl⟩, ?_⟩
  refine ⟨⟨mo_alI, ok_iald dX9_count_93 rfl⟩, ?_⟩
  refine ⟨⟨mo_iret, ok_iret rfl rfl dX9_count_94⟩, ?_⟩
  refine ⟨⟨mo_ald, ok_aldn dX9_count_95 rfl rfl⟩, ?_⟩
  refine ⟨⟨mo_gR, ok_gR rfl fd_X9_80 rfl dX9_count_96 rfl⟩, ?_⟩
  refine ⟨⟨mo_push, ok_iconst dX9_count_99 iv_i2 rfl⟩, ?_⟩
  refine ⟨⟨mo_alI, ok_iald dX9_count_100 rfl⟩, ?_⟩
  refine ⟨⟨mo_iret, ok_iret rfl rfl dX9_count_101⟩, ?_⟩
  refine ⟨⟨mo_ald, ok_aldn dX9_count_102 rfl rfl⟩, ?_⟩
  refine ⟨⟨mo_push, ok_iconst dX9_count_103 iv_i4 rfl⟩, ?_⟩
  refine ⟨⟨mo_cvI, ok_cvI mi_X9_sumOf lk_X9_481 q2348 qs141 rfl (Nat.le_of_ble_eq_true rfl) (iy_ro_le _) rfl rfl dX9_count_104 rfl⟩, ?_⟩
  refine ⟨⟨mo_iret, ok_iret rfl rfl dX9_count_107⟩, ?_⟩
  refine ⟨⟨mo_ald, ok_aldn dX9_count_108 rfl rfl⟩, ?_⟩
  refine ⟨⟨mo_push, ok_iconst dX9_count_109 iv_i5 rfl⟩, ?_⟩
  refine ⟨⟨mo_cvI, ok_cvI mi_X9_sumOf lk_X9_481 q2348 qs141 rfl (Nat.le_of_ble_eq_true rfl) (iy_ro_le _) rfl rfl dX9_count_110 rfl⟩, ?_⟩
  refine ⟨⟨mo_iret, ok_iret rfl rfl dX9_count_113⟩, ?_⟩
  refine ⟨⟨mo_push, ok_iconst dX9_count_114 iv_i0 rfl⟩, ?_⟩
  refine ⟨⟨mo_ist, ok_istn dX9_count_115 rfl (Nat.le_of_ble_eq_true rfl) rfl⟩, ?_⟩
  refine ⟨⟨mo_keep, ok_keep rfl⟩, ?_⟩
  refine ⟨⟨mo_ild, ok_ildn dX9_count_116 rfl rfl⟩, ?_⟩
  refine ⟨⟨mo_push, ok_iconst dX9_count_117 iv_i4 rfl⟩, ?_⟩
  refine ⟨⟨mo_cge, ok_cge dX9_count_118 rfl rfl⟩, ?_⟩
  refine ⟨⟨mo_ald, ok_aldn dX9_count_121 rfl rfl⟩, ?_⟩
  refine ⟨⟨mo_gR, ok_gR rfl fd_X9_80 rfl dX9_count_122 rfl⟩, ?_⟩
  refine ⟨⟨mo_ild, ok_ildn dX9_count_125 rfl rfl⟩, ?_⟩
  refine ⟨⟨mo_csI, ok_csI mi_X9_hand0 lk_X9_291 q1734 dX9_count_126 rfl⟩, ?_⟩
  refine ⟨⟨mo_push, ok_iconst dX9_count_129 iv_i1 rfl⟩, ?_⟩
  refine ⟨⟨mo_bin, ok_iadd dX9_count_130 rfl⟩, ?_⟩
  refine ⟨⟨mo_alI, ok_iald dX9_count_131 rfl⟩, ?_⟩
  refine ⟨⟨mo_ile, ok_ile dX9_count_132 rfl rfl⟩, ?_⟩
  refine ⟨⟨mo_ild, ok_ildn dX9_count_135 rfl rfl⟩, ?_⟩
  refine ⟨⟨mo_push, ok_iconst dX9_count_136 iv_i1 rfl⟩, ?_⟩
  refine ⟨⟨mo_ild, ok_ildn dX9_count_137 rfl rfl⟩, ?_⟩
  refine ⟨⟨mo_bin, ok_ishl dX9_count_138 rfl⟩, ?_⟩
  refine ⟨⟨mo_bin, ok_ior dX9_count_139 rfl⟩, ?_⟩
  refine ⟨⟨mo_ist, ok_istn dX9_count_140 rfl (Nat.le_of_ble_eq_true rfl) rfl⟩, ?_⟩
  refine ⟨⟨mo_keep, ok_keep rfl⟩, ?_⟩
  refine ⟨⟨mo_inc, ok_inc dX9_count_141 iv_i1 (Nat.le_of_ble_eq_true rfl) rfl⟩, ?_⟩
  refine ⟨⟨mo_back, ok_back dX9_count_144 rfl⟩, ?_⟩
  refine ⟨⟨mo_ild, ok_ildn dX9_count_147 rfl rfl⟩, ?_⟩
  refine ⟨⟨mo_iret, ok_iret rfl rfl dX9_count_148⟩, ?_⟩
  refine ⟨⟨mo_ald, ok_aldn dX9_count_149 rfl rfl⟩, ?_⟩
  refine ⟨⟨mo_gR, ok_gR rfl fd_X9_80 rfl dX9_count_150 rfl⟩, ?_⟩
  refine ⟨⟨mo_push, ok_iconst dX9_count_153 iv_i3 rfl⟩, ?_⟩
  refine ⟨⟨mo_alI, ok_iald dX9_count_154 rfl⟩, ?_⟩
  refine ⟨⟨mo_iret, ok_iret rfl rfl dX9_count_155⟩, ?_⟩
  refine ⟨⟨mo_ald, ok_aldn dX9_count_156 rfl rfl⟩, ?_⟩
  refine ⟨⟨mo_gI, ok_gI rfl fd_X9_129 rfl dX9_count_157 rfl⟩, ?_⟩
  refine ⟨⟨mo_iret, ok_iret rfl rfl dX9_count_160⟩, ?_⟩
  refine ⟨⟨mo_ald, ok_aldn dX9_count_161 rfl rfl⟩, ?_⟩
  refine ⟨⟨mo_gR, ok_gR rfl fd_X9_113 rfl dX9_count_162 rfl⟩, ?_⟩
  refine ⟨⟨mo_push, ok_iconst dX9_count_165 iv_i0 rfl⟩, ?_⟩
  refine ⟨⟨mo_alI, ok_zald dX9_count_166 rfl⟩, ?_⟩
  refine ⟨⟨mo_ieq, ok_ieq dX9_count_167 rfl rfl⟩, ?_⟩
  refine ⟨⟨mo_push, ok_iconst dX9_count_170 iv_i1 rfl⟩, ?_⟩
  refine ⟨⟨mo_goto, ok_goto dX9_count_171 rfl⟩, ?_⟩
  refine ⟨⟨mo_push, ok_iconst dX9_count_174 iv_i0 rfl⟩, ?_⟩
  refine ⟨⟨mo_keep, ok_keep rfl⟩, ?_⟩
  refine ⟨⟨mo_ald, ok_aldn dX9_count_175 rfl rfl⟩, ?_⟩
  refine ⟨⟨mo_gR, ok_gR rfl fd_X9_113 rfl dX9_count_176 rfl⟩, ?_⟩
  refine ⟨⟨mo_push, ok_iconst dX9_count_179 iv_i1 rfl⟩, ?_⟩
  refine ⟨⟨mo_alI, ok_zald dX9_count_180 rfl⟩, ?_⟩
  refine ⟨⟨mo_ieq, ok_ieq dX9_count_181 rfl rfl⟩, ?_⟩
  refine ⟨⟨mo_push, ok_iconst dX9_count_184 iv_i1 rfl⟩, ?_⟩
  refine ⟨⟨mo_goto, ok_goto dX9_count_185 rfl⟩, ?_⟩
  refine ⟨⟨mo_push, ok_iconst dX9_count_188 iv_i0 rfl⟩, ?_⟩
  refine ⟨⟨mo_keep, ok_keep rfl⟩, ?_⟩
  refine ⟨⟨mo_bin, ok_iadd dX9_count_189 rfl⟩, ?_⟩
  refine ⟨⟨mo_ald, ok_aldn dX9_count_190 rfl rfl⟩, ?_⟩
  refine ⟨⟨mo_gR, ok_gR rfl fd_X9_113 rfl dX9_count_191 rfl⟩, ?_⟩
  refine ⟨⟨mo_push, ok_iconst dX9_count_194 iv_i2 rfl⟩, ?_⟩
  refine ⟨⟨mo_alI, ok_zald dX9_count_195 rfl⟩, ?_⟩
  refine ⟨⟨mo_ieq, ok_ieq dX9_count_196 rfl rfl⟩, ?_⟩
  refine ⟨⟨mo_push, ok_iconst dX9_count_199 iv_i1 rfl⟩, ?_⟩
  refine ⟨⟨mo_goto, ok_goto dX9_count_200 rfl⟩, ?_⟩
  refine ⟨⟨mo_push, ok_iconst dX9_count_203 iv_i0 rfl⟩, ?_⟩
  refine ⟨⟨mo_keep, ok_keep rfl⟩, ?_⟩
  refine ⟨⟨mo_bin, ok_iadd dX9_count_204 rfl⟩, ?_⟩
  refine ⟨⟨mo_iret, ok_iret rfl rfl dX9_count_205⟩, ?_⟩
  refine ⟨⟨mo_ald, ok_aldn dX9_count_206 rfl rfl⟩, ?_⟩
  refine ⟨⟨mo_gR, ok_gR rfl fd_X9_80 rfl dX9_count_207 rfl⟩, ?_⟩
  refine ⟨⟨mo_push, ok_iconst dX9_count_210 iv_i5 rfl⟩, ?_⟩
  refine ⟨⟨mo_alI, ok_iald dX9_count_211 rfl⟩, ?_⟩
  refine ⟨⟨mo_iret, ok_iret rfl rfl dX9_count_212⟩, ?_⟩
  refine ⟨⟨mo_ald, ok_aldn dX9_count_213 rfl rfl⟩, ?_⟩
  refine ⟨⟨mo_gR, ok_gR rfl fd_X9_80 rfl dX9_count_214 rfl⟩, ?_⟩
  refine ⟨⟨mo_push, ok_bipush dX9_count_217 iv_b6 rfl⟩, ?_⟩
  refine ⟨⟨mo_alI, ok_iald dX9_count_219 rfl⟩, ?_⟩
  refine ⟨⟨mo_iret, ok_iret rfl rfl dX9_count_220⟩, ?_⟩
  refine ⟨⟨mo_ald, ok_aldn dX9_count_221 rfl rfl⟩, ?_⟩
  refine ⟨⟨mo_gR, ok_gR rfl fd_X9_80 rfl dX9_count_222 rfl⟩, ?_⟩
  refine ⟨⟨mo_push, ok_bipush dX9_count_225 iv_b7 rfl⟩, ?_⟩
  refine ⟨⟨mo_alI, ok_iald dX9_count_227 rfl⟩, ?_⟩
  refine ⟨⟨mo_iret, ok_iret rfl rfl dX9_count_228⟩, ?_⟩
  refine ⟨⟨mo_ald, ok_aldn dX9_count_229 rfl rfl⟩, ?_⟩
  refine ⟨⟨mo_gR, ok_gR rfl fd_X9_80 rfl dX9_count_230 rfl⟩, ?_⟩
  refine ⟨⟨mo_push, ok_iconst dX9_count_233 iv_i4 rfl⟩, ?_⟩
  refine ⟨⟨mo_alI, ok_iald dX9_count_234 rfl⟩, ?_⟩
  refine ⟨⟨mo_iret, ok_iret rfl rfl dX9_count_235⟩, ?_⟩
  refine ⟨⟨mo_push, ok_iconst dX9_count_236 iv_im1 rfl⟩, ?_⟩
  refine ⟨⟨mo_iret, ok_iret rfl rfl dX9_count_237⟩, ?_⟩
  exact trivial
set_option maxHeartbeats 4000000 in
theorem alX9_sumOf : iy_all (iy_calls iy_mi) RX9 "sumOf" cX9_sumOf 4 (some FieldType.int, []) pcX9_sumOf pcX9_sumOf stX9_sumOf := by
  refine ⟨⟨mo_push, ok_iconst dX9_sumOf_0 iv_i0 rfl⟩, ?_⟩
  refine ⟨⟨mo_ist, ok_istn dX9_sumOf_1 rfl (Nat.le_of_ble_eq_true rfl) rfl⟩, ?_⟩
  refine ⟨⟨mo_push, ok_iconst dX9_sumOf_2 iv_i0 rfl⟩, ?_⟩
  refine ⟨⟨mo_ist, ok_istn dX9_sumOf_3 rfl (Nat.le_of_ble_eq_true rfl) rfl⟩, ?_⟩
  refine ⟨⟨mo_keep, ok_keep rfl⟩, ?_⟩
  refine ⟨⟨mo_ild, ok_ildn dX9_sumOf_4 rfl rfl⟩, ?_⟩
  refine ⟨⟨mo_ald, ok_aldn dX9_sumOf_5 rfl rfl⟩, ?_⟩
  refine ⟨⟨mo_gR, ok_gR rfl fd_X9_80 rfl dX9_sumOf_6 rfl⟩, ?_⟩
  refine ⟨⟨mo_push, ok_iconst dX9_sumOf_9 iv_i0 rfl⟩, ?_⟩
  refine ⟨⟨mo_alI, ok_iald dX9_sumOf_10 rfl⟩, ?_⟩
  refine ⟨⟨mo_cge, ok_cge dX9_sumOf_11 rfl rfl⟩, ?_⟩
  refine ⟨⟨mo_ild, ok_ildn dX9_sumOf_14 rfl rfl⟩, ?_⟩
  refine ⟨⟨mo_push, ok_iconst dX9_sumOf_15 iv_i4 rfl⟩, ?_⟩
  refine ⟨⟨mo_cne, ok_cne dX9_sumOf_16 rfl rfl⟩, ?_⟩
  refine ⟨⟨mo_ald, ok_aldn dX9_sumOf_19 rfl rfl⟩, ?_⟩
  refine ⟨⟨mo_ild, ok_ildn dX9_sumOf_20 rfl rfl⟩, ?_⟩
  refine ⟨⟨mo_push, ok_iconst dX9_sumOf_21 iv_i4 rfl⟩, ?_⟩
  refine ⟨⟨mo_cvI, ok_cvI mi_X9_ofRecord lk_X9_288 q1753 qs63 rfl (Nat.le_of_ble_eq_true rfl) (iy_ro_le _) rfl rfl dX9_sumOf_22 rfl⟩, ?_⟩
  refine ⟨⟨mo_ilt, ok_ilt dX9_sumOf_25 rfl rfl⟩, ?_⟩
  refine ⟨⟨mo_goto, ok_goto dX9_sumOf_28 rfl⟩, ?_⟩
  refine ⟨⟨mo_ald, ok_aldn dX9_sumOf_31 rfl rfl⟩, ?_⟩
  refine ⟨⟨mo_ild, ok_ildn dX9_sumOf_32 rfl rfl⟩, ?_⟩
  refine ⟨⟨mo_push, ok_iconst dX9_sumOf_33 iv_i5 rfl⟩, ?_⟩
  refine ⟨⟨mo_cvI, ok_cvI mi_X9_ofRecord lk_X9_288 q1753 qs63 rfl (Nat.le_of_ble_eq_true rfl) (iy_ro_le _) rfl rfl dX9_sumOf_34 rfl⟩, ?_⟩
  refine ⟨⟨mo_push, ok_iconst dX9_sumOf_37 iv_i1 rfl⟩, ?_⟩
  refine ⟨⟨mo_cne, ok_cne dX9_sumOf_38 rfl rfl⟩, ?_⟩
  refine ⟨⟨mo_keep, ok_keep rfl⟩, ?_⟩
  refine ⟨⟨mo_inc, ok_inc dX9_sumOf_41 iv_i1 (Nat.le_of_ble_eq_true rfl) rfl⟩, ?_⟩
  refine ⟨⟨mo_keep, ok_keep rfl⟩, ?_⟩
  refine ⟨⟨mo_inc, ok_inc dX9_sumOf_44 iv_i1 (Nat.le_of_ble_eq_true rfl) rfl⟩, ?_⟩
  refine ⟨⟨mo_back, ok_back dX9_sumOf_47 rfl⟩, ?_⟩
  refine ⟨⟨mo_ild, ok_ildn dX9_sumOf_50 rfl rfl⟩, ?_⟩
  refine ⟨⟨mo_iret, ok_iret rfl rfl dX9_sumOf_51⟩, ?_⟩
  exact trivial
