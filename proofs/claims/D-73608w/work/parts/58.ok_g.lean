/-! SOUND STEPS. Written by gen_code.py -/
set_option maxRecDepth 100000
set_option maxHeartbeats 4000000 in
theorem alL_law : iy_all (iy_calls iy_mi) R_law9 "law" cL_law 4 (some .boolean, []) pcL_law pcL_law stL_law := by
  refine ⟨⟨mo_new, ok_new (r := (RX0, TX0, 14)) rfl rfl (Nat.le_of_ble_eq_true rfl) rfl rfl q179 q180 q143 dL_law_0 rfl⟩, ?_⟩
  refine ⟨⟨mo_dup, ok_dup dL_law_3 rfl⟩, ?_⟩
  refine ⟨⟨mo_cvV, ok_ci mi_X0_init lk_L_9 q182 rfl dL_law_4 rfl⟩, ?_⟩
  refine ⟨⟨mo_ast, ok_astn dL_law_7 rfl (Nat.le_of_ble_eq_true rfl) rfl⟩, ?_⟩
  refine ⟨⟨mo_new, ok_new (r := (RX9, TX9, 55)) rfl rfl (Nat.le_of_ble_eq_true rfl) rfl rfl q1714 q1715 q158 dL_law_8 rfl⟩, ?_⟩
  refine ⟨⟨mo_dup, ok_dup dL_law_11 rfl⟩, ?_⟩
  refine ⟨⟨mo_cvV, ok_ci mi_X9_init lk_L_12 q1717 rfl dL_law_12 rfl⟩, ?_⟩
  refine ⟨⟨mo_ast, ok_astn dL_law_15 rfl (Nat.le_of_ble_eq_true rfl) rfl⟩, ?_⟩
  refine ⟨⟨mo_push, ok_iconst dL_law_16 iv_i0 rfl⟩, ?_⟩
  refine ⟨⟨mo_ist, ok_istn dL_law_17 rfl (Nat.le_of_ble_eq_true rfl) rfl⟩, ?_⟩
  refine ⟨⟨mo_keep, ok_keep rfl⟩, ?_⟩
  refine ⟨⟨mo_ild, ok_ildn dL_law_18 rfl rfl⟩, ?_⟩
  refine ⟨⟨mo_ald, ok_aldn dL_law_19 rfl rfl⟩, ?_⟩
  refine ⟨⟨mo_len, ok_len rfl dL_law_20 rfl⟩, ?_⟩
  refine ⟨⟨mo_push, ok_bipush dL_law_21 iv_b6 rfl⟩, ?_⟩
  refine ⟨⟨mo_bin, ok_isub dL_law_23 rfl⟩, ?_⟩
  refine ⟨⟨mo_cgt, ok_cgt dL_law_24 rfl rfl⟩, ?_⟩
  refine ⟨⟨mo_ald, ok_aldn dL_law_27 rfl rfl⟩, ?_⟩
  refine ⟨⟨mo_ild, ok_ildn dL_law_28 rfl rfl⟩, ?_⟩
  refine ⟨⟨mo_alI, ok_iald dL_law_29 rfl⟩, ?_⟩
  refine ⟨⟨mo_push, ok_bipush dL_law_30 iv_b31 rfl⟩, ?_⟩
  refine ⟨⟨mo_bin, ok_iand dL_law_32 rfl⟩, ?_⟩
  refine ⟨⟨mo_sw, ok_tsw dL_law_33 rfl rfl (by decide +kernel)⟩, ?_⟩
  refine ⟨⟨mo_ald, ok_aldn dL_law_144 rfl rfl⟩, ?_⟩
  refine ⟨⟨mo_ald, ok_aldn dL_law_145 rfl rfl⟩, ?_⟩
  refine ⟨⟨mo_ild, ok_ildn dL_law_146 rfl rfl⟩, ?_⟩
  refine ⟨⟨mo_push, ok_iconst dL_law_147 iv_i1 rfl⟩, ?_⟩
  refine ⟨⟨mo_bin, ok_iadd dL_law_148 rfl⟩, ?_⟩
  refine ⟨⟨mo_alI, ok_iald dL_law_149 rfl⟩, ?_⟩
  refine ⟨⟨mo_ald, ok_aldn dL_law_150 rfl rfl⟩, ?_⟩
  refine ⟨⟨mo_ild, ok_ildn dL_law_151 rfl rfl⟩, ?_⟩
  refine ⟨⟨mo_push, ok_iconst dL_law_152 iv_i2 rfl⟩, ?_⟩
  refine ⟨⟨mo_bin, ok_iadd dL_law_153 rfl⟩, ?_⟩
  refine ⟨⟨mo_alI, ok_iald dL_law_154 rfl⟩, ?_⟩
  refine ⟨⟨mo_ald, ok_aldn dL_law_155 rfl rfl⟩, ?_⟩
  refine ⟨⟨mo_ild, ok_ildn dL_law_156 rfl rfl⟩, ?_⟩
  refine ⟨⟨mo_push, ok_iconst dL_law_157 iv_i3 rfl⟩, ?_⟩
  refine ⟨⟨mo_bin, ok_iadd dL_law_158 rfl⟩, ?_⟩
  refine ⟨⟨mo_alI, ok_iald dL_law_159 rfl⟩, ?_⟩
  refine ⟨⟨mo_ald, ok_aldn dL_law_160 rfl rfl⟩, ?_⟩
  refine ⟨⟨mo_ild, ok_ildn dL_law_161 rfl rfl⟩, ?_⟩
  refine ⟨⟨mo_push, ok_iconst dL_law_162 iv_i4 rfl⟩, ?_⟩
  refine ⟨⟨mo_bin, ok_iadd dL_law_163 rfl⟩, ?_⟩
  refine ⟨⟨mo_alI, ok_iald dL_law_164 rfl⟩, ?_⟩
  refine ⟨⟨mo_ald, ok_aldn dL_law_165 rfl rfl⟩, ?_⟩
  refine ⟨⟨mo_ild, ok_ildn dL_law_166 rfl rfl⟩, ?_⟩
  refine ⟨⟨mo_push, ok_iconst dL_law_167 iv_i5 rfl⟩, ?_⟩
  refine ⟨⟨mo_bin, ok_iadd dL_law_168 rfl⟩, ?_⟩
  refine ⟨⟨mo_alI, ok_iald dL_law_169 rfl⟩, ?_⟩
  refine ⟨⟨mo_cvI, ok_cvI mi_X0_feed lk_L_13 q690 q691 rfl (Nat.le_of_ble_eq_true rfl) (iy_ro_le _) rfl rfl dL_law_170 rfl⟩, ?_⟩
  refine ⟨⟨mo_ald, ok_aldn dL_law_173 rfl rfl⟩, ?_⟩
  refine ⟨⟨mo_ald, ok_aldn dL_law_174 rfl rfl⟩, ?_⟩
  refine ⟨⟨mo_ild, ok_ildn dL_law_175 rfl rfl⟩, ?_⟩
  refine ⟨⟨mo_push, ok_iconst dL_law_176 iv_i1 rfl⟩, ?_⟩
  refine ⟨⟨mo_bin, ok_iadd dL_law_177 rfl⟩, ?_⟩
  refine ⟨⟨mo_alI, ok_iald dL_law_178 rfl⟩, ?_⟩
  refine ⟨⟨mo_ald, ok_aldn dL_law_179 rfl rfl⟩, ?_⟩
  refine ⟨⟨mo_ild, ok_ildn dL_law_180 rfl rfl⟩, ?_⟩
  refine ⟨⟨mo_push, ok_iconst dL_law_181 iv_i2 rfl⟩, ?_⟩
  refine ⟨⟨mo_bin, ok_iadd dL_law_182 rfl⟩, ?_⟩
  refine ⟨⟨mo_alI, ok_iald dL_law_183 rfl⟩, ?_⟩
  refine ⟨⟨mo_ald, ok_aldn dL_law_184 rfl rfl⟩, ?_⟩
  refine ⟨⟨mo_ild, ok_ildn dL_law_185 rfl rfl⟩, ?_⟩
  refine ⟨⟨mo_push, ok_iconst dL_law_186 iv_i3 rfl⟩, ?_⟩
  refine ⟨⟨mo_bin, ok_iadd dL_law_187 rfl⟩, ?_⟩
  refine ⟨⟨mo_alI, ok_iald dL_law_188 rfl⟩, ?_⟩
  refine ⟨⟨mo_ald, ok_aldn dL_law_189 rfl rfl⟩, ?_⟩
  refine ⟨⟨mo_ild, ok_ildn dL_law_190 rfl rfl⟩, ?_⟩
  refine ⟨⟨mo_push, ok_iconst dL_law_191 iv_i4 rfl⟩, ?_⟩
  refine ⟨⟨mo_bin, ok_iadd dL_law_192 rfl⟩, ?_⟩
  refine ⟨⟨mo_alI, ok_iald dL_law_193 rfl⟩, ?_⟩
  refine ⟨⟨mo_ald, ok_aldn dL_law_194 rfl rfl⟩, ?_⟩
  refine ⟨⟨mo_ild, ok_ildn dL_law_195 rfl rfl⟩, ?_⟩
  refine ⟨⟨mo_push, ok_iconst dL_law_196 iv_i5 rfl⟩, ?_⟩
  refine ⟨⟨mo_bin, ok_iadd dL_law_197 rfl⟩, ?_⟩
  refine ⟨⟨mo_alI, ok_iald dL_law_198 rfl⟩, ?_⟩
  refine ⟨⟨mo_cvI, ok_cvI mi_X9_feed lk_L_17 q1922 q1923 rfl (Nat.le_of_ble_eq_true rfl) (iy_ro_le _) rfl rfl dL_law_199 rfl⟩, ?_⟩
  refine ⟨⟨mo_ceq, ok_ceq dL_law_202 rfl rfl⟩, ?_⟩
  refine ⟨⟨mo_push, ok_iconst dL_law_205 iv_i0 rfl⟩, ?_⟩
  refine ⟨⟨mo_iret, ok_iret rfl rfl dL_law_206⟩, ?_⟩
  refine ⟨⟨mo_ald, ok_aldn dL_law_207 rfl rfl⟩, ?_⟩
  refine ⟨⟨mo_ald, ok_aldn dL_law_208 rfl rfl⟩, ?_⟩
  refine ⟨⟨mo_ild, ok_ildn dL_law_209 rfl rfl⟩, ?_⟩
  refine ⟨⟨mo_push, ok_iconst dL_law_210 iv_i1 rfl⟩, ?_⟩
  refine ⟨⟨mo_bin, ok_iadd dL_law_211 rfl⟩, ?_⟩
  refine ⟨⟨mo_alI, ok_iald dL_law_212 rfl⟩, ?_⟩
  refine ⟨⟨mo_cvI, ok_cvI mi_X0_back lk_L_18 q698 q699 rfl (Nat.le_of_ble_eq_true rfl) (iy_ro_le _) rfl rfl dL_law_213 rfl⟩, ?_⟩
  refine ⟨⟨mo_ald, ok_aldn dL_law_216 rfl rfl⟩, ?_⟩
  refine ⟨⟨mo_ald, ok_aldn dL_law_217 rfl rfl⟩, ?_⟩
  refine ⟨⟨mo_ild, ok_ildn dL_law_218 rfl rfl⟩, ?_⟩
  refine ⟨⟨mo_push, ok_iconst dL_law_219 iv_i1 rfl⟩, ?_⟩
  refine ⟨⟨mo_bin, ok_iadd dL_law_220 rfl⟩, ?_⟩
  refine ⟨⟨mo_alI, ok_iald dL_law_221 rfl⟩, ?_⟩
  refine ⟨⟨mo_cvI, ok_cvI mi_X9_back lk_L_22 q1930 q1931 rfl (Nat.le_of_ble_eq_true rfl) (iy_ro_le _) rfl rfl dL_law_222 rfl⟩, ?_⟩
  refine ⟨⟨mo_ceq, ok_ceq dL_law_225 rfl rfl⟩, ?_⟩
  refine ⟨⟨mo_push, ok_iconst dL_law_228 iv_i0 rfl⟩, ?_⟩
  refine ⟨⟨mo_iret, ok_iret rfl rfl dL_law_229⟩, ?_⟩
  refine ⟨⟨mo_ald, ok_aldn dL_law_230 rfl rfl⟩, ?_⟩
  refine ⟨⟨mo_cvI, ok_cwI mi_X0_read q701 q143 q704 ⟨nmh_X0.1, nmh_X0.2, pmd_yX0_read⟩ (Nat.le_of_ble_eq_true rfl) q702 q703 rfl (Nat.le_of_ble_eq_true rfl) (iy_ro_le _) rfl rfl dL_law_231 rfl⟩, ?_⟩
  refine ⟨⟨mo_ald, ok_aldn dL_law_234 rfl rfl⟩, ?_⟩
  refine ⟨⟨mo_cvI, ok_cvI mi_X9_read lk_L_27 q1934 q1935 rfl (Nat.le_of_ble_eq_true rfl) (iy_ro_le _) rfl rfl dL_law_235 rfl⟩, ?_⟩
  refine ⟨⟨mo_ceq, ok_ceq dL_law_238 rfl rfl⟩, ?_⟩
  refine ⟨⟨mo_push, ok_iconst dL_law_241 iv_i0 rfl⟩, ?_⟩
  refine ⟨⟨mo_iret, ok_iret rfl rfl dL_law_242⟩, ?_⟩
  refine ⟨⟨mo_ald, ok_aldn dL_law_243 rfl rfl⟩, ?_⟩
  refine ⟨⟨mo_cvI, ok_cvI mi_X0_place lk_L_28 q1552 q1553 rfl (Nat.le_of_ble_eq_true rfl) (iy_ro_le _) rfl rfl dL_law_244 rfl⟩, ?_⟩
  refine ⟨⟨mo_ald, ok_aldn dL_law_247 rfl rfl⟩, ?_⟩
  refine ⟨⟨mo_cvI, ok_cvI mi_X9_place lk_L_31 q2218 q2219 rfl (Nat.le_of_ble_eq_true rfl) (iy_ro_le _) rfl rfl dL_law_248 rfl⟩, ?_⟩
  refine ⟨⟨mo_ceq, ok_ceq dL_law_251 rfl rfl⟩, ?_⟩
  refine ⟨⟨mo_push, ok_iconst dL_law_254 iv_i0 rfl⟩, ?_⟩
  refine ⟨⟨mo_iret, ok_iret rfl rfl dL_law_255⟩, ?_⟩
  refine ⟨⟨mo_ald, ok_aldn dL_law_256 rfl rfl⟩, ?_⟩
  refine ⟨⟨mo_ald, ok_aldn dL_law_257 rfl rfl⟩, ?_⟩
  refine ⟨⟨mo_ild, ok_ildn dL_law_258 rfl rfl⟩, ?_⟩
  refine ⟨⟨mo_push, ok_iconst dL_law_259 iv_i1 rfl⟩, ?_⟩
  refine ⟨⟨mo_bin, ok_iadd dL_law_260 rfl⟩, ?_⟩
  refine ⟨⟨mo_alI, ok_iald dL_law_261 rfl⟩, ?_⟩
  refine ⟨⟨mo_ald, ok_aldn dL_law_262 rfl rfl⟩, ?_⟩
  refine ⟨⟨mo_ild, ok_ildn dL_law_263 rfl rfl⟩, ?_⟩
  refine ⟨⟨mo_push, ok_iconst dL_law_264 iv_i2 rfl⟩, ?_⟩
  refine ⟨⟨mo_bin, ok_iadd dL_law_265 rfl⟩, ?_⟩
  refine ⟨⟨mo_alI, ok_iald dL_law_266 rfl⟩, ?_⟩
  refine ⟨⟨mo_ald, ok_aldn dL_law_267 rfl rfl⟩, ?_⟩
  refine ⟨⟨mo_ild, ok_ildn dL_law_268 rfl rfl⟩, ?_⟩
  refine ⟨⟨mo_push, ok_iconst dL_law_269 iv_i3 rfl⟩, ?_⟩
  refine ⟨⟨mo_bin, ok_iadd dL_law_270 rfl⟩, ?_⟩
  refine ⟨⟨mo_alI, ok_iald dL_law_271 rfl⟩, ?_⟩
  refine ⟨⟨mo_ald, ok_aldn dL_law_272 rfl rfl⟩, ?_⟩
  refine ⟨⟨mo_ild, ok_ildn dL_law_273 rfl rfl⟩, ?_⟩
  refine ⟨⟨mo_push, ok_iconst dL_law_274 iv_i4 rfl⟩, ?_⟩
  refine ⟨⟨mo_bin, ok_iadd dL_law_275 rfl⟩, ?_⟩
  refine ⟨⟨mo_alI, ok_iald dL_law_276 rfl⟩, ?_⟩
  refine ⟨⟨mo_cvI, ok_cvI mi_X0_begin lk_L_32 q1556 q1557 rfl (Nat.le_of_ble_eq_true rfl) (iy_ro_le _) rfl rfl dL_law_277 rfl⟩, ?_⟩
  refine ⟨⟨mo_ald, ok_aldn dL_law_280 rfl rfl⟩, ?_⟩
  refine ⟨⟨mo_ald, ok_aldn dL_law_281 rfl rfl⟩, ?_⟩
  refine ⟨⟨mo_ild, ok_ildn dL_law_282 rfl rfl⟩, ?_⟩
  refine ⟨⟨mo_push, ok_iconst dL_law_283 iv_i1 rfl⟩, ?_⟩
  refine ⟨⟨mo_bin, ok_iadd dL_law_284 rfl⟩, ?_⟩
  refine ⟨⟨mo_alI, ok_iald dL_law_285 rfl⟩, ?_⟩
  refine ⟨⟨mo_ald, ok_aldn dL_law_286 rfl rfl⟩, ?_⟩
  refine ⟨⟨mo_ild, ok_ildn dL_law_287 rfl rfl⟩, ?_⟩
  refine ⟨⟨mo_push, ok_iconst dL_law_288 iv_i2 rfl⟩, ?_⟩
  refine ⟨⟨mo_bin, ok_iadd dL_law_289 rfl⟩, ?_⟩
  refine ⟨⟨mo_alI, ok_iald dL_law_290 rfl⟩, ?_⟩
  refine ⟨⟨mo_ald, ok_aldn dL_law_291 rfl rfl⟩, ?_⟩
  refine ⟨⟨mo_ild, ok_ildn dL_law_292 rfl rfl⟩, ?_⟩
  refine ⟨⟨mo_push, ok_iconst dL_law_293 iv_i3 rfl⟩, ?_⟩
  refine ⟨⟨mo_bin, ok_iadd dL_law_294 rfl⟩, ?_⟩
  refine ⟨⟨mo_alI, ok_iald dL_law_295 rfl⟩, ?_⟩
  refine ⟨⟨mo_ald, ok_aldn dL_law_296 rfl rfl⟩, ?_⟩
  refine ⟨⟨mo_ild, ok_ildn dL_law_297 rfl rfl⟩, ?_⟩
  refine ⟨⟨mo_push, ok_iconst dL_law_298 iv_i4 rfl⟩, ?_⟩
  refine ⟨⟨mo_bin, ok_iadd dL_law_299 rfl⟩, ?_⟩
  refine ⟨⟨mo_alI, ok_iald dL_law_300 rfl⟩, ?_⟩
  refine ⟨⟨mo_cvI, ok_cvI mi_X9_begin lk_L_36 q2222 q2223 rfl (Nat.le_of_ble_eq_true rfl) (iy_ro_le _) rfl rfl dL_law_301 rfl⟩, ?_⟩
  refine ⟨⟨mo_ceq, ok_ceq dL_law_304 rfl rfl⟩, ?_⟩
  refine ⟨⟨mo_push, ok_iconst dL_law_307 iv_i0 rfl⟩, ?_⟩
  refine ⟨⟨mo_iret, ok_iret rfl rfl dL_law_308⟩, ?_⟩
  refine ⟨⟨mo_ald, ok_aldn dL_law_309 rfl rfl⟩, ?_⟩
  refine ⟨⟨mo_ald, ok_aldn dL_law_310 rfl rfl⟩, ?_⟩
  refine ⟨⟨mo_ild, ok_ildn dL_law_311 rfl rfl⟩, ?_⟩
  refine ⟨⟨mo_push, ok_iconst dL_law_312 iv_i1 rfl⟩, ?_⟩
  refine ⟨⟨mo_bin, ok_iadd dL_law_313 rfl⟩, ?_⟩
  refine ⟨⟨mo_alI, ok_iald dL_law_314 rfl⟩, ?_⟩
  refine ⟨⟨mo_cvI, ok_cvI mi_X0_step lk_L_37 q1570 q1571 rfl (Nat.le_of_ble_eq_true rfl) (iy_ro_le _) rfl rfl dL_law_315 rfl⟩, ?_⟩
  refine ⟨⟨mo_ald, ok_aldn dL_law_318 rfl rfl⟩, ?_⟩
  refine ⟨⟨mo_ald, ok_aldn dL_law_319 rfl rfl⟩, ?_⟩
  refine ⟨⟨mo_ild, ok_ildn dL_law_320 rfl rfl⟩, ?_⟩
  refine ⟨⟨mo_push, ok_iconst dL_law_321 iv_i1 rfl⟩, ?_⟩
  refine ⟨⟨mo_bin, ok_iadd dL_law_322 rfl⟩, ?_⟩
  refine ⟨⟨mo_alI, ok_iald dL_law_323 rfl⟩, ?_⟩
  refine ⟨⟨mo_cvI, ok_cvI mi_X9_step lk_L_40 q2235 q2236 rfl (Nat.le_of_ble_eq_true rfl) (iy_ro_le _) rfl rfl dL_law_324 rfl⟩, ?_⟩
  refine ⟨⟨mo_ceq, ok_ceq dL_law_327 rfl rfl⟩, ?_⟩
  refine ⟨⟨mo_push, ok_iconst dL_law_330 iv_i0 rfl⟩, ?_⟩
  refine ⟨⟨mo_iret, ok_iret rfl rfl dL_law_331⟩, ?_⟩
  refine ⟨⟨mo_ald, ok_aldn dL_law_332 rfl rfl⟩, ?_⟩
  refine ⟨⟨mo_ald, ok_aldn dL_law_333 rfl rfl⟩, ?_⟩
  refine ⟨⟨mo_ild, ok_ildn dL_law_334 rfl rfl⟩, ?_⟩
  refine ⟨⟨mo_push, ok_iconst dL_law_335 iv_i1 rfl⟩, ?_⟩
  refine ⟨⟨mo_bin, ok_iadd dL_law_336 rfl⟩, ?_⟩
  refine ⟨⟨mo_alI, ok_iald dL_law_337 rfl⟩, ?_⟩
  refine ⟨⟨mo_cvI, ok_cvI mi_X0_close lk_L_41 q1575 q1576 rfl (Nat.le_of_ble_eq_true rfl) (iy_ro_le _) rfl rfl dL_law_338 rfl⟩, ?_⟩
  refine ⟨⟨mo_ald, ok_aldn dL_law_341 rfl rfl⟩, ?_⟩
  refine ⟨⟨mo_ald, ok_aldn dL_law_342 rfl rfl⟩, ?_⟩
  refine ⟨⟨mo_ild, ok_ildn dL_law_343 rfl rfl⟩, ?_⟩
  refine ⟨⟨mo_push, ok_iconst dL_law_344 iv_i1 rfl⟩, ?_⟩
  refine ⟨⟨mo_bin, ok_iadd dL_law_345 rfl⟩, ?_⟩
  refine ⟨⟨mo_alI, ok_iald dL_law_346 rfl⟩, ?_⟩
  refine ⟨⟨mo_cvI, ok_cvI mi_X9_close lk_L_44 q2239 q2240 rfl (Nat.le_of_ble_eq_true rfl) (iy_ro_le _) rfl rfl dL_law_347 rfl⟩, ?_⟩
  refine ⟨⟨mo_ceq, ok_ceq dL_law_350 rfl rfl⟩, ?_⟩
  refine ⟨⟨mo_push, ok_iconst dL_law_353 iv_i0 rfl⟩, ?_⟩
  refine ⟨⟨mo_iret, ok_iret rfl rfl dL_law_354⟩, ?_⟩
  refine ⟨⟨mo_ald, ok_aldn dL_law_355 rfl rfl⟩, ?_⟩
  refine ⟨⟨mo_cvI, ok_cvI mi_X0_sweep lk_L_45 q1580 q1581 rfl (Nat.le_of_ble_eq_true rfl) (iy_ro_le _) rfl rfl dL_law_356 rfl⟩, ?_⟩
  refine ⟨⟨mo_ald, ok_aldn dL_law_359 rfl rfl⟩, ?_⟩
  refine ⟨⟨mo_cvI, ok_cvI mi_X9_sweep lk_L_48 q2243 q2244 rfl (Nat.le_of_ble_eq_true rfl) (iy_ro_le _) rfl rfl dL_law_360 rfl⟩, ?_⟩
  refine ⟨⟨mo_ceq, ok_ceq dL_law_363 rfl rfl⟩, ?_⟩
  refine ⟨⟨mo_push, ok_iconst dL_law_366 iv_i0 rfl⟩, ?_⟩
  refine ⟨⟨mo_iret, ok_iret rfl rfl dL_law_367⟩, ?_⟩
  refine ⟨⟨mo_ald, ok_aldn dL_law_368 rfl rfl⟩, ?_⟩
  refine ⟨⟨mo_ald, ok_aldn dL_law_369 rfl rfl⟩, ?_⟩
  refine ⟨⟨mo_ild, ok_ildn dL_law_370 rfl rfl⟩, ?_⟩
  refine ⟨⟨mo_push, ok_iconst dL_law_371 iv_i1 rfl⟩, ?_⟩
  refine ⟨⟨mo_bin, ok_iadd dL_law_372 rfl⟩, ?_⟩
  refine ⟨⟨mo_alI, ok_iald dL_law_373 rfl⟩, ?_⟩
  refine ⟨⟨mo_cvI, ok_cvI mi_X0_has lk_L_49 q1585 q1586 rfl (Nat.le_of_ble_eq_true rfl) (iy_ro_le _) rfl rfl dL_law_374 rfl⟩, ?_⟩
  refine ⟨⟨mo_ald, ok_aldn dL_law_377 rfl rfl⟩, ?_⟩
  refine ⟨⟨mo_ald, ok_aldn dL_law_378 rfl rfl⟩, ?_⟩
  refine ⟨⟨mo_ild, ok_ildn dL_law_379 rfl rfl⟩, ?_⟩
  refine ⟨⟨mo_push, ok_iconst dL_law_380 iv_i1 rfl⟩, ?_⟩
  refine ⟨⟨mo_bin, ok_iadd dL_law_381 rfl⟩, ?_⟩
  refine ⟨⟨mo_alI, ok_iald dL_law_382 rfl⟩, ?_⟩
  refine ⟨⟨mo_cvI, ok_cvI mi_X9_has lk_L_52 q2247 q2248 rfl (Nat.le_of_ble_eq_true rfl) (iy_ro_le _) rfl rfl dL_law_383 rfl⟩, ?_⟩
  refine ⟨⟨mo_ceq, ok_ceq dL_law_386 rfl rfl⟩, ?_⟩
  refine ⟨⟨mo_push, ok_iconst dL_law_389 iv_i0 rfl⟩, ?_⟩
  refine ⟨⟨mo_iret, ok_iret rfl rfl dL_law_390⟩, ?_⟩
  refine ⟨⟨mo_ald, ok_aldn dL_law_391 rfl rfl⟩, ?_⟩
  refine ⟨⟨mo_ald, ok_aldn dL_law_392 rfl rfl⟩, ?_⟩
  refine ⟨⟨mo_ild, ok_ildn dL_law_393 rfl rfl⟩, ?_⟩
  refine ⟨⟨mo_push, ok_iconst dL_law_394 iv_i1 rfl⟩, ?_⟩
  refine ⟨⟨mo_bin, ok_iadd dL_law_395 rfl⟩, ?_⟩
  refine ⟨⟨mo_alI, ok_iald dL_law_396 rfl⟩, ?_⟩
  refine ⟨⟨mo_cvI, ok_cvI mi_X0_value lk_L_53 q1597 q1598 rfl (Nat.le_of_ble_eq_true rfl) (iy_ro_le _) rfl rfl dL_law_397 rfl⟩, ?_⟩
  refine ⟨⟨mo_ald, ok_aldn dL_law_400 rfl rfl⟩, ?_⟩
  refine ⟨⟨mo_ald, ok_aldn dL_law_401 rfl rfl⟩, ?_⟩
  refine ⟨⟨mo_ild, ok_ildn dL_law_402 rfl rfl⟩, ?_⟩
  refine ⟨⟨mo_push, ok_iconst dL_law_403 iv_i1 rfl⟩, ?_⟩
  refine ⟨⟨mo_bin, ok_iadd dL_law_404 rfl⟩, ?_⟩
  refine ⟨⟨mo_alI, ok_iald dL_law_405 rfl⟩, ?_⟩
  refine ⟨⟨mo_cvI, ok_cvI mi_X9_value lk_L_56 q2255 q2256 rfl (Nat.le_of_ble_eq_true rfl) (iy_ro_le _) rfl rfl dL_law_406 rfl⟩, ?_⟩
  refine ⟨⟨mo_ceq, ok_ceq dL_law_409 rfl rfl⟩, ?_⟩
  refine ⟨⟨mo_push, ok_iconst dL_law_412 iv_i0 rfl⟩, ?_⟩
  refine ⟨⟨mo_iret, ok_iret rfl rfl dL_law_413⟩, ?_⟩
  refine ⟨⟨mo_ald, ok_aldn dL_law_414 rfl rfl⟩, ?_⟩
  refine ⟨⟨mo_ald, ok_aldn dL_law_415 rfl rfl⟩, ?_⟩
  refine ⟨⟨mo_ild, ok_ildn dL_law_416 rfl rfl⟩, ?_⟩
  refine ⟨⟨mo_push, ok_iconst dL_law_417 iv_i1 rfl⟩, ?_⟩
  refine ⟨⟨mo_bin, ok_iadd dL_law_418 rfl⟩, ?_⟩
  refine ⟨⟨mo_alI, ok_iald dL_law_419 rfl⟩, ?_⟩
  refine ⟨⟨mo_ald, ok_aldn dL_law_420 rfl rfl⟩, ?_⟩
  refine ⟨⟨mo_ild, ok_ildn dL_law_421 rfl rfl⟩, ?_⟩
  refine ⟨⟨mo_push, ok_iconst dL_law_422 iv_i2 rfl⟩, ?_⟩
  refine ⟨⟨mo_bin, ok_iadd dL_law_423 rfl⟩, ?_⟩
  refine ⟨⟨mo_alI, ok_iald dL_law_424 rfl⟩, ?_⟩
  refine ⟨⟨mo_cvI, ok_cvI mi_X0_many lk_L_57 q1601 q1602 rfl (Nat.le_of_ble_eq_true rfl) (iy_ro_le _) rfl rfl dL_law_425 rfl⟩, ?_⟩
  refine ⟨⟨mo_ald, ok_aldn dL_law_428 rfl rfl⟩, ?_⟩
  refine ⟨⟨mo_ald, ok_aldn dL_law_429 rfl rfl⟩, ?_⟩
  refine ⟨⟨mo_ild, ok_ildn dL_law_430 rfl rfl⟩, ?_⟩
  refine ⟨⟨mo_push, ok_iconst dL_law_431 iv_i1 rfl⟩, ?_⟩
  refine ⟨⟨mo_bin, ok_iadd dL_law_432 rfl⟩, ?_⟩
  refine ⟨⟨mo_alI, ok_iald dL_law_433 rfl⟩, ?_⟩
  refine ⟨⟨mo_ald, ok_aldn dL_law_434 rfl rfl⟩, ?_⟩
  refine ⟨⟨mo_ild, ok_ildn dL_law_435 rfl rfl⟩, ?_⟩
  refine ⟨⟨mo_push, ok_iconst dL_law_436 iv_i2 rfl⟩, ?_⟩
  refine ⟨⟨mo_bin, ok_iadd dL_law_437 rfl⟩, ?_⟩
  refine ⟨⟨mo_alI, ok_iald dL_law_438 rfl⟩, ?_⟩
  refine ⟨⟨mo_cvI, ok_cvI mi_X9_many lk_L_61 q2259 q2260 rfl (Nat.le_of_ble_eq_true rfl) (iy_ro_le _) rfl rfl dL_law_439 rfl⟩, ?_⟩
  refine ⟨⟨mo_ceq, ok_ceq dL_law_442 rfl rfl⟩, ?_⟩
  refine ⟨⟨mo_push, ok_iconst dL_law_445 iv_i0 rfl⟩, ?_⟩
  refine ⟨⟨mo_iret, ok_iret rfl rfl dL_law_446⟩, ?_⟩
  refine ⟨⟨mo_ald, ok_aldn dL_law_447 rfl rfl⟩, ?_⟩
  refine ⟨⟨mo_ald, ok_aldn dL_law_448 rfl rfl⟩, ?_⟩
  refine ⟨⟨mo_ild, ok_ildn dL_law_449 rfl rfl⟩, ?_⟩
  refine ⟨⟨mo_push, ok_iconst dL_law_450 iv_i1 rfl⟩, ?_⟩
  refine ⟨⟨mo_bin, ok_iadd dL_law_451 rfl⟩, ?_⟩
  refine ⟨⟨mo_alI, ok_iald dL_law_452 rfl⟩, ?_⟩
  refine ⟨⟨mo_ald, ok_aldn dL_law_453 rfl rfl⟩, ?_⟩
  refine ⟨⟨mo_ild, ok_ildn dL_law_454 rfl rfl⟩, ?_⟩
  refine ⟨⟨mo_push, ok_iconst dL_law_455 iv_i2 rfl⟩, ?_⟩
  refine ⟨⟨mo_bin, ok_iadd dL_law_456 rfl⟩, ?_⟩
  refine ⟨⟨mo_alI, ok_iald dL_law_457 rfl⟩, ?_⟩
  refine ⟨⟨mo_cvI, ok_cvI mi_X0_sum lk_L_62 q1605 q1606 rfl (Nat.le_of_ble_eq_true rfl) (iy_ro_le _) rfl rfl dL_law_458 rfl⟩, ?_⟩
  refine ⟨⟨mo_ald, ok_aldn dL_law_461 rfl rfl⟩, ?_⟩
  refine ⟨⟨mo_ald, ok_aldn dL_law_462 rfl rfl⟩, ?_⟩
  refine ⟨⟨mo_ild, ok_ildn dL_law_463 rfl rfl⟩, ?_⟩
  refine ⟨⟨mo_push, ok_iconst dL_law_464 iv_i1 rfl⟩, ?_⟩
  refine ⟨⟨mo_bin, ok_iadd dL_law_465 rfl⟩, ?_⟩
  refine ⟨⟨mo_alI, ok_iald dL_law_466 rfl⟩, ?_⟩
  refine ⟨⟨mo_ald, ok_aldn dL_law_467 rfl rfl⟩, ?_⟩
  refine ⟨⟨mo_ild, ok_ildn dL_law_468 rfl rfl⟩, ?_⟩
  refine ⟨⟨mo_push, ok_iconst dL_law_469 iv_i2 rfl⟩, ?_⟩
  refine ⟨⟨mo_bin, ok_iadd dL_law_470 rfl⟩, ?_⟩
  refine ⟨⟨mo_alI, ok_iald dL_law_471 rfl⟩, ?_⟩
  refine ⟨⟨mo_cvI, ok_cvI mi_X9_sum lk_L_65 q2263 q2264 rfl (Nat.le_of_ble_eq_true rfl) (iy_ro_le _) rfl rfl dL_law_472 rfl⟩, ?_⟩
  refine ⟨⟨mo_ceq, ok_ceq dL_law_475 rfl rfl⟩, ?_⟩
  refine ⟨⟨mo_push, ok_iconst dL_law_478 iv_i0 rfl⟩, ?_⟩
  refine ⟨⟨mo_iret, ok_iret rfl rfl dL_law_479⟩, ?_⟩
  refine ⟨⟨mo_ald, ok_aldn dL_law_480 rfl rfl⟩, ?_⟩
  refine ⟨⟨mo_ald, ok_aldn dL_law_481 rfl rfl⟩, ?_⟩
  refine ⟨⟨mo_ild, ok_ildn dL_law_482 rfl rfl⟩, ?_⟩
  refine ⟨⟨mo_push, ok_iconst dL_law_483 iv_i1 rfl⟩, ?_⟩
  refine ⟨⟨mo_bin, ok_iadd dL_law_484 rfl⟩, ?_⟩
  refine ⟨⟨mo_alI, ok_iald dL_law_485 rfl⟩, ?_⟩
  refine ⟨⟨mo_cvI, ok_cvI mi_X0_nth lk_L_66 q1609 q1610 rfl (Nat.le_of_ble_eq_true rfl) (iy_ro_le _) rfl rfl dL_law_486 rfl⟩, ?_⟩
  refine ⟨⟨mo_ald, ok_aldn dL_law_489 rfl rfl⟩, ?_⟩
  refine ⟨⟨mo_ald, ok_aldn dL_law_490 rfl rfl⟩, ?_⟩
  refine ⟨⟨mo_ild, ok_ildn dL_law_491 rfl rfl⟩, ?_⟩
  refine ⟨⟨mo_push, ok_iconst dL_law_492 iv_i1 rfl⟩, ?_⟩
  refine ⟨⟨mo_bin, ok_iadd dL_law_493 rfl⟩, ?_⟩
  refine ⟨⟨mo_alI, ok_iald dL_law_494 rfl⟩, ?_⟩
  refine ⟨⟨mo_cvI, ok_cvI mi_X9_nth lk_L_69 q2267 q2268 rfl (Nat.le_of_ble_eq_true rfl) (iy_ro_le _) rfl rfl dL_law_495 rfl⟩, ?_⟩
  refine ⟨⟨mo_ceq, ok_ceq dL_law_498 rfl rfl⟩, ?_⟩
  refine ⟨⟨mo_push, ok_iconst dL_law_501 iv_i0 rfl⟩, ?_⟩
  refine ⟨⟨mo_iret, ok_iret rfl rfl dL_law_502⟩, ?_⟩
  refine ⟨⟨mo_ald, ok_aldn dL_law_503 rfl rfl⟩, ?_⟩
  refine ⟨⟨mo_ald, ok_aldn dL_law_504 rfl rfl⟩, ?_⟩
  refine ⟨⟨mo_ild, ok_ildn dL_law_505 rfl rfl⟩, ?_⟩
  refine ⟨⟨mo_push, ok_iconst dL_law_506 iv_i1 rfl⟩, ?_⟩
  refine ⟨⟨mo_bin, ok_iadd dL_law_507 rfl⟩, ?_⟩
  refine ⟨⟨mo_alI, ok_iald dL_law_508 rfl⟩, ?_⟩
  refine ⟨⟨mo_ald, ok_aldn dL_law_509 rfl rfl⟩, ?_⟩
  refine ⟨⟨mo_ild, ok_ildn dL_law_510 rfl rfl⟩, ?_⟩
  refine ⟨⟨mo_push, ok_iconst dL_law_511 iv_i2 rfl⟩, ?_⟩
  refine ⟨⟨mo_bin, ok_iadd dL_law_512 rfl⟩, ?_⟩
  refine ⟨⟨mo_alI, ok_iald dL_law_513 rfl⟩, ?_⟩
  refine ⟨⟨mo_cvI, ok_cvI mi_X0_page lk_L_70 q1613 q1614 rfl (Nat.le_of_ble_eq_true rfl) (iy_ro_le _) rfl rfl dL_law_514 rfl⟩, ?_⟩
  refine ⟨⟨mo_ald, ok_aldn dL_law_517 rfl rfl⟩, ?_⟩
  refine ⟨⟨mo_ald, ok_aldn dL_law_518 rfl rfl⟩, ?_⟩
  refine ⟨⟨mo_ild, ok_ildn dL_law_519 rfl rfl⟩, ?_⟩
  refine ⟨⟨mo_push, ok_iconst dL_law_520 iv_i1 rfl⟩, ?_⟩
  refine ⟨⟨mo_bin, ok_iadd dL_law_521 rfl⟩, ?_⟩
  refine ⟨⟨mo_alI, ok_iald dL_law_522 rfl⟩, ?_⟩
  refine ⟨⟨mo_ald, ok_aldn dL_law_523 rfl rfl⟩, ?_⟩
  refine ⟨⟨mo_ild, ok_ildn dL_law_524 rfl rfl⟩, ?_⟩
  refine ⟨⟨mo_push, ok_iconst dL_law_525 iv_i2 rfl⟩, ?_⟩
  refine ⟨⟨mo_bin, ok_iadd dL_law_526 rfl⟩, ?_⟩
  refine ⟨⟨mo_alI, ok_iald dL_law_527 rfl⟩, ?_⟩
  refine ⟨⟨mo_cvI, ok_cvI mi_X9_page lk_L_73 q2271 q2272 rfl (Nat.le_of_ble_eq_true rfl) (iy_ro_le _) rfl rfl dL_law_528 rfl⟩, ?_⟩
  refine ⟨⟨mo_ceq, ok_ceq dL_law_531 rfl rfl⟩, ?_⟩
  refine ⟨⟨mo_push, ok_iconst dL_law_534 iv_i0 rfl⟩, ?_⟩
  refine ⟨⟨mo_iret, ok_iret rfl rfl dL_law_535⟩, ?_⟩
  refine ⟨⟨mo_ald, ok_aldn dL_law_536 rfl rfl⟩, ?_⟩
  refine ⟨⟨mo_ald, ok_aldn dL_law_537 rfl rfl⟩, ?_⟩
  refine ⟨⟨mo_ild, ok_ildn dL_law_538 rfl rfl⟩, ?_⟩
  refine ⟨⟨mo_push, ok_iconst dL_law_539 iv_i1 rfl⟩, ?_⟩
  refine ⟨⟨mo_bin, ok_iadd dL_law_540 rfl⟩, ?_⟩
  refine ⟨⟨mo_alI, ok_iald dL_law_541 rfl⟩, ?_⟩
  refine ⟨⟨mo_ald, ok_aldn dL_law_542 rfl rfl⟩, ?_⟩
  refine ⟨⟨mo_ild, ok_ildn dL_law_543 rfl rfl⟩, ?_⟩
  refine ⟨⟨mo_push, ok_iconst dL_law_544 iv_i2 rfl⟩, ?_⟩
  refine ⟨⟨mo_bin, ok_iadd dL_law_545 rfl⟩, ?_⟩
  refine ⟨⟨mo_alI, ok_iald dL_law_546 rfl⟩, ?_⟩
  refine ⟨⟨mo_cvI, ok_cvI mi_X0_bound lk_L_74 q1624 q1625 rfl (Nat.le_of_ble_eq_true rfl) (iy_ro_le _) rfl rfl dL_law_547 rfl⟩, ?_⟩
  refine ⟨⟨mo_ald, ok_aldn dL_law_550 rfl rfl⟩, ?_⟩
  refine ⟨⟨mo_ald, ok_aldn dL_law_551 rfl rfl⟩, ?_⟩
  refine ⟨⟨mo_ild, ok_ildn dL_law_552 rfl rfl⟩, ?_⟩
  refine ⟨⟨mo_push, ok_iconst dL_law_553 iv_i1 rfl⟩, ?_⟩
  refine ⟨⟨mo_bin, ok_iadd dL_law_554 rfl⟩, ?_⟩
  refine ⟨⟨mo_alI, ok_iald dL_law_555 rfl⟩, ?_⟩
  refine ⟨⟨mo_ald, ok_aldn dL_law_556 rfl rfl⟩, ?_⟩
  refine ⟨⟨mo_ild, ok_ildn dL_law_557 rfl rfl⟩, ?_⟩
  refine ⟨⟨mo_push, ok_iconst dL_law_558 iv_i2 rfl⟩, ?_⟩
  refine ⟨⟨mo_bin, ok_iadd dL_law_559 rfl⟩, ?_⟩
  refine ⟨⟨mo_alI, ok_iald dL_law_560 rfl⟩, ?_⟩
  refine ⟨⟨mo_cvI, ok_cvI mi_X9_bound lk_L_77 q2275 q2276 rfl (Nat.le_of_ble_eq_true rfl) (iy_ro_le _) rfl rfl dL_law_561 rfl⟩, ?_⟩
  refine ⟨⟨mo_ceq, ok_ceq dL_law_564 rfl rfl⟩, ?_⟩
  refine ⟨⟨mo_push, ok_iconst dL_law_567 iv_i0 rfl⟩, ?_⟩
  refine ⟨⟨mo_iret, ok_iret rfl rfl dL_law_568⟩, ?_⟩
  refine ⟨⟨mo_ald, ok_aldn dL_law_569 rfl rfl⟩, ?_⟩
  refine ⟨⟨mo_ald, ok_aldn dL_law_570 rfl rfl⟩, ?_⟩
  refine ⟨⟨mo_ild, ok_ildn dL_law_571 rfl rfl⟩, ?_⟩
  refine ⟨⟨mo_push, ok_iconst dL_law_572 iv_i1 rfl⟩, ?_⟩
  refine ⟨⟨mo_bin, ok_iadd dL_law_573 rfl⟩, ?_⟩
  refine ⟨⟨mo_alI, ok_iald dL_law_574 rfl⟩, ?_⟩
  refine ⟨⟨mo_ald, ok_aldn dL_law_575 rfl rfl⟩, ?_⟩
  refine ⟨⟨mo_ild, ok_ildn dL_law_576 rfl rfl⟩, ?_⟩
  refine ⟨⟨mo_push, ok_iconst dL_law_577 iv_i2 rfl⟩, ?_⟩
  refine ⟨⟨mo_bin, ok_iadd dL_law_578 rfl⟩, ?_⟩
  refine ⟨⟨mo_alI, ok_iald dL_law_579 rfl⟩, ?_⟩
  refine ⟨⟨mo_cvI, ok_cvI mi_X0_record lk_L_78 q1629 q1630 rfl (Nat.le_of_ble_eq_true rfl) (iy_ro_le _) rfl rfl dL_law_580 rfl⟩, ?_⟩
  refine ⟨⟨mo_ald, ok_aldn dL_law_583 rfl rfl⟩, ?_⟩
  refine ⟨⟨mo_ald, ok_aldn dL_law_584 rfl rfl⟩, ?_⟩
  refine ⟨⟨mo_ild, ok_ildn dL_law_585 rfl rfl⟩, ?_⟩
  refine ⟨⟨mo_push, ok_iconst dL_law_586 iv_i1 rfl⟩, ?_⟩
  refine ⟨⟨mo_bin, ok_iadd dL_law_587 rfl⟩, ?_⟩
  refine ⟨⟨mo_alI, ok_iald dL_law_588 rfl⟩, ?_⟩
  refine ⟨⟨mo_ald, ok_aldn dL_law_589 rfl rfl⟩, ?_⟩
  refine ⟨⟨mo_ild, ok_ildn dL_law_590 rfl rfl⟩, ?_⟩
  refine ⟨⟨mo_push, ok_iconst dL_law_591 iv_i2 rfl⟩, ?_⟩
  refine ⟨⟨mo_bin, ok_iadd dL_law_592 rfl⟩, ?_⟩
  refine ⟨⟨mo_alI, ok_iald dL_law_593 rfl⟩, ?_⟩
  refine ⟨⟨mo_cvI, ok_cvI mi_X9_record lk_L_81 q2279 q2280 rfl (Nat.le_of_ble_eq_true rfl) (iy_ro_le _) rfl rfl dL_law_594 rfl⟩, ?_⟩
  refine ⟨⟨mo_ceq, ok_ceq dL_law_597 rfl rfl⟩, ?_⟩
  refine ⟨⟨mo_push, ok_iconst dL_law_600 iv_i0 rfl⟩, ?_⟩
  refine ⟨⟨mo_iret, ok_iret rfl rfl dL_law_601⟩, ?_⟩
  refine ⟨⟨mo_ald, ok_aldn dL_law_602 rfl rfl⟩, ?_⟩
  refine ⟨⟨mo_ald, ok_aldn dL_law_603 rfl rfl⟩, ?_⟩
  refine ⟨⟨mo_ild, ok_ildn dL_law_604 rfl rfl⟩, ?_⟩
  refine ⟨⟨mo_push, ok_iconst dL_law_605 iv_i1 rfl⟩, ?_⟩
  refine ⟨⟨mo_bin, ok_iadd dL_law_606 rfl⟩, ?_⟩
  refine ⟨⟨mo_alI, ok_iald dL_law_607 rfl⟩, ?_⟩
  refine ⟨⟨mo_ald, ok_aldn dL_law_608 rfl rfl⟩, ?_⟩
  refine ⟨⟨mo_ild, ok_ildn dL_law_609 rfl rfl⟩, ?_⟩
  refine ⟨⟨mo_push, ok_iconst dL_law_610 iv_i2 rfl⟩, ?_⟩
  refine ⟨⟨mo_bin, ok_iadd dL_law_611 rfl⟩, ?_⟩
  refine ⟨⟨mo_alI, ok_iald dL_law_612 rfl⟩, ?_⟩
  refine ⟨⟨mo_ald, ok_aldn dL_law_613 rfl rfl⟩, ?_⟩
  refine ⟨⟨mo_ild, ok_ildn dL_law_614 rfl rfl⟩, ?_⟩
  refine ⟨⟨mo_push, ok_iconst dL_law_615 iv_i3 rfl⟩, ?_⟩
  refine ⟨⟨mo_bin, ok_iadd dL_law_616 rfl⟩, ?_⟩
  refine ⟨⟨mo_alI, ok_iald dL_law_617 rfl⟩, ?_⟩
  refine ⟨⟨mo_cvI, ok_cvI mi_X0_base lk_L_82 q1637 q1638 rfl (Nat.le_of_ble_eq_true rfl) (iy_ro_le _) rfl rfl dL_law_618 rfl⟩, ?_⟩
  refine ⟨⟨mo_ald, ok_aldn dL_law_621 rfl rfl⟩, ?_⟩
  refine ⟨⟨mo_ald, ok_aldn dL_law_622 rfl rfl⟩, ?_⟩
  refine ⟨⟨mo_ild, ok_ildn dL_law_623 rfl rfl⟩, ?_⟩
  refine ⟨⟨mo_push, ok_iconst dL_law_624 iv_i1 rfl⟩, ?_⟩
  refine ⟨⟨mo_bin, ok_iadd dL_law_625 rfl⟩, ?_⟩
  refine ⟨⟨mo_alI, ok_iald dL_law_626 rfl⟩, ?_⟩
  refine ⟨⟨mo_ald, ok_aldn dL_law_627 rfl rfl⟩, ?_⟩
  refine ⟨⟨mo_ild, ok_ildn dL_law_628 rfl rfl⟩, ?_⟩
  refine ⟨⟨mo_push, ok_iconst dL_law_629 iv_i2 rfl⟩, ?_⟩
  refine ⟨⟨mo_bin, ok_iadd dL_law_630 rfl⟩, ?_⟩
  refine ⟨⟨mo_alI, ok_iald dL_law_631 rfl⟩, ?_⟩
  refine ⟨⟨mo_ald, ok_aldn dL_law_632 rfl rfl⟩, ?_⟩
  refine ⟨⟨mo_ild, ok_ildn dL_law_633 rfl rfl⟩, ?_⟩
  refine ⟨⟨mo_push, ok_iconst dL_law_634 iv_i3 rfl⟩, ?_⟩
  refine ⟨⟨mo_bin, ok_iadd dL_law_635 rfl⟩, ?_⟩
  refine ⟨⟨mo_alI, ok_iald dL_law_636 rfl⟩, ?_⟩
  refine ⟨⟨mo_cvI, ok_cvI mi_X9_base lk_L_86 q2287 q2288 rfl (Nat.le_of_ble_eq_true rfl) (iy_ro_le _) rfl rfl dL_law_637 rfl⟩, ?_⟩
  refine ⟨⟨mo_ceq, ok_ceq dL_law_640 rfl rfl⟩, ?_⟩
  refine ⟨⟨mo_push, ok_iconst dL_law_643 iv_i0 rfl⟩, ?_⟩
  refine ⟨⟨mo_iret, ok_iret rfl rfl dL_law_644⟩, ?_⟩
  refine ⟨⟨mo_ald, ok_aldn dL_law_645 rfl rfl⟩, ?_⟩
  refine ⟨⟨mo_ald, ok_aldn dL_law_646 rfl rfl⟩, ?_⟩
  refine ⟨⟨mo_ild, ok_ildn dL_law_647 rfl rfl⟩, ?_⟩
  refine ⟨⟨mo_push, ok_iconst dL_law_648 iv_i1 rfl⟩, ?_⟩
  refine ⟨⟨mo_bin, ok_iadd dL_law_649 rfl⟩, ?_⟩
  refine ⟨⟨mo_alI, ok_iald dL_law_650 rfl⟩, ?_⟩
  refine ⟨⟨mo_ald, ok_aldn dL_law_651 rfl rfl⟩, ?_⟩
  refine ⟨⟨mo_ild, ok_ildn dL_law_652 rfl rfl⟩, ?_⟩
  refine ⟨⟨mo_push, ok_iconst dL_law_653 iv_i2 rfl⟩, ?_⟩
  refine ⟨⟨mo_bin, ok_iadd dL_law_654 rfl⟩, ?_⟩
  refine ⟨⟨mo_alI, ok_iald dL_law_655 rfl⟩, ?_⟩
  refine ⟨⟨mo_cvI, ok_cvI mi_X0_hand lk_L_87 q1641 q1642 rfl (Nat.le_of_ble_eq_true rfl) (iy_ro_le _) rfl rfl dL_law_656 rfl⟩, ?_⟩
  refine ⟨⟨mo_ald, ok_aldn dL_law_659 rfl rfl⟩, ?_⟩
  refine ⟨⟨mo_ald, ok_aldn dL_law_660 rfl rfl⟩, ?_⟩
  refine ⟨⟨mo_ild, ok_ildn dL_law_661 rfl rfl⟩, ?_⟩
  refine ⟨⟨mo_push, ok_iconst dL_law_662 iv_i1 rfl⟩, ?_⟩
  refine ⟨⟨mo_bin, ok_iadd dL_law_663 rfl⟩, ?_⟩
  refine ⟨⟨mo_alI, ok_iald dL_law_664 rfl⟩, ?_⟩
  refine ⟨⟨mo_ald, ok_aldn dL_law_665 rfl rfl⟩, ?_⟩
  refine ⟨⟨mo_ild, ok_ildn dL_law_666 rfl rfl⟩, ?_⟩
  refine ⟨⟨mo_push, ok_iconst dL_law_667 iv_i2 rfl⟩, ?_⟩
  refine ⟨⟨mo_bin, ok_iadd dL_law_668 rfl⟩, ?_⟩
  refine ⟨⟨mo_alI, ok_iald dL_law_669 rfl⟩, ?_⟩
  refine ⟨⟨mo_cvI, ok_cvI mi_X9_hand lk_L_90 q2291 q2292 rfl (Nat.le_of_ble_eq_true rfl) (iy_ro_le _) rfl rfl dL_law_670 rfl⟩, ?_⟩
  refine ⟨⟨mo_ceq, ok_ceq dL_law_673 rfl rfl⟩, ?_⟩
  refine ⟨⟨mo_push, ok_iconst dL_law_676 iv_i0 rfl⟩, ?_⟩
  refine ⟨⟨mo_iret, ok_iret rfl rfl dL_law_677⟩, ?_⟩
  refine ⟨⟨mo_ald, ok_aldn dL_law_678 rfl rfl⟩, ?_⟩
  refine ⟨⟨mo_ald, ok_aldn dL_law_679 rfl rfl⟩, ?_⟩
  refine ⟨⟨mo_ild, ok_ildn dL_law_680 rfl rfl⟩, ?_⟩
  refine ⟨⟨mo_push, ok_iconst dL_law_681 iv_i1 rfl⟩, ?_⟩
  refine ⟨⟨mo_bin, ok_iadd dL_law_682 rfl⟩, ?_⟩
  refine ⟨⟨mo_alI, ok_iald dL_law_683 rfl⟩, ?_⟩
  refine ⟨⟨mo_cvI, ok_cvI mi_X0_result lk_L_91 q1645 q1646 rfl (Nat.le_of_ble_eq_true rfl) (iy_ro_le _) rfl rfl dL_law_684 rfl⟩, ?_⟩
  refine ⟨⟨mo_ald, ok_aldn dL_law_687 rfl rfl⟩, ?_⟩
  refine ⟨⟨mo_ald, ok_aldn dL_law_688 rfl rfl⟩, ?_⟩
  refine ⟨⟨mo_ild, ok_ildn dL_law_689 rfl rfl⟩, ?_⟩
  refine ⟨⟨mo_push, ok_iconst dL_law_690 iv_i1 rfl⟩, ?_⟩
  refine ⟨⟨mo_bin, ok_iadd dL_law_691 rfl⟩, ?_⟩
  refine ⟨⟨mo_alI, ok_iald dL_law_692 rfl⟩, ?_⟩
  refine ⟨⟨mo_cvI, ok_cvI mi_X9_result lk_L_94 q2295 q2296 rfl (Nat.le_of_ble_eq_true rfl) (iy_ro_le _) rfl rfl dL_law_693 rfl⟩, ?_⟩
  refine ⟨⟨mo_ceq, ok_ceq dL_law_696 rfl rfl⟩, ?_⟩
  refine ⟨⟨mo_push, ok_iconst dL_law_699 iv_i0 rfl⟩, ?_⟩
  refine ⟨⟨mo_iret, ok_iret rfl rfl dL_law_700⟩, ?_⟩
  refine ⟨⟨mo_ald, ok_aldn dL_law_701 rfl rfl⟩, ?_⟩
  refine ⟨⟨mo_ald, ok_aldn dL_law_702 rfl rfl⟩, ?_⟩
  refine ⟨⟨mo_ild, ok_ildn dL_law_703 rfl rfl⟩, ?_⟩
  refine ⟨⟨mo_push, ok_iconst dL_law_704 iv_i1 rfl⟩, ?_⟩
  refine ⟨⟨mo_bin, ok_iadd dL_law_705 rfl⟩, ?_⟩
  refine ⟨⟨mo_alI, ok_iald dL_law_706 rfl⟩, ?_⟩
  refine ⟨⟨mo_cvI, ok_cvI mi_X0_halves lk_L_95 q1649 q1650 rfl (Nat.le_of_ble_eq_true rfl) (iy_ro_le _) rfl rfl dL_law_707 rfl⟩, ?_⟩
  refine ⟨⟨mo_ald, ok_aldn dL_law_710 rfl rfl⟩, ?_⟩
  refine ⟨⟨mo_ald, ok_aldn dL_law_711 rfl rfl⟩, ?_⟩
  refine ⟨⟨mo_ild, ok_ildn dL_law_712 rfl rfl⟩, ?_⟩
  refine ⟨⟨mo_push, ok_iconst dL_law_713 iv_i1 rfl⟩, ?_⟩
  refine ⟨⟨mo_bin, ok_iadd dL_law_714 rfl⟩, ?_⟩
  refine ⟨⟨mo_alI, ok_iald dL_law_715 rfl⟩, ?_⟩
  refine ⟨⟨mo_cvI, ok_cvI mi_X9_halves lk_L_98 q2299 q2300 rfl (Nat.le_of_ble_eq_true rfl) (iy_ro_le _) rfl rfl dL_law_716 rfl⟩, ?_⟩
  refine ⟨⟨mo_ceq, ok_ceq dL_law_719 rfl rfl⟩, ?_⟩
  refine ⟨⟨mo_push, ok_iconst dL_law_722 iv_i0 rfl⟩, ?_⟩
  refine ⟨⟨mo_iret, ok_iret rfl rfl dL_law_723⟩, ?_⟩
  refine ⟨⟨mo_ald, ok_aldn dL_law_724 rfl rfl⟩, ?_⟩
  refine ⟨⟨mo_ald, ok_aldn dL_law_725 rfl rfl⟩, ?_⟩
  refine ⟨⟨mo_ild, ok_ildn dL_law_726 rfl rfl⟩, ?_⟩
  refine ⟨⟨mo_push, ok_iconst dL_law_727 iv_i1 rfl⟩, ?_⟩
  refine ⟨⟨mo_bin, ok_iadd dL_law_728 rfl⟩, ?_⟩
  refine ⟨⟨mo_alI, ok_iald dL_law_729 rfl⟩, ?_⟩
  refine ⟨⟨mo_ald, ok_aldn dL_law_730 rfl rfl⟩, ?_⟩
  refine ⟨⟨mo_ild, ok_ildn dL_law_731 rfl rfl⟩, ?_⟩
  refine ⟨⟨mo_push, ok_iconst dL_law_732 iv_i2 rfl⟩, ?_⟩
  refine ⟨⟨mo_bin, ok_iadd dL_law_733 rfl⟩, ?_⟩
  refine ⟨⟨mo_alI, ok_iald dL_law_734 rfl⟩, ?_⟩
  refine ⟨⟨mo_ald, ok_aldn dL_law_735 rfl rfl⟩, ?_⟩
  refine ⟨⟨mo_ild, ok_ildn dL_law_736 rfl rfl⟩, ?_⟩
  refine ⟨⟨mo_push, ok_iconst dL_law_737 iv_i3 rfl⟩, ?_⟩
  refine ⟨⟨mo_bin, ok_iadd dL_law_738 rfl⟩, ?_⟩
  refine ⟨⟨mo_alI, ok_iald dL_law_739 rfl⟩, ?_⟩
  refine ⟨⟨mo_ald, ok_aldn dL_law_740 rfl rfl⟩, ?_⟩
  refine ⟨⟨mo_ild, ok_ildn dL_law_741 rfl rfl⟩, ?_⟩
  refine ⟨⟨mo_push, ok_iconst dL_law_742 iv_i4 rfl⟩, ?_⟩
  refine ⟨⟨mo_bin, ok_iadd dL_law_743 rfl⟩, ?_⟩
  refine ⟨⟨mo_alI, ok_iald dL_law_744 rfl⟩, ?_⟩
  refine ⟨⟨mo_cvI, ok_cvI mi_X0_replay lk_L_99 q1661 q1662 rfl (Nat.le_of_ble_eq_true rfl) (iy_ro_le _) rfl rfl dL_law_745 rfl⟩, ?_⟩
  refine ⟨⟨mo_ald, ok_aldn dL_law_748 rfl rfl⟩, ?_⟩
  refine ⟨⟨mo_ald, ok_aldn dL_law_749 rfl rfl⟩, ?_⟩
  refine ⟨⟨mo_ild, ok_ildn dL_law_750 rfl rfl⟩, ?_⟩
  refine ⟨⟨mo_push, ok_iconst dL_law_751 iv_i1 rfl⟩, ?_⟩
  refine ⟨⟨mo_bin, ok_iadd dL_law_752 rfl⟩, ?_⟩
  refine ⟨⟨mo_alI, ok_iald dL_law_753 rfl⟩, ?_⟩
  refine ⟨⟨mo_ald, ok_aldn dL_law_754 rfl rfl⟩, ?_⟩
  refine ⟨⟨mo_ild, ok_ildn dL_law_755 rfl rfl⟩, ?_⟩
  refine ⟨⟨mo_push, ok_iconst dL_law_756 iv_i2 rfl⟩, ?_⟩
  refine ⟨⟨mo_bin, ok_iadd dL_law_757 rfl⟩, ?_⟩
  refine ⟨⟨mo_alI, ok_iald dL_law_758 rfl⟩, ?_⟩
  refine ⟨⟨mo_ald, ok_aldn dL_law_759 rfl rfl⟩, ?_⟩
  refine ⟨⟨mo_ild, ok_ildn dL_law_760 rfl rfl⟩, ?_⟩
  refine ⟨⟨mo_push, ok_iconst dL_law_761 iv_i3 rfl⟩, ?_⟩
  refine ⟨⟨mo_bin, ok_iadd dL_law_762 rfl⟩, ?_⟩
  refine ⟨⟨mo_alI, ok_iald dL_law_763 rfl⟩, ?_⟩
  refine ⟨⟨mo_ald, ok_aldn dL_law_764 rfl rfl⟩, ?_⟩
  refine ⟨⟨mo_ild, ok_ildn dL_law_765 rfl rfl⟩, ?_⟩
  refine ⟨⟨mo_push, ok_iconst dL_law_766 iv_i4 rfl⟩, ?_⟩
  refine ⟨⟨mo_bin, ok_iadd dL_law_767 rfl⟩, ?_⟩
  refine ⟨⟨mo_alI, ok_iald dL_law_768 rfl⟩, ?_⟩
  refine ⟨⟨mo_cvI, ok_cvI mi_X9_replay lk_L_103 q2311 q2312 rfl (Nat.le_of_ble_eq_true rfl) (iy_ro_le _) rfl rfl dL_law_769 rfl⟩, ?_⟩
  refine ⟨⟨mo_ceq, ok_ceq dL_law_772 rfl rfl⟩, ?_⟩
  refine ⟨⟨mo_push, ok_iconst dL_law_775 iv_i0 rfl⟩, ?_⟩
  refine ⟨⟨mo_iret, ok_iret rfl rfl dL_law_776⟩, ?_⟩
  refine ⟨⟨mo_ald, ok_aldn dL_law_777 rfl rfl⟩, ?_⟩
  refine ⟨⟨mo_ald, ok_aldn dL_law_778 rfl rfl⟩, ?_⟩
  refine ⟨⟨mo_ild, ok_ildn dL_law_779 rfl rfl⟩, ?_⟩
  refine ⟨⟨mo_push, ok_iconst dL_law_780 iv_i1 rfl⟩, ?_⟩
  refine ⟨⟨mo_bin, ok_iadd dL_law_781 rfl⟩, ?_⟩
  refine ⟨⟨mo_alI, ok_iald dL_law_782 rfl⟩, ?_⟩
  refine ⟨⟨mo_cvI, ok_cvI mi_X0_hold lk_L_104 q1693 q1694 rfl (Nat.le_of_ble_eq_true rfl) (iy_ro_le _) rfl rfl dL_law_783 rfl⟩, ?_⟩
  refine ⟨⟨mo_ald, ok_aldn dL_law_786 rfl rfl⟩, ?_⟩
  refine ⟨⟨mo_ald, ok_aldn dL_law_787 rfl rfl⟩, ?_⟩
  refine ⟨⟨mo_ild, ok_ildn dL_law_788 rfl rfl⟩, ?_⟩
  refine ⟨⟨mo_push, ok_iconst dL_law_789 iv_i1 rfl⟩, ?_⟩
  refine ⟨⟨mo_bin, ok_iadd dL_law_790 rfl⟩, ?_⟩
  refine ⟨⟨mo_alI, ok_iald dL_law_791 rfl⟩, ?_⟩
  refine ⟨⟨mo_cvI, ok_cvI mi_X9_hold lk_L_108 q2335 q2336 rfl (Nat.le_of_ble_eq_true rfl) (iy_ro_le _) rfl rfl dL_law_792 rfl⟩, ?_⟩
  refine ⟨⟨mo_ceq, ok_ceq dL_law_795 rfl rfl⟩, ?_⟩
  refine ⟨⟨mo_push, ok_iconst dL_law_798 iv_i0 rfl⟩, ?_⟩
  refine ⟨⟨mo_iret, ok_iret rfl rfl dL_law_799⟩, ?_⟩
  refine ⟨⟨mo_ald, ok_aldn dL_law_800 rfl rfl⟩, ?_⟩
  refine ⟨⟨mo_ald, ok_aldn dL_law_801 rfl rfl⟩, ?_⟩
  refine ⟨⟨mo_ild, ok_ildn dL_law_802 rfl rfl⟩, ?_⟩
  refine ⟨⟨mo_push, ok_iconst dL_law_803 iv_i1 rfl⟩, ?_⟩
  refine ⟨⟨mo_bin, ok_iadd dL_law_804 rfl⟩, ?_⟩
  refine ⟨⟨mo_alI, ok_iald dL_law_805 rfl⟩, ?_⟩
  refine ⟨⟨mo_cvI, ok_cvI mi_X0_restore lk_L_109 q1697 q1698 rfl (Nat.le_of_ble_eq_true rfl) (iy_ro_le _) rfl rfl dL_law_806 rfl⟩, ?_⟩
  refine ⟨⟨mo_ald, ok_aldn dL_law_809 rfl rfl⟩, ?_⟩
  refine ⟨⟨mo_ald, ok_aldn dL_law_810 rfl rfl⟩, ?_⟩
  refine ⟨⟨mo_ild, ok_ildn dL_law_811 rfl rfl⟩, ?_⟩
  refine ⟨⟨mo_push, ok_iconst dL_law_812 iv_i1 rfl⟩, ?_⟩
  refine ⟨⟨mo_bin, ok_iadd dL_law_813 rfl⟩, ?_⟩
  refine ⟨⟨mo_alI, ok_iald dL_law_814 rfl⟩, ?_⟩
  refine ⟨⟨mo_cvI, ok_cvI mi_X9_restore lk_L_112 q2339 q2340 rfl (Nat.le_of_ble_eq_true rfl) (iy_ro_le _) rfl rfl dL_law_815 rfl⟩, ?_⟩
  refine ⟨⟨mo_ceq, ok_ceq dL_law_818 rfl rfl⟩, ?_⟩
  refine ⟨⟨mo_push, ok_iconst dL_law_821 iv_i0 rfl⟩, ?_⟩
  refine ⟨⟨mo_iret, ok_iret rfl rfl dL_law_822⟩, ?_⟩
  refine ⟨⟨mo_ald, ok_aldn dL_law_823 rfl rfl⟩, ?_⟩
  refine ⟨⟨mo_ald, ok_aldn dL_law_824 rfl rfl⟩, ?_⟩
  refine ⟨⟨mo_ild, ok_ildn dL_law_825 rfl rfl⟩, ?_⟩
  refine ⟨⟨mo_push, ok_iconst dL_law_826 iv_i1 rfl⟩, ?_⟩
  refine ⟨⟨mo_bin, ok_iadd dL_law_827 rfl⟩, ?_⟩
  refine ⟨⟨mo_alI, ok_iald dL_law_828 rfl⟩, ?_⟩
  refine ⟨⟨mo_cvI, ok_cvI mi_X0_count lk_L_113 q1701 q1702 rfl (Nat.le_of_ble_eq_true rfl) (iy_ro_le _) rfl rfl dL_law_829 rfl⟩, ?_⟩
  refine ⟨⟨mo_ald, ok_aldn dL_law_832 rfl rfl⟩, ?_⟩
  refine ⟨⟨mo_ald, ok_aldn dL_law_833 rfl rfl⟩, ?_⟩
  refine ⟨⟨mo_ild, ok_ildn dL_law_834 rfl rfl⟩, ?_⟩
  refine ⟨⟨mo_push, ok_iconst dL_law_835 iv_i1 rfl⟩, ?_⟩
  refine ⟨⟨mo_bin, ok_iadd dL_law_836 rfl⟩, ?_⟩
  refine ⟨⟨mo_alI, ok_iald dL_law_837 rfl⟩, ?_⟩
  refine ⟨⟨mo_cvI, ok_cvI mi_X9_count lk_L_116 q2343 q2344 rfl (Nat.le_of_ble_eq_true rfl) (iy_ro_le _) rfl rfl dL_law_838 rfl⟩, ?_⟩
  refine ⟨⟨mo_ceq, ok_ceq dL_law_841 rfl rfl⟩, ?_⟩
  refine ⟨⟨mo_push, ok_iconst dL_law_844 iv_i0 rfl⟩, ?_⟩
  refine ⟨⟨mo_iret, ok_iret rfl rfl dL_law_845⟩, ?_⟩
  refine ⟨⟨mo_keep, ok_keep rfl⟩, ?_⟩
  refine ⟨⟨mo_inc, ok_inc dL_law_846 iv_i6 (Nat.le_of_ble_eq_true rfl) rfl⟩, ?_⟩
  refine ⟨⟨mo_back, ok_back dL_law_849 rfl⟩, ?_⟩
  refine ⟨⟨mo_push, ok_iconst dL_law_852 iv_i1 rfl⟩, ?_⟩
  refine ⟨⟨mo_iret, ok_iret rfl rfl dL_law_853⟩, ?_⟩
  exact trivial
