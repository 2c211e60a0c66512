/-! THE LAW's LOOP, decompiled over both states, and its walk (printed by gen/gen_l.py) -/
set_option maxRecDepth 100000
theorem l_room {X : KC LWS} {E : CE} {Et : TE} {b L z0 l0 zT : Nat} {xs : Nat → Int32} {F a L9 : Nat} (T : lOK X E Et b L xs z0 l0 zT) (h1 : Nat.ble (F + 1) 8192 = true) (h2 : Nat.ble (8 + (a + 11) + L9) 100000 = true) : F + 1 ≤ X.1.2.2.2.1.frames ∧ 8 + (a + 11) + L9 ≤ X.1.2.2.2.1.locals := by
  rw [T.2.2.2.2.2.1.1]
  exact ⟨Nat.le_of_ble_eq_true h1, Nat.le_of_ble_eq_true h2⟩
def LW_c0 (st : Nat → Option Nat) (nf : Nat) (xs : Nat → Int32) (L x z0 l0 : Nat) (k18 : Int32 → CS → TS → Option Int32) (i : Int32) (s : CS) (τ : TS) : Option Int32 :=
  lX xs L (i + 1) fun v3 =>
  lX xs L (i + 2) fun v4 =>
  lX xs L (i + 3) fun v5 =>
  lX xs L (i + 4) fun v6 =>
  lX xs L (i + 5) fun v7 =>
  lX xs L (i + 6) fun v8 =>
  lcR z0 l0 (FX0_feed nf x ((shl64 v3.toInt64 32) ||| (v4.toInt64 &&& 4294967295)) ((shl64 v5.toInt64 32) ||| (v6.toInt64 &&& 4294967295)) ((shl64 v7.toInt64 32) ||| (v8.toInt64 &&& 4294967295)) s) fun v9 s10 =>
  lX xs L (i + 1) fun v12 =>
  lX xs L (i + 2) fun v13 =>
  lX xs L (i + 3) fun v14 =>
  lX xs L (i + 4) fun v15 =>
  lX xs L (i + 5) fun v16 =>
  lX xs L (i + 6) fun v17 =>
  bd2 (T_feed nf ((shl64 v12.toInt64 32) ||| (v13.toInt64 &&& 4294967295)) ((shl64 v14.toInt64 32) ||| (v15.toInt64 &&& 4294967295)) ((shl64 v16.toInt64 32) ||| (v17.toInt64 &&& 4294967295)) τ) fun v18 t19 =>
  if v9 = v18 then
  (k18 (i + 7) s10 t19)
  else (some 0)
theorem LW_c0_ok {X : KC LWS} {E : CE} {Et : TE} {b L z0 l0 zT : Nat} {xs : Nat → Int32} (T : lOK X E Et b L xs z0 l0 zT) {nf x : Nat} {k18 : Int32 → CS → TS → Option Int32} (hk18 : ∀ (i : Int32) (s : CS) (τ : TS), (cz s ≤ 1200128 + z0 ∧ cl s ≤ 5501098 + l0) → k18 i s τ = some 1 → kW X (s, τ) 18 [(3, .int i), (2, .ref (Et.2.2.2.2.1 0)), (1, .ref x), (0, .ref b)] []) {i : Int32} {s : CS} {τ : TS} (hz : cz s ≤ 1200128 + z0 ∧ cl s ≤ 5501098 + l0) (h : LW_c0 E.2.2.2 nf xs L x z0 l0 k18 i s τ = some 1) : kW X (s, τ) 172 [(3, .int i), (2, .ref (Et.2.2.2.2.1 0)), (1, .ref x), (0, .ref b)] [] := by
  unfold LW_c0 at h
  have hX := T.1
  refine k_aload_n hX dL_law_172 rfl 2 rfl ?_
  refine k_aload_n hX dL_law_173 rfl 3 rfl ?_
  refine k_iload_n hX dL_law_174 rfl 0 rfl ?_
  refine k_iconst (v := 1) hX dL_law_175 (by decide) ?_
  refine k_iadd hX dL_law_176 ?_
  refine l_sld T h dL_law_177 (fun v3 h => ?_)
  refine k_i2l hX dL_law_178 ?_
  refine k_bipush (v := 32) hX dL_law_179 (by decide) ?_
  refine k_lshl hX dL_law_181 ?_
  refine k_aload_n hX dL_law_182 rfl 3 rfl ?_
  refine k_iload_n hX dL_law_183 rfl 0 rfl ?_
  refine k_iconst (v := 2) hX dL_law_184 (by decide) ?_
  refine k_iadd hX dL_law_185 ?_
  refine l_sld T h dL_law_186 (fun v4 h => ?_)
  refine k_i2l hX dL_law_187 ?_
  refine k_ldc2 (v := 4294967295) hX q2248 dL_law_188 ?_
  refine k_land hX dL_law_191 ?_
  refine k_lor hX dL_law_192 ?_
  refine k_aload_n hX dL_law_193 rfl 3 rfl ?_
  refine k_iload_n hX dL_law_194 rfl 0 rfl ?_
  refine k_iconst (v := 3) hX dL_law_195 (by decide) ?_
  refine k_iadd hX dL_law_196 ?_
  refine l_sld T h dL_law_197 (fun v5 h => ?_)
  refine k_i2l hX dL_law_198 ?_
  refine k_bipush (v := 32) hX dL_law_199 (by decide) ?_
  refine k_lshl hX dL_law_201 ?_
  refine k_aload_n hX dL_law_202 rfl 3 rfl ?_
  refine k_iload_n hX dL_law_203 rfl 0 rfl ?_
  refine k_iconst (v := 4) hX dL_law_204 (by decide) ?_
  refine k_iadd hX dL_law_205 ?_
  refine l_sld T h dL_law_206 (fun v6 h => ?_)
  refine k_i2l hX dL_law_207 ?_
  refine k_ldc2 (v := 4294967295) hX q2248 dL_law_208 ?_
  refine k_land hX dL_law_211 ?_
  refine k_lor hX dL_law_212 ?_
  refine k_aload_n hX dL_law_213 rfl 3 rfl ?_
  refine k_iload_n hX dL_law_214 rfl 0 rfl ?_
  refine k_iconst (v := 5) hX dL_law_215 (by decide) ?_
  refine k_iadd hX dL_law_216 ?_
  refine l_sld T h dL_law_217 (fun v7 h => ?_)
  refine k_i2l hX dL_law_218 ?_
  refine k_bipush (v := 32) hX dL_law_219 (by decide) ?_
  refine k_lshl hX dL_law_221 ?_
  refine k_aload_n hX dL_law_222 rfl 3 rfl ?_
  refine k_iload_n hX dL_law_223 rfl 0 rfl ?_
  refine k_bipush (v := 6) hX dL_law_224 (by decide) ?_
  refine k_iadd hX dL_law_226 ?_
  refine l_sld T h dL_law_227 (fun v8 h => ?_)
  refine k_i2l hX dL_law_228 ?_
  refine k_ldc2 (v := 4294967295) hX q2248 dL_law_229 ?_
  refine k_land hX dL_law_232 ?_
  refine k_lor hX dL_law_233 ?_
  obtain ⟨v9, s10, h1, hz11, h⟩ := lcR_of h
  refine l_callC_i (σ := (s, τ)) (s' := s10) (As := [.long ((shl64 v3.toInt64 32) ||| (v4.toInt64 &&& 4294967295)), .long ((shl64 v5.toInt64 32) ||| (v6.toInt64 &&& 4294967295)), .long ((shl64 v7.toInt64 32) ||| (v8.toInt64 &&& 4294967295))]) T (met_FX0_feed _ _ _ _ _ _ h1) (cwV 3 T.1.2.2.2.2 (lw_V q576 q577 q578 q136 q579) rfl rfl rfl (by decide +kernel) (l_room T rfl rfl)) rfl rfl hz11 dL_law_234 ?_
  show kW X (s10, τ) 237 _ _
  refine k_aload_n hX dL_law_237 rfl 1 rfl ?_
  refine k_aload_n hX dL_law_238 rfl 3 rfl ?_
  refine k_iload_n hX dL_law_239 rfl 0 rfl ?_
  refine k_iconst (v := 1) hX dL_law_240 (by decide) ?_
  refine k_iadd hX dL_law_241 ?_
  refine l_sld T h dL_law_242 (fun v12 h => ?_)
  refine k_i2l hX dL_law_243 ?_
  refine k_bipush (v := 32) hX dL_law_244 (by decide) ?_
  refine k_lshl hX dL_law_246 ?_
  refine k_aload_n hX dL_law_247 rfl 3 rfl ?_
  refine k_iload_n hX dL_law_248 rfl 0 rfl ?_
  refine k_iconst (v := 2) hX dL_law_249 (by decide) ?_
  refine k_iadd hX dL_law_250 ?_
  refine l_sld T h dL_law_251 (fun v13 h => ?_)
  refine k_i2l hX dL_law_252 ?_
  refine k_ldc2 (v := 4294967295) hX q2248 dL_law_253 ?_
  refine k_land hX dL_law_256 ?_
  refine k_lor hX dL_law_257 ?_
  refine k_aload_n hX dL_law_258 rfl 3 rfl ?_
  refine k_iload_n hX dL_law_259 rfl 0 rfl ?_
  refine k_iconst (v := 3) hX dL_law_260 (by decide) ?_
  refine k_iadd hX dL_law_261 ?_
  refine l_sld T h dL_law_262 (fun v14 h => ?_)
  refine k_i2l hX dL_law_263 ?_
  refine k_bipush (v := 32) hX dL_law_264 (by decide) ?_
  refine k_lshl hX dL_law_266 ?_
  refine k_aload_n hX dL_law_267 rfl 3 rfl ?_
  refine k_iload_n hX dL_law_268 rfl 0 rfl ?_
  refine k_iconst (v := 4) hX dL_law_269 (by decide) ?_
  refine k_iadd hX dL_law_270 ?_
  refine l_sld T h dL_law_271 (fun v15 h => ?_)
  refine k_i2l hX dL_law_272 ?_
  refine k_ldc2 (v := 4294967295) hX q2248 dL_law_273 ?_
  refine k_land hX dL_law_276 ?_
  refine k_lor hX dL_law_277 ?_
  refine k_aload_n hX dL_law_278 rfl 3 rfl ?_
  refine k_iload_n hX dL_law_279 rfl 0 rfl ?_
  refine k_iconst (v := 5) hX dL_law_280 (by decide) ?_
  refine k_iadd hX dL_law_281 ?_
  refine l_sld T h dL_law_282 (fun v16 h => ?_)
  refine k_i2l hX dL_law_283 ?_
  refine k_bipush (v := 32) hX dL_law_284 (by decide) ?_
  refine k_lshl hX dL_law_286 ?_
  refine k_aload_n hX dL_law_287 rfl 3 rfl ?_
  refine k_iload_n hX dL_law_288 rfl 0 rfl ?_
  refine k_bipush (v := 6) hX dL_law_289 (by decide) ?_
  refine k_iadd hX dL_law_291 ?_
  refine l_sld T h dL_law_292 (fun v17 h => ?_)
  refine k_i2l hX dL_law_293 ?_
  refine k_ldc2 (v := 4294967295) hX q2248 dL_law_294 ?_
  refine k_land hX dL_law_297 ?_
  refine k_lor hX dL_law_298 ?_
  obtain ⟨v18, t19, h1, h⟩ := bd2_of h
  refine l_callT_i (σ := (s10, τ)) (τ' := t19) (As := [.long ((shl64 v12.toInt64 32) ||| (v13.toInt64 &&& 4294967295)), .long ((shl64 v14.toInt64 32) ||| (v15.toInt64 &&& 4294967295)), .long ((shl64 v16.toInt64 32) ||| (v17.toInt64 &&& 4294967295))]) T (met_feed T.2.2.2.2.2.2.2.2.1.1 _ _ _ _ _ h1) (cwV 3 T.1.2.2.2.2 (lw_V q1622 q1623 q1624 q152 q1625) rfl rfl rfl (by decide +kernel) (l_room T rfl rfl)) rfl rfl hz11 dL_law_299 ?_
  show kW X (s10, t19) 302 _ _
  refine k_icmp_eq (tgt := 1463) hX h dL_law_302 (by decide) (fun h => ?_) (fun h => ?_)
  · refine k_iinc (j := 0) [(3, .int (i + 7)), (2, .ref ((Et.2.2.2.2.1 0))), (1, .ref x), (0, .ref b)] hX dL_law_1463 rfl rfl rfl rfl ?_
    refine k_goto (tgt := 18) hX dL_law_1466 (by decide) ?_
    exact hk18 _ _ _ hz11 h
  · refine k_iconst (v := 0) hX dL_law_305 (by decide) ?_
    exact l_ret T hz11 h dL_law_306
def LW_c1 (st : Nat → Option Nat) (nf : Nat) (xs : Nat → Int32) (L x z0 l0 : Nat) (k18 : Int32 → CS → TS → Option Int32) (i : Int32) (s : CS) (τ : TS) : Option Int32 :=
  lcR z0 l0 (FX0_town st nf x s) fun v3 s4 =>
  bd2 (T_town nf τ) fun v6 t7 =>
  if v3 = v6 then
  (k18 (i + 7) s4 t7)
  else (some 0)
theorem LW_c1_ok {X : KC LWS} {E : CE} {Et : TE} {b L z0 l0 zT : Nat} {xs : Nat → Int32} (T : lOK X E Et b L xs z0 l0 zT) {nf x : Nat} {k18 : Int32 → CS → TS → Option Int32} (hk18 : ∀ (i : Int32) (s : CS) (τ : TS), (cz s ≤ 1200128 + z0 ∧ cl s ≤ 5501098 + l0) → k18 i s τ = some 1 → kW X (s, τ) 18 [(3, .int i), (2, .ref (Et.2.2.2.2.1 0)), (1, .ref x), (0, .ref b)] []) {i : Int32} {s : CS} {τ : TS} (hz : cz s ≤ 1200128 + z0 ∧ cl s ≤ 5501098 + l0) (h : LW_c1 E.2.2.2 nf xs L x z0 l0 k18 i s τ = some 1) : kW X (s, τ) 307 [(3, .int i), (2, .ref (Et.2.2.2.2.1 0)), (1, .ref x), (0, .ref b)] [] := by
  unfold LW_c1 at h
  have hX := T.1
  refine k_aload_n hX dL_law_307 rfl 2 rfl ?_
  obtain ⟨v3, s4, h1, hz5, h⟩ := lcR_of h
  refine l_callX_i (σ := (s, τ)) (s' := s4) (As := []) T (met_FX0_town _ _ _ h1) (wx_cwVW 0 T.1.2.2.2.2 (lw_VW q580 q581 q582 q136 q583) rfl rfl rfl (by decide +kernel) (l_room T rfl rfl)) rfl rfl hz5 dL_law_308 ?_
  show kW X (s4, τ) 311 _ _
  refine k_aload_n hX dL_law_311 rfl 1 rfl ?_
  obtain ⟨v6, t7, h1, h⟩ := bd2_of h
  refine l_callT_i (σ := (s4, τ)) (τ' := t7) (As := []) T (met_town T.2.2.2.2.2.2.2.2.1.1 _ _ h1) (cwV 0 T.1.2.2.2.2 (lw_V q1813 q1814 q1815 q152 q1816) rfl rfl rfl (by decide +kernel) (l_room T rfl rfl)) rfl rfl hz5 dL_law_312 ?_
  show kW X (s4, t7) 315 _ _
  refine k_icmp_eq (tgt := 1463) hX h dL_law_315 (by decide) (fun h => ?_) (fun h => ?_)
  · refine k_iinc (j := 0) [(3, .int (i + 7)), (2, .ref ((Et.2.2.2.2.1 0))), (1, .ref x), (0, .ref b)] hX dL_law_1463 rfl rfl rfl rfl ?_
    refine k_goto (tgt := 18) hX dL_law_1466 (by decide) ?_
    exact hk18 _ _ _ hz5 h
  · refine k_iconst (v := 0) hX dL_law_318 (by decide) ?_
    exact l_ret T hz5 h dL_law_319
def LW_c2 (st : Nat → Option Nat) (nf : Nat) (xs : Nat → Int32) (L x z0 l0 : Nat) (k18 : Int32 → CS → TS → Option Int32) (i : Int32) (s : CS) (τ : TS) : Option Int32 :=
  lcR z0 l0 (FX0_walk st nf x s) fun v3 s4 =>
  bd2 (T_walk nf τ) fun v6 t7 =>
  if v3 = v6 then
  (k18 (i + 7) s4 t7)
  else (some 0)
theorem LW_c2_ok {X : KC LWS} {E : CE} {Et : TE} {b L z0 l0 zT : Nat} {xs : Nat → Int32} (T : lOK X E Et b L xs z0 l0 zT) {nf x : Nat} {k18 : Int32 → CS → TS → Option Int32} (hk18 : ∀ (i : Int32) (s : CS) (τ : TS), (cz s ≤ 1200128 + z0 ∧ cl s ≤ 5501098 + l0) → k18 i s τ = some 1 → kW X (s, τ) 18 [(3, .int i), (2, .ref (Et.2.2.2.2.1 0)), (1, .ref x), (0, .ref b)] []) {i : Int32} {s : CS} {τ : TS} (hz : cz s ≤ 1200128 + z0 ∧ cl s ≤ 5501098 + l0) (h : LW_c2 E.2.2.2 nf xs L x z0 l0 k18 i s τ = some 1) : kW X (s, τ) 320 [(3, .int i), (2, .ref (Et.2.2.2.2.1 0)), (1, .ref x), (0, .ref b)] [] := by
  unfold LW_c2 at h
  have hX := T.1
  refine k_aload_n hX dL_law_320 rfl 2 rfl ?_
  obtain ⟨v3, s4, h1, hz5, h⟩ := lcR_of h
  refine l_callX_i (σ := (s, τ)) (s' := s4) (As := []) T (met_FX0_walk _ _ _ h1) (wx_cwVW 0 T.1.2.2.2.2 (lw_VW q1179 q1180 q1181 q136 q1182) rfl rfl rfl (by decide +kernel) (l_room T rfl rfl)) rfl rfl hz5 dL_law_321 ?_
  show kW X (s4, τ) 324 _ _
  refine k_aload_n hX dL_law_324 rfl 1 rfl ?_
  obtain ⟨v6, t7, h1, h⟩ := bd2_of h
  refine l_callT_i (σ := (s4, τ)) (τ' := t7) (As := []) T (met_walk T.2.2.2.2.2.2.2.2.1.1 _ _ h1) (cwV 0 T.1.2.2.2.2 (lw_V q1927 q1928 q1929 q152 q1930) rfl rfl rfl (by decide +kernel) (l_room T rfl rfl)) rfl rfl hz5 dL_law_325 ?_
  show kW X (s4, t7) 328 _ _
  refine k_icmp_eq (tgt := 1463) hX h dL_law_328 (by decide) (fun h => ?_) (fun h => ?_)
  · refine k_iinc (j := 0) [(3, .int (i + 7)), (2, .ref ((Et.2.2.2.2.1 0))), (1, .ref x), (0, .ref b)] hX dL_law_1463 rfl rfl rfl rfl ?_
    refine k_goto (tgt := 18) hX dL_law_1466 (by decide) ?_
    exact hk18 _ _ _ hz5 h
  · refine k_iconst (v := 0) hX dL_law_331 (by decide) ?_
    exact l_ret T hz5 h dL_law_332
def LW_c3 (st : Nat → Option Nat) (nf : Nat) (xs : Nat → Int32) (L x z0 l0 : Nat) (k18 : Int32 → CS → TS → Option Int32) (i : Int32) (s : CS) (τ : TS) : Option Int32 :=
  lX xs L (i + 1) fun v3 =>
  lX xs L (i + 2) fun v4 =>
  lX xs L (i + 3) fun v5 =>
  (FX0_light s x v3 v4 v5).bind fun v6 =>
  lX xs L (i + 1) fun v7 =>
  lX xs L (i + 2) fun v8 =>
  lX xs L (i + 3) fun v9 =>
  bd2 (T_light v7 v8 v9 τ) fun v10 t11 =>
  if v6 = v10 then
  (k18 (i + 7) s t11)
  else (some 0)
theorem LW_c3_ok {X : KC LWS} {E : CE} {Et : TE} {b L z0 l0 zT : Nat} {xs : Nat → Int32} (T : lOK X E Et b L xs z0 l0 zT) {nf x : Nat} {k18 : Int32 → CS → TS → Option Int32} (hk18 : ∀ (i : Int32) (s : CS) (τ : TS), (cz s ≤ 1200128 + z0 ∧ cl s ≤ 5501098 + l0) → k18 i s τ = some 1 → kW X (s, τ) 18 [(3, .int i), (2, .ref (Et.2.2.2.2.1 0)), (1, .ref x), (0, .ref b)] []) {i : Int32} {s : CS} {τ : TS} (hz : cz s ≤ 1200128 + z0 ∧ cl s ≤ 5501098 + l0) (h : LW_c3 E.2.2.2 nf xs L x z0 l0 k18 i s τ = some 1) : kW X (s, τ) 333 [(3, .int i), (2, .ref (Et.2.2.2.2.1 0)), (1, .ref x), (0, .ref b)] [] := by
  unfold LW_c3 at h
  have hX := T.1
  refine k_aload_n hX dL_law_333 rfl 2 rfl ?_
  refine k_aload_n hX dL_law_334 rfl 3 rfl ?_
  refine k_iload_n hX dL_law_335 rfl 0 rfl ?_
  refine k_iconst (v := 1) hX dL_law_336 (by decide) ?_
  refine k_iadd hX dL_law_337 ?_
  refine l_sld T h dL_law_338 (fun v3 h => ?_)
  refine k_aload_n hX dL_law_339 rfl 3 rfl ?_
  refine k_iload_n hX dL_law_340 rfl 0 rfl ?_
  refine k_iconst (v := 2) hX dL_law_341 (by decide) ?_
  refine k_iadd hX dL_law_342 ?_
  refine l_sld T h dL_law_343 (fun v4 h => ?_)
  refine k_aload_n hX dL_law_344 rfl 3 rfl ?_
  refine k_iload_n hX dL_law_345 rfl 0 rfl ?_
  refine k_iconst (v := 3) hX dL_law_346 (by decide) ?_
  refine k_iadd hX dL_law_347 ?_
  refine l_sld T h dL_law_348 (fun v5 h => ?_)
  obtain ⟨v6, h1, h⟩ := bd_of h
  refine l_callC_i (σ := (s, τ)) (s' := s) (As := [.int v3, .int v4, .int v5]) T (met_FX0_light _ _ _ _ _ h1) (cwV 3 T.1.2.2.2.2 (lw_V q1193 q1194 q1195 q136 q1196) rfl rfl rfl (by decide +kernel) (l_room T rfl rfl)) rfl rfl hz dL_law_349 ?_
  show kW X (s, τ) 352 _ _
  refine k_aload_n hX dL_law_352 rfl 1 rfl ?_
  refine k_aload_n hX dL_law_353 rfl 3 rfl ?_
  refine k_iload_n hX dL_law_354 rfl 0 rfl ?_
  refine k_iconst (v := 1) hX dL_law_355 (by decide) ?_
  refine k_iadd hX dL_law_356 ?_
  refine l_sld T h dL_law_357 (fun v7 h => ?_)
  refine k_aload_n hX dL_law_358 rfl 3 rfl ?_
  refine k_iload_n hX dL_law_359 rfl 0 rfl ?_
  refine k_iconst (v := 2) hX dL_law_360 (by decide) ?_
  refine k_iadd hX dL_law_361 ?_
  refine l_sld T h dL_law_362 (fun v8 h => ?_)
  refine k_aload_n hX dL_law_363 rfl 3 rfl ?_
  refine k_iload_n hX dL_law_364 rfl 0 rfl ?_
  refine k_iconst (v := 3) hX dL_law_365 (by decide) ?_
  refine k_iadd hX dL_law_366 ?_
  refine l_sld T h dL_law_367 (fun v9 h => ?_)
  obtain ⟨v10, t11, h1, h⟩ := bd2_of h
  refine l_callT_i (σ := (s, τ)) (τ' := t11) (As := [.int v7, .int v8, .int v9]) T (met_light T.2.2.2.2.2.2.2.2.1.1 _ _ _ _ _ h1) (cwV 3 T.1.2.2.2.2 (lw_V q1947 q1948 q1949 q152 q1950) rfl rfl rfl (by decide +kernel) (l_room T rfl rfl)) rfl rfl hz dL_law_368 ?_
  show kW X (s, t11) 371 _ _
  refine k_icmp_eq (tgt := 1463) hX h dL_law_371 (by decide) (fun h => ?_) (fun h => ?_)
  · refine k_iinc (j := 0) [(3, .int (i + 7)), (2, .ref ((Et.2.2.2.2.1 0))), (1, .ref x), (0, .ref b)] hX dL_law_1463 rfl rfl rfl rfl ?_
    refine k_goto (tgt := 18) hX dL_law_1466 (by decide) ?_
    exact hk18 _ _ _ hz h
  · refine k_iconst (v := 0) hX dL_law_374 (by decide) ?_
    exact l_ret T hz h dL_law_375
def LW_c4 (st : Nat → Option Nat) (nf : Nat) (xs : Nat → Int32) (L x z0 l0 : Nat) (k18 : Int32 → CS → TS → Option Int32) (i : Int32) (s : CS) (τ : TS) : Option Int32 :=
  lX xs L (i + 1) fun v3 =>
  lX xs L (i + 2) fun v4 =>
  lX xs L (i + 3) fun v5 =>
  lX xs L (i + 4) fun v6 =>
  (FX0_green s x v3 v4 v5 v6).bind fun v7 =>
  lX xs L (i + 1) fun v8 =>
  lX xs L (i + 2) fun v9 =>
  lX xs L (i + 3) fun v10 =>
  lX xs L (i + 4) fun v11 =>
  bd2 (T_green v8 v9 v10 v11 τ) fun v12 t13 =>
  if v7 = v12 then
  (k18 (i + 7) s t13)
  else (some 0)
theorem LW_c4_ok {X : KC LWS} {E : CE} {Et : TE} {b L z0 l0 zT : Nat} {xs : Nat → Int32} (T : lOK X E Et b L xs z0 l0 zT) {nf x : Nat} {k18 : Int32 → CS → TS → Option Int32} (hk18 : ∀ (i : Int32) (s : CS) (τ : TS), (cz s ≤ 1200128 + z0 ∧ cl s ≤ 5501098 + l0) → k18 i s τ = some 1 → kW X (s, τ) 18 [(3, .int i), (2, .ref (Et.2.2.2.2.1 0)), (1, .ref x), (0, .ref b)] []) {i : Int32} {s : CS} {τ : TS} (hz : cz s ≤ 1200128 + z0 ∧ cl s ≤ 5501098 + l0) (h : LW_c4 E.2.2.2 nf xs L x z0 l0 k18 i s τ = some 1) : kW X (s, τ) 376 [(3, .int i), (2, .ref (Et.2.2.2.2.1 0)), (1, .ref x), (0, .ref b)] [] := by
  unfold LW_c4 at h
  have hX := T.1
  refine k_aload_n hX dL_law_376 rfl 2 rfl ?_
  refine k_aload_n hX dL_law_377 rfl 3 rfl ?_
  refine k_iload_n hX dL_law_378 rfl 0 rfl ?_
  refine k_iconst (v := 1) hX dL_law_379 (by decide) ?_
  refine k_iadd hX dL_law_380 ?_
  refine l_sld T h dL_law_381 (fun v3 h => ?_)
  refine k_aload_n hX dL_law_382 rfl 3 rfl ?_
  refine k_iload_n hX dL_law_383 rfl 0 rfl ?_
  refine k_iconst (v := 2) hX dL_law_384 (by decide) ?_
  refine k_iadd hX dL_law_385 ?_
  refine l_sld T h dL_law_386 (fun v4 h => ?_)
  refine k_aload_n hX dL_law_387 rfl 3 rfl ?_
  refine k_iload_n hX dL_law_388 rfl 0 rfl ?_
  refine k_iconst (v := 3) hX dL_law_389 (by decide) ?_
  refine k_iadd hX dL_law_390 ?_
  refine l_sld T h dL_law_391 (fun v5 h => ?_)
  refine k_aload_n hX dL_law_392 rfl 3 rfl ?_
  refine k_iload_n hX dL_law_393 rfl 0 rfl ?_
  refine k_iconst (v := 4) hX dL_law_394 (by decide) ?_
  refine k_iadd hX dL_law_395 ?_
  refine l_sld T h dL_law_396 (fun v6 h => ?_)
  obtain ⟨v7, h1, h⟩ := bd_of h
  refine l_callC_i (σ := (s, τ)) (s' := s) (As := [.int v3, .int v4, .int v5, .int v6]) T (met_FX0_green _ _ _ _ _ _ h1) (cwV 4 T.1.2.2.2.2 (lw_V q1222 q1223 q1224 q136 q1225) rfl rfl rfl (by decide +kernel) (l_room T rfl rfl)) rfl rfl hz dL_law_397 ?_
  show kW X (s, τ) 400 _ _
  refine k_aload_n hX dL_law_400 rfl 1 rfl ?_
  refine k_aload_n hX dL_law_401 rfl 3 rfl ?_
  refine k_iload_n hX dL_law_402 rfl 0 rfl ?_
  refine k_iconst (v := 1) hX dL_law_403 (by decide) ?_
  refine k_iadd hX dL_law_404 ?_
  refine l_sld T h dL_law_405 (fun v8 h => ?_)
  refine k_aload_n hX dL_law_406 rfl 3 rfl ?_
  refine k_iload_n hX dL_law_407 rfl 0 rfl ?_
  refine k_iconst (v := 2) hX dL_law_408 (by decide) ?_
  refine k_iadd hX dL_law_409 ?_
  refine l_sld T h dL_law_410 (fun v9 h => ?_)
  refine k_aload_n hX dL_law_411 rfl 3 rfl ?_
  refine k_iload_n hX dL_law_412 rfl 0 rfl ?_
  refine k_iconst (v := 3) hX dL_law_413 (by decide) ?_
  refine k_iadd hX dL_law_414 ?_
  refine l_sld T h dL_law_415 (fun v10 h => ?_)
  refine k_aload_n hX dL_law_416 rfl 3 rfl ?_
  refine k_iload_n hX dL_law_417 rfl 0 rfl ?_
  refine k_iconst (v := 4) hX dL_law_418 (by decide) ?_
  refine k_iadd hX dL_law_419 ?_
  refine l_sld T h dL_law_420 (fun v11 h => ?_)
  obtain ⟨v12, t13, h1, h⟩ := bd2_of h
  refine l_callT_i (σ := (s, τ)) (τ' := t13) (As := [.int v8, .int v9, .int v10, .int v11]) T (met_green T.2.2.2.2.2.2.2.2.1.1 _ _ _ _ _ _ h1) (cwV 4 T.1.2.2.2.2 (lw_V q1970 q1971 q1972 q152 q1973) rfl rfl rfl (by decide +kernel) (l_room T rfl rfl)) rfl rfl hz dL_law_421 ?_
  show kW X (s, t13) 424 _ _
  refine k_icmp_eq (tgt := 1463) hX h dL_law_424 (by decide) (fun h => ?_) (fun h => ?_)
  · refine k_iinc (j := 0) [(3, .int (i + 7)), (2, .ref ((Et.2.2.2.2.1 0))), (1, .ref x), (0, .ref b)] hX dL_law_1463 rfl rfl rfl rfl ?_
    refine k_goto (tgt := 18) hX dL_law_1466 (by decide) ?_
    exact hk18 _ _ _ hz h
  · refine k_iconst (v := 0) hX dL_law_427 (by decide) ?_
    exact l_ret T hz h dL_law_428
def LW_c5 (st : Nat → Option Nat) (nf : Nat) (xs : Nat → Int32) (L x z0 l0 : Nat) (k18 : Int32 → CS → TS → Option Int32) (i : Int32) (s : CS) (τ : TS) : Option Int32 :=
  lX xs L (i + 1) fun v3 =>
  lX xs L (i + 2) fun v4 =>
  lX xs L (i + 3) fun v5 =>
  lX xs L (i + 4) fun v6 =>
  (FX0_until s x v3 v4 v5 v6).bind fun v7 =>
  lX xs L (i + 1) fun v8 =>
  lX xs L (i + 2) fun v9 =>
  lX xs L (i + 3) fun v10 =>
  lX xs L (i + 4) fun v11 =>
  bd2 (T_until nf v8 v9 v10 v11 τ) fun v12 t13 =>
  if v7 = v12 then
  (k18 (i + 7) s t13)
  else (some 0)
theorem LW_c5_ok {X : KC LWS} {E : CE} {Et : TE} {b L z0 l0 zT : Nat} {xs : Nat → Int32} (T : lOK X E Et b L xs z0 l0 zT) {nf x : Nat} {k18 : Int32 → CS → TS → Option Int32} (hk18 : ∀ (i : Int32) (s : CS) (τ : TS), (cz s ≤ 1200128 + z0 ∧ cl s ≤ 5501098 + l0) → k18 i s τ = some 1 → kW X (s, τ) 18 [(3, .int i), (2, .ref (Et.2.2.2.2.1 0)), (1, .ref x), (0, .ref b)] []) {i : Int32} {s : CS} {τ : TS} (hz : cz s ≤ 1200128 + z0 ∧ cl s ≤ 5501098 + l0) (h : LW_c5 E.2.2.2 nf xs L x z0 l0 k18 i s τ = some 1) : kW X (s, τ) 429 [(3, .int i), (2, .ref (Et.2.2.2.2.1 0)), (1, .ref x), (0, .ref b)] [] := by
  unfold LW_c5 at h
  have hX := T.1
  refine k_aload_n hX dL_law_429 rfl 2 rfl ?_
  refine k_aload_n hX dL_law_430 rfl 3 rfl ?_
  refine k_iload_n hX dL_law_431 rfl 0 rfl ?_
  refine k_iconst (v := 1) hX dL_law_432 (by decide) ?_
  refine k_iadd hX dL_law_433 ?_
  refine l_sld T h dL_law_434 (fun v3 h => ?_)
  refine k_aload_n hX dL_law_435 rfl 3 rfl ?_
  refine k_iload_n hX dL_law_436 rfl 0 rfl ?_
  refine k_iconst (v := 2) hX dL_law_437 (by decide) ?_
  refine k_iadd hX dL_law_438 ?_
  refine l_sld T h dL_law_439 (fun v4 h => ?_)
  refine k_aload_n hX dL_law_440 rfl 3 rfl ?_
  refine k_iload_n hX dL_law_441 rfl 0 rfl ?_
  refine k_iconst (v := 3) hX dL_law_442 (by decide) ?_
  refine k_iadd hX dL_law_443 ?_
  refine l_sld T h dL_law_444 (fun v5 h => ?_)
  refine k_aload_n hX dL_law_445 rfl 3 rfl ?_
  refine k_iload_n hX dL_law_446 rfl 0 rfl ?_
  refine k_iconst (v := 4) hX dL_law_447 (by decide) ?_
  refine k_iadd hX dL_law_448 ?_
  refine l_sld T h dL_law_449 (fun v6 h => ?_)
  obtain ⟨v7, h1, h⟩ := bd_of h
  refine l_callC_i (σ := (s, τ)) (s' := s) (As := [.int v3, .int v4, .int v5, .int v6]) T (met_FX0_until _ _ _ _ _ _ h1) (cwV 4 T.1.2.2.2.2 (lw_V q1269 q1227 q1228 q136 q1229) rfl rfl rfl (by decide +kernel) (l_room T rfl rfl)) rfl rfl hz dL_law_450 ?_
  show kW X (s, τ) 453 _ _
  refine k_aload_n hX dL_law_453 rfl 1 rfl ?_
  refine k_aload_n hX dL_law_454 rfl 3 rfl ?_
  refine k_iload_n hX dL_law_455 rfl 0 rfl ?_
  refine k_iconst (v := 1) hX dL_law_456 (by decide) ?_
  refine k_iadd hX dL_law_457 ?_
  refine l_sld T h dL_law_458 (fun v8 h => ?_)
  refine k_aload_n hX dL_law_459 rfl 3 rfl ?_
  refine k_iload_n hX dL_law_460 rfl 0 rfl ?_
  refine k_iconst (v := 2) hX dL_law_461 (by decide) ?_
  refine k_iadd hX dL_law_462 ?_
  refine l_sld T h dL_law_463 (fun v9 h => ?_)
  refine k_aload_n hX dL_law_464 rfl 3 rfl ?_
  refine k_iload_n hX dL_law_465 rfl 0 rfl ?_
  refine k_iconst (v := 3) hX dL_law_466 (by decide) ?_
  refine k_iadd hX dL_law_467 ?_
  refine l_sld T h dL_law_468 (fun v10 h => ?_)
  refine k_aload_n hX dL_law_469 rfl 3 rfl ?_
  refine k_iload_n hX dL_law_470 rfl 0 rfl ?_
  refine k_iconst (v := 4) hX dL_law_471 (by decide) ?_
  refine k_iadd hX dL_law_472 ?_
  refine l_sld T h dL_law_473 (fun v11 h => ?_)
  obtain ⟨v12, t13, h1, h⟩ := bd2_of h
  refine l_callT_i (σ := (s, τ)) (τ' := t13) (As := [.int v8, .int v9, .int v10, .int v11]) T (met_until T.2.2.2.2.2.2.2.2.1.1 _ _ _ _ _ _ h1) (cwV 4 T.1.2.2.2.2 (lw_V q1995 q1996 q1997 q152 q1998) rfl rfl rfl (by decide +kernel) (l_room T rfl rfl)) rfl rfl hz dL_law_474 ?_
  show kW X (s, t13) 477 _ _
  refine k_icmp_eq (tgt := 1463) hX h dL_law_477 (by decide) (fun h => ?_) (fun h => ?_)
  · refine k_iinc (j := 0) [(3, .int (i + 7)), (2, .ref ((Et.2.2.2.2.1 0))), (1, .ref x), (0, .ref b)] hX dL_law_1463 rfl rfl rfl rfl ?_
    refine k_goto (tgt := 18) hX dL_law_1466 (by decide) ?_
    exact hk18 _ _ _ hz h
  · refine k_iconst (v := 0) hX dL_law_480 (by decide) ?_
    exact l_ret T hz h dL_law_481
def LW_c6 (st : Nat → Option Nat) (nf : Nat) (xs : Nat → Int32) (L x z0 l0 : Nat) (k18 : Int32 → CS → TS → Option Int32) (i : Int32) (s : CS) (τ : TS) : Option Int32 :=
  lX xs L (i + 1) fun v3 =>
  lX xs L (i + 2) fun v4 =>
  if v4 = 0 then
  (lcR z0 l0 (FX0_go nf x v3 0 s) fun v5 s6 =>
  lX xs L (i + 1) fun v8 =>
  lX xs L (i + 2) fun v9 =>
  if v9 = 0 then
  (bd2 (T_go nf v8 0 τ) fun v10 t11 =>
  if v5 = v10 then
  (k18 (i + 7) s6 t11)
  else (some 0))
  else (bd2 (T_go nf v8 1 τ) fun v12 t13 =>
  if v5 = v12 then
  (k18 (i + 7) s6 t13)
  else (some 0)))
  else (lcR z0 l0 (FX0_go nf x v3 1 s) fun v14 s15 =>
  lX xs L (i + 1) fun v17 =>
  lX xs L (i + 2) fun v18 =>
  if v18 = 0 then
  (bd2 (T_go nf v17 0 τ) fun v19 t20 =>
  if v14 = v19 then
  (k18 (i + 7) s15 t20)
  else (some 0))
  else (bd2 (T_go nf v17 1 τ) fun v21 t22 =>
  if v14 = v21 then
  (k18 (i + 7) s15 t22)
  else (some 0)))
theorem LW_c6_ok {X : KC LWS} {E : CE} {Et : TE} {b L z0 l0 zT : Nat} {xs : Nat → Int32} (T : lOK X E Et b L xs z0 l0 zT) {nf x : Nat} {k18 : Int32 → CS → TS → Option Int32} (hk18 : ∀ (i : Int32) (s : CS) (τ : TS), (cz s ≤ 1200128 + z0 ∧ cl s ≤ 5501098 + l0) → k18 i s τ = some 1 → kW X (s, τ) 18 [(3, .int i), (2, .ref (Et.2.2.2.2.1 0)), (1, .ref x), (0, .ref b)] []) {i : Int32} {s : CS} {τ : TS} (hz : cz s ≤ 1200128 + z0 ∧ cl s ≤ 5501098 + l0) (h : LW_c6 E.2.2.2 nf xs L x z0 l0 k18 i s τ = some 1) : kW X (s, τ) 482 [(3, .int i), (2, .ref (Et.2.2.2.2.1 0)), (1, .ref x), (0, .ref b)] [] := by
  unfold LW_c6 at h
  have hX := T.1
  refine k_aload_n hX dL_law_482 rfl 2 rfl ?_
  refine k_aload_n hX dL_law_483 rfl 3 rfl ?_
  refine k_iload_n hX dL_law_484 rfl 0 rfl ?_
  refine k_iconst (v := 1) hX dL_law_485 (by decide) ?_
  refine k_iadd hX dL_law_486 ?_
  refine l_sld T h dL_law_487 (fun v3 h => ?_)
  refine k_aload_n hX dL_law_488 rfl 3 rfl ?_
  refine k_iload_n hX dL_law_489 rfl 0 rfl ?_
  refine k_iconst (v := 2) hX dL_law_490 (by decide) ?_
  refine k_iadd hX dL_law_491 ?_
  refine l_sld T h dL_law_492 (fun v4 h => ?_)
  refine k_if_eq (tgt := 500) hX h dL_law_493 (by decide) (fun h => ?_) (fun h => ?_)
  · refine k_iconst (v := 0) hX dL_law_500 (by decide) ?_
    obtain ⟨v5, s6, h1, hz7, h⟩ := lcR_of h
    refine l_callC_i (σ := (s, τ)) (s' := s6) (As := [.int v3, .int 0]) T (met_FX0_go _ _ _ _ _ h1) (cwV 2 T.1.2.2.2.2 (lw_V q1270 q1271 q1272 q136 q1273) rfl rfl rfl (by decide +kernel) (l_room T rfl rfl)) rfl rfl hz7 dL_law_501 ?_
    show kW X (s6, τ) 504 _ _
    refine k_aload_n hX dL_law_504 rfl 1 rfl ?_
    refine k_aload_n hX dL_law_505 rfl 3 rfl ?_
    refine k_iload_n hX dL_law_506 rfl 0 rfl ?_
    refine k_iconst (v := 1) hX dL_law_507 (by decide) ?_
    refine k_iadd hX dL_law_508 ?_
    refine l_sld T h dL_law_509 (fun v8 h => ?_)
    refine k_aload_n hX dL_law_510 rfl 3 rfl ?_
    refine k_iload_n hX dL_law_511 rfl 0 rfl ?_
    refine k_iconst (v := 2) hX dL_law_512 (by decide) ?_
    refine k_iadd hX dL_law_513 ?_
    refine l_sld T h dL_law_514 (fun v9 h => ?_)
    refine k_if_eq (tgt := 522) hX h dL_law_515 (by decide) (fun h => ?_) (fun h => ?_)
    · refine k_iconst (v := 0) hX dL_law_522 (by decide) ?_
      obtain ⟨v10, t11, h1, h⟩ := bd2_of h
      refine l_callT_i (σ := (s6, τ)) (τ' := t11) (As := [.int v8, .int 0]) T (met_go T.2.2.2.2.2.2.2.2.1.1 _ _ _ _ h1) (cwV 2 T.1.2.2.2.2 (lw_V q2003 q2004 q2005 q152 q2006) rfl rfl rfl (by decide +kernel) (l_room T rfl rfl)) rfl rfl hz7 dL_law_523 ?_
      show kW X (s6, t11) 526 _ _
      refine k_icmp_eq (tgt := 1463) hX h dL_law_526 (by decide) (fun h => ?_) (fun h => ?_)
      · refine k_iinc (j := 0) [(3, .int (i + 7)), (2, .ref ((Et.2.2.2.2.1 0))), (1, .ref x), (0, .ref b)] hX dL_law_1463 rfl rfl rfl rfl ?_
        refine k_goto (tgt := 18) hX dL_law_1466 (by decide) ?_
        exact hk18 _ _ _ hz7 h
      · refine k_iconst (v := 0) hX dL_law_529 (by decide) ?_
        exact l_ret T hz7 h dL_law_530
    · refine k_iconst (v := 1) hX dL_law_518 (by decide) ?_
      refine k_goto (tgt := 523) hX dL_law_519 (by decide) ?_
      obtain ⟨v12, t13, h1, h⟩ := bd2_of h
      refine l_callT_i (σ := (s6, τ)) (τ' := t13) (As := [.int v8, .int 1]) T (met_go T.2.2.2.2.2.2.2.2.1.1 _ _ _ _ h1) (cwV 2 T.1.2.2.2.2 (lw_V q2003 q2004 q2005 q152 q2006) rfl rfl rfl (by decide +kernel) (l_room T rfl rfl)) rfl rfl hz7 dL_law_523 ?_
      show kW X (s6, t13) 526 _ _
      refine k_icmp_eq (tgt := 1463) hX h dL_law_526 (by decide) (fun h => ?_) (fun h => ?_)
      · refine k_iinc (j := 0) [(3, .int (i + 7)), (2, .ref ((Et.2.2.2.2.1 0))), (1, .ref x), (0, .ref b)] hX dL_law_1463 rfl rfl rfl rfl ?_
        refine k_goto (tgt := 18) hX dL_law_1466 (by decide) ?_
        exact hk18 _ _ _ hz7 h
      · refine k_iconst (v := 0) hX dL_law_529 (by decide) ?_
        exact l_ret T hz7 h dL_law_530
  · refine k_iconst (v := 1) hX dL_law_496 (by decide) ?_
    refine k_goto (tgt := 501) hX dL_law_497 (by decide) ?_
    obtain ⟨v14, s15, h1, hz16, h⟩ := lcR_of h
    refine l_callC_i (σ := (s, τ)) (s' := s15) (As := [.int v3, .int 1]) T (met_FX0_go _ _ _ _ _ h1) (cwV 2 T.1.2.2.2.2 (lw_V q1270 q1271 q1272 q136 q1273) rfl rfl rfl (by decide +kernel) (l_room T rfl rfl)) rfl rfl hz16 dL_law_501 ?_
    show kW X (s15, τ) 504 _ _
    refine k_aload_n hX dL_law_504 rfl 1 rfl ?_
    refine k_aload_n hX dL_law_505 rfl 3 rfl ?_
    refine k_iload_n hX dL_law_506 rfl 0 rfl ?_
    refine k_iconst (v := 1) hX dL_law_507 (by decide) ?_
    refine k_iadd hX dL_law_508 ?_
    refine l_sld T h dL_law_509 (fun v17 h => ?_)
    refine k_aload_n hX dL_law_510 rfl 3 rfl ?_
    refine k_iload_n hX dL_law_511 rfl 0 rfl ?_
    refine k_iconst (v := 2) hX dL_law_512 (by decide) ?_
    refine k_iadd hX dL_law_513 ?_
    refine l_sld T h dL_law_514 (fun v18 h => ?_)
    refine k_if_eq (tgt := 522) hX h dL_law_515 (by decide) (fun h => ?_) (fun h => ?_)
    · refine k_iconst (v := 0) hX dL_law_522 (by decide) ?_
      obtain ⟨v19, t20, h1, h⟩ := bd2_of h
      refine l_callT_i (σ := (s15, τ)) (τ' := t20) (As := [.int v17, .int 0]) T (met_go T.2.2.2.2.2.2.2.2.1.1 _ _ _ _ h1) (cwV 2 T.1.2.2.2.2 (lw_V q2003 q2004 q2005 q152 q2006) rfl rfl rfl (by decide +kernel) (l_room T rfl rfl)) rfl rfl hz16 dL_law_523 ?_
      show kW X (s15, t20) 526 _ _
      refine k_icmp_eq (tgt := 1463) hX h dL_law_526 (by decide) (fun h => ?_) (fun h => ?_)
      · refine k_iinc (j := 0) [(3, .int (i + 7)), (2, .ref ((Et.2.2.2.2.1 0))), (1, .ref x), (0, .ref b)] hX dL_law_1463 rfl rfl rfl rfl ?_
        refine k_goto (tgt := 18) hX dL_law_1466 (by decide) ?_
        exact hk18 _ _ _ hz16 h
      · refine k_iconst (v := 0) hX dL_law_529 (by decide) ?_
        exact l_ret T hz16 h dL_law_530
    · refine k_iconst (v := 1) hX dL_law_518 (by decide) ?_
      refine k_goto (tgt := 523) hX dL_law_519 (by decide) ?_
      obtain ⟨v21, t22, h1, h⟩ := bd2_of h
      refine l_callT_i (σ := (s15, τ)) (τ' := t22) (As := [.int v17, .int 1]) T (met_go T.2.2.2.2.2.2.2.2.1.1 _ _ _ _ h1) (cwV 2 T.1.2.2.2.2 (lw_V q2003 q2004 q2005 q152 q2006) rfl rfl rfl (by decide +kernel) (l_room T rfl rfl)) rfl rfl hz16 dL_law_523 ?_
      show kW X (s15, t22) 526 _ _
      refine k_icmp_eq (tgt := 1463) hX h dL_law_526 (by decide) (fun h => ?_) (fun h => ?_)
      · refine k_iinc (j := 0) [(3, .int (i + 7)), (2, .ref ((Et.2.2.2.2.1 0))), (1, .ref x), (0, .ref b)] hX dL_law_1463 rfl rfl rfl rfl ?_
        refine k_goto (tgt := 18) hX dL_law_1466 (by decide) ?_
        exact hk18 _ _ _ hz16 h
      · refine k_iconst (v := 0) hX dL_law_529 (by decide) ?_
        exact l_ret T hz16 h dL_law_530
def LW_c7 (st : Nat → Option Nat) (nf : Nat) (xs : Nat → Int32) (L x z0 l0 : Nat) (k18 : Int32 → CS → TS → Option Int32) (i : Int32) (s : CS) (τ : TS) : Option Int32 :=
  lX xs L (i + 1) fun v3 =>
  lcR z0 l0 (FX0_stay nf x v3 s) fun v4 s5 =>
  lX xs L (i + 1) fun v7 =>
  bd2 (T_stay nf v7 τ) fun v8 t9 =>
  if v4 = v8 then
  (k18 (i + 7) s5 t9)
  else (some 0)
theorem LW_c7_ok {X : KC LWS} {E : CE} {Et : TE} {b L z0 l0 zT : Nat} {xs : Nat → Int32} (T : lOK X E Et b L xs z0 l0 zT) {nf x : Nat} {k18 : Int32 → CS → TS → Option Int32} (hk18 : ∀ (i : Int32) (s : CS) (τ : TS), (cz s ≤ 1200128 + z0 ∧ cl s ≤ 5501098 + l0) → k18 i s τ = some 1 → kW X (s, τ) 18 [(3, .int i), (2, .ref (Et.2.2.2.2.1 0)), (1, .ref x), (0, .ref b)] []) {i : Int32} {s : CS} {τ : TS} (hz : cz s ≤ 1200128 + z0 ∧ cl s ≤ 5501098 + l0) (h : LW_c7 E.2.2.2 nf xs L x z0 l0 k18 i s τ = some 1) : kW X (s, τ) 531 [(3, .int i), (2, .ref (Et.2.2.2.2.1 0)), (1, .ref x), (0, .ref b)] [] := by
  unfold LW_c7 at h
  have hX := T.1
  refine k_aload_n hX dL_law_531 rfl 2 rfl ?_
  refine k_aload_n hX dL_law_532 rfl 3 rfl ?_
  refine k_iload_n hX dL_law_533 rfl 0 rfl ?_
  refine k_iconst (v := 1) hX dL_law_534 (by decide) ?_
  refine k_iadd hX dL_law_535 ?_
  refine l_sld T h dL_law_536 (fun v3 h => ?_)
  obtain ⟨v4, s5, h1, hz6, h⟩ := lcR_of h
  refine l_callC_i (σ := (s, τ)) (s' := s5) (As := [.int v3]) T (met_FX0_stay _ _ _ _ h1) (cwV 1 T.1.2.2.2.2 (lw_V q1295 q1296 q1297 q136 q1298) rfl rfl rfl (by decide +kernel) (l_room T rfl rfl)) rfl rfl hz6 dL_law_537 ?_
  show kW X (s5, τ) 540 _ _
  refine k_aload_n hX dL_law_540 rfl 1 rfl ?_
  refine k_aload_n hX dL_law_541 rfl 3 rfl ?_
  refine k_iload_n hX dL_law_542 rfl 0 rfl ?_
  refine k_iconst (v := 1) hX dL_law_543 (by decide) ?_
  refine k_iadd hX dL_law_544 ?_
  refine l_sld T h dL_law_545 (fun v7 h => ?_)
  obtain ⟨v8, t9, h1, h⟩ := bd2_of h
  refine l_callT_i (σ := (s5, τ)) (τ' := t9) (As := [.int v7]) T (met_stay T.2.2.2.2.2.2.2.2.1.1 _ _ _ h1) (cwV 1 T.1.2.2.2.2 (lw_V q2019 q2020 q2021 q152 q2022) rfl rfl rfl (by decide +kernel) (l_room T rfl rfl)) rfl rfl hz6 dL_law_546 ?_
  show kW X (s5, t9) 549 _ _
  refine k_icmp_eq (tgt := 1463) hX h dL_law_549 (by decide) (fun h => ?_) (fun h => ?_)
  · refine k_iinc (j := 0) [(3, .int (i + 7)), (2, .ref ((Et.2.2.2.2.1 0))), (1, .ref x), (0, .ref b)] hX dL_law_1463 rfl rfl rfl rfl ?_
    refine k_goto (tgt := 18) hX dL_law_1466 (by decide) ?_
    exact hk18 _ _ _ hz6 h
  · refine k_iconst (v := 0) hX dL_law_552 (by decide) ?_
    exact l_ret T hz6 h dL_law_553
def LW_c8 (st : Nat → Option Nat) (nf : Nat) (xs : Nat → Int32) (L x z0 l0 : Nat) (k18 : Int32 → CS → TS → Option Int32) (i : Int32) (s : CS) (τ : TS) : Option Int32 :=
  lcR z0 l0 (FX0_look nf x s) fun v3 s4 =>
  bd2 (T_look nf τ) fun v6 t7 =>
  if v3 = v6 then
  (k18 (i + 7) s4 t7)
  else (some 0)
theorem LW_c8_ok {X : KC LWS} {E : CE} {Et : TE} {b L z0 l0 zT : Nat} {xs : Nat → Int32} (T : lOK X E Et b L xs z0 l0 zT) {nf x : Nat} {k18 : Int32 → CS → TS → Option Int32} (hk18 : ∀ (i : Int32) (s : CS) (τ : TS), (cz s ≤ 1200128 + z0 ∧ cl s ≤ 5501098 + l0) → k18 i s τ = some 1 → kW X (s, τ) 18 [(3, .int i), (2, .ref (Et.2.2.2.2.1 0)), (1, .ref x), (0, .ref b)] []) {i : Int32} {s : CS} {τ : TS} (hz : cz s ≤ 1200128 + z0 ∧ cl s ≤ 5501098 + l0) (h : LW_c8 E.2.2.2 nf xs L x z0 l0 k18 i s τ = some 1) : kW X (s, τ) 554 [(3, .int i), (2, .ref (Et.2.2.2.2.1 0)), (1, .ref x), (0, .ref b)] [] := by
  unfold LW_c8 at h
  have hX := T.1
  refine k_aload_n hX dL_law_554 rfl 2 rfl ?_
  obtain ⟨v3, s4, h1, hz5, h⟩ := lcR_of h
  refine l_callC_i (σ := (s, τ)) (s' := s4) (As := []) T (met_FX0_look _ _ _ h1) (cwV 0 T.1.2.2.2.2 (lw_V q1299 q1300 q1301 q136 q1302) rfl rfl rfl (by decide +kernel) (l_room T rfl rfl)) rfl rfl hz5 dL_law_555 ?_
  show kW X (s4, τ) 558 _ _
  refine k_aload_n hX dL_law_558 rfl 1 rfl ?_
  obtain ⟨v6, t7, h1, h⟩ := bd2_of h
  refine l_callT_i (σ := (s4, τ)) (τ' := t7) (As := []) T (met_look T.2.2.2.2.2.2.2.2.1.1 _ _ h1) (cwV 0 T.1.2.2.2.2 (lw_V q2023 q2024 q2025 q152 q2026) rfl rfl rfl (by decide +kernel) (l_room T rfl rfl)) rfl rfl hz5 dL_law_559 ?_
  show kW X (s4, t7) 562 _ _
  refine k_icmp_eq (tgt := 1463) hX h dL_law_562 (by decide) (fun h => ?_) (fun h => ?_)
  · refine k_iinc (j := 0) [(3, .int (i + 7)), (2, .ref ((Et.2.2.2.2.1 0))), (1, .ref x), (0, .ref b)] hX dL_law_1463 rfl rfl rfl rfl ?_
    refine k_goto (tgt := 18) hX dL_law_1466 (by decide) ?_
    exact hk18 _ _ _ hz5 h
  · refine k_iconst (v := 0) hX dL_law_565 (by decide) ?_
    exact l_ret T hz5 h dL_law_566
def LW_c9 (st : Nat → Option Nat) (nf : Nat) (xs : Nat → Int32) (L x z0 l0 : Nat) (k18 : Int32 → CS → TS → Option Int32) (i : Int32) (s : CS) (τ : TS) : Option Int32 :=
  lcR z0 l0 (FX0_undo nf x s) fun v3 s4 =>
  bd2 (T_undo nf τ) fun v6 t7 =>
  if v3 = v6 then
  (k18 (i + 7) s4 t7)
  else (some 0)
theorem LW_c9_ok {X : KC LWS} {E : CE} {Et : TE} {b L z0 l0 zT : Nat} {xs : Nat → Int32} (T : lOK X E Et b L xs z0 l0 zT) {nf x : Nat} {k18 : Int32 → CS → TS → Option Int32} (hk18 : ∀ (i : Int32) (s : CS) (τ : TS), (cz s ≤ 1200128 + z0 ∧ cl s ≤ 5501098 + l0) → k18 i s τ = some 1 → kW X (s, τ) 18 [(3, .int i), (2, .ref (Et.2.2.2.2.1 0)), (1, .ref x), (0, .ref b)] []) {i : Int32} {s : CS} {τ : TS} (hz : cz s ≤ 1200128 + z0 ∧ cl s ≤ 5501098 + l0) (h : LW_c9 E.2.2.2 nf xs L x z0 l0 k18 i s τ = some 1) : kW X (s, τ) 567 [(3, .int i), (2, .ref (Et.2.2.2.2.1 0)), (1, .ref x), (0, .ref b)] [] := by
  unfold LW_c9 at h
  have hX := T.1
  refine k_aload_n hX dL_law_567 rfl 2 rfl ?_
  obtain ⟨v3, s4, h1, hz5, h⟩ := lcR_of h
  refine l_callC_i (σ := (s, τ)) (s' := s4) (As := []) T (met_FX0_undo _ _ _ h1) (cwV 0 T.1.2.2.2.2 (lw_V q1317 q1318 q1319 q136 q1320) rfl rfl rfl (by decide +kernel) (l_room T rfl rfl)) rfl rfl hz5 dL_law_568 ?_
  show kW X (s4, τ) 571 _ _
  refine k_aload_n hX dL_law_571 rfl 1 rfl ?_
  obtain ⟨v6, t7, h1, h⟩ := bd2_of h
  refine l_callT_i (σ := (s4, τ)) (τ' := t7) (As := []) T (met_undo T.2.2.2.2.2.2.2.2.1.1 _ _ h1) (cwV 0 T.1.2.2.2.2 (lw_V q2027 q2028 q2029 q152 q2030) rfl rfl rfl (by decide +kernel) (l_room T rfl rfl)) rfl rfl hz5 dL_law_572 ?_
  show kW X (s4, t7) 575 _ _
  refine k_icmp_eq (tgt := 1463) hX h dL_law_575 (by decide) (fun h => ?_) (fun h => ?_)
  · refine k_iinc (j := 0) [(3, .int (i + 7)), (2, .ref ((Et.2.2.2.2.1 0))), (1, .ref x), (0, .ref b)] hX dL_law_1463 rfl rfl rfl rfl ?_
    refine k_goto (tgt := 18) hX dL_law_1466 (by decide) ?_
    exact hk18 _ _ _ hz5 h
  · refine k_iconst (v := 0) hX dL_law_578 (by decide) ?_
    exact l_ret T hz5 h dL_law_579
def LW_c10 (st : Nat → Option Nat) (nf : Nat) (xs : Nat → Int32) (L x z0 l0 : Nat) (k18 : Int32 → CS → TS → Option Int32) (i : Int32) (s : CS) (τ : TS) : Option Int32 :=
  (FX0_judged nf s x).bind fun v3 =>
  bd2 (T_judged nf τ) fun v4 t5 =>
  if v3 = v4 then
  (k18 (i + 7) s t5)
  else (some 0)
theorem LW_c10_ok {X : KC LWS} {E : CE} {Et : TE} {b L z0 l0 zT : Nat} {xs : Nat → Int32} (T : lOK X E Et b L xs z0 l0 zT) {nf x : Nat} {k18 : Int32 → CS → TS → Option Int32} (hk18 : ∀ (i : Int32) (s : CS) (τ : TS), (cz s ≤ 1200128 + z0 ∧ cl s ≤ 5501098 + l0) → k18 i s τ = some 1 → kW X (s, τ) 18 [(3, .int i), (2, .ref (Et.2.2.2.2.1 0)), (1, .ref x), (0, .ref b)] []) {i : Int32} {s : CS} {τ : TS} (hz : cz s ≤ 1200128 + z0 ∧ cl s ≤ 5501098 + l0) (h : LW_c10 E.2.2.2 nf xs L x z0 l0 k18 i s τ = some 1) : kW X (s, τ) 580 [(3, .int i), (2, .ref (Et.2.2.2.2.1 0)), (1, .ref x), (0, .ref b)] [] := by
  unfold LW_c10 at h
  have hX := T.1
  refine k_aload_n hX dL_law_580 rfl 2 rfl ?_
  obtain ⟨v3, h1, h⟩ := bd_of h
  refine l_callC_i (σ := (s, τ)) (s' := s) (As := []) T (met_FX0_judged _ _ h1) (cwV 0 T.1.2.2.2.2 (lw_V q1321 q1322 q1323 q136 q1324) rfl rfl rfl (by decide +kernel) (l_room T rfl rfl)) rfl rfl hz dL_law_581 ?_
  show kW X (s, τ) 584 _ _
  refine k_aload_n hX dL_law_584 rfl 1 rfl ?_
  obtain ⟨v4, t5, h1, h⟩ := bd2_of h
  refine l_callT_i (σ := (s, τ)) (τ' := t5) (As := []) T (met_judged T.2.2.2.2.2.2.2.2.1.1 _ _ h1) (cwV 0 T.1.2.2.2.2 (lw_V q2031 q2032 q2033 q152 q2034) rfl rfl rfl (by decide +kernel) (l_room T rfl rfl)) rfl rfl hz dL_law_585 ?_
  show kW X (s, t5) 588 _ _
  refine k_icmp_eq (tgt := 1463) hX h dL_law_588 (by decide) (fun h => ?_) (fun h => ?_)
  · refine k_iinc (j := 0) [(3, .int (i + 7)), (2, .ref ((Et.2.2.2.2.1 0))), (1, .ref x), (0, .ref b)] hX dL_law_1463 rfl rfl rfl rfl ?_
    refine k_goto (tgt := 18) hX dL_law_1466 (by decide) ?_
    exact hk18 _ _ _ hz h
  · refine k_iconst (v := 0) hX dL_law_591 (by decide) ?_
    exact l_ret T hz h dL_law_592
def LW_c11 (st : Nat → Option Nat) (nf : Nat) (xs : Nat → Int32) (L x z0 l0 : Nat) (k18 : Int32 → CS → TS → Option Int32) (i : Int32) (s : CS) (τ : TS) : Option Int32 :=
  lX xs L (i + 1) fun v3 =>
  lX xs L (i + 2) fun v4 =>
  lX xs L (i + 3) fun v5 =>
  lX xs L (i + 4) fun v6 =>
  lcR z0 l0 (FX0_soonest nf x v3 v4 v5 v6 s) fun v7 s8 =>
  lX xs L (i + 1) fun v10 =>
  lX xs L (i + 2) fun v11 =>
  lX xs L (i + 3) fun v12 =>
  lX xs L (i + 4) fun v13 =>
  bd2 (T_soonest nf v10 v11 v12 v13 τ) fun v14 t15 =>
  if v7 = v14 then
  (k18 (i + 7) s8 t15)
  else (some 0)
theorem LW_c11_ok {X : KC LWS} {E : CE} {Et : TE} {b L z0 l0 zT : Nat} {xs : Nat → Int32} (T : lOK X E Et b L xs z0 l0 zT) {nf x : Nat} {k18 : Int32 → CS → TS → Option Int32} (hk18 : ∀ (i : Int32) (s : CS) (τ : TS), (cz s ≤ 1200128 + z0 ∧ cl s ≤ 5501098 + l0) → k18 i s τ = some 1 → kW X (s, τ) 18 [(3, .int i), (2, .ref (Et.2.2.2.2.1 0)), (1, .ref x), (0, .ref b)] []) {i : Int32} {s : CS} {τ : TS} (hz : cz s ≤ 1200128 + z0 ∧ cl s ≤ 5501098 + l0) (h : LW_c11 E.2.2.2 nf xs L x z0 l0 k18 i s τ = some 1) : kW X (s, τ) 593 [(3, .int i), (2, .ref (Et.2.2.2.2.1 0)), (1, .ref x), (0, .ref b)] [] := by
  unfold LW_c11 at h
  have hX := T.1
  refine k_aload_n hX dL_law_593 rfl 2 rfl ?_
  refine k_aload_n hX dL_law_594 rfl 3 rfl ?_
  refine k_iload_n hX dL_law_595 rfl 0 rfl ?_
  refine k_iconst (v := 1) hX dL_law_596 (by decide) ?_
  refine k_iadd hX dL_law_597 ?_
  refine l_sld T h dL_law_598 (fun v3 h => ?_)
  refine k_aload_n hX dL_law_599 rfl 3 rfl ?_
  refine k_iload_n hX dL_law_600 rfl 0 rfl ?_
  refine k_iconst (v := 2) hX dL_law_601 (by decide) ?_
  refine k_iadd hX dL_law_602 ?_
  refine l_sld T h dL_law_603 (fun v4 h => ?_)
  refine k_aload_n hX dL_law_604 rfl 3 rfl ?_
  refine k_iload_n hX dL_law_605 rfl 0 rfl ?_
  refine k_iconst (v := 3) hX dL_law_606 (by decide) ?_
  refine k_iadd hX dL_law_607 ?_
  refine l_sld T h dL_law_608 (fun v5 h => ?_)
  refine k_aload_n hX dL_law_609 rfl 3 rfl ?_
  refine k_iload_n hX dL_law_610 rfl 0 rfl ?_
  refine k_iconst (v := 4) hX dL_law_611 (by decide) ?_
  refine k_iadd hX dL_law_612 ?_
  refine l_sld T h dL_law_613 (fun v6 h => ?_)
  obtain ⟨v7, s8, h1, hz9, h⟩ := lcR_of h
  refine l_callC_i (σ := (s, τ)) (s' := s8) (As := [.int v3, .int v4, .int v5, .int v6]) T (met_FX0_soonest _ _ _ _ _ _ _ h1) (cwV 4 T.1.2.2.2.2 (lw_V q1329 q1330 q1331 q136 q1332) rfl rfl rfl (by decide +kernel) (l_room T rfl rfl)) rfl rfl hz9 dL_law_614 ?_
  show kW X (s8, τ) 617 _ _
  refine k_aload_n hX dL_law_617 rfl 1 rfl ?_
  refine k_aload_n hX dL_law_618 rfl 3 rfl ?_
  refine k_iload_n hX dL_law_619 rfl 0 rfl ?_
  refine k_iconst (v := 1) hX dL_law_620 (by decide) ?_
  refine k_iadd hX dL_law_621 ?_
  refine l_sld T h dL_law_622 (fun v10 h => ?_)
  refine k_aload_n hX dL_law_623 rfl 3 rfl ?_
  refine k_iload_n hX dL_law_624 rfl 0 rfl ?_
  refine k_iconst (v := 2) hX dL_law_625 (by decide) ?_
  refine k_iadd hX dL_law_626 ?_
  refine l_sld T h dL_law_627 (fun v11 h => ?_)
  refine k_aload_n hX dL_law_628 rfl 3 rfl ?_
  refine k_iload_n hX dL_law_629 rfl 0 rfl ?_
  refine k_iconst (v := 3) hX dL_law_630 (by decide) ?_
  refine k_iadd hX dL_law_631 ?_
  refine l_sld T h dL_law_632 (fun v12 h => ?_)
  refine k_aload_n hX dL_law_633 rfl 3 rfl ?_
  refine k_iload_n hX dL_law_634 rfl 0 rfl ?_
  refine k_iconst (v := 4) hX dL_law_635 (by decide) ?_
  refine k_iadd hX dL_law_636 ?_
  refine l_sld T h dL_law_637 (fun v13 h => ?_)
  obtain ⟨v14, t15, h1, h⟩ := bd2_of h
  refine l_callT_i (σ := (s8, τ)) (τ' := t15) (As := [.int v10, .int v11, .int v12, .int v13]) T (met_soonest T.2.2.2.2.2.2.2.2.1.1 _ _ _ _ _ _ h1) (cwV 4 T.1.2.2.2.2 (lw_V q2035 q2036 q2037 q152 q2038) rfl rfl rfl (by decide +kernel) (l_room T rfl rfl)) rfl rfl hz9 dL_law_638 ?_
  show kW X (s8, t15) 641 _ _
  refine k_icmp_eq (tgt := 1463) hX h dL_law_641 (by decide) (fun h => ?_) (fun h => ?_)
  · refine k_iinc (j := 0) [(3, .int (i + 7)), (2, .ref ((Et.2.2.2.2.1 0))), (1, .ref x), (0, .ref b)] hX dL_law_1463 rfl rfl rfl rfl ?_
    refine k_goto (tgt := 18) hX dL_law_1466 (by decide) ?_
    exact hk18 _ _ _ hz9 h
  · refine k_iconst (v := 0) hX dL_law_644 (by decide) ?_
    exact l_ret T hz9 h dL_law_645
def LW_c12 (st : Nat → Option Nat) (nf : Nat) (xs : Nat → Int32) (L x z0 l0 : Nat) (k18 : Int32 → CS → TS → Option Int32) (i : Int32) (s : CS) (τ : TS) : Option Int32 :=
  lX xs L (i + 1) fun v3 =>
  lX xs L (i + 2) fun v4 =>
  lX xs L (i + 3) fun v5 =>
  lX xs L (i + 4) fun v6 =>
  lcR z0 l0 (FX0_mean nf x v3 v4 v5 v6 s) fun v7 s8 =>
  lX xs L (i + 1) fun v10 =>
  lX xs L (i + 2) fun v11 =>
  lX xs L (i + 3) fun v12 =>
  lX xs L (i + 4) fun v13 =>
  bd2 (T_mean nf v10 v11 v12 v13 τ) fun v14 t15 =>
  if v7 = v14 then
  (k18 (i + 7) s8 t15)
  else (some 0)
theorem LW_c12_ok {X : KC LWS} {E : CE} {Et : TE} {b L z0 l0 zT : Nat} {xs : Nat → Int32} (T : lOK X E Et b L xs z0 l0 zT) {nf x : Nat} {k18 : Int32 → CS → TS → Option Int32} (hk18 : ∀ (i : Int32) (s : CS) (τ : TS), (cz s ≤ 1200128 + z0 ∧ cl s ≤ 5501098 + l0) → k18 i s τ = some 1 → kW X (s, τ) 18 [(3, .int i), (2, .ref (Et.2.2.2.2.1 0)), (1, .ref x), (0, .ref b)] []) {i : Int32} {s : CS} {τ : TS} (hz : cz s ≤ 1200128 + z0 ∧ cl s ≤ 5501098 + l0) (h : LW_c12 E.2.2.2 nf xs L x z0 l0 k18 i s τ = some 1) : kW X (s, τ) 646 [(3, .int i), (2, .ref (Et.2.2.2.2.1 0)), (1, .ref x), (0, .ref b)] [] := by
  unfold LW_c12 at h
  have hX := T.1
  refine k_aload_n hX dL_law_646 rfl 2 rfl ?_
  refine k_aload_n hX dL_law_647 rfl 3 rfl ?_
  refine k_iload_n hX dL_law_648 rfl 0 rfl ?_
  refine k_iconst (v := 1) hX dL_law_649 (by decide) ?_
  refine k_iadd hX dL_law_650 ?_
  refine l_sld T h dL_law_651 (fun v3 h => ?_)
  refine k_aload_n hX dL_law_652 rfl 3 rfl ?_
  refine k_iload_n hX dL_law_653 rfl 0 rfl ?_
  refine k_iconst (v := 2) hX dL_law_654 (by decide) ?_
  refine k_iadd hX dL_law_655 ?_
  refine l_sld T h dL_law_656 (fun v4 h => ?_)
  refine k_aload_n hX dL_law_657 rfl 3 rfl ?_
  refine k_iload_n hX dL_law_658 rfl 0 rfl ?_
  refine k_iconst (v := 3) hX dL_law_659 (by decide) ?_
  refine k_iadd hX dL_law_660 ?_
  refine l_sld T h dL_law_661 (fun v5 h => ?_)
  refine k_aload_n hX dL_law_662 rfl 3 rfl ?_
  refine k_iload_n hX dL_law_663 rfl 0 rfl ?_
  refine k_iconst (v := 4) hX dL_law_664 (by decide) ?_
  refine k_iadd hX dL_law_665 ?_
  refine l_sld T h dL_law_666 (fun v6 h => ?_)
  obtain ⟨v7, s8, h1, hz9, h⟩ := lcR_of h
  refine l_callC_i (σ := (s, τ)) (s' := s8) (As := [.int v3, .int v4, .int v5, .int v6]) T (met_FX0_mean _ _ _ _ _ _ _ h1) (cwV 4 T.1.2.2.2.2 (lw_V q1441 q1442 q1443 q136 q1444) rfl rfl rfl (by decide +kernel) (l_room T rfl rfl)) rfl rfl hz9 dL_law_667 ?_
  show kW X (s8, τ) 670 _ _
  refine k_aload_n hX dL_law_670 rfl 1 rfl ?_
  refine k_aload_n hX dL_law_671 rfl 3 rfl ?_
  refine k_iload_n hX dL_law_672 rfl 0 rfl ?_
  refine k_iconst (v := 1) hX dL_law_673 (by decide) ?_
  refine k_iadd hX dL_law_674 ?_
  refine l_sld T h dL_law_675 (fun v10 h => ?_)
  refine k_aload_n hX dL_law_676 rfl 3 rfl ?_
  refine k_iload_n hX dL_law_677 rfl 0 rfl ?_
  refine k_iconst (v := 2) hX dL_law_678 (by decide) ?_
  refine k_iadd hX dL_law_679 ?_
  refine l_sld T h dL_law_680 (fun v11 h => ?_)
  refine k_aload_n hX dL_law_681 rfl 3 rfl ?_
  refine k_iload_n hX dL_law_682 rfl 0 rfl ?_
  refine k_iconst (v := 3) hX dL_law_683 (by decide) ?_
  refine k_iadd hX dL_law_684 ?_
  refine l_sld T h dL_law_685 (fun v12 h => ?_)
  refine k_aload_n hX dL_law_686 rfl 3 rfl ?_
  refine k_iload_n hX dL_law_687 rfl 0 rfl ?_
  refine k_iconst (v := 4) hX dL_law_688 (by decide) ?_
  refine k_iadd hX dL_law_689 ?_
  refine l_sld T h dL_law_690 (fun v13 h => ?_)
  obtain ⟨v14, t15, h1, h⟩ := bd2_of h
  refine l_callT_i (σ := (s8, τ)) (τ' := t15) (As := [.int v10, .int v11, .int v12, .int v13]) T (met_mean T.2.2.2.2.2.2.2.2.1.1 _ _ _ _ _ _ h1) (cwV 4 T.1.2.2.2.2 (lw_V q2064 q2065 q2066 q152 q2067) rfl rfl rfl (by decide +kernel) (l_room T rfl rfl)) rfl rfl hz9 dL_law_691 ?_
  show kW X (s8, t15) 694 _ _
  refine k_icmp_eq (tgt := 1463) hX h dL_law_694 (by decide) (fun h => ?_) (fun h => ?_)
  · refine k_iinc (j := 0) [(3, .int (i + 7)), (2, .ref ((Et.2.2.2.2.1 0))), (1, .ref x), (0, .ref b)] hX dL_law_1463 rfl rfl rfl rfl ?_
    refine k_goto (tgt := 18) hX dL_law_1466 (by decide) ?_
    exact hk18 _ _ _ hz9 h
  · refine k_iconst (v := 0) hX dL_law_697 (by decide) ?_
    exact l_ret T hz9 h dL_law_698
def LW_c13 (st : Nat → Option Nat) (nf : Nat) (xs : Nat → Int32) (L x z0 l0 : Nat) (k18 : Int32 → CS → TS → Option Int32) (i : Int32) (s : CS) (τ : TS) : Option Int32 :=
  lX xs L (i + 1) fun v3 =>
  lX xs L (i + 2) fun v4 =>
  lX xs L (i + 3) fun v5 =>
  lX xs L (i + 4) fun v6 =>
  lcR z0 l0 (FX0_worst nf x v3 v4 v5 v6 s) fun v7 s8 =>
  lX xs L (i + 1) fun v10 =>
  lX xs L (i + 2) fun v11 =>
  lX xs L (i + 3) fun v12 =>
  lX xs L (i + 4) fun v13 =>
  bd2 (T_worst nf v10 v11 v12 v13 τ) fun v14 t15 =>
  if v7 = v14 then
  (k18 (i + 7) s8 t15)
  else (some 0)
theorem LW_c13_ok {X : KC LWS} {E : CE} {Et : TE} {b L z0 l0 zT : Nat} {xs : Nat → Int32} (T : lOK X E Et b L xs z0 l0 zT) {nf x : Nat} {k18 : Int32 → CS → TS → Option Int32} (hk18 : ∀ (i : Int32) (s : CS) (τ : TS), (cz s ≤ 1200128 + z0 ∧ cl s ≤ 5501098 + l0) → k18 i s τ = some 1 → kW X (s, τ) 18 [(3, .int i), (2, .ref (Et.2.2.2.2.1 0)), (1, .ref x), (0, .ref b)] []) {i : Int32} {s : CS} {τ : TS} (hz : cz s ≤ 1200128 + z0 ∧ cl s ≤ 5501098 + l0) (h : LW_c13 E.2.2.2 nf xs L x z0 l0 k18 i s τ = some 1) : kW X (s, τ) 699 [(3, .int i), (2, .ref (Et.2.2.2.2.1 0)), (1, .ref x), (0, .ref b)] [] := by
  unfold LW_c13 at h
  have hX := T.1
  refine k_aload_n hX dL_law_699 rfl 2 rfl ?_
  refine k_aload_n hX dL_law_700 rfl 3 rfl ?_
  refine k_iload_n hX dL_law_701 rfl 0 rfl ?_
  refine k_iconst (v := 1) hX dL_law_702 (by decide) ?_
  refine k_iadd hX dL_law_703 ?_
  refine l_sld T h dL_law_704 (fun v3 h => ?_)
  refine k_aload_n hX dL_law_705 rfl 3 rfl ?_
  refine k_iload_n hX dL_law_706 rfl 0 rfl ?_
  refine k_iconst (v := 2) hX dL_law_707 (by decide) ?_
  refine k_iadd hX dL_law_708 ?_
  refine l_sld T h dL_law_709 (fun v4 h => ?_)
  refine k_aload_n hX dL_law_710 rfl 3 rfl ?_
  refine k_iload_n hX dL_law_711 rfl 0 rfl ?_
  refine k_iconst (v := 3) hX dL_law_712 (by decide) ?_
  refine k_iadd hX dL_law_713 ?_
  refine l_sld T h dL_law_714 (fun v5 h => ?_)
  refine k_aload_n hX dL_law_715 rfl 3 rfl ?_
  refine k_iload_n hX dL_law_716 rfl 0 rfl ?_
  refine k_iconst (v := 4) hX dL_law_717 (by decide) ?_
  refine k_iadd hX dL_law_718 ?_
  refine l_sld T h dL_law_719 (fun v6 h => ?_)
  obtain ⟨v7, s8, h1, hz9, h⟩ := lcR_of h
  refine l_callC_i (σ := (s, τ)) (s' := s8) (As := [.int v3, .int v4, .int v5, .int v6]) T (met_FX0_worst _ _ _ _ _ _ _ h1) (cwV 4 T.1.2.2.2.2 (lw_V q1450 q1451 q1452 q136 q1453) rfl rfl rfl (by decide +kernel) (l_room T rfl rfl)) rfl rfl hz9 dL_law_720 ?_
  show kW X (s8, τ) 723 _ _
  refine k_aload_n hX dL_law_723 rfl 1 rfl ?_
  refine k_aload_n hX dL_law_724 rfl 3 rfl ?_
  refine k_iload_n hX dL_law_725 rfl 0 rfl ?_
  refine k_iconst (v := 1) hX dL_law_726 (by decide) ?_
  refine k_iadd hX dL_law_727 ?_
  refine l_sld T h dL_law_728 (fun v10 h => ?_)
  refine k_aload_n hX dL_law_729 rfl 3 rfl ?_
  refine k_iload_n hX dL_law_730 rfl 0 rfl ?_
  refine k_iconst (v := 2) hX dL_law_731 (by decide) ?_
  refine k_iadd hX dL_law_732 ?_
  refine l_sld T h dL_law_733 (fun v11 h => ?_)
  refine k_aload_n hX dL_law_734 rfl 3 rfl ?_
  refine k_iload_n hX dL_law_735 rfl 0 rfl ?_
  refine k_iconst (v := 3) hX dL_law_736 (by decide) ?_
  refine k_iadd hX dL_law_737 ?_
  refine l_sld T h dL_law_738 (fun v12 h => ?_)
  refine k_aload_n hX dL_law_739 rfl 3 rfl ?_
  refine k_iload_n hX dL_law_740 rfl 0 rfl ?_
  refine k_iconst (v := 4) hX dL_law_741 (by decide) ?_
  refine k_iadd hX dL_law_742 ?_
  refine l_sld T h dL_law_743 (fun v13 h => ?_)
  obtain ⟨v14, t15, h1, h⟩ := bd2_of h
  refine l_callT_i (σ := (s8, τ)) (τ' := t15) (As := [.int v10, .int v11, .int v12, .int v13]) T (met_worst T.2.2.2.2.2.2.2.2.1.1 _ _ _ _ _ _ h1) (cwV 4 T.1.2.2.2.2 (lw_V q2111 q2112 q2113 q152 q2114) rfl rfl rfl (by decide +kernel) (l_room T rfl rfl)) rfl rfl hz9 dL_law_744 ?_
  show kW X (s8, t15) 747 _ _
  refine k_icmp_eq (tgt := 1463) hX h dL_law_747 (by decide) (fun h => ?_) (fun h => ?_)
  · refine k_iinc (j := 0) [(3, .int (i + 7)), (2, .ref ((Et.2.2.2.2.1 0))), (1, .ref x), (0, .ref b)] hX dL_law_1463 rfl rfl rfl rfl ?_
    refine k_goto (tgt := 18) hX dL_law_1466 (by decide) ?_
    exact hk18 _ _ _ hz9 h
  · refine k_iconst (v := 0) hX dL_law_750 (by decide) ?_
    exact l_ret T hz9 h dL_law_751
def LW_c14 (st : Nat → Option Nat) (nf : Nat) (xs : Nat → Int32) (L x z0 l0 : Nat) (k18 : Int32 → CS → TS → Option Int32) (i : Int32) (s : CS) (τ : TS) : Option Int32 :=
  lX xs L (i + 1) fun v3 =>
  lX xs L (i + 2) fun v4 =>
  lX xs L (i + 3) fun v5 =>
  lX xs L (i + 4) fun v6 =>
  lcR z0 l0 (FX0_choice nf x v3 v4 v5 v6 s) fun v7 s8 =>
  lX xs L (i + 1) fun v10 =>
  lX xs L (i + 2) fun v11 =>
  lX xs L (i + 3) fun v12 =>
  lX xs L (i + 4) fun v13 =>
  bd2 (T_choice nf v10 v11 v12 v13 τ) fun v14 t15 =>
  if v7 = v14 then
  (k18 (i + 7) s8 t15)
  else (some 0)
theorem LW_c14_ok {X : KC LWS} {E : CE} {Et : TE} {b L z0 l0 zT : Nat} {xs : Nat → Int32} (T : lOK X E Et b L xs z0 l0 zT) {nf x : Nat} {k18 : Int32 → CS → TS → Option Int32} (hk18 : ∀ (i : Int32) (s : CS) (τ : TS), (cz s ≤ 1200128 + z0 ∧ cl s ≤ 5501098 + l0) → k18 i s τ = some 1 → kW X (s, τ) 18 [(3, .int i), (2, .ref (Et.2.2.2.2.1 0)), (1, .ref x), (0, .ref b)] []) {i : Int32} {s : CS} {τ : TS} (hz : cz s ≤ 1200128 + z0 ∧ cl s ≤ 5501098 + l0) (h : LW_c14 E.2.2.2 nf xs L x z0 l0 k18 i s τ = some 1) : kW X (s, τ) 752 [(3, .int i), (2, .ref (Et.2.2.2.2.1 0)), (1, .ref x), (0, .ref b)] [] := by
  unfold LW_c14 at h
  have hX := T.1
  refine k_aload_n hX dL_law_752 rfl 2 rfl ?_
  refine k_aload_n hX dL_law_753 rfl 3 rfl ?_
  refine k_iload_n hX dL_law_754 rfl 0 rfl ?_
  refine k_iconst (v := 1) hX dL_law_755 (by decide) ?_
  refine k_iadd hX dL_law_756 ?_
  refine l_sld T h dL_law_757 (fun v3 h => ?_)
  refine k_aload_n hX dL_law_758 rfl 3 rfl ?_
  refine k_iload_n hX dL_law_759 rfl 0 rfl ?_
  refine k_iconst (v := 2) hX dL_law_760 (by decide) ?_
  refine k_iadd hX dL_law_761 ?_
  refine l_sld T h dL_law_762 (fun v4 h => ?_)
  refine k_aload_n hX dL_law_763 rfl 3 rfl ?_
  refine k_iload_n hX dL_law_764 rfl 0 rfl ?_
  refine k_iconst (v := 3) hX dL_law_765 (by decide) ?_
  refine k_iadd hX dL_law_766 ?_
  refine l_sld T h dL_law_767 (fun v5 h => ?_)
  refine k_aload_n hX dL_law_768 rfl 3 rfl ?_
  refine k_iload_n hX dL_law_769 rfl 0 rfl ?_
  refine k_iconst (v := 4) hX dL_law_770 (by decide) ?_
  refine k_iadd hX dL_law_771 ?_
  refine l_sld T h dL_law_772 (fun v6 h => ?_)
  obtain ⟨v7, s8, h1, hz9, h⟩ := lcR_of h
  refine l_callC_i (σ := (s, τ)) (s' := s8) (As := [.int v3, .int v4, .int v5, .int v6]) T (met_FX0_choice _ _ _ _ _ _ _ h1) (cwV 4 T.1.2.2.2.2 (lw_V q1454 q1455 q1456 q136 q1457) rfl rfl rfl (by decide +kernel) (l_room T rfl rfl)) rfl rfl hz9 dL_law_773 ?_
  show kW X (s8, τ) 776 _ _
  refine k_aload_n hX dL_law_776 rfl 1 rfl ?_
  refine k_aload_n hX dL_law_777 rfl 3 rfl ?_
  refine k_iload_n hX dL_law_778 rfl 0 rfl ?_
  refine k_iconst (v := 1) hX dL_law_779 (by decide) ?_
  refine k_iadd hX dL_law_780 ?_
  refine l_sld T h dL_law_781 (fun v10 h => ?_)
  refine k_aload_n hX dL_law_782 rfl 3 rfl ?_
  refine k_iload_n hX dL_law_783 rfl 0 rfl ?_
  refine k_iconst (v := 2) hX dL_law_784 (by decide) ?_
  refine k_iadd hX dL_law_785 ?_
  refine l_sld T h dL_law_786 (fun v11 h => ?_)
  refine k_aload_n hX dL_law_787 rfl 3 rfl ?_
  refine k_iload_n hX dL_law_788 rfl 0 rfl ?_
  refine k_iconst (v := 3) hX dL_law_789 (by decide) ?_
  refine k_iadd hX dL_law_790 ?_
  refine l_sld T h dL_law_791 (fun v12 h => ?_)
  refine k_aload_n hX dL_law_792 rfl 3 rfl ?_
  refine k_iload_n hX dL_law_793 rfl 0 rfl ?_
  refine k_iconst (v := 4) hX dL_law_794 (by decide) ?_
  refine k_iadd hX dL_law_795 ?_
  refine l_sld T h dL_law_796 (fun v13 h => ?_)
  obtain ⟨v14, t15, h1, h⟩ := bd2_of h
  refine l_callT_i (σ := (s8, τ)) (τ' := t15) (As := [.int v10, .int v11, .int v12, .int v13]) T (met_choice T.2.2.2.2.2.2.2.2.1.1 _ _ _ _ _ _ h1) (cwV 4 T.1.2.2.2.2 (lw_V q2115 q2116 q2117 q152 q2118) rfl rfl rfl (by decide +kernel) (l_room T rfl rfl)) rfl rfl hz9 dL_law_797 ?_
  show kW X (s8, t15) 800 _ _
  refine k_icmp_eq (tgt := 1463) hX h dL_law_800 (by decide) (fun h => ?_) (fun h => ?_)
  · refine k_iinc (j := 0) [(3, .int (i + 7)), (2, .ref ((Et.2.2.2.2.1 0))), (1, .ref x), (0, .ref b)] hX dL_law_1463 rfl rfl rfl rfl ?_
    refine k_goto (tgt := 18) hX dL_law_1466 (by decide) ?_
    exact hk18 _ _ _ hz9 h
  · refine k_iconst (v := 0) hX dL_law_803 (by decide) ?_
    exact l_ret T hz9 h dL_law_804
def LW_c15 (st : Nat → Option Nat) (nf : Nat) (xs : Nat → Int32) (L x z0 l0 : Nat) (k18 : Int32 → CS → TS → Option Int32) (i : Int32) (s : CS) (τ : TS) : Option Int32 :=
  lX xs L (i + 1) fun v3 =>
  lX xs L (i + 2) fun v4 =>
  lX xs L (i + 3) fun v5 =>
  lcR z0 l0 (FX0_gap nf x v3 v4 v5 s) fun v6 s7 =>
  lX xs L (i + 1) fun v9 =>
  lX xs L (i + 2) fun v10 =>
  lX xs L (i + 3) fun v11 =>
  bd2 (T_gap nf v9 v10 v11 τ) fun v12 t13 =>
  if v6 = v12 then
  (k18 (i + 7) s7 t13)
  else (some 0)
theorem LW_c15_ok {X : KC LWS} {E : CE} {Et : TE} {b L z0 l0 zT : Nat} {xs : Nat → Int32} (T : lOK X E Et b L xs z0 l0 zT) {nf x : Nat} {k18 : Int32 → CS → TS → Option Int32} (hk18 : ∀ (i : Int32) (s : CS) (τ : TS), (cz s ≤ 1200128 + z0 ∧ cl s ≤ 5501098 + l0) → k18 i s τ = some 1 → kW X (s, τ) 18 [(3, .int i), (2, .ref (Et.2.2.2.2.1 0)), (1, .ref x), (0, .ref b)] []) {i : Int32} {s : CS} {τ : TS} (hz : cz s ≤ 1200128 + z0 ∧ cl s ≤ 5501098 + l0) (h : LW_c15 E.2.2.2 nf xs L x z0 l0 k18 i s τ = some 1) : kW X (s, τ) 805 [(3, .int i), (2, .ref (Et.2.2.2.2.1 0)), (1, .ref x), (0, .ref b)] [] := by
  unfold LW_c15 at h
  have hX := T.1
  refine k_aload_n hX dL_law_805 rfl 2 rfl ?_
  refine k_aload_n hX dL_law_806 rfl 3 rfl ?_
  refine k_iload_n hX dL_law_807 rfl 0 rfl ?_
  refine k_iconst (v := 1) hX dL_law_808 (by decide) ?_
  refine k_iadd hX dL_law_809 ?_
  refine l_sld T h dL_law_810 (fun v3 h => ?_)
  refine k_aload_n hX dL_law_811 rfl 3 rfl ?_
  refine k_iload_n hX dL_law_812 rfl 0 rfl ?_
  refine k_iconst (v := 2) hX dL_law_813 (by decide) ?_
  refine k_iadd hX dL_law_814 ?_
  refine l_sld T h dL_law_815 (fun v4 h => ?_)
  refine k_aload_n hX dL_law_816 rfl 3 rfl ?_
  refine k_iload_n hX dL_law_817 rfl 0 rfl ?_
  refine k_iconst (v := 3) hX dL_law_818 (by decide) ?_
  refine k_iadd hX dL_law_819 ?_
  refine l_sld T h dL_law_820 (fun v5 h => ?_)
  obtain ⟨v6, s7, h1, hz8, h⟩ := lcR_of h
  refine l_callC_i (σ := (s, τ)) (s' := s7) (As := [.int v3, .int v4, .int v5]) T (met_FX0_gap _ _ _ _ _ _ h1) (cwV 3 T.1.2.2.2.2 (lw_V q1458 q1459 q1460 q136 q1461) rfl rfl rfl (by decide +kernel) (l_room T rfl rfl)) rfl rfl hz8 dL_law_821 ?_
  show kW X (s7, τ) 824 _ _
  refine k_aload_n hX dL_law_824 rfl 1 rfl ?_
  refine k_aload_n hX dL_law_825 rfl 3 rfl ?_
  refine k_iload_n hX dL_law_826 rfl 0 rfl ?_
  refine k_iconst (v := 1) hX dL_law_827 (by decide) ?_
  refine k_iadd hX dL_law_828 ?_
  refine l_sld T h dL_law_829 (fun v9 h => ?_)
  refine k_aload_n hX dL_law_830 rfl 3 rfl ?_
  refine k_iload_n hX dL_law_831 rfl 0 rfl ?_
  refine k_iconst (v := 2) hX dL_law_832 (by decide) ?_
  refine k_iadd hX dL_law_833 ?_
  refine l_sld T h dL_law_834 (fun v10 h => ?_)
  refine k_aload_n hX dL_law_835 rfl 3 rfl ?_
  refine k_iload_n hX dL_law_836 rfl 0 rfl ?_
  refine k_iconst (v := 3) hX dL_law_837 (by decide) ?_
  refine k_iadd hX dL_law_838 ?_
  refine l_sld T h dL_law_839 (fun v11 h => ?_)
  obtain ⟨v12, t13, h1, h⟩ := bd2_of h
  refine l_callT_i (σ := (s7, τ)) (τ' := t13) (As := [.int v9, .int v10, .int v11]) T (met_gap T.2.2.2.2.2.2.2.2.1.1 _ _ _ _ _ h1) (cwV 3 T.1.2.2.2.2 (lw_V q2119 q2120 q2121 q152 q2122) rfl rfl rfl (by decide +kernel) (l_room T rfl rfl)) rfl rfl hz8 dL_law_840 ?_
  show kW X (s7, t13) 843 _ _
  refine k_icmp_eq (tgt := 1463) hX h dL_law_843 (by decide) (fun h => ?_) (fun h => ?_)
  · refine k_iinc (j := 0) [(3, .int (i + 7)), (2, .ref ((Et.2.2.2.2.1 0))), (1, .ref x), (0, .ref b)] hX dL_law_1463 rfl rfl rfl rfl ?_
    refine k_goto (tgt := 18) hX dL_law_1466 (by decide) ?_
    exact hk18 _ _ _ hz8 h
  · refine k_iconst (v := 0) hX dL_law_846 (by decide) ?_
    exact l_ret T hz8 h dL_law_847
def LW_c16 (st : Nat → Option Nat) (nf : Nat) (xs : Nat → Int32) (L x z0 l0 : Nat) (k18 : Int32 → CS → TS → Option Int32) (i : Int32) (s : CS) (τ : TS) : Option Int32 :=
  lX xs L (i + 1) fun v3 =>
  lX xs L (i + 2) fun v4 =>
  lX xs L (i + 3) fun v5 =>
  lcR z0 l0 (FX0_watch nf x v3 v4 v5 s) fun v6 s7 =>
  lX xs L (i + 1) fun v9 =>
  lX xs L (i + 2) fun v10 =>
  lX xs L (i + 3) fun v11 =>
  bd2 (T_watch nf v9 v10 v11 τ) fun v12 t13 =>
  if v6 = v12 then
  (k18 (i + 7) s7 t13)
  else (some 0)
theorem LW_c16_ok {X : KC LWS} {E : CE} {Et : TE} {b L z0 l0 zT : Nat} {xs : Nat → Int32} (T : lOK X E Et b L xs z0 l0 zT) {nf x : Nat} {k18 : Int32 → CS → TS → Option Int32} (hk18 : ∀ (i : Int32) (s : CS) (τ : TS), (cz s ≤ 1200128 + z0 ∧ cl s ≤ 5501098 + l0) → k18 i s τ = some 1 → kW X (s, τ) 18 [(3, .int i), (2, .ref (Et.2.2.2.2.1 0)), (1, .ref x), (0, .ref b)] []) {i : Int32} {s : CS} {τ : TS} (hz : cz s ≤ 1200128 + z0 ∧ cl s ≤ 5501098 + l0) (h : LW_c16 E.2.2.2 nf xs L x z0 l0 k18 i s τ = some 1) : kW X (s, τ) 848 [(3, .int i), (2, .ref (Et.2.2.2.2.1 0)), (1, .ref x), (0, .ref b)] [] := by
  unfold LW_c16 at h
  have hX := T.1
  refine k_aload_n hX dL_law_848 rfl 2 rfl ?_
  refine k_aload_n hX dL_law_849 rfl 3 rfl ?_
  refine k_iload_n hX dL_law_850 rfl 0 rfl ?_
  refine k_iconst (v := 1) hX dL_law_851 (by decide) ?_
  refine k_iadd hX dL_law_852 ?_
  refine l_sld T h dL_law_853 (fun v3 h => ?_)
  refine k_aload_n hX dL_law_854 rfl 3 rfl ?_
  refine k_iload_n hX dL_law_855 rfl 0 rfl ?_
  refine k_iconst (v := 2) hX dL_law_856 (by decide) ?_
  refine k_iadd hX dL_law_857 ?_
  refine l_sld T h dL_law_858 (fun v4 h => ?_)
  refine k_aload_n hX dL_law_859 rfl 3 rfl ?_
  refine k_iload_n hX dL_law_860 rfl 0 rfl ?_
  refine k_iconst (v := 3) hX dL_law_861 (by decide) ?_
  refine k_iadd hX dL_law_862 ?_
  refine l_sld T h dL_law_863 (fun v5 h => ?_)
  obtain ⟨v6, s7, h1, hz8, h⟩ := lcR_of h
  refine l_callC_i (σ := (s, τ)) (s' := s7) (As := [.int v3, .int v4, .int v5]) T (met_FX0_watch _ _ _ _ _ _ h1) (cwV 3 T.1.2.2.2.2 (lw_V q1463 q1464 q1465 q136 q1466) rfl rfl rfl (by decide +kernel) (l_room T rfl rfl)) rfl rfl hz8 dL_law_864 ?_
  show kW X (s7, τ) 867 _ _
  refine k_aload_n hX dL_law_867 rfl 1 rfl ?_
  refine k_aload_n hX dL_law_868 rfl 3 rfl ?_
  refine k_iload_n hX dL_law_869 rfl 0 rfl ?_
  refine k_iconst (v := 1) hX dL_law_870 (by decide) ?_
  refine k_iadd hX dL_law_871 ?_
  refine l_sld T h dL_law_872 (fun v9 h => ?_)
  refine k_aload_n hX dL_law_873 rfl 3 rfl ?_
  refine k_iload_n hX dL_law_874 rfl 0 rfl ?_
  refine k_iconst (v := 2) hX dL_law_875 (by decide) ?_
  refine k_iadd hX dL_law_876 ?_
  refine l_sld T h dL_law_877 (fun v10 h => ?_)
  refine k_aload_n hX dL_law_878 rfl 3 rfl ?_
  refine k_iload_n hX dL_law_879 rfl 0 rfl ?_
  refine k_iconst (v := 3) hX dL_law_880 (by decide) ?_
  refine k_iadd hX dL_law_881 ?_
  refine l_sld T h dL_law_882 (fun v11 h => ?_)
  obtain ⟨v12, t13, h1, h⟩ := bd2_of h
  refine l_callT_i (σ := (s7, τ)) (τ' := t13) (As := [.int v9, .int v10, .int v11]) T (met_watch T.2.2.2.2.2.2.2.2.1.1 _ _ _ _ _ h1) (cwV 3 T.1.2.2.2.2 (lw_V q2123 q2124 q2125 q152 q2126) rfl rfl rfl (by decide +kernel) (l_room T rfl rfl)) rfl rfl hz8 dL_law_883 ?_
  show kW X (s7, t13) 886 _ _
  refine k_icmp_eq (tgt := 1463) hX h dL_law_886 (by decide) (fun h => ?_) (fun h => ?_)
  · refine k_iinc (j := 0) [(3, .int (i + 7)), (2, .ref ((Et.2.2.2.2.1 0))), (1, .ref x), (0, .ref b)] hX dL_law_1463 rfl rfl rfl rfl ?_
    refine k_goto (tgt := 18) hX dL_law_1466 (by decide) ?_
    exact hk18 _ _ _ hz8 h
  · refine k_iconst (v := 0) hX dL_law_889 (by decide) ?_
    exact l_ret T hz8 h dL_law_890
def LW_c17 (st : Nat → Option Nat) (nf : Nat) (xs : Nat → Int32) (L x z0 l0 : Nat) (k18 : Int32 → CS → TS → Option Int32) (i : Int32) (s : CS) (τ : TS) : Option Int32 :=
  lX xs L (i + 1) fun v3 =>
  lX xs L (i + 2) fun v4 =>
  lX xs L (i + 3) fun v5 =>
  lcR z0 l0 (FX0_latest nf x v3 v4 v5 s) fun v6 s7 =>
  lX xs L (i + 1) fun v9 =>
  lX xs L (i + 2) fun v10 =>
  lX xs L (i + 3) fun v11 =>
  bd2 (T_latest nf v9 v10 v11 τ) fun v12 t13 =>
  if v6 = v12 then
  (k18 (i + 7) s7 t13)
  else (some 0)
theorem LW_c17_ok {X : KC LWS} {E : CE} {Et : TE} {b L z0 l0 zT : Nat} {xs : Nat → Int32} (T : lOK X E Et b L xs z0 l0 zT) {nf x : Nat} {k18 : Int32 → CS → TS → Option Int32} (hk18 : ∀ (i : Int32) (s : CS) (τ : TS), (cz s ≤ 1200128 + z0 ∧ cl s ≤ 5501098 + l0) → k18 i s τ = some 1 → kW X (s, τ) 18 [(3, .int i), (2, .ref (Et.2.2.2.2.1 0)), (1, .ref x), (0, .ref b)] []) {i : Int32} {s : CS} {τ : TS} (hz : cz s ≤ 1200128 + z0 ∧ cl s ≤ 5501098 + l0) (h : LW_c17 E.2.2.2 nf xs L x z0 l0 k18 i s τ = some 1) : kW X (s, τ) 891 [(3, .int i), (2, .ref (Et.2.2.2.2.1 0)), (1, .ref x), (0, .ref b)] [] := by
  unfold LW_c17 at h
  have hX := T.1
  refine k_aload_n hX dL_law_891 rfl 2 rfl ?_
  refine k_aload_n hX dL_law_892 rfl 3 rfl ?_
  refine k_iload_n hX dL_law_893 rfl 0 rfl ?_
  refine k_iconst (v := 1) hX dL_law_894 (by decide) ?_
  refine k_iadd hX dL_law_895 ?_
  refine l_sld T h dL_law_896 (fun v3 h => ?_)
  refine k_aload_n hX dL_law_897 rfl 3 rfl ?_
  refine k_iload_n hX dL_law_898 rfl 0 rfl ?_
  refine k_iconst (v := 2) hX dL_law_899 (by decide) ?_
  refine k_iadd hX dL_law_900 ?_
  refine l_sld T h dL_law_901 (fun v4 h => ?_)
  refine k_aload_n hX dL_law_902 rfl 3 rfl ?_
  refine k_iload_n hX dL_law_903 rfl 0 rfl ?_
  refine k_iconst (v := 3) hX dL_law_904 (by decide) ?_
  refine k_iadd hX dL_law_905 ?_
  refine l_sld T h dL_law_906 (fun v5 h => ?_)
  obtain ⟨v6, s7, h1, hz8, h⟩ := lcR_of h
  refine l_callC_i (σ := (s, τ)) (s' := s7) (As := [.int v3, .int v4, .int v5]) T (met_FX0_latest _ _ _ _ _ _ h1) (cwV 3 T.1.2.2.2.2 (lw_V q1418 q1419 q1420 q136 q1421) rfl rfl rfl (by decide +kernel) (l_room T rfl rfl)) rfl rfl hz8 dL_law_907 ?_
  show kW X (s7, τ) 910 _ _
  refine k_aload_n hX dL_law_910 rfl 1 rfl ?_
  refine k_aload_n hX dL_law_911 rfl 3 rfl ?_
  refine k_iload_n hX dL_law_912 rfl 0 rfl ?_
  refine k_iconst (v := 1) hX dL_law_913 (by decide) ?_
  refine k_iadd hX dL_law_914 ?_
  refine l_sld T h dL_law_915 (fun v9 h => ?_)
  refine k_aload_n hX dL_law_916 rfl 3 rfl ?_
  refine k_iload_n hX dL_law_917 rfl 0 rfl ?_
  refine k_iconst (v := 2) hX dL_law_918 (by decide) ?_
  refine k_iadd hX dL_law_919 ?_
  refine l_sld T h dL_law_920 (fun v10 h => ?_)
  refine k_aload_n hX dL_law_921 rfl 3 rfl ?_
  refine k_iload_n hX dL_law_922 rfl 0 rfl ?_
  refine k_iconst (v := 3) hX dL_law_923 (by decide) ?_
  refine k_iadd hX dL_law_924 ?_
  refine l_sld T h dL_law_925 (fun v11 h => ?_)
  obtain ⟨v12, t13, h1, h⟩ := bd2_of h
  refine l_callT_i (σ := (s7, τ)) (τ' := t13) (As := [.int v9, .int v10, .int v11]) T (met_latest T.2.2.2.2.2.2.2.2.1.1 _ _ _ _ _ h1) (cwV 3 T.1.2.2.2.2 (lw_V q2052 q2053 q2054 q152 q2055) rfl rfl rfl (by decide +kernel) (l_room T rfl rfl)) rfl rfl hz8 dL_law_926 ?_
  show kW X (s7, t13) 929 _ _
  refine k_icmp_eq (tgt := 1463) hX h dL_law_929 (by decide) (fun h => ?_) (fun h => ?_)
  · refine k_iinc (j := 0) [(3, .int (i + 7)), (2, .ref ((Et.2.2.2.2.1 0))), (1, .ref x), (0, .ref b)] hX dL_law_1463 rfl rfl rfl rfl ?_
    refine k_goto (tgt := 18) hX dL_law_1466 (by decide) ?_
    exact hk18 _ _ _ hz8 h
  · refine k_iconst (v := 0) hX dL_law_932 (by decide) ?_
    exact l_ret T hz8 h dL_law_933
def LW_c18 (st : Nat → Option Nat) (nf : Nat) (xs : Nat → Int32) (L x z0 l0 : Nat) (k18 : Int32 → CS → TS → Option Int32) (i : Int32) (s : CS) (τ : TS) : Option Int32 :=
  lX xs L (i + 1) fun v3 =>
  lX xs L (i + 2) fun v4 =>
  lcR z0 l0 (FX0_turning nf x v3 v4 s) fun v5 s6 =>
  lX xs L (i + 1) fun v8 =>
  lX xs L (i + 2) fun v9 =>
  bd2 (T_turning nf v8 v9 τ) fun v10 t11 =>
  if v5 = v10 then
  (k18 (i + 7) s6 t11)
  else (some 0)
theorem LW_c18_ok {X : KC LWS} {E : CE} {Et : TE} {b L z0 l0 zT : Nat} {xs : Nat → Int32} (T : lOK X E Et b L xs z0 l0 zT) {nf x : Nat} {k18 : Int32 → CS → TS → Option Int32} (hk18 : ∀ (i : Int32) (s : CS) (τ : TS), (cz s ≤ 1200128 + z0 ∧ cl s ≤ 5501098 + l0) → k18 i s τ = some 1 → kW X (s, τ) 18 [(3, .int i), (2, .ref (Et.2.2.2.2.1 0)), (1, .ref x), (0, .ref b)] []) {i : Int32} {s : CS} {τ : TS} (hz : cz s ≤ 1200128 + z0 ∧ cl s ≤ 5501098 + l0) (h : LW_c18 E.2.2.2 nf xs L x z0 l0 k18 i s τ = some 1) : kW X (s, τ) 934 [(3, .int i), (2, .ref (Et.2.2.2.2.1 0)), (1, .ref x), (0, .ref b)] [] := by
  unfold LW_c18 at h
  have hX := T.1
  refine k_aload_n hX dL_law_934 rfl 2 rfl ?_
  refine k_aload_n hX dL_law_935 rfl 3 rfl ?_
  refine k_iload_n hX dL_law_936 rfl 0 rfl ?_
  refine k_iconst (v := 1) hX dL_law_937 (by decide) ?_
  refine k_iadd hX dL_law_938 ?_
  refine l_sld T h dL_law_939 (fun v3 h => ?_)
  refine k_aload_n hX dL_law_940 rfl 3 rfl ?_
  refine k_iload_n hX dL_law_941 rfl 0 rfl ?_
  refine k_iconst (v := 2) hX dL_law_942 (by decide) ?_
  refine k_iadd hX dL_law_943 ?_
  refine l_sld T h dL_law_944 (fun v4 h => ?_)
  obtain ⟨v5, s6, h1, hz7, h⟩ := lcR_of h
  refine l_callC_i (σ := (s, τ)) (s' := s6) (As := [.int v3, .int v4]) T (met_FX0_turning _ _ _ _ _ h1) (cwV 2 T.1.2.2.2.2 (lw_V q1423 q1424 q1425 q136 q1426) rfl rfl rfl (by decide +kernel) (l_room T rfl rfl)) rfl rfl hz7 dL_law_945 ?_
  show kW X (s6, τ) 948 _ _
  refine k_aload_n hX dL_law_948 rfl 1 rfl ?_
  refine k_aload_n hX dL_law_949 rfl 3 rfl ?_
  refine k_iload_n hX dL_law_950 rfl 0 rfl ?_
  refine k_iconst (v := 1) hX dL_law_951 (by decide) ?_
  refine k_iadd hX dL_law_952 ?_
  refine l_sld T h dL_law_953 (fun v8 h => ?_)
  refine k_aload_n hX dL_law_954 rfl 3 rfl ?_
  refine k_iload_n hX dL_law_955 rfl 0 rfl ?_
  refine k_iconst (v := 2) hX dL_law_956 (by decide) ?_
  refine k_iadd hX dL_law_957 ?_
  refine l_sld T h dL_law_958 (fun v9 h => ?_)
  obtain ⟨v10, t11, h1, h⟩ := bd2_of h
  refine l_callT_i (σ := (s6, τ)) (τ' := t11) (As := [.int v8, .int v9]) T (met_turning T.2.2.2.2.2.2.2.2.1.1 _ _ _ _ h1) (cwV 2 T.1.2.2.2.2 (lw_V q2056 q2057 q2058 q152 q2059) rfl rfl rfl (by decide +kernel) (l_room T rfl rfl)) rfl rfl hz7 dL_law_959 ?_
  show kW X (s6, t11) 962 _ _
  refine k_icmp_eq (tgt := 1463) hX h dL_law_962 (by decide) (fun h => ?_) (fun h => ?_)
  · refine k_iinc (j := 0) [(3, .int (i + 7)), (2, .ref ((Et.2.2.2.2.1 0))), (1, .ref x), (0, .ref b)] hX dL_law_1463 rfl rfl rfl rfl ?_
    refine k_goto (tgt := 18) hX dL_law_1466 (by decide) ?_
    exact hk18 _ _ _ hz7 h
  · refine k_iconst (v := 0) hX dL_law_965 (by decide) ?_
    exact l_ret T hz7 h dL_law_966
def LW_c19 (st : Nat → Option Nat) (nf : Nat) (xs : Nat → Int32) (L x z0 l0 : Nat) (k18 : Int32 → CS → TS → Option Int32) (i : Int32) (s : CS) (τ : TS) : Option Int32 :=
  lX xs L (i + 1) fun v3 =>
  lcR z0 l0 (FX0_worthiest nf x v3 s) fun v4 s5 =>
  lX xs L (i + 1) fun v7 =>
  bd2 (T_worthiest nf v7 τ) fun v8 t9 =>
  if v4 = v8 then
  (k18 (i + 7) s5 t9)
  else (some 0)
theorem LW_c19_ok {X : KC LWS} {E : CE} {Et : TE} {b L z0 l0 zT : Nat} {xs : Nat → Int32} (T : lOK X E Et b L xs z0 l0 zT) {nf x : Nat} {k18 : Int32 → CS → TS → Option Int32} (hk18 : ∀ (i : Int32) (s : CS) (τ : TS), (cz s ≤ 1200128 + z0 ∧ cl s ≤ 5501098 + l0) → k18 i s τ = some 1 → kW X (s, τ) 18 [(3, .int i), (2, .ref (Et.2.2.2.2.1 0)), (1, .ref x), (0, .ref b)] []) {i : Int32} {s : CS} {τ : TS} (hz : cz s ≤ 1200128 + z0 ∧ cl s ≤ 5501098 + l0) (h : LW_c19 E.2.2.2 nf xs L x z0 l0 k18 i s τ = some 1) : kW X (s, τ) 967 [(3, .int i), (2, .ref (Et.2.2.2.2.1 0)), (1, .ref x), (0, .ref b)] [] := by
  unfold LW_c19 at h
  have hX := T.1
  refine k_aload_n hX dL_law_967 rfl 2 rfl ?_
  refine k_aload_n hX dL_law_968 rfl 3 rfl ?_
  refine k_iload_n hX dL_law_969 rfl 0 rfl ?_
  refine k_iconst (v := 1) hX dL_law_970 (by decide) ?_
  refine k_iadd hX dL_law_971 ?_
  refine l_sld T h dL_law_972 (fun v3 h => ?_)
  obtain ⟨v4, s5, h1, hz6, h⟩ := lcR_of h
  refine l_callC_i (σ := (s, τ)) (s' := s5) (As := [.int v3]) T (met_FX0_worthiest _ _ _ _ h1) (cwV 1 T.1.2.2.2.2 (lw_V q1467 q1468 q1469 q136 q1470) rfl rfl rfl (by decide +kernel) (l_room T rfl rfl)) rfl rfl hz6 dL_law_973 ?_
  show kW X (s5, τ) 976 _ _
  refine k_aload_n hX dL_law_976 rfl 1 rfl ?_
  refine k_aload_n hX dL_law_977 rfl 3 rfl ?_
  refine k_iload_n hX dL_law_978 rfl 0 rfl ?_
  refine k_iconst (v := 1) hX dL_law_979 (by decide) ?_
  refine k_iadd hX dL_law_980 ?_
  refine l_sld T h dL_law_981 (fun v7 h => ?_)
  obtain ⟨v8, t9, h1, h⟩ := bd2_of h
  refine l_callT_i (σ := (s5, τ)) (τ' := t9) (As := [.int v7]) T (met_worthiest T.2.2.2.2.2.2.2.2.1.1 _ _ _ h1) (cwV 1 T.1.2.2.2.2 (lw_V q2127 q2128 q2129 q152 q2130) rfl rfl rfl (by decide +kernel) (l_room T rfl rfl)) rfl rfl hz6 dL_law_982 ?_
  show kW X (s5, t9) 985 _ _
  refine k_icmp_eq (tgt := 1463) hX h dL_law_985 (by decide) (fun h => ?_) (fun h => ?_)
  · refine k_iinc (j := 0) [(3, .int (i + 7)), (2, .ref ((Et.2.2.2.2.1 0))), (1, .ref x), (0, .ref b)] hX dL_law_1463 rfl rfl rfl rfl ?_
    refine k_goto (tgt := 18) hX dL_law_1466 (by decide) ?_
    exact hk18 _ _ _ hz6 h
  · refine k_iconst (v := 0) hX dL_law_988 (by decide) ?_
    exact l_ret T hz6 h dL_law_989
def LW_c20 (st : Nat → Option Nat) (nf : Nat) (xs : Nat → Int32) (L x z0 l0 : Nat) (k18 : Int32 → CS → TS → Option Int32) (i : Int32) (s : CS) (τ : TS) : Option Int32 :=
  lX xs L (i + 1) fun v3 =>
  lX xs L (i + 2) fun v4 =>
  lX xs L (i + 3) fun v5 =>
  lcR z0 l0 (FX0_odds nf x v3 v4 v5 s) fun v6 s7 =>
  lX xs L (i + 1) fun v9 =>
  lX xs L (i + 2) fun v10 =>
  lX xs L (i + 3) fun v11 =>
  bd2 (T_odds nf v9 v10 v11 τ) fun v12 t13 =>
  if v6 = v12 then
  (k18 (i + 7) s7 t13)
  else (some 0)
theorem LW_c20_ok {X : KC LWS} {E : CE} {Et : TE} {b L z0 l0 zT : Nat} {xs : Nat → Int32} (T : lOK X E Et b L xs z0 l0 zT) {nf x : Nat} {k18 : Int32 → CS → TS → Option Int32} (hk18 : ∀ (i : Int32) (s : CS) (τ : TS), (cz s ≤ 1200128 + z0 ∧ cl s ≤ 5501098 + l0) → k18 i s τ = some 1 → kW X (s, τ) 18 [(3, .int i), (2, .ref (Et.2.2.2.2.1 0)), (1, .ref x), (0, .ref b)] []) {i : Int32} {s : CS} {τ : TS} (hz : cz s ≤ 1200128 + z0 ∧ cl s ≤ 5501098 + l0) (h : LW_c20 E.2.2.2 nf xs L x z0 l0 k18 i s τ = some 1) : kW X (s, τ) 990 [(3, .int i), (2, .ref (Et.2.2.2.2.1 0)), (1, .ref x), (0, .ref b)] [] := by
  unfold LW_c20 at h
  have hX := T.1
  refine k_aload_n hX dL_law_990 rfl 2 rfl ?_
  refine k_aload_n hX dL_law_991 rfl 3 rfl ?_
  refine k_iload_n hX dL_law_992 rfl 0 rfl ?_
  refine k_iconst (v := 1) hX dL_law_993 (by decide) ?_
  refine k_iadd hX dL_law_994 ?_
  refine l_sld T h dL_law_995 (fun v3 h => ?_)
  refine k_aload_n hX dL_law_996 rfl 3 rfl ?_
  refine k_iload_n hX dL_law_997 rfl 0 rfl ?_
  refine k_iconst (v := 2) hX dL_law_998 (by decide) ?_
  refine k_iadd hX dL_law_999 ?_
  refine l_sld T h dL_law_1000 (fun v4 h => ?_)
  refine k_aload_n hX dL_law_1001 rfl 3 rfl ?_
  refine k_iload_n hX dL_law_1002 rfl 0 rfl ?_
  refine k_iconst (v := 3) hX dL_law_1003 (by decide) ?_
  refine k_iadd hX dL_law_1004 ?_
  refine l_sld T h dL_law_1005 (fun v5 h => ?_)
  obtain ⟨v6, s7, h1, hz8, h⟩ := lcR_of h
  refine l_callC_i (σ := (s, τ)) (s' := s7) (As := [.int v3, .int v4, .int v5]) T (met_FX0_odds _ _ _ _ _ _ h1) (cwV 3 T.1.2.2.2.2 (lw_V q1472 q1473 q1474 q136 q1475) rfl rfl rfl (by decide +kernel) (l_room T rfl rfl)) rfl rfl hz8 dL_law_1006 ?_
  show kW X (s7, τ) 1009 _ _
  refine k_aload_n hX dL_law_1009 rfl 1 rfl ?_
  refine k_aload_n hX dL_law_1010 rfl 3 rfl ?_
  refine k_iload_n hX dL_law_1011 rfl 0 rfl ?_
  refine k_iconst (v := 1) hX dL_law_1012 (by decide) ?_
  refine k_iadd hX dL_law_1013 ?_
  refine l_sld T h dL_law_1014 (fun v9 h => ?_)
  refine k_aload_n hX dL_law_1015 rfl 3 rfl ?_
  refine k_iload_n hX dL_law_1016 rfl 0 rfl ?_
  refine k_iconst (v := 2) hX dL_law_1017 (by decide) ?_
  refine k_iadd hX dL_law_1018 ?_
  refine l_sld T h dL_law_1019 (fun v10 h => ?_)
  refine k_aload_n hX dL_law_1020 rfl 3 rfl ?_
  refine k_iload_n hX dL_law_1021 rfl 0 rfl ?_
  refine k_iconst (v := 3) hX dL_law_1022 (by decide) ?_
  refine k_iadd hX dL_law_1023 ?_
  refine l_sld T h dL_law_1024 (fun v11 h => ?_)
  obtain ⟨v12, t13, h1, h⟩ := bd2_of h
  refine l_callT_i (σ := (s7, τ)) (τ' := t13) (As := [.int v9, .int v10, .int v11]) T (met_odds T.2.2.2.2.2.2.2.2.1.1 _ _ _ _ _ h1) (cwV 3 T.1.2.2.2.2 (lw_V q2136 q2137 q2138 q152 q2139) rfl rfl rfl (by decide +kernel) (l_room T rfl rfl)) rfl rfl hz8 dL_law_1025 ?_
  show kW X (s7, t13) 1028 _ _
  refine k_icmp_eq (tgt := 1463) hX h dL_law_1028 (by decide) (fun h => ?_) (fun h => ?_)
  · refine k_iinc (j := 0) [(3, .int (i + 7)), (2, .ref ((Et.2.2.2.2.1 0))), (1, .ref x), (0, .ref b)] hX dL_law_1463 rfl rfl rfl rfl ?_
    refine k_goto (tgt := 18) hX dL_law_1466 (by decide) ?_
    exact hk18 _ _ _ hz8 h
  · refine k_iconst (v := 0) hX dL_law_1031 (by decide) ?_
    exact l_ret T hz8 h dL_law_1032
def LW_c21 (st : Nat → Option Nat) (nf : Nat) (xs : Nat → Int32) (L x z0 l0 : Nat) (k18 : Int32 → CS → TS → Option Int32) (i : Int32) (s : CS) (τ : TS) : Option Int32 :=
  lX xs L (i + 1) fun v3 =>
  lX xs L (i + 2) fun v4 =>
  lcR z0 l0 (FX0_pace nf x v3 v4 s) fun v5 s6 =>
  lX xs L (i + 1) fun v8 =>
  lX xs L (i + 2) fun v9 =>
  bd2 (T_pace nf v8 v9 τ) fun v10 t11 =>
  if v5 = v10 then
  (k18 (i + 7) s6 t11)
  else (some 0)
theorem LW_c21_ok {X : KC LWS} {E : CE} {Et : TE} {b L z0 l0 zT : Nat} {xs : Nat → Int32} (T : lOK X E Et b L xs z0 l0 zT) {nf x : Nat} {k18 : Int32 → CS → TS → Option Int32} (hk18 : ∀ (i : Int32) (s : CS) (τ : TS), (cz s ≤ 1200128 + z0 ∧ cl s ≤ 5501098 + l0) → k18 i s τ = some 1 → kW X (s, τ) 18 [(3, .int i), (2, .ref (Et.2.2.2.2.1 0)), (1, .ref x), (0, .ref b)] []) {i : Int32} {s : CS} {τ : TS} (hz : cz s ≤ 1200128 + z0 ∧ cl s ≤ 5501098 + l0) (h : LW_c21 E.2.2.2 nf xs L x z0 l0 k18 i s τ = some 1) : kW X (s, τ) 1033 [(3, .int i), (2, .ref (Et.2.2.2.2.1 0)), (1, .ref x), (0, .ref b)] [] := by
  unfold LW_c21 at h
  have hX := T.1
  refine k_aload_n hX dL_law_1033 rfl 2 rfl ?_
  refine k_aload_n hX dL_law_1034 rfl 3 rfl ?_
  refine k_iload_n hX dL_law_1035 rfl 0 rfl ?_
  refine k_iconst (v := 1) hX dL_law_1036 (by decide) ?_
  refine k_iadd hX dL_law_1037 ?_
  refine l_sld T h dL_law_1038 (fun v3 h => ?_)
  refine k_aload_n hX dL_law_1039 rfl 3 rfl ?_
  refine k_iload_n hX dL_law_1040 rfl 0 rfl ?_
  refine k_iconst (v := 2) hX dL_law_1041 (by decide) ?_
  refine k_iadd hX dL_law_1042 ?_
  refine l_sld T h dL_law_1043 (fun v4 h => ?_)
  obtain ⟨v5, s6, h1, hz7, h⟩ := lcR_of h
  refine l_callC_i (σ := (s, τ)) (s' := s6) (As := [.int v3, .int v4]) T (met_FX0_pace _ _ _ _ _ h1) (cwV 2 T.1.2.2.2.2 (lw_V q1488 q1489 q1490 q136 q1491) rfl rfl rfl (by decide +kernel) (l_room T rfl rfl)) rfl rfl hz7 dL_law_1044 ?_
  show kW X (s6, τ) 1047 _ _
  refine k_aload_n hX dL_law_1047 rfl 1 rfl ?_
  refine k_aload_n hX dL_law_1048 rfl 3 rfl ?_
  refine k_iload_n hX dL_law_1049 rfl 0 rfl ?_
  refine k_iconst (v := 1) hX dL_law_1050 (by decide) ?_
  refine k_iadd hX dL_law_1051 ?_
  refine l_sld T h dL_law_1052 (fun v8 h => ?_)
  refine k_aload_n hX dL_law_1053 rfl 3 rfl ?_
  refine k_iload_n hX dL_law_1054 rfl 0 rfl ?_
  refine k_iconst (v := 2) hX dL_law_1055 (by decide) ?_
  refine k_iadd hX dL_law_1056 ?_
  refine l_sld T h dL_law_1057 (fun v9 h => ?_)
  obtain ⟨v10, t11, h1, h⟩ := bd2_of h
  refine l_callT_i (σ := (s6, τ)) (τ' := t11) (As := [.int v8, .int v9]) T (met_pace T.2.2.2.2.2.2.2.2.1.1 _ _ _ _ h1) (cwV 2 T.1.2.2.2.2 (lw_V q2144 q2145 q2146 q152 q2147) rfl rfl rfl (by decide +kernel) (l_room T rfl rfl)) rfl rfl hz7 dL_law_1058 ?_
  show kW X (s6, t11) 1061 _ _
  refine k_icmp_eq (tgt := 1463) hX h dL_law_1061 (by decide) (fun h => ?_) (fun h => ?_)
  · refine k_iinc (j := 0) [(3, .int (i + 7)), (2, .ref ((Et.2.2.2.2.1 0))), (1, .ref x), (0, .ref b)] hX dL_law_1463 rfl rfl rfl rfl ?_
    refine k_goto (tgt := 18) hX dL_law_1466 (by decide) ?_
    exact hk18 _ _ _ hz7 h
  · refine k_iconst (v := 0) hX dL_law_1064 (by decide) ?_
    exact l_ret T hz7 h dL_law_1065
def LW_c22 (st : Nat → Option Nat) (nf : Nat) (xs : Nat → Int32) (L x z0 l0 : Nat) (k18 : Int32 → CS → TS → Option Int32) (i : Int32) (s : CS) (τ : TS) : Option Int32 :=
  lX xs L (i + 1) fun v3 =>
  lX xs L (i + 2) fun v4 =>
  lX xs L (i + 3) fun v5 =>
  if v5 = 0 then
  (lX xs L (i + 4) fun v6 =>
  lcR z0 l0 (FX0_tried x v3 v4 0 v6 s) fun v7 s8 =>
  lX xs L (i + 1) fun v10 =>
  lX xs L (i + 2) fun v11 =>
  lX xs L (i + 3) fun v12 =>
  if v12 = 0 then
  (lX xs L (i + 4) fun v13 =>
  bd2 (T_tried v10 v11 0 v13 τ) fun v14 t15 =>
  if v7 = v14 then
  (k18 (i + 7) s8 t15)
  else (some 0))
  else (lX xs L (i + 4) fun v16 =>
  bd2 (T_tried v10 v11 1 v16 τ) fun v17 t18 =>
  if v7 = v17 then
  (k18 (i + 7) s8 t18)
  else (some 0)))
  else (lX xs L (i + 4) fun v19 =>
  lcR z0 l0 (FX0_tried x v3 v4 1 v19 s) fun v20 s21 =>
  lX xs L (i + 1) fun v23 =>
  lX xs L (i + 2) fun v24 =>
  lX xs L (i + 3) fun v25 =>
  if v25 = 0 then
  (lX xs L (i + 4) fun v26 =>
  bd2 (T_tried v23 v24 0 v26 τ) fun v27 t28 =>
  if v20 = v27 then
  (k18 (i + 7) s21 t28)
  else (some 0))
  else (lX xs L (i + 4) fun v29 =>
  bd2 (T_tried v23 v24 1 v29 τ) fun v30 t31 =>
  if v20 = v30 then
  (k18 (i + 7) s21 t31)
  else (some 0)))
theorem LW_c22_ok {X : KC LWS} {E : CE} {Et : TE} {b L z0 l0 zT : Nat} {xs : Nat → Int32} (T : lOK X E Et b L xs z0 l0 zT) {nf x : Nat} {k18 : Int32 → CS → TS → Option Int32} (hk18 : ∀ (i : Int32) (s : CS) (τ : TS), (cz s ≤ 1200128 + z0 ∧ cl s ≤ 5501098 + l0) → k18 i s τ = some 1 → kW X (s, τ) 18 [(3, .int i), (2, .ref (Et.2.2.2.2.1 0)), (1, .ref x), (0, .ref b)] []) {i : Int32} {s : CS} {τ : TS} (hz : cz s ≤ 1200128 + z0 ∧ cl s ≤ 5501098 + l0) (h : LW_c22 E.2.2.2 nf xs L x z0 l0 k18 i s τ = some 1) : kW X (s, τ) 1066 [(3, .int i), (2, .ref (Et.2.2.2.2.1 0)), (1, .ref x), (0, .ref b)] [] := by
  unfold LW_c22 at h
  have hX := T.1
  refine k_aload_n hX dL_law_1066 rfl 2 rfl ?_
  refine k_aload_n hX dL_law_1067 rfl 3 rfl ?_
  refine k_iload_n hX dL_law_1068 rfl 0 rfl ?_
  refine k_iconst (v := 1) hX dL_law_1069 (by decide) ?_
  refine k_iadd hX dL_law_1070 ?_
  refine l_sld T h dL_law_1071 (fun v3 h => ?_)
  refine k_aload_n hX dL_law_1072 rfl 3 rfl ?_
  refine k_iload_n hX dL_law_1073 rfl 0 rfl ?_
  refine k_iconst (v := 2) hX dL_law_1074 (by decide) ?_
  refine k_iadd hX dL_law_1075 ?_
  refine l_sld T h dL_law_1076 (fun v4 h => ?_)
  refine k_aload_n hX dL_law_1077 rfl 3 rfl ?_
  refine k_iload_n hX dL_law_1078 rfl 0 rfl ?_
  refine k_iconst (v := 3) hX dL_law_1079 (by decide) ?_
  refine k_iadd hX dL_law_1080 ?_
  refine l_sld T h dL_law_1081 (fun v5 h => ?_)
  refine k_if_eq (tgt := 1089) hX h dL_law_1082 (by decide) (fun h => ?_) (fun h => ?_)
  · refine k_iconst (v := 0) hX dL_law_1089 (by decide) ?_
    refine k_aload_n hX dL_law_1090 rfl 3 rfl ?_
    refine k_iload_n hX dL_law_1091 rfl 0 rfl ?_
    refine k_iconst (v := 4) hX dL_law_1092 (by decide) ?_
    refine k_iadd hX dL_law_1093 ?_
    refine l_sld T h dL_law_1094 (fun v6 h => ?_)
    obtain ⟨v7, s8, h1, hz9, h⟩ := lcR_of h
    refine l_callC_i (σ := (s, τ)) (s' := s8) (As := [.int v3, .int v4, .int 0, .int v6]) T (met_FX0_tried _ _ _ _ _ _ _ h1) (cwV 4 T.1.2.2.2.2 (lw_V q1526 q1527 q1528 q136 q1529) rfl rfl rfl (by decide +kernel) (l_room T rfl rfl)) rfl rfl hz9 dL_law_1095 ?_
    show kW X (s8, τ) 1098 _ _
    refine k_aload_n hX dL_law_1098 rfl 1 rfl ?_
    refine k_aload_n hX dL_law_1099 rfl 3 rfl ?_
    refine k_iload_n hX dL_law_1100 rfl 0 rfl ?_
    refine k_iconst (v := 1) hX dL_law_1101 (by decide) ?_
    refine k_iadd hX dL_law_1102 ?_
    refine l_sld T h dL_law_1103 (fun v10 h => ?_)
    refine k_aload_n hX dL_law_1104 rfl 3 rfl ?_
    refine k_iload_n hX dL_law_1105 rfl 0 rfl ?_
    refine k_iconst (v := 2) hX dL_law_1106 (by decide) ?_
    refine k_iadd hX dL_law_1107 ?_
    refine l_sld T h dL_law_1108 (fun v11 h => ?_)
    refine k_aload_n hX dL_law_1109 rfl 3 rfl ?_
    refine k_iload_n hX dL_law_1110 rfl 0 rfl ?_
    refine k_iconst (v := 3) hX dL_law_1111 (by decide) ?_
    refine k_iadd hX dL_law_1112 ?_
    refine l_sld T h dL_law_1113 (fun v12 h => ?_)
    refine k_if_eq (tgt := 1121) hX h dL_law_1114 (by decide) (fun h => ?_) (fun h => ?_)
    · refine k_iconst (v := 0) hX dL_law_1121 (by decide) ?_
      refine k_aload_n hX dL_law_1122 rfl 3 rfl ?_
      refine k_iload_n hX dL_law_1123 rfl 0 rfl ?_
      refine k_iconst (v := 4) hX dL_law_1124 (by decide) ?_
      refine k_iadd hX dL_law_1125 ?_
      refine l_sld T h dL_law_1126 (fun v13 h => ?_)
      obtain ⟨v14, t15, h1, h⟩ := bd2_of h
      refine l_callT_i (σ := (s8, τ)) (τ' := t15) (As := [.int v10, .int v11, .int 0, .int v13]) T (met_tried T.2.2.2.2.2.2.2.2.1.1 _ _ _ _ _ _ h1) (cwV 4 T.1.2.2.2.2 (lw_V q2173 q2174 q2175 q152 q2176) rfl rfl rfl (by decide +kernel) (l_room T rfl rfl)) rfl rfl hz9 dL_law_1127 ?_
      show kW X (s8, t15) 1130 _ _
      refine k_icmp_eq (tgt := 1463) hX h dL_law_1130 (by decide) (fun h => ?_) (fun h => ?_)
      · refine k_iinc (j := 0) [(3, .int (i + 7)), (2, .ref ((Et.2.2.2.2.1 0))), (1, .ref x), (0, .ref b)] hX dL_law_1463 rfl rfl rfl rfl ?_
        refine k_goto (tgt := 18) hX dL_law_1466 (by decide) ?_
        exact hk18 _ _ _ hz9 h
      · refine k_iconst (v := 0) hX dL_law_1133 (by decide) ?_
        exact l_ret T hz9 h dL_law_1134
    · refine k_iconst (v := 1) hX dL_law_1117 (by decide) ?_
      refine k_goto (tgt := 1122) hX dL_law_1118 (by decide) ?_
      refine k_aload_n hX dL_law_1122 rfl 3 rfl ?_
      refine k_iload_n hX dL_law_1123 rfl 0 rfl ?_
      refine k_iconst (v := 4) hX dL_law_1124 (by decide) ?_
      refine k_iadd hX dL_law_1125 ?_
      refine l_sld T h dL_law_1126 (fun v16 h => ?_)
      obtain ⟨v17, t18, h1, h⟩ := bd2_of h
      refine l_callT_i (σ := (s8, τ)) (τ' := t18) (As := [.int v10, .int v11, .int 1, .int v16]) T (met_tried T.2.2.2.2.2.2.2.2.1.1 _ _ _ _ _ _ h1) (cwV 4 T.1.2.2.2.2 (lw_V q2173 q2174 q2175 q152 q2176) rfl rfl rfl (by decide +kernel) (l_room T rfl rfl)) rfl rfl hz9 dL_law_1127 ?_
      show kW X (s8, t18) 1130 _ _
      refine k_icmp_eq (tgt := 1463) hX h dL_law_1130 (by decide) (fun h => ?_) (fun h => ?_)
      · refine k_iinc (j := 0) [(3, .int (i + 7)), (2, .ref ((Et.2.2.2.2.1 0))), (1, .ref x), (0, .ref b)] hX dL_law_1463 rfl rfl rfl rfl ?_
        refine k_goto (tgt := 18) hX dL_law_1466 (by decide) ?_
        exact hk18 _ _ _ hz9 h
      · refine k_iconst (v := 0) hX dL_law_1133 (by decide) ?_
        exact l_ret T hz9 h dL_law_1134
  · refine k_iconst (v := 1) hX dL_law_1085 (by decide) ?_
    refine k_goto (tgt := 1090) hX dL_law_1086 (by decide) ?_
    refine k_aload_n hX dL_law_1090 rfl 3 rfl ?_
    refine k_iload_n hX dL_law_1091 rfl 0 rfl ?_
    refine k_iconst (v := 4) hX dL_law_1092 (by decide) ?_
    refine k_iadd hX dL_law_1093 ?_
    refine l_sld T h dL_law_1094 (fun v19 h => ?_)
    obtain ⟨v20, s21, h1, hz22, h⟩ := lcR_of h
    refine l_callC_i (σ := (s, τ)) (s' := s21) (As := [.int v3, .int v4, .int 1, .int v19]) T (met_FX0_tried _ _ _ _ _ _ _ h1) (cwV 4 T.1.2.2.2.2 (lw_V q1526 q1527 q1528 q136 q1529) rfl rfl rfl (by decide +kernel) (l_room T rfl rfl)) rfl rfl hz22 dL_law_1095 ?_
    show kW X (s21, τ) 1098 _ _
    refine k_aload_n hX dL_law_1098 rfl 1 rfl ?_
    refine k_aload_n hX dL_law_1099 rfl 3 rfl ?_
    refine k_iload_n hX dL_law_1100 rfl 0 rfl ?_
    refine k_iconst (v := 1) hX dL_law_1101 (by decide) ?_
    refine k_iadd hX dL_law_1102 ?_
    refine l_sld T h dL_law_1103 (fun v23 h => ?_)
    refine k_aload_n hX dL_law_1104 rfl 3 rfl ?_
    refine k_iload_n hX dL_law_1105 rfl 0 rfl ?_
    refine k_iconst (v := 2) hX dL_law_1106 (by decide) ?_
    refine k_iadd hX dL_law_1107 ?_
    refine l_sld T h dL_law_1108 (fun v24 h => ?_)
    refine k_aload_n hX dL_law_1109 rfl 3 rfl ?_
    refine k_iload_n hX dL_law_1110 rfl 0 rfl ?_
    refine k_iconst (v := 3) hX dL_law_1111 (by decide) ?_
    refine k_iadd hX dL_law_1112 ?_
    refine l_sld T h dL_law_1113 (fun v25 h => ?_)
    refine k_if_eq (tgt := 1121) hX h dL_law_1114 (by decide) (fun h => ?_) (fun h => ?_)
    · refine k_iconst (v := 0) hX dL_law_1121 (by decide) ?_
      refine k_aload_n hX dL_law_1122 rfl 3 rfl ?_
      refine k_iload_n hX dL_law_1123 rfl 0 rfl ?_
      refine k_iconst (v := 4) hX dL_law_1124 (by decide) ?_
      refine k_iadd hX dL_law_1125 ?_
      refine l_sld T h dL_law_1126 (fun v26 h => ?_)
      obtain ⟨v27, t28, h1, h⟩ := bd2_of h
      refine l_callT_i (σ := (s21, τ)) (τ' := t28) (As := [.int v23, .int v24, .int 0, .int v26]) T (met_tried T.2.2.2.2.2.2.2.2.1.1 _ _ _ _ _ _ h1) (cwV 4 T.1.2.2.2.2 (lw_V q2173 q2174 q2175 q152 q2176) rfl rfl rfl (by decide +kernel) (l_room T rfl rfl)) rfl rfl hz22 dL_law_1127 ?_
      show kW X (s21, t28) 1130 _ _
      refine k_icmp_eq (tgt := 1463) hX h dL_law_1130 (by decide) (fun h => ?_) (fun h => ?_)
      · refine k_iinc (j := 0) [(3, .int (i + 7)), (2, .ref ((Et.2.2.2.2.1 0))), (1, .ref x), (0, .ref b)] hX dL_law_1463 rfl rfl rfl rfl ?_
        refine k_goto (tgt := 18) hX dL_law_1466 (by decide) ?_
        exact hk18 _ _ _ hz22 h
      · refine k_iconst (v := 0) hX dL_law_1133 (by decide) ?_
        exact l_ret T hz22 h dL_law_1134
    · refine k_iconst (v := 1) hX dL_law_1117 (by decide) ?_
      refine k_goto (tgt := 1122) hX dL_law_1118 (by decide) ?_
      refine k_aload_n hX dL_law_1122 rfl 3 rfl ?_
      refine k_iload_n hX dL_law_1123 rfl 0 rfl ?_
      refine k_iconst (v := 4) hX dL_law_1124 (by decide) ?_
      refine k_iadd hX dL_law_1125 ?_
      refine l_sld T h dL_law_1126 (fun v29 h => ?_)
      obtain ⟨v30, t31, h1, h⟩ := bd2_of h
      refine l_callT_i (σ := (s21, τ)) (τ' := t31) (As := [.int v23, .int v24, .int 1, .int v29]) T (met_tried T.2.2.2.2.2.2.2.2.1.1 _ _ _ _ _ _ h1) (cwV 4 T.1.2.2.2.2 (lw_V q2173 q2174 q2175 q152 q2176) rfl rfl rfl (by decide +kernel) (l_room T rfl rfl)) rfl rfl hz22 dL_law_1127 ?_
      show kW X (s21, t31) 1130 _ _
      refine k_icmp_eq (tgt := 1463) hX h dL_law_1130 (by decide) (fun h => ?_) (fun h => ?_)
      · refine k_iinc (j := 0) [(3, .int (i + 7)), (2, .ref ((Et.2.2.2.2.1 0))), (1, .ref x), (0, .ref b)] hX dL_law_1463 rfl rfl rfl rfl ?_
        refine k_goto (tgt := 18) hX dL_law_1466 (by decide) ?_
        exact hk18 _ _ _ hz22 h
      · refine k_iconst (v := 0) hX dL_law_1133 (by decide) ?_
        exact l_ret T hz22 h dL_law_1134
def LW_c23 (st : Nat → Option Nat) (nf : Nat) (xs : Nat → Int32) (L x z0 l0 : Nat) (k18 : Int32 → CS → TS → Option Int32) (i : Int32) (s : CS) (τ : TS) : Option Int32 :=
  lX xs L (i + 1) fun v3 =>
  lX xs L (i + 2) fun v4 =>
  lX xs L (i + 3) fun v5 =>
  (FX0_does nf s x v3 v4 v5).bind fun v6 =>
  lX xs L (i + 1) fun v7 =>
  lX xs L (i + 2) fun v8 =>
  lX xs L (i + 3) fun v9 =>
  bd2 (T_does nf v7 v8 v9 τ) fun v10 t11 =>
  if v6 = v10 then
  (k18 (i + 7) s t11)
  else (some 0)
theorem LW_c23_ok {X : KC LWS} {E : CE} {Et : TE} {b L z0 l0 zT : Nat} {xs : Nat → Int32} (T : lOK X E Et b L xs z0 l0 zT) {nf x : Nat} {k18 : Int32 → CS → TS → Option Int32} (hk18 : ∀ (i : Int32) (s : CS) (τ : TS), (cz s ≤ 1200128 + z0 ∧ cl s ≤ 5501098 + l0) → k18 i s τ = some 1 → kW X (s, τ) 18 [(3, .int i), (2, .ref (Et.2.2.2.2.1 0)), (1, .ref x), (0, .ref b)] []) {i : Int32} {s : CS} {τ : TS} (hz : cz s ≤ 1200128 + z0 ∧ cl s ≤ 5501098 + l0) (h : LW_c23 E.2.2.2 nf xs L x z0 l0 k18 i s τ = some 1) : kW X (s, τ) 1135 [(3, .int i), (2, .ref (Et.2.2.2.2.1 0)), (1, .ref x), (0, .ref b)] [] := by
  unfold LW_c23 at h
  have hX := T.1
  refine k_aload_n hX dL_law_1135 rfl 2 rfl ?_
  refine k_aload_n hX dL_law_1136 rfl 3 rfl ?_
  refine k_iload_n hX dL_law_1137 rfl 0 rfl ?_
  refine k_iconst (v := 1) hX dL_law_1138 (by decide) ?_
  refine k_iadd hX dL_law_1139 ?_
  refine l_sld T h dL_law_1140 (fun v3 h => ?_)
  refine k_aload_n hX dL_law_1141 rfl 3 rfl ?_
  refine k_iload_n hX dL_law_1142 rfl 0 rfl ?_
  refine k_iconst (v := 2) hX dL_law_1143 (by decide) ?_
  refine k_iadd hX dL_law_1144 ?_
  refine l_sld T h dL_law_1145 (fun v4 h => ?_)
  refine k_aload_n hX dL_law_1146 rfl 3 rfl ?_
  refine k_iload_n hX dL_law_1147 rfl 0 rfl ?_
  refine k_iconst (v := 3) hX dL_law_1148 (by decide) ?_
  refine k_iadd hX dL_law_1149 ?_
  refine l_sld T h dL_law_1150 (fun v5 h => ?_)
  obtain ⟨v6, h1, h⟩ := bd_of h
  refine l_callC_l (σ := (s, τ)) (s' := s) (As := [.int v3, .int v4, .int v5]) T (met_FX0_does _ _ _ _ _ h1) (cwV 3 T.1.2.2.2.2 (lw_V q1534 q1535 q1536 q136 q1537) rfl rfl rfl (by decide +kernel) (l_room T rfl rfl)) rfl rfl hz dL_law_1151 ?_
  show kW X (s, τ) 1154 _ _
  refine k_aload_n hX dL_law_1154 rfl 1 rfl ?_
  refine k_aload_n hX dL_law_1155 rfl 3 rfl ?_
  refine k_iload_n hX dL_law_1156 rfl 0 rfl ?_
  refine k_iconst (v := 1) hX dL_law_1157 (by decide) ?_
  refine k_iadd hX dL_law_1158 ?_
  refine l_sld T h dL_law_1159 (fun v7 h => ?_)
  refine k_aload_n hX dL_law_1160 rfl 3 rfl ?_
  refine k_iload_n hX dL_law_1161 rfl 0 rfl ?_
  refine k_iconst (v := 2) hX dL_law_1162 (by decide) ?_
  refine k_iadd hX dL_law_1163 ?_
  refine l_sld T h dL_law_1164 (fun v8 h => ?_)
  refine k_aload_n hX dL_law_1165 rfl 3 rfl ?_
  refine k_iload_n hX dL_law_1166 rfl 0 rfl ?_
  refine k_iconst (v := 3) hX dL_law_1167 (by decide) ?_
  refine k_iadd hX dL_law_1168 ?_
  refine l_sld T h dL_law_1169 (fun v9 h => ?_)
  obtain ⟨v10, t11, h1, h⟩ := bd2_of h
  refine l_callT_l (σ := (s, τ)) (τ' := t11) (As := [.int v7, .int v8, .int v9]) T (met_does T.2.2.2.2.2.2.2.2.1.1 _ _ _ _ _ h1) (cwV 3 T.1.2.2.2.2 (lw_V q2177 q2178 q2179 q152 q2180) rfl rfl rfl (by decide +kernel) (l_room T rfl rfl)) rfl rfl hz dL_law_1170 ?_
  show kW X (s, t11) 1173 _ _
  refine k_lcmp_eq (tgt := 1463) hX h dL_law_1173 dL_law_1174 (by decide) (fun h => ?_) (fun h => ?_)
  · refine k_iinc (j := 0) [(3, .int (i + 7)), (2, .ref ((Et.2.2.2.2.1 0))), (1, .ref x), (0, .ref b)] hX dL_law_1463 rfl rfl rfl rfl ?_
    refine k_goto (tgt := 18) hX dL_law_1466 (by decide) ?_
    exact hk18 _ _ _ hz h
  · refine k_iconst (v := 0) hX dL_law_1177 (by decide) ?_
    exact l_ret T hz h dL_law_1178
def LW_c24 (st : Nat → Option Nat) (nf : Nat) (xs : Nat → Int32) (L x z0 l0 : Nat) (k18 : Int32 → CS → TS → Option Int32) (i : Int32) (s : CS) (τ : TS) : Option Int32 :=
  lX xs L (i + 1) fun v3 =>
  lX xs L (i + 2) fun v4 =>
  lX xs L (i + 3) fun v5 =>
  lX xs L (i + 4) fun v6 =>
  if v6 = 0 then
  (lX xs L (i + 5) fun v7 =>
  lcR z0 l0 (FX0_wave nf x v3 v4 v5 0 v7 s) fun v8 s9 =>
  lX xs L (i + 1) fun v11 =>
  lX xs L (i + 2) fun v12 =>
  lX xs L (i + 3) fun v13 =>
  lX xs L (i + 4) fun v14 =>
  if v14 = 0 then
  (lX xs L (i + 5) fun v15 =>
  bd2 (T_wave nf v11 v12 v13 0 v15 τ) fun v16 t17 =>
  if v8 = v16 then
  (k18 (i + 7) s9 t17)
  else (some 0))
  else (lX xs L (i + 5) fun v18 =>
  bd2 (T_wave nf v11 v12 v13 1 v18 τ) fun v19 t20 =>
  if v8 = v19 then
  (k18 (i + 7) s9 t20)
  else (some 0)))
  else (lX xs L (i + 5) fun v21 =>
  lcR z0 l0 (FX0_wave nf x v3 v4 v5 1 v21 s) fun v22 s23 =>
  lX xs L (i + 1) fun v25 =>
  lX xs L (i + 2) fun v26 =>
  lX xs L (i + 3) fun v27 =>
  lX xs L (i + 4) fun v28 =>
  if v28 = 0 then
  (lX xs L (i + 5) fun v29 =>
  bd2 (T_wave nf v25 v26 v27 0 v29 τ) fun v30 t31 =>
  if v22 = v30 then
  (k18 (i + 7) s23 t31)
  else (some 0))
  else (lX xs L (i + 5) fun v32 =>
  bd2 (T_wave nf v25 v26 v27 1 v32 τ) fun v33 t34 =>
  if v22 = v33 then
  (k18 (i + 7) s23 t34)
  else (some 0)))
theorem LW_c24_ok {X : KC LWS} {E : CE} {Et : TE} {b L z0 l0 zT : Nat} {xs : Nat → Int32} (T : lOK X E Et b L xs z0 l0 zT) {nf x : Nat} {k18 : Int32 → CS → TS → Option Int32} (hk18 : ∀ (i : Int32) (s : CS) (τ : TS), (cz s ≤ 1200128 + z0 ∧ cl s ≤ 5501098 + l0) → k18 i s τ = some 1 → kW X (s, τ) 18 [(3, .int i), (2, .ref (Et.2.2.2.2.1 0)), (1, .ref x), (0, .ref b)] []) {i : Int32} {s : CS} {τ : TS} (hz : cz s ≤ 1200128 + z0 ∧ cl s ≤ 5501098 + l0) (h : LW_c24 E.2.2.2 nf xs L x z0 l0 k18 i s τ = some 1) : kW X (s, τ) 1179 [(3, .int i), (2, .ref (Et.2.2.2.2.1 0)), (1, .ref x), (0, .ref b)] [] := by
  unfold LW_c24 at h
  have hX := T.1
  refine k_aload_n hX dL_law_1179 rfl 2 rfl ?_
  refine k_aload_n hX dL_law_1180 rfl 3 rfl ?_
  refine k_iload_n hX dL_law_1181 rfl 0 rfl ?_
  refine k_iconst (v := 1) hX dL_law_1182 (by decide) ?_
  refine k_iadd hX dL_law_1183 ?_
  refine l_sld T h dL_law_1184 (fun v3 h => ?_)
  refine k_aload_n hX dL_law_1185 rfl 3 rfl ?_
  refine k_iload_n hX dL_law_1186 rfl 0 rfl ?_
  refine k_iconst (v := 2) hX dL_law_1187 (by decide) ?_
  refine k_iadd hX dL_law_1188 ?_
  refine l_sld T h dL_law_1189 (fun v4 h => ?_)
  refine k_aload_n hX dL_law_1190 rfl 3 rfl ?_
  refine k_iload_n hX dL_law_1191 rfl 0 rfl ?_
  refine k_iconst (v := 3) hX dL_law_1192 (by decide) ?_
  refine k_iadd hX dL_law_1193 ?_
  refine l_sld T h dL_law_1194 (fun v5 h => ?_)
  refine k_aload_n hX dL_law_1195 rfl 3 rfl ?_
  refine k_iload_n hX dL_law_1196 rfl 0 rfl ?_
  refine k_iconst (v := 4) hX dL_law_1197 (by decide) ?_
  refine k_iadd hX dL_law_1198 ?_
  refine l_sld T h dL_law_1199 (fun v6 h => ?_)
  refine k_if_eq (tgt := 1207) hX h dL_law_1200 (by decide) (fun h => ?_) (fun h => ?_)
  · refine k_iconst (v := 0) hX dL_law_1207 (by decide) ?_
    refine k_aload_n hX dL_law_1208 rfl 3 rfl ?_
    refine k_iload_n hX dL_law_1209 rfl 0 rfl ?_
    refine k_iconst (v := 5) hX dL_law_1210 (by decide) ?_
    refine k_iadd hX dL_law_1211 ?_
    refine l_sld T h dL_law_1212 (fun v7 h => ?_)
    obtain ⟨v8, s9, h1, hz10, h⟩ := lcR_of h
    refine l_callC_i (σ := (s, τ)) (s' := s9) (As := [.int v3, .int v4, .int v5, .int 0, .int v7]) T (met_FX0_wave _ _ _ _ _ _ _ _ h1) (cwV 5 T.1.2.2.2.2 (lw_V q1542 q1543 q1544 q136 q1545) rfl rfl rfl (by decide +kernel) (l_room T rfl rfl)) rfl rfl hz10 dL_law_1213 ?_
    show kW X (s9, τ) 1216 _ _
    refine k_aload_n hX dL_law_1216 rfl 1 rfl ?_
    refine k_aload_n hX dL_law_1217 rfl 3 rfl ?_
    refine k_iload_n hX dL_law_1218 rfl 0 rfl ?_
    refine k_iconst (v := 1) hX dL_law_1219 (by decide) ?_
    refine k_iadd hX dL_law_1220 ?_
    refine l_sld T h dL_law_1221 (fun v11 h => ?_)
    refine k_aload_n hX dL_law_1222 rfl 3 rfl ?_
    refine k_iload_n hX dL_law_1223 rfl 0 rfl ?_
    refine k_iconst (v := 2) hX dL_law_1224 (by decide) ?_
    refine k_iadd hX dL_law_1225 ?_
    refine l_sld T h dL_law_1226 (fun v12 h => ?_)
    refine k_aload_n hX dL_law_1227 rfl 3 rfl ?_
    refine k_iload_n hX dL_law_1228 rfl 0 rfl ?_
    refine k_iconst (v := 3) hX dL_law_1229 (by decide) ?_
    refine k_iadd hX dL_law_1230 ?_
    refine l_sld T h dL_law_1231 (fun v13 h => ?_)
    refine k_aload_n hX dL_law_1232 rfl 3 rfl ?_
    refine k_iload_n hX dL_law_1233 rfl 0 rfl ?_
    refine k_iconst (v := 4) hX dL_law_1234 (by decide) ?_
    refine k_iadd hX dL_law_1235 ?_
    refine l_sld T h dL_law_1236 (fun v14 h => ?_)
    refine k_if_eq (tgt := 1244) hX h dL_law_1237 (by decide) (fun h => ?_) (fun h => ?_)
    · refine k_iconst (v := 0) hX dL_law_1244 (by decide) ?_
      refine k_aload_n hX dL_law_1245 rfl 3 rfl ?_
      refine k_iload_n hX dL_law_1246 rfl 0 rfl ?_
      refine k_iconst (v := 5) hX dL_law_1247 (by decide) ?_
      refine k_iadd hX dL_law_1248 ?_
      refine l_sld T h dL_law_1249 (fun v15 h => ?_)
      obtain ⟨v16, t17, h1, h⟩ := bd2_of h
      refine l_callT_i (σ := (s9, τ)) (τ' := t17) (As := [.int v11, .int v12, .int v13, .int 0, .int v15]) T (met_wave T.2.2.2.2.2.2.2.2.1.1 _ _ _ _ _ _ _ h1) (cwV 5 T.1.2.2.2.2 (lw_V q2182 q2183 q2184 q152 q2185) rfl rfl rfl (by decide +kernel) (l_room T rfl rfl)) rfl rfl hz10 dL_law_1250 ?_
      show kW X (s9, t17) 1253 _ _
      refine k_icmp_eq (tgt := 1463) hX h dL_law_1253 (by decide) (fun h => ?_) (fun h => ?_)
      · refine k_iinc (j := 0) [(3, .int (i + 7)), (2, .ref ((Et.2.2.2.2.1 0))), (1, .ref x), (0, .ref b)] hX dL_law_1463 rfl rfl rfl rfl ?_
        refine k_goto (tgt := 18) hX dL_law_1466 (by decide) ?_
        exact hk18 _ _ _ hz10 h
      · refine k_iconst (v := 0) hX dL_law_1256 (by decide) ?_
        exact l_ret T hz10 h dL_law_1257
    · refine k_iconst (v := 1) hX dL_law_1240 (by decide) ?_
      refine k_goto (tgt := 1245) hX dL_law_1241 (by decide) ?_
      refine k_aload_n hX dL_law_1245 rfl 3 rfl ?_
      refine k_iload_n hX dL_law_1246 rfl 0 rfl ?_
      refine k_iconst (v := 5) hX dL_law_1247 (by decide) ?_
      refine k_iadd hX dL_law_1248 ?_
      refine l_sld T h dL_law_1249 (fun v18 h => ?_)
      obtain ⟨v19, t20, h1, h⟩ := bd2_of h
      refine l_callT_i (σ := (s9, τ)) (τ' := t20) (As := [.int v11, .int v12, .int v13, .int 1, .int v18]) T (met_wave T.2.2.2.2.2.2.2.2.1.1 _ _ _ _ _ _ _ h1) (cwV 5 T.1.2.2.2.2 (lw_V q2182 q2183 q2184 q152 q2185) rfl rfl rfl (by decide +kernel) (l_room T rfl rfl)) rfl rfl hz10 dL_law_1250 ?_
      show kW X (s9, t20) 1253 _ _
      refine k_icmp_eq (tgt := 1463) hX h dL_law_1253 (by decide) (fun h => ?_) (fun h => ?_)
      · refine k_iinc (j := 0) [(3, .int (i + 7)), (2, .ref ((Et.2.2.2.2.1 0))), (1, .ref x), (0, .ref b)] hX dL_law_1463 rfl rfl rfl rfl ?_
        refine k_goto (tgt := 18) hX dL_law_1466 (by decide) ?_
        exact hk18 _ _ _ hz10 h
      · refine k_iconst (v := 0) hX dL_law_1256 (by decide) ?_
        exact l_ret T hz10 h dL_law_1257
  · refine k_iconst (v := 1) hX dL_law_1203 (by decide) ?_
    refine k_goto (tgt := 1208) hX dL_law_1204 (by decide) ?_
    refine k_aload_n hX dL_law_1208 rfl 3 rfl ?_
    refine k_iload_n hX dL_law_1209 rfl 0 rfl ?_
    refine k_iconst (v := 5) hX dL_law_1210 (by decide) ?_
    refine k_iadd hX dL_law_1211 ?_
    refine l_sld T h dL_law_1212 (fun v21 h => ?_)
    obtain ⟨v22, s23, h1, hz24, h⟩ := lcR_of h
    refine l_callC_i (σ := (s, τ)) (s' := s23) (As := [.int v3, .int v4, .int v5, .int 1, .int v21]) T (met_FX0_wave _ _ _ _ _ _ _ _ h1) (cwV 5 T.1.2.2.2.2 (lw_V q1542 q1543 q1544 q136 q1545) rfl rfl rfl (by decide +kernel) (l_room T rfl rfl)) rfl rfl hz24 dL_law_1213 ?_
    show kW X (s23, τ) 1216 _ _
    refine k_aload_n hX dL_law_1216 rfl 1 rfl ?_
    refine k_aload_n hX dL_law_1217 rfl 3 rfl ?_
    refine k_iload_n hX dL_law_1218 rfl 0 rfl ?_
    refine k_iconst (v := 1) hX dL_law_1219 (by decide) ?_
    refine k_iadd hX dL_law_1220 ?_
    refine l_sld T h dL_law_1221 (fun v25 h => ?_)
    refine k_aload_n hX dL_law_1222 rfl 3 rfl ?_
    refine k_iload_n hX dL_law_1223 rfl 0 rfl ?_
    refine k_iconst (v := 2) hX dL_law_1224 (by decide) ?_
    refine k_iadd hX dL_law_1225 ?_
    refine l_sld T h dL_law_1226 (fun v26 h => ?_)
    refine k_aload_n hX dL_law_1227 rfl 3 rfl ?_
    refine k_iload_n hX dL_law_1228 rfl 0 rfl ?_
    refine k_iconst (v := 3) hX dL_law_1229 (by decide) ?_
    refine k_iadd hX dL_law_1230 ?_
    refine l_sld T h dL_law_1231 (fun v27 h => ?_)
    refine k_aload_n hX dL_law_1232 rfl 3 rfl ?_
    refine k_iload_n hX dL_law_1233 rfl 0 rfl ?_
    refine k_iconst (v := 4) hX dL_law_1234 (by decide) ?_
    refine k_iadd hX dL_law_1235 ?_
    refine l_sld T h dL_law_1236 (fun v28 h => ?_)
    refine k_if_eq (tgt := 1244) hX h dL_law_1237 (by decide) (fun h => ?_) (fun h => ?_)
    · refine k_iconst (v := 0) hX dL_law_1244 (by decide) ?_
      refine k_aload_n hX dL_law_1245 rfl 3 rfl ?_
      refine k_iload_n hX dL_law_1246 rfl 0 rfl ?_
      refine k_iconst (v := 5) hX dL_law_1247 (by decide) ?_
      refine k_iadd hX dL_law_1248 ?_
      refine l_sld T h dL_law_1249 (fun v29 h => ?_)
      obtain ⟨v30, t31, h1, h⟩ := bd2_of h
      refine l_callT_i (σ := (s23, τ)) (τ' := t31) (As := [.int v25, .int v26, .int v27, .int 0, .int v29]) T (met_wave T.2.2.2.2.2.2.2.2.1.1 _ _ _ _ _ _ _ h1) (cwV 5 T.1.2.2.2.2 (lw_V q2182 q2183 q2184 q152 q2185) rfl rfl rfl (by decide +kernel) (l_room T rfl rfl)) rfl rfl hz24 dL_law_1250 ?_
      show kW X (s23, t31) 1253 _ _
      refine k_icmp_eq (tgt := 1463) hX h dL_law_1253 (by decide) (fun h => ?_) (fun h => ?_)
      · refine k_iinc (j := 0) [(3, .int (i + 7)), (2, .ref ((Et.2.2.2.2.1 0))), (1, .ref x), (0, .ref b)] hX dL_law_1463 rfl rfl rfl rfl ?_
        refine k_goto (tgt := 18) hX dL_law_1466 (by decide) ?_
        exact hk18 _ _ _ hz24 h
      · refine k_iconst (v := 0) hX dL_law_1256 (by decide) ?_
        exact l_ret T hz24 h dL_law_1257
    · refine k_iconst (v := 1) hX dL_law_1240 (by decide) ?_
      refine k_goto (tgt := 1245) hX dL_law_1241 (by decide) ?_
      refine k_aload_n hX dL_law_1245 rfl 3 rfl ?_
      refine k_iload_n hX dL_law_1246 rfl 0 rfl ?_
      refine k_iconst (v := 5) hX dL_law_1247 (by decide) ?_
      refine k_iadd hX dL_law_1248 ?_
      refine l_sld T h dL_law_1249 (fun v32 h => ?_)
      obtain ⟨v33, t34, h1, h⟩ := bd2_of h
      refine l_callT_i (σ := (s23, τ)) (τ' := t34) (As := [.int v25, .int v26, .int v27, .int 1, .int v32]) T (met_wave T.2.2.2.2.2.2.2.2.1.1 _ _ _ _ _ _ _ h1) (cwV 5 T.1.2.2.2.2 (lw_V q2182 q2183 q2184 q152 q2185) rfl rfl rfl (by decide +kernel) (l_room T rfl rfl)) rfl rfl hz24 dL_law_1250 ?_
      show kW X (s23, t34) 1253 _ _
      refine k_icmp_eq (tgt := 1463) hX h dL_law_1253 (by decide) (fun h => ?_) (fun h => ?_)
      · refine k_iinc (j := 0) [(3, .int (i + 7)), (2, .ref ((Et.2.2.2.2.1 0))), (1, .ref x), (0, .ref b)] hX dL_law_1463 rfl rfl rfl rfl ?_
        refine k_goto (tgt := 18) hX dL_law_1466 (by decide) ?_
        exact hk18 _ _ _ hz24 h
      · refine k_iconst (v := 0) hX dL_law_1256 (by decide) ?_
        exact l_ret T hz24 h dL_law_1257
def LW_c25 (st : Nat → Option Nat) (nf : Nat) (xs : Nat → Int32) (L x z0 l0 : Nat) (k18 : Int32 → CS → TS → Option Int32) (i : Int32) (s : CS) (τ : TS) : Option Int32 :=
  lcR z0 l0 (FX0_rules nf x s) fun v3 s4 =>
  bd2 (T_rules nf τ) fun v6 t7 =>
  if v3 = v6 then
  (k18 (i + 7) s4 t7)
  else (some 0)
theorem LW_c25_ok {X : KC LWS} {E : CE} {Et : TE} {b L z0 l0 zT : Nat} {xs : Nat → Int32} (T : lOK X E Et b L xs z0 l0 zT) {nf x : Nat} {k18 : Int32 → CS → TS → Option Int32} (hk18 : ∀ (i : Int32) (s : CS) (τ : TS), (cz s ≤ 1200128 + z0 ∧ cl s ≤ 5501098 + l0) → k18 i s τ = some 1 → kW X (s, τ) 18 [(3, .int i), (2, .ref (Et.2.2.2.2.1 0)), (1, .ref x), (0, .ref b)] []) {i : Int32} {s : CS} {τ : TS} (hz : cz s ≤ 1200128 + z0 ∧ cl s ≤ 5501098 + l0) (h : LW_c25 E.2.2.2 nf xs L x z0 l0 k18 i s τ = some 1) : kW X (s, τ) 1258 [(3, .int i), (2, .ref (Et.2.2.2.2.1 0)), (1, .ref x), (0, .ref b)] [] := by
  unfold LW_c25 at h
  have hX := T.1
  refine k_aload_n hX dL_law_1258 rfl 2 rfl ?_
  obtain ⟨v3, s4, h1, hz5, h⟩ := lcR_of h
  refine l_callC_i (σ := (s, τ)) (s' := s4) (As := []) T (met_FX0_rules _ _ _ h1) (cwV 0 T.1.2.2.2.2 (lw_V q1484 q1485 q1486 q136 q1487) rfl rfl rfl (by decide +kernel) (l_room T rfl rfl)) rfl rfl hz5 dL_law_1259 ?_
  show kW X (s4, τ) 1262 _ _
  refine k_aload_n hX dL_law_1262 rfl 1 rfl ?_
  obtain ⟨v6, t7, h1, h⟩ := bd2_of h
  refine l_callT_i (σ := (s4, τ)) (τ' := t7) (As := []) T (met_rules T.2.2.2.2.2.2.2.2.1.1 _ _ h1) (cwV 0 T.1.2.2.2.2 (lw_V q2196 q2197 q2198 q152 q2199) rfl rfl rfl (by decide +kernel) (l_room T rfl rfl)) rfl rfl hz5 dL_law_1263 ?_
  show kW X (s4, t7) 1266 _ _
  refine k_icmp_eq (tgt := 1463) hX h dL_law_1266 (by decide) (fun h => ?_) (fun h => ?_)
  · refine k_iinc (j := 0) [(3, .int (i + 7)), (2, .ref ((Et.2.2.2.2.1 0))), (1, .ref x), (0, .ref b)] hX dL_law_1463 rfl rfl rfl rfl ?_
    refine k_goto (tgt := 18) hX dL_law_1466 (by decide) ?_
    exact hk18 _ _ _ hz5 h
  · refine k_iconst (v := 0) hX dL_law_1269 (by decide) ?_
    exact l_ret T hz5 h dL_law_1270
def LW_c26 (st : Nat → Option Nat) (nf : Nat) (xs : Nat → Int32) (L x z0 l0 : Nat) (k18 : Int32 → CS → TS → Option Int32) (i : Int32) (s : CS) (τ : TS) : Option Int32 :=
  lX xs L (i + 1) fun v3 =>
  lX xs L (i + 2) fun v4 =>
  lX xs L (i + 3) fun v5 =>
  lcR z0 l0 (FX0_was x v3 v4 v5 s) fun v6 s7 =>
  lX xs L (i + 1) fun v9 =>
  lX xs L (i + 2) fun v10 =>
  lX xs L (i + 3) fun v11 =>
  bd2 (T_was v9 v10 v11 τ) fun v12 t13 =>
  if v6 = v12 then
  (k18 (i + 7) s7 t13)
  else (some 0)
theorem LW_c26_ok {X : KC LWS} {E : CE} {Et : TE} {b L z0 l0 zT : Nat} {xs : Nat → Int32} (T : lOK X E Et b L xs z0 l0 zT) {nf x : Nat} {k18 : Int32 → CS → TS → Option Int32} (hk18 : ∀ (i : Int32) (s : CS) (τ : TS), (cz s ≤ 1200128 + z0 ∧ cl s ≤ 5501098 + l0) → k18 i s τ = some 1 → kW X (s, τ) 18 [(3, .int i), (2, .ref (Et.2.2.2.2.1 0)), (1, .ref x), (0, .ref b)] []) {i : Int32} {s : CS} {τ : TS} (hz : cz s ≤ 1200128 + z0 ∧ cl s ≤ 5501098 + l0) (h : LW_c26 E.2.2.2 nf xs L x z0 l0 k18 i s τ = some 1) : kW X (s, τ) 1271 [(3, .int i), (2, .ref (Et.2.2.2.2.1 0)), (1, .ref x), (0, .ref b)] [] := by
  unfold LW_c26 at h
  have hX := T.1
  refine k_aload_n hX dL_law_1271 rfl 2 rfl ?_
  refine k_aload_n hX dL_law_1272 rfl 3 rfl ?_
  refine k_iload_n hX dL_law_1273 rfl 0 rfl ?_
  refine k_iconst (v := 1) hX dL_law_1274 (by decide) ?_
  refine k_iadd hX dL_law_1275 ?_
  refine l_sld T h dL_law_1276 (fun v3 h => ?_)
  refine k_aload_n hX dL_law_1277 rfl 3 rfl ?_
  refine k_iload_n hX dL_law_1278 rfl 0 rfl ?_
  refine k_iconst (v := 2) hX dL_law_1279 (by decide) ?_
  refine k_iadd hX dL_law_1280 ?_
  refine l_sld T h dL_law_1281 (fun v4 h => ?_)
  refine k_aload_n hX dL_law_1282 rfl 3 rfl ?_
  refine k_iload_n hX dL_law_1283 rfl 0 rfl ?_
  refine k_iconst (v := 3) hX dL_law_1284 (by decide) ?_
  refine k_iadd hX dL_law_1285 ?_
  refine l_sld T h dL_law_1286 (fun v5 h => ?_)
  obtain ⟨v6, s7, h1, hz8, h⟩ := lcR_of h
  refine l_callC_i (σ := (s, τ)) (s' := s7) (As := [.int v3, .int v4, .int v5]) T (met_FX0_was _ _ _ _ _ _ h1) (cwV 3 T.1.2.2.2.2 (lw_V q1569 q1570 q1571 q136 q1572) rfl rfl rfl (by decide +kernel) (l_room T rfl rfl)) rfl rfl hz8 dL_law_1287 ?_
  show kW X (s7, τ) 1290 _ _
  refine k_aload_n hX dL_law_1290 rfl 1 rfl ?_
  refine k_aload_n hX dL_law_1291 rfl 3 rfl ?_
  refine k_iload_n hX dL_law_1292 rfl 0 rfl ?_
  refine k_iconst (v := 1) hX dL_law_1293 (by decide) ?_
  refine k_iadd hX dL_law_1294 ?_
  refine l_sld T h dL_law_1295 (fun v9 h => ?_)
  refine k_aload_n hX dL_law_1296 rfl 3 rfl ?_
  refine k_iload_n hX dL_law_1297 rfl 0 rfl ?_
  refine k_iconst (v := 2) hX dL_law_1298 (by decide) ?_
  refine k_iadd hX dL_law_1299 ?_
  refine l_sld T h dL_law_1300 (fun v10 h => ?_)
  refine k_aload_n hX dL_law_1301 rfl 3 rfl ?_
  refine k_iload_n hX dL_law_1302 rfl 0 rfl ?_
  refine k_iconst (v := 3) hX dL_law_1303 (by decide) ?_
  refine k_iadd hX dL_law_1304 ?_
  refine l_sld T h dL_law_1305 (fun v11 h => ?_)
  obtain ⟨v12, t13, h1, h⟩ := bd2_of h
  refine l_callT_i (σ := (s7, τ)) (τ' := t13) (As := [.int v9, .int v10, .int v11]) T (met_was T.2.2.2.2.2.2.2.2.1.1 _ _ _ _ _ h1) (cwV 3 T.1.2.2.2.2 (lw_V q2200 q2201 q2202 q152 q2203) rfl rfl rfl (by decide +kernel) (l_room T rfl rfl)) rfl rfl hz8 dL_law_1306 ?_
  show kW X (s7, t13) 1309 _ _
  refine k_icmp_eq (tgt := 1463) hX h dL_law_1309 (by decide) (fun h => ?_) (fun h => ?_)
  · refine k_iinc (j := 0) [(3, .int (i + 7)), (2, .ref ((Et.2.2.2.2.1 0))), (1, .ref x), (0, .ref b)] hX dL_law_1463 rfl rfl rfl rfl ?_
    refine k_goto (tgt := 18) hX dL_law_1466 (by decide) ?_
    exact hk18 _ _ _ hz8 h
  · refine k_iconst (v := 0) hX dL_law_1312 (by decide) ?_
    exact l_ret T hz8 h dL_law_1313
def LW_c27 (st : Nat → Option Nat) (nf : Nat) (xs : Nat → Int32) (L x z0 l0 : Nat) (k18 : Int32 → CS → TS → Option Int32) (i : Int32) (s : CS) (τ : TS) : Option Int32 :=
  lX xs L (i + 1) fun v3 =>
  lcL z0 l0 (FX0_fits nf x v3 s) fun v4 s5 =>
  lX xs L (i + 1) fun v7 =>
  bd2 (T_fits nf v7 τ) fun v8 t9 =>
  if v4 = v8 then
  (k18 (i + 7) s5 t9)
  else (some 0)
theorem LW_c27_ok {X : KC LWS} {E : CE} {Et : TE} {b L z0 l0 zT : Nat} {xs : Nat → Int32} (T : lOK X E Et b L xs z0 l0 zT) {nf x : Nat} {k18 : Int32 → CS → TS → Option Int32} (hk18 : ∀ (i : Int32) (s : CS) (τ : TS), (cz s ≤ 1200128 + z0 ∧ cl s ≤ 5501098 + l0) → k18 i s τ = some 1 → kW X (s, τ) 18 [(3, .int i), (2, .ref (Et.2.2.2.2.1 0)), (1, .ref x), (0, .ref b)] []) {i : Int32} {s : CS} {τ : TS} (hz : cz s ≤ 1200128 + z0 ∧ cl s ≤ 5501098 + l0) (h : LW_c27 E.2.2.2 nf xs L x z0 l0 k18 i s τ = some 1) : kW X (s, τ) 1314 [(3, .int i), (2, .ref (Et.2.2.2.2.1 0)), (1, .ref x), (0, .ref b)] [] := by
  unfold LW_c27 at h
  have hX := T.1
  refine k_aload_n hX dL_law_1314 rfl 2 rfl ?_
  refine k_aload_n hX dL_law_1315 rfl 3 rfl ?_
  refine k_iload_n hX dL_law_1316 rfl 0 rfl ?_
  refine k_iconst (v := 1) hX dL_law_1317 (by decide) ?_
  refine k_iadd hX dL_law_1318 ?_
  refine l_sld T h dL_law_1319 (fun v3 h => ?_)
  obtain ⟨v4, s5, h1, hz6, h⟩ := lcL_of h
  refine l_callC_l (σ := (s, τ)) (s' := s5) (As := [.int v3]) T (met_FX0_fits _ _ _ _ h1) (cwV 1 T.1.2.2.2.2 (lw_V q1573 q1574 q1575 q136 q1576) rfl rfl rfl (by decide +kernel) (l_room T rfl rfl)) rfl rfl hz6 dL_law_1320 ?_
  show kW X (s5, τ) 1323 _ _
  refine k_aload_n hX dL_law_1323 rfl 1 rfl ?_
  refine k_aload_n hX dL_law_1324 rfl 3 rfl ?_
  refine k_iload_n hX dL_law_1325 rfl 0 rfl ?_
  refine k_iconst (v := 1) hX dL_law_1326 (by decide) ?_
  refine k_iadd hX dL_law_1327 ?_
  refine l_sld T h dL_law_1328 (fun v7 h => ?_)
  obtain ⟨v8, t9, h1, h⟩ := bd2_of h
  refine l_callT_l (σ := (s5, τ)) (τ' := t9) (As := [.int v7]) T (met_fits T.2.2.2.2.2.2.2.2.1.1 _ _ _ h1) (cwV 1 T.1.2.2.2.2 (lw_V q2204 q2205 q2206 q152 q2207) rfl rfl rfl (by decide +kernel) (l_room T rfl rfl)) rfl rfl hz6 dL_law_1329 ?_
  show kW X (s5, t9) 1332 _ _
  refine k_lcmp_eq (tgt := 1463) hX h dL_law_1332 dL_law_1333 (by decide) (fun h => ?_) (fun h => ?_)
  · refine k_iinc (j := 0) [(3, .int (i + 7)), (2, .ref ((Et.2.2.2.2.1 0))), (1, .ref x), (0, .ref b)] hX dL_law_1463 rfl rfl rfl rfl ?_
    refine k_goto (tgt := 18) hX dL_law_1466 (by decide) ?_
    exact hk18 _ _ _ hz6 h
  · refine k_iconst (v := 0) hX dL_law_1336 (by decide) ?_
    exact l_ret T hz6 h dL_law_1337
def LW_c28 (st : Nat → Option Nat) (nf : Nat) (xs : Nat → Int32) (L x z0 l0 : Nat) (k18 : Int32 → CS → TS → Option Int32) (i : Int32) (s : CS) (τ : TS) : Option Int32 :=
  lX xs L (i + 1) fun v3 =>
  lX xs L (i + 2) fun v4 =>
  lX xs L (i + 3) fun v5 =>
  lX xs L (i + 4) fun v6 =>
  lcR z0 l0 (FX0_nights nf x v3 v4 v5 v6 s) fun v7 s8 =>
  lX xs L (i + 1) fun v10 =>
  lX xs L (i + 2) fun v11 =>
  lX xs L (i + 3) fun v12 =>
  lX xs L (i + 4) fun v13 =>
  bd2 (T_nights nf v10 v11 v12 v13 τ) fun v14 t15 =>
  if v7 = v14 then
  (k18 (i + 7) s8 t15)
  else (some 0)
theorem LW_c28_ok {X : KC LWS} {E : CE} {Et : TE} {b L z0 l0 zT : Nat} {xs : Nat → Int32} (T : lOK X E Et b L xs z0 l0 zT) {nf x : Nat} {k18 : Int32 → CS → TS → Option Int32} (hk18 : ∀ (i : Int32) (s : CS) (τ : TS), (cz s ≤ 1200128 + z0 ∧ cl s ≤ 5501098 + l0) → k18 i s τ = some 1 → kW X (s, τ) 18 [(3, .int i), (2, .ref (Et.2.2.2.2.1 0)), (1, .ref x), (0, .ref b)] []) {i : Int32} {s : CS} {τ : TS} (hz : cz s ≤ 1200128 + z0 ∧ cl s ≤ 5501098 + l0) (h : LW_c28 E.2.2.2 nf xs L x z0 l0 k18 i s τ = some 1) : kW X (s, τ) 1338 [(3, .int i), (2, .ref (Et.2.2.2.2.1 0)), (1, .ref x), (0, .ref b)] [] := by
  unfold LW_c28 at h
  have hX := T.1
  refine k_aload_n hX dL_law_1338 rfl 2 rfl ?_
  refine k_aload_n hX dL_law_1339 rfl 3 rfl ?_
  refine k_iload_n hX dL_law_1340 rfl 0 rfl ?_
  refine k_iconst (v := 1) hX dL_law_1341 (by decide) ?_
  refine k_iadd hX dL_law_1342 ?_
  refine l_sld T h dL_law_1343 (fun v3 h => ?_)
  refine k_aload_n hX dL_law_1344 rfl 3 rfl ?_
  refine k_iload_n hX dL_law_1345 rfl 0 rfl ?_
  refine k_iconst (v := 2) hX dL_law_1346 (by decide) ?_
  refine k_iadd hX dL_law_1347 ?_
  refine l_sld T h dL_law_1348 (fun v4 h => ?_)
  refine k_aload_n hX dL_law_1349 rfl 3 rfl ?_
  refine k_iload_n hX dL_law_1350 rfl 0 rfl ?_
  refine k_iconst (v := 3) hX dL_law_1351 (by decide) ?_
  refine k_iadd hX dL_law_1352 ?_
  refine l_sld T h dL_law_1353 (fun v5 h => ?_)
  refine k_aload_n hX dL_law_1354 rfl 3 rfl ?_
  refine k_iload_n hX dL_law_1355 rfl 0 rfl ?_
  refine k_iconst (v := 4) hX dL_law_1356 (by decide) ?_
  refine k_iadd hX dL_law_1357 ?_
  refine l_sld T h dL_law_1358 (fun v6 h => ?_)
  obtain ⟨v7, s8, h1, hz9, h⟩ := lcR_of h
  refine l_callC_i (σ := (s, τ)) (s' := s8) (As := [.int v3, .int v4, .int v5, .int v6]) T (met_FX0_nights _ _ _ _ _ _ _ h1) (cwV 4 T.1.2.2.2.2 (lw_V q1585 q1586 q1587 q136 q1588) rfl rfl rfl (by decide +kernel) (l_room T rfl rfl)) rfl rfl hz9 dL_law_1359 ?_
  show kW X (s8, τ) 1362 _ _
  refine k_aload_n hX dL_law_1362 rfl 1 rfl ?_
  refine k_aload_n hX dL_law_1363 rfl 3 rfl ?_
  refine k_iload_n hX dL_law_1364 rfl 0 rfl ?_
  refine k_iconst (v := 1) hX dL_law_1365 (by decide) ?_
  refine k_iadd hX dL_law_1366 ?_
  refine l_sld T h dL_law_1367 (fun v10 h => ?_)
  refine k_aload_n hX dL_law_1368 rfl 3 rfl ?_
  refine k_iload_n hX dL_law_1369 rfl 0 rfl ?_
  refine k_iconst (v := 2) hX dL_law_1370 (by decide) ?_
  refine k_iadd hX dL_law_1371 ?_
  refine l_sld T h dL_law_1372 (fun v11 h => ?_)
  refine k_aload_n hX dL_law_1373 rfl 3 rfl ?_
  refine k_iload_n hX dL_law_1374 rfl 0 rfl ?_
  refine k_iconst (v := 3) hX dL_law_1375 (by decide) ?_
  refine k_iadd hX dL_law_1376 ?_
  refine l_sld T h dL_law_1377 (fun v12 h => ?_)
  refine k_aload_n hX dL_law_1378 rfl 3 rfl ?_
  refine k_iload_n hX dL_law_1379 rfl 0 rfl ?_
  refine k_iconst (v := 4) hX dL_law_1380 (by decide) ?_
  refine k_iadd hX dL_law_1381 ?_
  refine l_sld T h dL_law_1382 (fun v13 h => ?_)
  obtain ⟨v14, t15, h1, h⟩ := bd2_of h
  refine l_callT_i (σ := (s8, τ)) (τ' := t15) (As := [.int v10, .int v11, .int v12, .int v13]) T (met_nights T.2.2.2.2.2.2.2.2.1.1 _ _ _ _ _ _ h1) (cwV 4 T.1.2.2.2.2 (lw_V q2220 q2221 q2222 q152 q2223) rfl rfl rfl (by decide +kernel) (l_room T rfl rfl)) rfl rfl hz9 dL_law_1383 ?_
  show kW X (s8, t15) 1386 _ _
  refine k_icmp_eq (tgt := 1463) hX h dL_law_1386 (by decide) (fun h => ?_) (fun h => ?_)
  · refine k_iinc (j := 0) [(3, .int (i + 7)), (2, .ref ((Et.2.2.2.2.1 0))), (1, .ref x), (0, .ref b)] hX dL_law_1463 rfl rfl rfl rfl ?_
    refine k_goto (tgt := 18) hX dL_law_1466 (by decide) ?_
    exact hk18 _ _ _ hz9 h
  · refine k_iconst (v := 0) hX dL_law_1389 (by decide) ?_
    exact l_ret T hz9 h dL_law_1390
def LW_c29 (st : Nat → Option Nat) (nf : Nat) (xs : Nat → Int32) (L x z0 l0 : Nat) (k18 : Int32 → CS → TS → Option Int32) (i : Int32) (s : CS) (τ : TS) : Option Int32 :=
  lX xs L (i + 1) fun v3 =>
  lX xs L (i + 2) fun v4 =>
  if v4 = 0 then
  (lcR z0 l0 (FX0_mark nf x v3 0 s) fun v5 s6 =>
  lX xs L (i + 1) fun v8 =>
  lX xs L (i + 2) fun v9 =>
  if v9 = 0 then
  (bd2 (T_mark nf v8 0 τ) fun v10 t11 =>
  if v5 = v10 then
  (k18 (i + 7) s6 t11)
  else (some 0))
  else (bd2 (T_mark nf v8 1 τ) fun v12 t13 =>
  if v5 = v12 then
  (k18 (i + 7) s6 t13)
  else (some 0)))
  else (lcR z0 l0 (FX0_mark nf x v3 1 s) fun v14 s15 =>
  lX xs L (i + 1) fun v17 =>
  lX xs L (i + 2) fun v18 =>
  if v18 = 0 then
  (bd2 (T_mark nf v17 0 τ) fun v19 t20 =>
  if v14 = v19 then
  (k18 (i + 7) s15 t20)
  else (some 0))
  else (bd2 (T_mark nf v17 1 τ) fun v21 t22 =>
  if v14 = v21 then
  (k18 (i + 7) s15 t22)
  else (some 0)))
theorem LW_c29_ok {X : KC LWS} {E : CE} {Et : TE} {b L z0 l0 zT : Nat} {xs : Nat → Int32} (T : lOK X E Et b L xs z0 l0 zT) {nf x : Nat} {k18 : Int32 → CS → TS → Option Int32} (hk18 : ∀ (i : Int32) (s : CS) (τ : TS), (cz s ≤ 1200128 + z0 ∧ cl s ≤ 5501098 + l0) → k18 i s τ = some 1 → kW X (s, τ) 18 [(3, .int i), (2, .ref (Et.2.2.2.2.1 0)), (1, .ref x), (0, .ref b)] []) {i : Int32} {s : CS} {τ : TS} (hz : cz s ≤ 1200128 + z0 ∧ cl s ≤ 5501098 + l0) (h : LW_c29 E.2.2.2 nf xs L x z0 l0 k18 i s τ = some 1) : kW X (s, τ) 1391 [(3, .int i), (2, .ref (Et.2.2.2.2.1 0)), (1, .ref x), (0, .ref b)] [] := by
  unfold LW_c29 at h
  have hX := T.1
  refine k_aload_n hX dL_law_1391 rfl 2 rfl ?_
  refine k_aload_n hX dL_law_1392 rfl 3 rfl ?_
  refine k_iload_n hX dL_law_1393 rfl 0 rfl ?_
  refine k_iconst (v := 1) hX dL_law_1394 (by decide) ?_
  refine k_iadd hX dL_law_1395 ?_
  refine l_sld T h dL_law_1396 (fun v3 h => ?_)
  refine k_aload_n hX dL_law_1397 rfl 3 rfl ?_
  refine k_iload_n hX dL_law_1398 rfl 0 rfl ?_
  refine k_iconst (v := 2) hX dL_law_1399 (by decide) ?_
  refine k_iadd hX dL_law_1400 ?_
  refine l_sld T h dL_law_1401 (fun v4 h => ?_)
  refine k_if_eq (tgt := 1409) hX h dL_law_1402 (by decide) (fun h => ?_) (fun h => ?_)
  · refine k_iconst (v := 0) hX dL_law_1409 (by decide) ?_
    obtain ⟨v5, s6, h1, hz7, h⟩ := lcR_of h
    refine l_callC_i (σ := (s, τ)) (s' := s6) (As := [.int v3, .int 0]) T (met_FX0_mark _ _ _ _ _ h1) (cwV 2 T.1.2.2.2.2 (lw_V q1601 q1602 q1603 q136 q1604) rfl rfl rfl (by decide +kernel) (l_room T rfl rfl)) rfl rfl hz7 dL_law_1410 ?_
    show kW X (s6, τ) 1413 _ _
    refine k_aload_n hX dL_law_1413 rfl 1 rfl ?_
    refine k_aload_n hX dL_law_1414 rfl 3 rfl ?_
    refine k_iload_n hX dL_law_1415 rfl 0 rfl ?_
    refine k_iconst (v := 1) hX dL_law_1416 (by decide) ?_
    refine k_iadd hX dL_law_1417 ?_
    refine l_sld T h dL_law_1418 (fun v8 h => ?_)
    refine k_aload_n hX dL_law_1419 rfl 3 rfl ?_
    refine k_iload_n hX dL_law_1420 rfl 0 rfl ?_
    refine k_iconst (v := 2) hX dL_law_1421 (by decide) ?_
    refine k_iadd hX dL_law_1422 ?_
    refine l_sld T h dL_law_1423 (fun v9 h => ?_)
    refine k_if_eq (tgt := 1431) hX h dL_law_1424 (by decide) (fun h => ?_) (fun h => ?_)
    · refine k_iconst (v := 0) hX dL_law_1431 (by decide) ?_
      obtain ⟨v10, t11, h1, h⟩ := bd2_of h
      refine l_callT_i (σ := (s6, τ)) (τ' := t11) (As := [.int v8, .int 0]) T (met_mark T.2.2.2.2.2.2.2.2.1.1 _ _ _ _ h1) (cwV 2 T.1.2.2.2.2 (lw_V q2240 q2241 q2242 q152 q2243) rfl rfl rfl (by decide +kernel) (l_room T rfl rfl)) rfl rfl hz7 dL_law_1432 ?_
      show kW X (s6, t11) 1435 _ _
      refine k_icmp_eq (tgt := 1463) hX h dL_law_1435 (by decide) (fun h => ?_) (fun h => ?_)
      · refine k_iinc (j := 0) [(3, .int (i + 7)), (2, .ref ((Et.2.2.2.2.1 0))), (1, .ref x), (0, .ref b)] hX dL_law_1463 rfl rfl rfl rfl ?_
        refine k_goto (tgt := 18) hX dL_law_1466 (by decide) ?_
        exact hk18 _ _ _ hz7 h
      · refine k_iconst (v := 0) hX dL_law_1438 (by decide) ?_
        exact l_ret T hz7 h dL_law_1439
    · refine k_iconst (v := 1) hX dL_law_1427 (by decide) ?_
      refine k_goto (tgt := 1432) hX dL_law_1428 (by decide) ?_
      obtain ⟨v12, t13, h1, h⟩ := bd2_of h
      refine l_callT_i (σ := (s6, τ)) (τ' := t13) (As := [.int v8, .int 1]) T (met_mark T.2.2.2.2.2.2.2.2.1.1 _ _ _ _ h1) (cwV 2 T.1.2.2.2.2 (lw_V q2240 q2241 q2242 q152 q2243) rfl rfl rfl (by decide +kernel) (l_room T rfl rfl)) rfl rfl hz7 dL_law_1432 ?_
      show kW X (s6, t13) 1435 _ _
      refine k_icmp_eq (tgt := 1463) hX h dL_law_1435 (by decide) (fun h => ?_) (fun h => ?_)
      · refine k_iinc (j := 0) [(3, .int (i + 7)), (2, .ref ((Et.2.2.2.2.1 0))), (1, .ref x), (0, .ref b)] hX dL_law_1463 rfl rfl rfl rfl ?_
        refine k_goto (tgt := 18) hX dL_law_1466 (by decide) ?_
        exact hk18 _ _ _ hz7 h
      · refine k_iconst (v := 0) hX dL_law_1438 (by decide) ?_
        exact l_ret T hz7 h dL_law_1439
  · refine k_iconst (v := 1) hX dL_law_1405 (by decide) ?_
    refine k_goto (tgt := 1410) hX dL_law_1406 (by decide) ?_
    obtain ⟨v14, s15, h1, hz16, h⟩ := lcR_of h
    refine l_callC_i (σ := (s, τ)) (s' := s15) (As := [.int v3, .int 1]) T (met_FX0_mark _ _ _ _ _ h1) (cwV 2 T.1.2.2.2.2 (lw_V q1601 q1602 q1603 q136 q1604) rfl rfl rfl (by decide +kernel) (l_room T rfl rfl)) rfl rfl hz16 dL_law_1410 ?_
    show kW X (s15, τ) 1413 _ _
    refine k_aload_n hX dL_law_1413 rfl 1 rfl ?_
    refine k_aload_n hX dL_law_1414 rfl 3 rfl ?_
    refine k_iload_n hX dL_law_1415 rfl 0 rfl ?_
    refine k_iconst (v := 1) hX dL_law_1416 (by decide) ?_
    refine k_iadd hX dL_law_1417 ?_
    refine l_sld T h dL_law_1418 (fun v17 h => ?_)
    refine k_aload_n hX dL_law_1419 rfl 3 rfl ?_
    refine k_iload_n hX dL_law_1420 rfl 0 rfl ?_
    refine k_iconst (v := 2) hX dL_law_1421 (by decide) ?_
    refine k_iadd hX dL_law_1422 ?_
    refine l_sld T h dL_law_1423 (fun v18 h => ?_)
    refine k_if_eq (tgt := 1431) hX h dL_law_1424 (by decide) (fun h => ?_) (fun h => ?_)
    · refine k_iconst (v := 0) hX dL_law_1431 (by decide) ?_
      obtain ⟨v19, t20, h1, h⟩ := bd2_of h
      refine l_callT_i (σ := (s15, τ)) (τ' := t20) (As := [.int v17, .int 0]) T (met_mark T.2.2.2.2.2.2.2.2.1.1 _ _ _ _ h1) (cwV 2 T.1.2.2.2.2 (lw_V q2240 q2241 q2242 q152 q2243) rfl rfl rfl (by decide +kernel) (l_room T rfl rfl)) rfl rfl hz16 dL_law_1432 ?_
      show kW X (s15, t20) 1435 _ _
      refine k_icmp_eq (tgt := 1463) hX h dL_law_1435 (by decide) (fun h => ?_) (fun h => ?_)
      · refine k_iinc (j := 0) [(3, .int (i + 7)), (2, .ref ((Et.2.2.2.2.1 0))), (1, .ref x), (0, .ref b)] hX dL_law_1463 rfl rfl rfl rfl ?_
        refine k_goto (tgt := 18) hX dL_law_1466 (by decide) ?_
        exact hk18 _ _ _ hz16 h
      · refine k_iconst (v := 0) hX dL_law_1438 (by decide) ?_
        exact l_ret T hz16 h dL_law_1439
    · refine k_iconst (v := 1) hX dL_law_1427 (by decide) ?_
      refine k_goto (tgt := 1432) hX dL_law_1428 (by decide) ?_
      obtain ⟨v21, t22, h1, h⟩ := bd2_of h
      refine l_callT_i (σ := (s15, τ)) (τ' := t22) (As := [.int v17, .int 1]) T (met_mark T.2.2.2.2.2.2.2.2.1.1 _ _ _ _ h1) (cwV 2 T.1.2.2.2.2 (lw_V q2240 q2241 q2242 q152 q2243) rfl rfl rfl (by decide +kernel) (l_room T rfl rfl)) rfl rfl hz16 dL_law_1432 ?_
      show kW X (s15, t22) 1435 _ _
      refine k_icmp_eq (tgt := 1463) hX h dL_law_1435 (by decide) (fun h => ?_) (fun h => ?_)
      · refine k_iinc (j := 0) [(3, .int (i + 7)), (2, .ref ((Et.2.2.2.2.1 0))), (1, .ref x), (0, .ref b)] hX dL_law_1463 rfl rfl rfl rfl ?_
        refine k_goto (tgt := 18) hX dL_law_1466 (by decide) ?_
        exact hk18 _ _ _ hz16 h
      · refine k_iconst (v := 0) hX dL_law_1438 (by decide) ?_
        exact l_ret T hz16 h dL_law_1439
def LW_c30 (st : Nat → Option Nat) (nf : Nat) (xs : Nat → Int32) (L x z0 l0 : Nat) (k18 : Int32 → CS → TS → Option Int32) (i : Int32) (s : CS) (τ : TS) : Option Int32 :=
  lX xs L (i + 1) fun v3 =>
  (FX0_count nf s x v3).bind fun v4 =>
  lX xs L (i + 1) fun v5 =>
  bd2 (T_count nf v5 τ) fun v6 t7 =>
  if v4 = v6 then
  (k18 (i + 7) s t7)
  else (some 0)
theorem LW_c30_ok {X : KC LWS} {E : CE} {Et : TE} {b L z0 l0 zT : Nat} {xs : Nat → Int32} (T : lOK X E Et b L xs z0 l0 zT) {nf x : Nat} {k18 : Int32 → CS → TS → Option Int32} (hk18 : ∀ (i : Int32) (s : CS) (τ : TS), (cz s ≤ 1200128 + z0 ∧ cl s ≤ 5501098 + l0) → k18 i s τ = some 1 → kW X (s, τ) 18 [(3, .int i), (2, .ref (Et.2.2.2.2.1 0)), (1, .ref x), (0, .ref b)] []) {i : Int32} {s : CS} {τ : TS} (hz : cz s ≤ 1200128 + z0 ∧ cl s ≤ 5501098 + l0) (h : LW_c30 E.2.2.2 nf xs L x z0 l0 k18 i s τ = some 1) : kW X (s, τ) 1440 [(3, .int i), (2, .ref (Et.2.2.2.2.1 0)), (1, .ref x), (0, .ref b)] [] := by
  unfold LW_c30 at h
  have hX := T.1
  refine k_aload_n hX dL_law_1440 rfl 2 rfl ?_
  refine k_aload_n hX dL_law_1441 rfl 3 rfl ?_
  refine k_iload_n hX dL_law_1442 rfl 0 rfl ?_
  refine k_iconst (v := 1) hX dL_law_1443 (by decide) ?_
  refine k_iadd hX dL_law_1444 ?_
  refine l_sld T h dL_law_1445 (fun v3 h => ?_)
  obtain ⟨v4, h1, h⟩ := bd_of h
  refine l_callC_i (σ := (s, τ)) (s' := s) (As := [.int v3]) T (met_FX0_count _ _ _ h1) (cwV 1 T.1.2.2.2.2 (lw_V q1610 q1611 q1612 q136 q1613) rfl rfl rfl (by decide +kernel) (l_room T rfl rfl)) rfl rfl hz dL_law_1446 ?_
  show kW X (s, τ) 1449 _ _
  refine k_aload_n hX dL_law_1449 rfl 1 rfl ?_
  refine k_aload_n hX dL_law_1450 rfl 3 rfl ?_
  refine k_iload_n hX dL_law_1451 rfl 0 rfl ?_
  refine k_iconst (v := 1) hX dL_law_1452 (by decide) ?_
  refine k_iadd hX dL_law_1453 ?_
  refine l_sld T h dL_law_1454 (fun v5 h => ?_)
  obtain ⟨v6, t7, h1, h⟩ := bd2_of h
  refine l_callT_i (σ := (s, τ)) (τ' := t7) (As := [.int v5]) T (met_count T.2.2.2.2.2.2.2.2.1.1 _ _ _ h1) (cwV 1 T.1.2.2.2.2 (lw_V q2244 q2245 q2246 q152 q2247) rfl rfl rfl (by decide +kernel) (l_room T rfl rfl)) rfl rfl hz dL_law_1455 ?_
  show kW X (s, t7) 1458 _ _
  refine k_icmp_eq (tgt := 1463) hX h dL_law_1458 (by decide) (fun h => ?_) (fun h => ?_)
  · refine k_iinc (j := 0) [(3, .int (i + 7)), (2, .ref ((Et.2.2.2.2.1 0))), (1, .ref x), (0, .ref b)] hX dL_law_1463 rfl rfl rfl rfl ?_
    refine k_goto (tgt := 18) hX dL_law_1466 (by decide) ?_
    exact hk18 _ _ _ hz h
  · refine k_iconst (v := 0) hX dL_law_1461 (by decide) ?_
    exact l_ret T hz h dL_law_1462
def LW_s (st : Nat → Option Nat) (nf : Nat) (xs : Nat → Int32) (L x z0 l0 : Nat) (k18 : Int32 → CS → TS → Option Int32) (i : Int32) (s : CS) (τ : TS) : Option Int32 :=
  if (((Int32.ofNat L)) - 7) < i then
  (some 1)
  else (lX xs L i fun v1 =>
  nm (v1 &&& 31) fun v2 =>
  if v2 = 0 then
  (LW_c0 st nf xs L x z0 l0 k18 i s τ)
  else (if v2 = 1 then
  (LW_c1 st nf xs L x z0 l0 k18 i s τ)
  else (if v2 = 2 then
  (LW_c2 st nf xs L x z0 l0 k18 i s τ)
  else (if v2 = 3 then
  (LW_c3 st nf xs L x z0 l0 k18 i s τ)
  else (if v2 = 4 then
  (LW_c4 st nf xs L x z0 l0 k18 i s τ)
  else (if v2 = 5 then
  (LW_c5 st nf xs L x z0 l0 k18 i s τ)
  else (if v2 = 6 then
  (LW_c6 st nf xs L x z0 l0 k18 i s τ)
  else (if v2 = 7 then
  (LW_c7 st nf xs L x z0 l0 k18 i s τ)
  else (if v2 = 8 then
  (LW_c8 st nf xs L x z0 l0 k18 i s τ)
  else (if v2 = 9 then
  (LW_c9 st nf xs L x z0 l0 k18 i s τ)
  else (if v2 = 10 then
  (LW_c10 st nf xs L x z0 l0 k18 i s τ)
  else (if v2 = 11 then
  (LW_c11 st nf xs L x z0 l0 k18 i s τ)
  else (if v2 = 12 then
  (LW_c12 st nf xs L x z0 l0 k18 i s τ)
  else (if v2 = 13 then
  (LW_c13 st nf xs L x z0 l0 k18 i s τ)
  else (if v2 = 14 then
  (LW_c14 st nf xs L x z0 l0 k18 i s τ)
  else (if v2 = 15 then
  (LW_c15 st nf xs L x z0 l0 k18 i s τ)
  else (if v2 = 16 then
  (LW_c16 st nf xs L x z0 l0 k18 i s τ)
  else (if v2 = 17 then
  (LW_c17 st nf xs L x z0 l0 k18 i s τ)
  else (if v2 = 18 then
  (LW_c18 st nf xs L x z0 l0 k18 i s τ)
  else (if v2 = 19 then
  (LW_c19 st nf xs L x z0 l0 k18 i s τ)
  else (if v2 = 20 then
  (LW_c20 st nf xs L x z0 l0 k18 i s τ)
  else (if v2 = 21 then
  (LW_c21 st nf xs L x z0 l0 k18 i s τ)
  else (if v2 = 22 then
  (LW_c22 st nf xs L x z0 l0 k18 i s τ)
  else (if v2 = 23 then
  (LW_c23 st nf xs L x z0 l0 k18 i s τ)
  else (if v2 = 24 then
  (LW_c24 st nf xs L x z0 l0 k18 i s τ)
  else (if v2 = 25 then
  (LW_c25 st nf xs L x z0 l0 k18 i s τ)
  else (if v2 = 26 then
  (LW_c26 st nf xs L x z0 l0 k18 i s τ)
  else (if v2 = 27 then
  (LW_c27 st nf xs L x z0 l0 k18 i s τ)
  else (if v2 = 28 then
  (LW_c28 st nf xs L x z0 l0 k18 i s τ)
  else (if v2 = 29 then
  (LW_c29 st nf xs L x z0 l0 k18 i s τ)
  else (if v2 = 30 then
  (LW_c30 st nf xs L x z0 l0 k18 i s τ)
  else (k18 (i + 7) s τ))))))))))))))))))))))))))))))))
theorem LW_s_ok {X : KC LWS} {E : CE} {Et : TE} {b L z0 l0 zT : Nat} {xs : Nat → Int32} (T : lOK X E Et b L xs z0 l0 zT) {nf x : Nat} {k18 : Int32 → CS → TS → Option Int32} (hk18 : ∀ (i : Int32) (s : CS) (τ : TS), (cz s ≤ 1200128 + z0 ∧ cl s ≤ 5501098 + l0) → k18 i s τ = some 1 → kW X (s, τ) 18 [(3, .int i), (2, .ref (Et.2.2.2.2.1 0)), (1, .ref x), (0, .ref b)] []) {i : Int32} {s : CS} {τ : TS} (hz : cz s ≤ 1200128 + z0 ∧ cl s ≤ 5501098 + l0) (h : LW_s E.2.2.2 nf xs L x z0 l0 k18 i s τ = some 1) : kW X (s, τ) 18 [(3, .int i), (2, .ref (Et.2.2.2.2.1 0)), (1, .ref x), (0, .ref b)] [] := by
  unfold LW_s at h
  have hX := T.1
  refine k_iload_n hX dL_law_18 rfl 0 rfl ?_
  refine k_aload_n hX dL_law_19 rfl 3 rfl ?_
  refine l_slen T dL_law_20 ?_
  refine k_bipush (v := 7) hX dL_law_21 (by decide) ?_
  refine k_isub hX dL_law_23 ?_
  refine k_icmp_gt (tgt := 1469) hX h dL_law_24 (by decide) (fun h => ?_) (fun h => ?_)
  · refine k_iconst (v := 1) hX dL_law_1469 (by decide) ?_
    exact l_ret T hz h dL_law_1470
  · refine k_aload_n hX dL_law_27 rfl 3 rfl ?_
    refine k_iload_n hX dL_law_28 rfl 0 rfl ?_
    refine l_sld T h dL_law_29 (fun v1 h => ?_)
    refine k_bipush (v := 31) hX dL_law_30 (by decide) ?_
    refine k_iand hX dL_law_32 ?_
    refine k_nm h (fun v2 h => ?_)
    refine k_sw (c := 0) h (fun c_0 h => ?_) (fun c_0 h => ?_)
    · refine k_tabEq (tgt := 172) c_0 hX dL_law_33 (by decide) (by decide) rfl (by decide) ?_
      exact LW_c0_ok T hk18 hz h
    refine k_sw (c := 1) h (fun c_1 h => ?_) (fun c_1 h => ?_)
    · refine k_tabEq (tgt := 307) c_1 hX dL_law_33 (by decide) (by decide) rfl (by decide) ?_
      exact LW_c1_ok T hk18 hz h
    refine k_sw (c := 2) h (fun c_2 h => ?_) (fun c_2 h => ?_)
    · refine k_tabEq (tgt := 320) c_2 hX dL_law_33 (by decide) (by decide) rfl (by decide) ?_
      exact LW_c2_ok T hk18 hz h
    refine k_sw (c := 3) h (fun c_3 h => ?_) (fun c_3 h => ?_)
    · refine k_tabEq (tgt := 333) c_3 hX dL_law_33 (by decide) (by decide) rfl (by decide) ?_
      exact LW_c3_ok T hk18 hz h
    refine k_sw (c := 4) h (fun c_4 h => ?_) (fun c_4 h => ?_)
    · refine k_tabEq (tgt := 376) c_4 hX dL_law_33 (by decide) (by decide) rfl (by decide) ?_
      exact LW_c4_ok T hk18 hz h
    refine k_sw (c := 5) h (fun c_5 h => ?_) (fun c_5 h => ?_)
    · refine k_tabEq (tgt := 429) c_5 hX dL_law_33 (by decide) (by decide) rfl (by decide) ?_
      exact LW_c5_ok T hk18 hz h
    refine k_sw (c := 6) h (fun c_6 h => ?_) (fun c_6 h => ?_)
    · refine k_tabEq (tgt := 482) c_6 hX dL_law_33 (by decide) (by decide) rfl (by decide) ?_
      exact LW_c6_ok T hk18 hz h
    refine k_sw (c := 7) h (fun c_7 h => ?_) (fun c_7 h => ?_)
    · refine k_tabEq (tgt := 531) c_7 hX dL_law_33 (by decide) (by decide) rfl (by decide) ?_
      exact LW_c7_ok T hk18 hz h
    refine k_sw (c := 8) h (fun c_8 h => ?_) (fun c_8 h => ?_)
    · refine k_tabEq (tgt := 554) c_8 hX dL_law_33 (by decide) (by decide) rfl (by decide) ?_
      exact LW_c8_ok T hk18 hz h
    refine k_sw (c := 9) h (fun c_9 h => ?_) (fun c_9 h => ?_)
    · refine k_tabEq (tgt := 567) c_9 hX dL_law_33 (by decide) (by decide) rfl (by decide) ?_
      exact LW_c9_ok T hk18 hz h
    refine k_sw (c := 10) h (fun c_10 h => ?_) (fun c_10 h => ?_)
    · refine k_tabEq (tgt := 580) c_10 hX dL_law_33 (by decide) (by decide) rfl (by decide) ?_
      exact LW_c10_ok T hk18 hz h
    refine k_sw (c := 11) h (fun c_11 h => ?_) (fun c_11 h => ?_)
    · refine k_tabEq (tgt := 593) c_11 hX dL_law_33 (by decide) (by decide) rfl (by decide) ?_
      exact LW_c11_ok T hk18 hz h
    refine k_sw (c := 12) h (fun c_12 h => ?_) (fun c_12 h => ?_)
    · refine k_tabEq (tgt := 646) c_12 hX dL_law_33 (by decide) (by decide) rfl (by decide) ?_
      exact LW_c12_ok T hk18 hz h
    refine k_sw (c := 13) h (fun c_13 h => ?_) (fun c_13 h => ?_)
    · refine k_tabEq (tgt := 699) c_13 hX dL_law_33 (by decide) (by decide) rfl (by decide) ?_
      exact LW_c13_ok T hk18 hz h
    refine k_sw (c := 14) h (fun c_14 h => ?_) (fun c_14 h => ?_)
    · refine k_tabEq (tgt := 752) c_14 hX dL_law_33 (by decide) (by decide) rfl (by decide) ?_
      exact LW_c14_ok T hk18 hz h
    refine k_sw (c := 15) h (fun c_15 h => ?_) (fun c_15 h => ?_)
    · refine k_tabEq (tgt := 805) c_15 hX dL_law_33 (by decide) (by decide) rfl (by decide) ?_
      exact LW_c15_ok T hk18 hz h
    refine k_sw (c := 16) h (fun c_16 h => ?_) (fun c_16 h => ?_)
    · refine k_tabEq (tgt := 848) c_16 hX dL_law_33 (by decide) (by decide) rfl (by decide) ?_
      exact LW_c16_ok T hk18 hz h
    refine k_sw (c := 17) h (fun c_17 h => ?_) (fun c_17 h => ?_)
    · refine k_tabEq (tgt := 891) c_17 hX dL_law_33 (by decide) (by decide) rfl (by decide) ?_
      exact LW_c17_ok T hk18 hz h
    refine k_sw (c := 18) h (fun c_18 h => ?_) (fun c_18 h => ?_)
    · refine k_tabEq (tgt := 934) c_18 hX dL_law_33 (by decide) (by decide) rfl (by decide) ?_
      exact LW_c18_ok T hk18 hz h
    refine k_sw (c := 19) h (fun c_19 h => ?_) (fun c_19 h => ?_)
    · refine k_tabEq (tgt := 967) c_19 hX dL_law_33 (by decide) (by decide) rfl (by decide) ?_
      exact LW_c19_ok T hk18 hz h
    refine k_sw (c := 20) h (fun c_20 h => ?_) (fun c_20 h => ?_)
    · refine k_tabEq (tgt := 990) c_20 hX dL_law_33 (by decide) (by decide) rfl (by decide) ?_
      exact LW_c20_ok T hk18 hz h
    refine k_sw (c := 21) h (fun c_21 h => ?_) (fun c_21 h => ?_)
    · refine k_tabEq (tgt := 1033) c_21 hX dL_law_33 (by decide) (by decide) rfl (by decide) ?_
      exact LW_c21_ok T hk18 hz h
    refine k_sw (c := 22) h (fun c_22 h => ?_) (fun c_22 h => ?_)
    · refine k_tabEq (tgt := 1066) c_22 hX dL_law_33 (by decide) (by decide) rfl (by decide) ?_
      exact LW_c22_ok T hk18 hz h
    refine k_sw (c := 23) h (fun c_23 h => ?_) (fun c_23 h => ?_)
    · refine k_tabEq (tgt := 1135) c_23 hX dL_law_33 (by decide) (by decide) rfl (by decide) ?_
      exact LW_c23_ok T hk18 hz h
    refine k_sw (c := 24) h (fun c_24 h => ?_) (fun c_24 h => ?_)
    · refine k_tabEq (tgt := 1179) c_24 hX dL_law_33 (by decide) (by decide) rfl (by decide) ?_
      exact LW_c24_ok T hk18 hz h
    refine k_sw (c := 25) h (fun c_25 h => ?_) (fun c_25 h => ?_)
    · refine k_tabEq (tgt := 1258) c_25 hX dL_law_33 (by decide) (by decide) rfl (by decide) ?_
      exact LW_c25_ok T hk18 hz h
    refine k_sw (c := 26) h (fun c_26 h => ?_) (fun c_26 h => ?_)
    · refine k_tabEq (tgt := 1271) c_26 hX dL_law_33 (by decide) (by decide) rfl (by decide) ?_
      exact LW_c26_ok T hk18 hz h
    refine k_sw (c := 27) h (fun c_27 h => ?_) (fun c_27 h => ?_)
    · refine k_tabEq (tgt := 1314) c_27 hX dL_law_33 (by decide) (by decide) rfl (by decide) ?_
      exact LW_c27_ok T hk18 hz h
    refine k_sw (c := 28) h (fun c_28 h => ?_) (fun c_28 h => ?_)
    · refine k_tabEq (tgt := 1338) c_28 hX dL_law_33 (by decide) (by decide) rfl (by decide) ?_
      exact LW_c28_ok T hk18 hz h
    refine k_sw (c := 29) h (fun c_29 h => ?_) (fun c_29 h => ?_)
    · refine k_tabEq (tgt := 1391) c_29 hX dL_law_33 (by decide) (by decide) rfl (by decide) ?_
      exact LW_c29_ok T hk18 hz h
    refine k_sw (c := 30) h (fun c_30 h => ?_) (fun c_30 h => ?_)
    · refine k_tabEq (tgt := 1440) c_30 hX dL_law_33 (by decide) (by decide) rfl (by decide) ?_
      exact LW_c30_ok T hk18 hz h
    refine k_tabOut (tgt := 1463) hX dL_law_33 (tab_out (lo := 0) (hi := 30) [0, 1, 2, 3, 4, 5, 6, 7, 8, 9, 10, 11, 12, 13, 14, 15, 16, 17, 18, 19, 20, 21, 22, 23, 24, 25, 26, 27, 28, 29, 30] (by simp only [List.forall_mem_cons]; exact ⟨c_0, c_1, c_2, c_3, c_4, c_5, c_6, c_7, c_8, c_9, c_10, c_11, c_12, c_13, c_14, c_15, c_16, c_17, c_18, c_19, c_20, c_21, c_22, c_23, c_24, c_25, c_26, c_27, c_28, c_29, c_30, fun _ h => absurd h List.not_mem_nil⟩) (by decide)) (by decide) ?_
    refine k_iinc (j := 0) [(3, .int (i + 7)), (2, .ref ((Et.2.2.2.2.1 0))), (1, .ref x), (0, .ref b)] hX dL_law_1463 rfl rfl rfl rfl ?_
    refine k_goto (tgt := 18) hX dL_law_1466 (by decide) ?_
    exact hk18 _ _ _ hz h
def LW (st : Nat → Option Nat) (nf : Nat) (xs : Nat → Int32) (L x z0 l0 : Nat) (n : Nat) : Int32 → CS → TS → Option Int32 := lpN (fun _ _ _ => none) (LW_s st nf xs L x z0 l0) n
theorem LW_ok {X : KC LWS} {E : CE} {Et : TE} {b L z0 l0 zT : Nat} {xs : Nat → Int32} (T : lOK X E Et b L xs z0 l0 zT) {nf x : Nat} : ∀ (n : Nat) (i : Int32) (s : CS) (τ : TS), (cz s ≤ 1200128 + z0 ∧ cl s ≤ 5501098 + l0) → LW E.2.2.2 nf xs L x z0 l0 n i s τ = some 1 → kW X (s, τ) 18 [(3, .int i), (2, .ref (Et.2.2.2.2.1 0)), (1, .ref x), (0, .ref b)] [] := by
  intro n
  induction n with
  | zero => intro i s τ hz h; exact (nomatch (show (none : Option Int32) = some 1 from h))
  | succ n ih =>
    intro i s τ hz h
    have h : LW_s E.2.2.2 nf xs L x z0 l0 (LW E.2.2.2 nf xs L x z0 l0 n) i s τ = some 1 := h
    exact LW_s_ok T ih hz h
