set_option maxRecDepth 100000
theorem lw_case_0 {X : gz_X} {Gc Gm : gz_G} {kS b L n : Nat} {xs : Nat → Int32} {μ μ' : gM} {m m' : MM} {r : Int32} (hX : lC X) (hG : LG Gc Gm X.2.2.2.2.1) (hS : lS X b L xs) (hi : 6 * n + 6 ≤ L) (hb : gZ μ' ≤ 800000 ∧ gW μ' + kS ≤ 6000000) (hz : μ'.2.2.2.2.2 = μ.2.2.2.2.2) (hc : cf_X0_feed (xs (6 * n + 1)) (xs (6 * n + 2)) (xs (6 * n + 3)) (xs (6 * n + 4)) (xs (6 * n + 5)) μ = some (r, μ')) (hm : mf_feed (xs (6 * n + 1)) (xs (6 * n + 2)) (xs (6 * n + 3)) (xs (6 * n + 4)) (xs (6 * n + 5)) m = some (r, m')) (kk : lV X Gc Gm kS μ' m' 1064 (lvL Gc Gm b (6 * n)) []) : lV X Gc Gm kS μ m 188 (lvL Gc Gm b (6 * n)) [] := by
  refine lV_aload_n (pc := 188) hX dL_law_188 rfl 1 rfl ?_
  refine lV_arg (pc := 189) (k := 1) hX hS hi (by decide) (by decide) dL_law_189 dL_law_190 dL_law_191 dL_law_192 dL_law_193 ?_
  refine lV_arg (pc := 194) (k := 2) hX hS hi (by decide) (by decide) dL_law_194 dL_law_195 dL_law_196 dL_law_197 dL_law_198 ?_
  refine lV_arg (pc := 199) (k := 3) hX hS hi (by decide) (by decide) dL_law_199 dL_law_200 dL_law_201 dL_law_202 dL_law_203 ?_
  refine lV_arg (pc := 204) (k := 4) hX hS hi (by decide) (by decide) dL_law_204 dL_law_205 dL_law_206 dL_law_207 dL_law_208 ?_
  refine lV_arg (pc := 209) (k := 5) hX hS hi (by decide) (by decide) dL_law_209 dL_law_210 dL_law_211 dL_law_212 dL_law_213 ?_
  refine lV_callC (pc := 214) (As := [.int (xs (6 * n + 1)), .int (xs (6 * n + 2)), .int (xs (6 * n + 3)), .int (xs (6 * n + 4)), .int (xs (6 * n + 5))]) (rest := []) (n := 5) hX hG (fun H => ct_X0_feed (G := gH Gc H) (l := X.2.1) hc) (lw_V q588 q589 q590 q167 q591) (by decide +kernel) ⟨Nat.le_of_ble_eq_true rfl, Nat.le_of_ble_eq_true rfl⟩ rfl ⟨by show gZ μ' = gZ μ; exact congrArg Prod.fst hz, by show gW μ' = gW μ; exact congrArg Prod.snd hz⟩ hb rfl (by decide) dL_law_214 ?_
  refine lV_aload_n (pc := 217) hX dL_law_217 rfl 2 rfl ?_
  refine lV_arg (pc := 218) (k := 1) hX hS hi (by decide) (by decide) dL_law_218 dL_law_219 dL_law_220 dL_law_221 dL_law_222 ?_
  refine lV_arg (pc := 223) (k := 2) hX hS hi (by decide) (by decide) dL_law_223 dL_law_224 dL_law_225 dL_law_226 dL_law_227 ?_
  refine lV_arg (pc := 228) (k := 3) hX hS hi (by decide) (by decide) dL_law_228 dL_law_229 dL_law_230 dL_law_231 dL_law_232 ?_
  refine lV_arg (pc := 233) (k := 4) hX hS hi (by decide) (by decide) dL_law_233 dL_law_234 dL_law_235 dL_law_236 dL_law_237 ?_
  refine lV_arg (pc := 238) (k := 5) hX hS hi (by decide) (by decide) dL_law_238 dL_law_239 dL_law_240 dL_law_241 dL_law_242 ?_
  refine lV_callM (pc := 243) (As := [.int (xs (6 * n + 1)), .int (xs (6 * n + 2)), .int (xs (6 * n + 3)), .int (xs (6 * n + 4)), .int (xs (6 * n + 5))]) (rest := [.int r]) (n := 5) hX hG (fun H => mt_feed (G := gH Gm H) (l := X.2.1) hm) (lw_V q2084 q2085 q2086 q182 q2087) (by decide +kernel) ⟨Nat.le_of_ble_eq_true rfl, Nat.le_of_ble_eq_true rfl⟩ rfl hb rfl (Nat.le_of_ble_eq_true rfl) dL_law_243 ?_
  exact lV_icmp_eq (pc := 246) (tgt := 1064) hX dL_law_246 (by decide) (fun _ => kk) (fun h => absurd rfl h)
theorem lw_case_1 {X : gz_X} {Gc Gm : gz_G} {kS b L n : Nat} {xs : Nat → Int32} {μ μ' : gM} {m m' : MM} {r : Int32} (hX : lC X) (hG : LG Gc Gm X.2.2.2.2.1) (hS : lS X b L xs) (hi : 6 * n + 6 ≤ L) (hb : gZ μ' ≤ 800000 ∧ gW μ' + kS ≤ 6000000) (hz : μ'.2.2.2.2.2 = μ.2.2.2.2.2) (hc : cf_X0_end (xs (6 * n + 1)) μ = some (r, μ')) (hm : mf_end (xs (6 * n + 1)) m = some (r, m')) (kk : lV X Gc Gm kS μ' m' 1064 (lvL Gc Gm b (6 * n)) []) : lV X Gc Gm kS μ m 251 (lvL Gc Gm b (6 * n)) [] := by
  refine lV_aload_n (pc := 251) hX dL_law_251 rfl 1 rfl ?_
  refine lV_arg (pc := 252) (k := 1) hX hS hi (by decide) (by decide) dL_law_252 dL_law_253 dL_law_254 dL_law_255 dL_law_256 ?_
  refine lV_callC (pc := 257) (As := [.int (xs (6 * n + 1))]) (rest := []) (n := 1) hX hG (fun H => ct_X0_end (G := gH Gc H) (l := X.2.1) hc) (lw_V q600 q601 q602 q167 q603) (by decide +kernel) ⟨Nat.le_of_ble_eq_true rfl, Nat.le_of_ble_eq_true rfl⟩ rfl ⟨by show gZ μ' = gZ μ; exact congrArg Prod.fst hz, by show gW μ' = gW μ; exact congrArg Prod.snd hz⟩ hb rfl (by decide) dL_law_257 ?_
  refine lV_aload_n (pc := 260) hX dL_law_260 rfl 2 rfl ?_
  refine lV_arg (pc := 261) (k := 1) hX hS hi (by decide) (by decide) dL_law_261 dL_law_262 dL_law_263 dL_law_264 dL_law_265 ?_
  refine lV_callM (pc := 266) (As := [.int (xs (6 * n + 1))]) (rest := [.int r]) (n := 1) hX hG (fun H => mt_end (G := gH Gm H) (l := X.2.1) hm) (lw_V q2088 q2089 q2090 q182 q2091) (by decide +kernel) ⟨Nat.le_of_ble_eq_true rfl, Nat.le_of_ble_eq_true rfl⟩ rfl hb rfl (Nat.le_of_ble_eq_true rfl) dL_law_266 ?_
  exact lV_icmp_eq (pc := 269) (tgt := 1064) hX dL_law_269 (by decide) (fun _ => kk) (fun h => absurd rfl h)
theorem lw_case_2 {X : gz_X} {Gc Gm : gz_G} {kS b L n : Nat} {xs : Nat → Int32} {μ μ' : gM} {m m' : MM} {r : Int32} (hX : lC X) (hG : LG Gc Gm X.2.2.2.2.1) (hS : lS X b L xs) (hi : 6 * n + 6 ≤ L) (hb : gZ μ' ≤ 800000 ∧ gW μ' + kS ≤ 6000000) (hz : gZ μ ≤ gZ μ' ∧ gW μ ≤ gW μ') (hc : cf_X0_household  μ = some (r, μ')) (hm : mf_household  m = some (r, m')) (kk : lV X Gc Gm kS μ' m' 1064 (lvL Gc Gm b (6 * n)) []) : lV X Gc Gm kS μ m 274 (lvL Gc Gm b (6 * n)) [] := by
  refine lV_aload_n (pc := 274) hX dL_law_274 rfl 1 rfl ?_
  refine lV_callH (pc := 275) (As := []) (rest := []) (n := 0) hX hG (fun H => ct_X0_household (G := gH Gc H) (l := X.2.1) hc) (lw_VW q604 q605 q606 q167 q607) (by decide +kernel) ⟨Nat.le_of_ble_eq_true rfl, Nat.le_of_ble_eq_true rfl⟩ rfl ⟨by have := hz.1; show gZ μ' = gZ μ + (gZ μ' - gZ μ); omega, by have := hz.2; show gW μ' = gW μ + (gW μ' - gW μ); omega⟩ hb rfl (by decide) dL_law_275 ?_
  refine lV_aload_n (pc := 278) hX dL_law_278 rfl 2 rfl ?_
  refine lV_callM (pc := 279) (As := []) (rest := [.int r]) (n := 0) hX hG (fun H => mt_household (G := gH Gm H) (l := X.2.1) hm) (lw_V q2092 q2093 q2094 q182 q2095) (by decide +kernel) ⟨Nat.le_of_ble_eq_true rfl, Nat.le_of_ble_eq_true rfl⟩ rfl hb rfl (Nat.le_of_ble_eq_true rfl) dL_law_279 ?_
  exact lV_icmp_eq (pc := 282) (tgt := 1064) hX dL_law_282 (by decide) (fun _ => kk) (fun h => absurd rfl h)
theorem lw_case_3 {X : gz_X} {Gc Gm : gz_G} {kS b L n : Nat} {xs : Nat → Int32} {μ μ' : gM} {m m' : MM} {r : Int32} (hX : lC X) (hG : LG Gc Gm X.2.2.2.2.1) (hS : lS X b L xs) (hi : 6 * n + 6 ≤ L) (hb : gZ μ' ≤ 800000 ∧ gW μ' + kS ≤ 6000000) (hz : μ'.2.2.2.2.2 = μ.2.2.2.2.2) (hc : cf_X0_fault (xs (6 * n + 1)) μ = some (r, μ')) (hm : mf_fault (xs (6 * n + 1)) m = some (r, m')) (kk : lV X Gc Gm kS μ' m' 1064 (lvL Gc Gm b (6 * n)) []) : lV X Gc Gm kS μ m 287 (lvL Gc Gm b (6 * n)) [] := by
  refine lV_aload_n (pc := 287) hX dL_law_287 rfl 1 rfl ?_
  refine lV_arg (pc := 288) (k := 1) hX hS hi (by decide) (by decide) dL_law_288 dL_law_289 dL_law_290 dL_law_291 dL_law_292 ?_
  refine lV_callC (pc := 293) (As := [.int (xs (6 * n + 1))]) (rest := []) (n := 1) hX hG (fun H => ct_X0_fault (G := gH Gc H) (l := X.2.1) hc) (lw_V q1314 q1315 q1316 q167 q1317) (by decide +kernel) ⟨Nat.le_of_ble_eq_true rfl, Nat.le_of_ble_eq_true rfl⟩ rfl ⟨by show gZ μ' = gZ μ; exact congrArg Prod.fst hz, by show gW μ' = gW μ; exact congrArg Prod.snd hz⟩ hb rfl (by decide) dL_law_293 ?_
  refine lV_aload_n (pc := 296) hX dL_law_296 rfl 2 rfl ?_
  refine lV_arg (pc := 297) (k := 1) hX hS hi (by decide) (by decide) dL_law_297 dL_law_298 dL_law_299 dL_law_300 dL_law_301 ?_
  refine lV_callM (pc := 302) (As := [.int (xs (6 * n + 1))]) (rest := [.int r]) (n := 1) hX hG (fun H => mt_fault (G := gH Gm H) (l := X.2.1) hm) (lw_V q2278 q2279 q2280 q182 q2281) (by decide +kernel) ⟨Nat.le_of_ble_eq_true rfl, Nat.le_of_ble_eq_true rfl⟩ rfl hb rfl (Nat.le_of_ble_eq_true rfl) dL_law_302 ?_
  exact lV_icmp_eq (pc := 305) (tgt := 1064) hX dL_law_305 (by decide) (fun _ => kk) (fun h => absurd rfl h)
theorem lw_case_4 {X : gz_X} {Gc Gm : gz_G} {kS b L n : Nat} {xs : Nat → Int32} {μ μ' : gM} {m m' : MM} {r : Int32} (hX : lC X) (hG : LG Gc Gm X.2.2.2.2.1) (hS : lS X b L xs) (hi : 6 * n + 6 ≤ L) (hb : gZ μ' ≤ 800000 ∧ gW μ' + kS ≤ 6000000) (hz : μ'.2.2.2.2.2 = μ.2.2.2.2.2) (hc : cf_X0_has_2 (xs (6 * n + 1)) μ = some (r, μ')) (hm : mf_has (xs (6 * n + 1)) m = some (r, m')) (kk : lV X Gc Gm kS μ' m' 1064 (lvL Gc Gm b (6 * n)) []) : lV X Gc Gm kS μ m 310 (lvL Gc Gm b (6 * n)) [] := by
  refine lV_aload_n (pc := 310) hX dL_law_310 rfl 1 rfl ?_
  refine lV_arg (pc := 311) (k := 1) hX hS hi (by decide) (by decide) dL_law_311 dL_law_312 dL_law_313 dL_law_314 dL_law_315 ?_
  refine lV_callC (pc := 316) (As := [.int (xs (6 * n + 1))]) (rest := []) (n := 1) hX hG (fun H => ct_X0_has_2 (G := gH Gc H) (l := X.2.1) hc) (lw_V q1318 q1319 q1320 q167 q1321) (by decide +kernel) ⟨Nat.le_of_ble_eq_true rfl, Nat.le_of_ble_eq_true rfl⟩ rfl ⟨by show gZ μ' = gZ μ; exact congrArg Prod.fst hz, by show gW μ' = gW μ; exact congrArg Prod.snd hz⟩ hb rfl (by decide) dL_law_316 ?_
  refine lV_aload_n (pc := 319) hX dL_law_319 rfl 2 rfl ?_
  refine lV_arg (pc := 320) (k := 1) hX hS hi (by decide) (by decide) dL_law_320 dL_law_321 dL_law_322 dL_law_323 dL_law_324 ?_
  refine lV_callM (pc := 325) (As := [.int (xs (6 * n + 1))]) (rest := [.int r]) (n := 1) hX hG (fun H => mt_has (G := gH Gm H) (l := X.2.1) hm) (lw_V q2282 q2283 q2284 q182 q2285) (by decide +kernel) ⟨Nat.le_of_ble_eq_true rfl, Nat.le_of_ble_eq_true rfl⟩ rfl hb rfl (Nat.le_of_ble_eq_true rfl) dL_law_325 ?_
  exact lV_icmp_eq (pc := 328) (tgt := 1064) hX dL_law_328 (by decide) (fun _ => kk) (fun h => absurd rfl h)
theorem lw_case_5 {X : gz_X} {Gc Gm : gz_G} {kS b L n : Nat} {xs : Nat → Int32} {μ μ' : gM} {m m' : MM} {r : Int32} (hX : lC X) (hG : LG Gc Gm X.2.2.2.2.1) (hS : lS X b L xs) (hi : 6 * n + 6 ≤ L) (hb : gZ μ' ≤ 800000 ∧ gW μ' + kS ≤ 6000000) (hz : μ'.2.2.2.2.2 = μ.2.2.2.2.2) (hc : cf_X0_letterB (xs (6 * n + 1)) (xs (6 * n + 2)) (xs (6 * n + 3)) μ = some (r, μ')) (hm : mf_letter (xs (6 * n + 1)) (xs (6 * n + 2)) (xs (6 * n + 3)) m = some (r, m')) (kk : lV X Gc Gm kS μ' m' 1064 (lvL Gc Gm b (6 * n)) []) : lV X Gc Gm kS μ m 333 (lvL Gc Gm b (6 * n)) [] := by
  refine lV_aload_n (pc := 333) hX dL_law_333 rfl 1 rfl ?_
  refine lV_arg (pc := 334) (k := 1) hX hS hi (by decide) (by decide) dL_law_334 dL_law_335 dL_law_336 dL_law_337 dL_law_338 ?_
  refine lV_arg (pc := 339) (k := 2) hX hS hi (by decide) (by decide) dL_law_339 dL_law_340 dL_law_341 dL_law_342 dL_law_343 ?_
  refine lV_arg (pc := 344) (k := 3) hX hS hi (by decide) (by decide) dL_law_344 dL_law_345 dL_law_346 dL_law_347 dL_law_348 ?_
  refine lV_callC (pc := 349) (As := [.int (xs (6 * n + 1)), .int (xs (6 * n + 2)), .int (xs (6 * n + 3))]) (rest := []) (n := 3) hX hG (fun H => ct_X0_letterB (G := gH Gc H) (l := X.2.1) hc) (lw_V q1342 q1343 q1344 q167 q1345) (by decide +kernel) ⟨Nat.le_of_ble_eq_true rfl, Nat.le_of_ble_eq_true rfl⟩ rfl ⟨by show gZ μ' = gZ μ; exact congrArg Prod.fst hz, by show gW μ' = gW μ; exact congrArg Prod.snd hz⟩ hb rfl (by decide) dL_law_349 ?_
  refine lV_aload_n (pc := 352) hX dL_law_352 rfl 2 rfl ?_
  refine lV_arg (pc := 353) (k := 1) hX hS hi (by decide) (by decide) dL_law_353 dL_law_354 dL_law_355 dL_law_356 dL_law_357 ?_
  refine lV_arg (pc := 358) (k := 2) hX hS hi (by decide) (by decide) dL_law_358 dL_law_359 dL_law_360 dL_law_361 dL_law_362 ?_
  refine lV_arg (pc := 363) (k := 3) hX hS hi (by decide) (by decide) dL_law_363 dL_law_364 dL_law_365 dL_law_366 dL_law_367 ?_
  refine lV_callM (pc := 368) (As := [.int (xs (6 * n + 1)), .int (xs (6 * n + 2)), .int (xs (6 * n + 3))]) (rest := [.int r]) (n := 3) hX hG (fun H => mt_letter (G := gH Gm H) (l := X.2.1) hm) (lw_V q2321 q2322 q2323 q182 q2324) (by decide +kernel) ⟨Nat.le_of_ble_eq_true rfl, Nat.le_of_ble_eq_true rfl⟩ rfl hb rfl (Nat.le_of_ble_eq_true rfl) dL_law_368 ?_
  exact lV_icmp_eq (pc := 371) (tgt := 1064) hX dL_law_371 (by decide) (fun _ => kk) (fun h => absurd rfl h)
theorem lw_case_6 {X : gz_X} {Gc Gm : gz_G} {kS b L n : Nat} {xs : Nat → Int32} {μ μ' : gM} {m m' : MM} {r : Int32} (hX : lC X) (hG : LG Gc Gm X.2.2.2.2.1) (hS : lS X b L xs) (hi : 6 * n + 6 ≤ L) (hb : gZ μ' ≤ 800000 ∧ gW μ' + kS ≤ 6000000) (hz : μ'.2.2.2.2.2 = μ.2.2.2.2.2) (hc : cf_X0_thing (xs (6 * n + 1)) (xs (6 * n + 2)) μ = some (r, μ')) (hm : mf_thing (xs (6 * n + 1)) (xs (6 * n + 2)) m = some (r, m')) (kk : lV X Gc Gm kS μ' m' 1064 (lvL Gc Gm b (6 * n)) []) : lV X Gc Gm kS μ m 376 (lvL Gc Gm b (6 * n)) [] := by
  refine lV_aload_n (pc := 376) hX dL_law_376 rfl 1 rfl ?_
  refine lV_arg (pc := 377) (k := 1) hX hS hi (by decide) (by decide) dL_law_377 dL_law_378 dL_law_379 dL_law_380 dL_law_381 ?_
  refine lV_arg (pc := 382) (k := 2) hX hS hi (by decide) (by decide) dL_law_382 dL_law_383 dL_law_384 dL_law_385 dL_law_386 ?_
  refine lV_callC (pc := 387) (As := [.int (xs (6 * n + 1)), .int (xs (6 * n + 2))]) (rest := []) (n := 2) hX hG (fun H => ct_X0_thing (G := gH Gc H) (l := X.2.1) hc) (lw_V q1366 q1367 q1368 q167 q1369) (by decide +kernel) ⟨Nat.le_of_ble_eq_true rfl, Nat.le_of_ble_eq_true rfl⟩ rfl ⟨by show gZ μ' = gZ μ; exact congrArg Prod.fst hz, by show gW μ' = gW μ; exact congrArg Prod.snd hz⟩ hb rfl (by decide) dL_law_387 ?_
  refine lV_aload_n (pc := 390) hX dL_law_390 rfl 2 rfl ?_
  refine lV_arg (pc := 391) (k := 1) hX hS hi (by decide) (by decide) dL_law_391 dL_law_392 dL_law_393 dL_law_394 dL_law_395 ?_
  refine lV_arg (pc := 396) (k := 2) hX hS hi (by decide) (by decide) dL_law_396 dL_law_397 dL_law_398 dL_law_399 dL_law_400 ?_
  refine lV_callM (pc := 401) (As := [.int (xs (6 * n + 1)), .int (xs (6 * n + 2))]) (rest := [.int r]) (n := 2) hX hG (fun H => mt_thing (G := gH Gm H) (l := X.2.1) hm) (lw_V q2326 q2327 q2328 q182 q2329) (by decide +kernel) ⟨Nat.le_of_ble_eq_true rfl, Nat.le_of_ble_eq_true rfl⟩ rfl hb rfl (Nat.le_of_ble_eq_true rfl) dL_law_401 ?_
  exact lV_icmp_eq (pc := 404) (tgt := 1064) hX dL_law_404 (by decide) (fun _ => kk) (fun h => absurd rfl h)
theorem lw_case_7 {X : gz_X} {Gc Gm : gz_G} {kS b L n : Nat} {xs : Nat → Int32} {μ μ' : gM} {m m' : MM} {r : Int32} (hX : lC X) (hG : LG Gc Gm X.2.2.2.2.1) (hS : lS X b L xs) (hi : 6 * n + 6 ≤ L) (hb : gZ μ' ≤ 800000 ∧ gW μ' + kS ≤ 6000000) (hz : μ'.2.2.2.2.2 = μ.2.2.2.2.2) (hc : cf_X0_tie (xs (6 * n + 1)) (xs (6 * n + 2)) μ = some (r, μ')) (hm : mf_tie (xs (6 * n + 1)) (xs (6 * n + 2)) m = some (r, m')) (kk : lV X Gc Gm kS μ' m' 1064 (lvL Gc Gm b (6 * n)) []) : lV X Gc Gm kS μ m 409 (lvL Gc Gm b (6 * n)) [] := by
  refine lV_aload_n (pc := 409) hX dL_law_409 rfl 1 rfl ?_
  refine lV_arg (pc := 410) (k := 1) hX hS hi (by decide) (by decide) dL_law_410 dL_law_411 dL_law_412 dL_law_413 dL_law_414 ?_
  refine lV_arg (pc := 415) (k := 2) hX hS hi (by decide) (by decide) dL_law_415 dL_law_416 dL_law_417 dL_law_418 dL_law_419 ?_
  refine lV_callC (pc := 420) (As := [.int (xs (6 * n + 1)), .int (xs (6 * n + 2))]) (rest := []) (n := 2) hX hG (fun H => ct_X0_tie (G := gH Gc H) (l := X.2.1) hc) (lw_V q1484 q1485 q1486 q167 q1487) (by decide +kernel) ⟨Nat.le_of_ble_eq_true rfl, Nat.le_of_ble_eq_true rfl⟩ rfl ⟨by show gZ μ' = gZ μ; exact congrArg Prod.fst hz, by show gW μ' = gW μ; exact congrArg Prod.snd hz⟩ hb rfl (by decide) dL_law_420 ?_
  refine lV_aload_n (pc := 423) hX dL_law_423 rfl 2 rfl ?_
  refine lV_arg (pc := 424) (k := 1) hX hS hi (by decide) (by decide) dL_law_424 dL_law_425 dL_law_426 dL_law_427 dL_law_428 ?_
  refine lV_arg (pc := 429) (k := 2) hX hS hi (by decide) (by decide) dL_law_429 dL_law_430 dL_law_431 dL_law_432 dL_law_433 ?_
  refine lV_callM (pc := 434) (As := [.int (xs (6 * n + 1)), .int (xs (6 * n + 2))]) (rest := [.int r]) (n := 2) hX hG (fun H => mt_tie (G := gH Gm H) (l := X.2.1) hm) (lw_V q2382 q2383 q2384 q182 q2385) (by decide +kernel) ⟨Nat.le_of_ble_eq_true rfl, Nat.le_of_ble_eq_true rfl⟩ rfl hb rfl (Nat.le_of_ble_eq_true rfl) dL_law_434 ?_
  exact lV_icmp_eq (pc := 437) (tgt := 1064) hX dL_law_437 (by decide) (fun _ => kk) (fun h => absurd rfl h)
theorem lw_case_8 {X : gz_X} {Gc Gm : gz_G} {kS b L n : Nat} {xs : Nat → Int32} {μ μ' : gM} {m m' : MM} {r : Int32} (hX : lC X) (hG : LG Gc Gm X.2.2.2.2.1) (hS : lS X b L xs) (hi : 6 * n + 6 ≤ L) (hb : gZ μ' ≤ 800000 ∧ gW μ' + kS ≤ 6000000) (hz : μ'.2.2.2.2.2 = μ.2.2.2.2.2) (hc : cf_X0_ends (xs (6 * n + 1)) μ = some (r, μ')) (hm : mf_ends (xs (6 * n + 1)) m = some (r, m')) (kk : lV X Gc Gm kS μ' m' 1064 (lvL Gc Gm b (6 * n)) []) : lV X Gc Gm kS μ m 442 (lvL Gc Gm b (6 * n)) [] := by
  refine lV_aload_n (pc := 442) hX dL_law_442 rfl 1 rfl ?_
  refine lV_arg (pc := 443) (k := 1) hX hS hi (by decide) (by decide) dL_law_443 dL_law_444 dL_law_445 dL_law_446 dL_law_447 ?_
  refine lV_callC (pc := 448) (As := [.int (xs (6 * n + 1))]) (rest := []) (n := 1) hX hG (fun H => ct_X0_ends (G := gH Gc H) (l := X.2.1) hc) (lw_V q1493 q1494 q1495 q167 q1496) (by decide +kernel) ⟨Nat.le_of_ble_eq_true rfl, Nat.le_of_ble_eq_true rfl⟩ rfl ⟨by show gZ μ' = gZ μ; exact congrArg Prod.fst hz, by show gW μ' = gW μ; exact congrArg Prod.snd hz⟩ hb rfl (by decide) dL_law_448 ?_
  refine lV_aload_n (pc := 451) hX dL_law_451 rfl 2 rfl ?_
  refine lV_arg (pc := 452) (k := 1) hX hS hi (by decide) (by decide) dL_law_452 dL_law_453 dL_law_454 dL_law_455 dL_law_456 ?_
  refine lV_callM (pc := 457) (As := [.int (xs (6 * n + 1))]) (rest := [.int r]) (n := 1) hX hG (fun H => mt_ends (G := gH Gm H) (l := X.2.1) hm) (lw_V q2398 q2399 q2400 q182 q2401) (by decide +kernel) ⟨Nat.le_of_ble_eq_true rfl, Nat.le_of_ble_eq_true rfl⟩ rfl hb rfl (Nat.le_of_ble_eq_true rfl) dL_law_457 ?_
  exact lV_icmp_eq (pc := 460) (tgt := 1064) hX dL_law_460 (by decide) (fun _ => kk) (fun h => absurd rfl h)
theorem lw_case_9 {X : gz_X} {Gc Gm : gz_G} {kS b L n : Nat} {xs : Nat → Int32} {μ μ' : gM} {m m' : MM} {r : Int32} (hX : lC X) (hG : LG Gc Gm X.2.2.2.2.1) (hS : lS X b L xs) (hi : 6 * n + 6 ≤ L) (hb : gZ μ' ≤ 800000 ∧ gW μ' + kS ≤ 6000000) (hz : μ'.2.2.2.2.2 = μ.2.2.2.2.2) (hc : cf_X0_way (xs (6 * n + 1)) (xs (6 * n + 2)) μ = some (r, μ')) (hm : mf_way (xs (6 * n + 1)) (xs (6 * n + 2)) m = some (r, m')) (kk : lV X Gc Gm kS μ' m' 1064 (lvL Gc Gm b (6 * n)) []) : lV X Gc Gm kS μ m 465 (lvL Gc Gm b (6 * n)) [] := by
  refine lV_aload_n (pc := 465) hX dL_law_465 rfl 1 rfl ?_
  refine lV_arg (pc := 466) (k := 1) hX hS hi (by decide) (by decide) dL_law_466 dL_law_467 dL_law_468 dL_law_469 dL_law_470 ?_
  refine lV_arg (pc := 471) (k := 2) hX hS hi (by decide) (by decide) dL_law_471 dL_law_472 dL_law_473 dL_law_474 dL_law_475 ?_
  refine lV_callC (pc := 476) (As := [.int (xs (6 * n + 1)), .int (xs (6 * n + 2))]) (rest := []) (n := 2) hX hG (fun H => ct_X0_way (G := gH Gc H) (l := X.2.1) hc) (lw_V q1497 q1498 q1499 q167 q1500) (by decide +kernel) ⟨Nat.le_of_ble_eq_true rfl, Nat.le_of_ble_eq_true rfl⟩ rfl ⟨by show gZ μ' = gZ μ; exact congrArg Prod.fst hz, by show gW μ' = gW μ; exact congrArg Prod.snd hz⟩ hb rfl (by decide) dL_law_476 ?_
  refine lV_aload_n (pc := 479) hX dL_law_479 rfl 2 rfl ?_
  refine lV_arg (pc := 480) (k := 1) hX hS hi (by decide) (by decide) dL_law_480 dL_law_481 dL_law_482 dL_law_483 dL_law_484 ?_
  refine lV_arg (pc := 485) (k := 2) hX hS hi (by decide) (by decide) dL_law_485 dL_law_486 dL_law_487 dL_law_488 dL_law_489 ?_
  refine lV_callM (pc := 490) (As := [.int (xs (6 * n + 1)), .int (xs (6 * n + 2))]) (rest := [.int r]) (n := 2) hX hG (fun H => mt_way (G := gH Gm H) (l := X.2.1) hm) (lw_V q2406 q2407 q2408 q182 q2409) (by decide +kernel) ⟨Nat.le_of_ble_eq_true rfl, Nat.le_of_ble_eq_true rfl⟩ rfl hb rfl (Nat.le_of_ble_eq_true rfl) dL_law_490 ?_
  exact lV_icmp_eq (pc := 493) (tgt := 1064) hX dL_law_493 (by decide) (fun _ => kk) (fun h => absurd rfl h)
theorem lw_case_10 {X : gz_X} {Gc Gm : gz_G} {kS b L n : Nat} {xs : Nat → Int32} {μ μ' : gM} {m m' : MM} {r : Int32} (hX : lC X) (hG : LG Gc Gm X.2.2.2.2.1) (hS : lS X b L xs) (hi : 6 * n + 6 ≤ L) (hb : gZ μ' ≤ 800000 ∧ gW μ' + kS ≤ 6000000) (hz : μ'.2.2.2.2.2 = μ.2.2.2.2.2) (hc : cf_X0_kept (xs (6 * n + 1)) (xs (6 * n + 2)) μ = some (r, μ')) (hm : mf_kept (xs (6 * n + 1)) (xs (6 * n + 2)) m = some (r, m')) (kk : lV X Gc Gm kS μ' m' 1064 (lvL Gc Gm b (6 * n)) []) : lV X Gc Gm kS μ m 498 (lvL Gc Gm b (6 * n)) [] := by
  refine lV_aload_n (pc := 498) hX dL_law_498 rfl 1 rfl ?_
  refine lV_arg (pc := 499) (k := 1) hX hS hi (by decide) (by decide) dL_law_499 dL_law_500 dL_law_501 dL_law_502 dL_law_503 ?_
  refine lV_arg (pc := 504) (k := 2) hX hS hi (by decide) (by decide) dL_law_504 dL_law_505 dL_law_506 dL_law_507 dL_law_508 ?_
  refine lV_callC (pc := 509) (As := [.int (xs (6 * n + 1)), .int (xs (6 * n + 2))]) (rest := []) (n := 2) hX hG (fun H => ct_X0_kept (G := gH Gc H) (l := X.2.1) hc) (lw_V q1505 q1506 q1507 q167 q1508) (by decide +kernel) ⟨Nat.le_of_ble_eq_true rfl, Nat.le_of_ble_eq_true rfl⟩ rfl ⟨by show gZ μ' = gZ μ; exact congrArg Prod.fst hz, by show gW μ' = gW μ; exact congrArg Prod.snd hz⟩ hb rfl (by decide) dL_law_509 ?_
  refine lV_aload_n (pc := 512) hX dL_law_512 rfl 2 rfl ?_
  refine lV_arg (pc := 513) (k := 1) hX hS hi (by decide) (by decide) dL_law_513 dL_law_514 dL_law_515 dL_law_516 dL_law_517 ?_
  refine lV_arg (pc := 518) (k := 2) hX hS hi (by decide) (by decide) dL_law_518 dL_law_519 dL_law_520 dL_law_521 dL_law_522 ?_
  refine lV_callM (pc := 523) (As := [.int (xs (6 * n + 1)), .int (xs (6 * n + 2))]) (rest := [.int r]) (n := 2) hX hG (fun H => mt_kept (G := gH Gm H) (l := X.2.1) hm) (lw_V q2414 q2415 q2416 q182 q2417) (by decide +kernel) ⟨Nat.le_of_ble_eq_true rfl, Nat.le_of_ble_eq_true rfl⟩ rfl hb rfl (Nat.le_of_ble_eq_true rfl) dL_law_523 ?_
  exact lV_icmp_eq (pc := 526) (tgt := 1064) hX dL_law_526 (by decide) (fun _ => kk) (fun h => absurd rfl h)
theorem lw_case_11 {X : gz_X} {Gc Gm : gz_G} {kS b L n : Nat} {xs : Nat → Int32} {μ μ' : gM} {m m' : MM} {r : Int32} (hX : lC X) (hG : LG Gc Gm X.2.2.2.2.1) (hS : lS X b L xs) (hi : 6 * n + 6 ≤ L) (hb : gZ μ' ≤ 800000 ∧ gW μ' + kS ≤ 6000000) (hz : μ'.2.2.2.2.2 = μ.2.2.2.2.2) (hc : cf_X0_later (xs (6 * n + 1)) (xs (6 * n + 2)) μ = some (r, μ')) (hm : mf_later (xs (6 * n + 1)) (xs (6 * n + 2)) m = some (r, m')) (kk : lV X Gc Gm kS μ' m' 1064 (lvL Gc Gm b (6 * n)) []) : lV X Gc Gm kS μ m 531 (lvL Gc Gm b (6 * n)) [] := by
  refine lV_aload_n (pc := 531) hX dL_law_531 rfl 1 rfl ?_
  refine lV_arg (pc := 532) (k := 1) hX hS hi (by decide) (by decide) dL_law_532 dL_law_533 dL_law_534 dL_law_535 dL_law_536 ?_
  refine lV_arg (pc := 537) (k := 2) hX hS hi (by decide) (by decide) dL_law_537 dL_law_538 dL_law_539 dL_law_540 dL_law_541 ?_
  refine lV_callC (pc := 542) (As := [.int (xs (6 * n + 1)), .int (xs (6 * n + 2))]) (rest := []) (n := 2) hX hG (fun H => ct_X0_later (G := gH Gc H) (l := X.2.1) hc) (lw_V q1509 q1510 q1511 q167 q1512) (by decide +kernel) ⟨Nat.le_of_ble_eq_true rfl, Nat.le_of_ble_eq_true rfl⟩ rfl ⟨by show gZ μ' = gZ μ; exact congrArg Prod.fst hz, by show gW μ' = gW μ; exact congrArg Prod.snd hz⟩ hb rfl (by decide) dL_law_542 ?_
  refine lV_aload_n (pc := 545) hX dL_law_545 rfl 2 rfl ?_
  refine lV_arg (pc := 546) (k := 1) hX hS hi (by decide) (by decide) dL_law_546 dL_law_547 dL_law_548 dL_law_549 dL_law_550 ?_
  refine lV_arg (pc := 551) (k := 2) hX hS hi (by decide) (by decide) dL_law_551 dL_law_552 dL_law_553 dL_law_554 dL_law_555 ?_
  refine lV_callM (pc := 556) (As := [.int (xs (6 * n + 1)), .int (xs (6 * n + 2))]) (rest := [.int r]) (n := 2) hX hG (fun H => mt_later (G := gH Gm H) (l := X.2.1) hm) (lw_V q2419 q2420 q2421 q182 q2422) (by decide +kernel) ⟨Nat.le_of_ble_eq_true rfl, Nat.le_of_ble_eq_true rfl⟩ rfl hb rfl (Nat.le_of_ble_eq_true rfl) dL_law_556 ?_
  exact lV_icmp_eq (pc := 559) (tgt := 1064) hX dL_law_559 (by decide) (fun _ => kk) (fun h => absurd rfl h)
theorem lw_case_12 {X : gz_X} {Gc Gm : gz_G} {kS b L n : Nat} {xs : Nat → Int32} {μ μ' : gM} {m m' : MM} {r : Int32} (hX : lC X) (hG : LG Gc Gm X.2.2.2.2.1) (hS : lS X b L xs) (hi : 6 * n + 6 ≤ L) (hb : gZ μ' ≤ 800000 ∧ gW μ' + kS ≤ 6000000) (hz : μ'.2.2.2.2.2 = μ.2.2.2.2.2) (hc : cf_X0_dies (xs (6 * n + 1)) μ = some (r, μ')) (hm : mf_dies (xs (6 * n + 1)) m = some (r, m')) (kk : lV X Gc Gm kS μ' m' 1064 (lvL Gc Gm b (6 * n)) []) : lV X Gc Gm kS μ m 564 (lvL Gc Gm b (6 * n)) [] := by
  refine lV_aload_n (pc := 564) hX dL_law_564 rfl 1 rfl ?_
  refine lV_arg (pc := 565) (k := 1) hX hS hi (by decide) (by decide) dL_law_565 dL_law_566 dL_law_567 dL_law_568 dL_law_569 ?_
  refine lV_callC (pc := 570) (As := [.int (xs (6 * n + 1))]) (rest := []) (n := 1) hX hG (fun H => ct_X0_dies (G := gH Gc H) (l := X.2.1) hc) (lw_V q1546 q1547 q1548 q167 q1549) (by decide +kernel) ⟨Nat.le_of_ble_eq_true rfl, Nat.le_of_ble_eq_true rfl⟩ rfl ⟨by show gZ μ' = gZ μ; exact congrArg Prod.fst hz, by show gW μ' = gW μ; exact congrArg Prod.snd hz⟩ hb rfl (by decide) dL_law_570 ?_
  refine lV_aload_n (pc := 573) hX dL_law_573 rfl 2 rfl ?_
  refine lV_arg (pc := 574) (k := 1) hX hS hi (by decide) (by decide) dL_law_574 dL_law_575 dL_law_576 dL_law_577 dL_law_578 ?_
  refine lV_callM (pc := 579) (As := [.int (xs (6 * n + 1))]) (rest := [.int r]) (n := 1) hX hG (fun H => mt_dies (G := gH Gm H) (l := X.2.1) hm) (lw_V q2459 q2460 q2461 q182 q2462) (by decide +kernel) ⟨Nat.le_of_ble_eq_true rfl, Nat.le_of_ble_eq_true rfl⟩ rfl hb rfl (Nat.le_of_ble_eq_true rfl) dL_law_579 ?_
  exact lV_icmp_eq (pc := 582) (tgt := 1064) hX dL_law_582 (by decide) (fun _ => kk) (fun h => absurd rfl h)
theorem lw_case_13 {X : gz_X} {Gc Gm : gz_G} {kS b L n : Nat} {xs : Nat → Int32} {μ μ' : gM} {m m' : MM} {r : Int32} (hX : lC X) (hG : LG Gc Gm X.2.2.2.2.1) (hS : lS X b L xs) (hi : 6 * n + 6 ≤ L) (hb : gZ μ' ≤ 800000 ∧ gW μ' + kS ≤ 6000000) (hz : μ'.2.2.2.2.2 = μ.2.2.2.2.2) (hc : cf_X0_round (xs (6 * n + 1)) (xs (6 * n + 2)) μ = some (r, μ')) (hm : mf_round (xs (6 * n + 1)) (xs (6 * n + 2)) m = some (r, m')) (kk : lV X Gc Gm kS μ' m' 1064 (lvL Gc Gm b (6 * n)) []) : lV X Gc Gm kS μ m 587 (lvL Gc Gm b (6 * n)) [] := by
  refine lV_aload_n (pc := 587) hX dL_law_587 rfl 1 rfl ?_
  refine lV_arg (pc := 588) (k := 1) hX hS hi (by decide) (by decide) dL_law_588 dL_law_589 dL_law_590 dL_law_591 dL_law_592 ?_
  refine lV_arg (pc := 593) (k := 2) hX hS hi (by decide) (by decide) dL_law_593 dL_law_594 dL_law_595 dL_law_596 dL_law_597 ?_
  refine lV_callC (pc := 598) (As := [.int (xs (6 * n + 1)), .int (xs (6 * n + 2))]) (rest := []) (n := 2) hX hG (fun H => ct_X0_round (G := gH Gc H) (l := X.2.1) hc) (lw_V q1552 q1553 q1554 q167 q1555) (by decide +kernel) ⟨Nat.le_of_ble_eq_true rfl, Nat.le_of_ble_eq_true rfl⟩ rfl ⟨by show gZ μ' = gZ μ; exact congrArg Prod.fst hz, by show gW μ' = gW μ; exact congrArg Prod.snd hz⟩ hb rfl (by decide) dL_law_598 ?_
  refine lV_aload_n (pc := 601) hX dL_law_601 rfl 2 rfl ?_
  refine lV_arg (pc := 602) (k := 1) hX hS hi (by decide) (by decide) dL_law_602 dL_law_603 dL_law_604 dL_law_605 dL_law_606 ?_
  refine lV_arg (pc := 607) (k := 2) hX hS hi (by decide) (by decide) dL_law_607 dL_law_608 dL_law_609 dL_law_610 dL_law_611 ?_
  refine lV_callM (pc := 612) (As := [.int (xs (6 * n + 1)), .int (xs (6 * n + 2))]) (rest := [.int r]) (n := 2) hX hG (fun H => mt_round (G := gH Gm H) (l := X.2.1) hm) (lw_V q2463 q2464 q2465 q182 q2466) (by decide +kernel) ⟨Nat.le_of_ble_eq_true rfl, Nat.le_of_ble_eq_true rfl⟩ rfl hb rfl (Nat.le_of_ble_eq_true rfl) dL_law_612 ?_
  exact lV_icmp_eq (pc := 615) (tgt := 1064) hX dL_law_615 (by decide) (fun _ => kk) (fun h => absurd rfl h)
theorem lw_case_14 {X : gz_X} {Gc Gm : gz_G} {kS b L n : Nat} {xs : Nat → Int32} {μ μ' : gM} {m m' : MM} {r : Int32} (hX : lC X) (hG : LG Gc Gm X.2.2.2.2.1) (hS : lS X b L xs) (hi : 6 * n + 6 ≤ L) (hb : gZ μ' ≤ 800000 ∧ gW μ' + kS ≤ 6000000) (hz : μ'.2.2.2.2.2 = μ.2.2.2.2.2) (hc : cf_X0_least  μ = some (r, μ')) (hm : mf_least  m = some (r, m')) (kk : lV X Gc Gm kS μ' m' 1064 (lvL Gc Gm b (6 * n)) []) : lV X Gc Gm kS μ m 620 (lvL Gc Gm b (6 * n)) [] := by
  refine lV_aload_n (pc := 620) hX dL_law_620 rfl 1 rfl ?_
  refine lV_callC (pc := 621) (As := []) (rest := []) (n := 0) hX hG (fun H => ct_X0_least (G := gH Gc H) (l := X.2.1) hc) (lw_V q1577 q1578 q1579 q167 q1580) (by decide +kernel) ⟨Nat.le_of_ble_eq_true rfl, Nat.le_of_ble_eq_true rfl⟩ rfl ⟨by show gZ μ' = gZ μ; exact congrArg Prod.fst hz, by show gW μ' = gW μ; exact congrArg Prod.snd hz⟩ hb rfl (by decide) dL_law_621 ?_
  refine lV_aload_n (pc := 624) hX dL_law_624 rfl 2 rfl ?_
  refine lV_callM (pc := 625) (As := []) (rest := [.int r]) (n := 0) hX hG (fun H => mt_least (G := gH Gm H) (l := X.2.1) hm) (lw_V q2488 q2489 q2490 q182 q2491) (by decide +kernel) ⟨Nat.le_of_ble_eq_true rfl, Nat.le_of_ble_eq_true rfl⟩ rfl hb rfl (Nat.le_of_ble_eq_true rfl) dL_law_625 ?_
  exact lV_icmp_eq (pc := 628) (tgt := 1064) hX dL_law_628 (by decide) (fun _ => kk) (fun h => absurd rfl h)
theorem lw_case_15 {X : gz_X} {Gc Gm : gz_G} {kS b L n : Nat} {xs : Nat → Int32} {μ μ' : gM} {m m' : MM} {r : Int32} (hX : lC X) (hG : LG Gc Gm X.2.2.2.2.1) (hS : lS X b L xs) (hi : 6 * n + 6 ≤ L) (hb : gZ μ' ≤ 800000 ∧ gW μ' + kS ≤ 6000000) (hz : μ'.2.2.2.2.2 = μ.2.2.2.2.2) (hc : cf_X0_keep (xs (6 * n + 1)) (xs (6 * n + 2)) μ = some (r, μ')) (hm : mf_keep (xs (6 * n + 1)) (xs (6 * n + 2)) m = some (r, m')) (kk : lV X Gc Gm kS μ' m' 1064 (lvL Gc Gm b (6 * n)) []) : lV X Gc Gm kS μ m 633 (lvL Gc Gm b (6 * n)) [] := by
  refine lV_aload_n (pc := 633) hX dL_law_633 rfl 1 rfl ?_
  refine lV_arg (pc := 634) (k := 1) hX hS hi (by decide) (by decide) dL_law_634 dL_law_635 dL_law_636 dL_law_637 dL_law_638 ?_
  refine lV_arg (pc := 639) (k := 2) hX hS hi (by decide) (by decide) dL_law_639 dL_law_640 dL_law_641 dL_law_642 dL_law_643 ?_
  refine lV_callC (pc := 644) (As := [.int (xs (6 * n + 1)), .int (xs (6 * n + 2))]) (rest := []) (n := 2) hX hG (fun H => ct_X0_keep (G := gH Gc H) (l := X.2.1) hc) (lw_V q1581 q1582 q1583 q167 q1584) (by decide +kernel) ⟨Nat.le_of_ble_eq_true rfl, Nat.le_of_ble_eq_true rfl⟩ rfl ⟨by show gZ μ' = gZ μ; exact congrArg Prod.fst hz, by show gW μ' = gW μ; exact congrArg Prod.snd hz⟩ hb rfl (by decide) dL_law_644 ?_
  refine lV_aload_n (pc := 647) hX dL_law_647 rfl 2 rfl ?_
  refine lV_arg (pc := 648) (k := 1) hX hS hi (by decide) (by decide) dL_law_648 dL_law_649 dL_law_650 dL_law_651 dL_law_652 ?_
  refine lV_arg (pc := 653) (k := 2) hX hS hi (by decide) (by decide) dL_law_653 dL_law_654 dL_law_655 dL_law_656 dL_law_657 ?_
  refine lV_callM (pc := 658) (As := [.int (xs (6 * n + 1)), .int (xs (6 * n + 2))]) (rest := [.int r]) (n := 2) hX hG (fun H => mt_keep (G := gH Gm H) (l := X.2.1) hm) (lw_V q2492 q2493 q2494 q182 q2495) (by decide +kernel) ⟨Nat.le_of_ble_eq_true rfl, Nat.le_of_ble_eq_true rfl⟩ rfl hb rfl (Nat.le_of_ble_eq_true rfl) dL_law_658 ?_
  exact lV_icmp_eq (pc := 661) (tgt := 1064) hX dL_law_661 (by decide) (fun _ => kk) (fun h => absurd rfl h)
theorem lw_case_16 {X : gz_X} {Gc Gm : gz_G} {kS b L n : Nat} {xs : Nat → Int32} {μ μ' : gM} {m m' : MM} {r : Int32} (hX : lC X) (hG : LG Gc Gm X.2.2.2.2.1) (hS : lS X b L xs) (hi : 6 * n + 6 ≤ L) (hb : gZ μ' ≤ 800000 ∧ gW μ' + kS ≤ 6000000) (hz : μ'.2.2.2.2.2 = μ.2.2.2.2.2) (hc : cf_X0_rings  μ = some (r, μ')) (hm : mf_rings  m = some (r, m')) (kk : lV X Gc Gm kS μ' m' 1064 (lvL Gc Gm b (6 * n)) []) : lV X Gc Gm kS μ m 666 (lvL Gc Gm b (6 * n)) [] := by
  refine lV_aload_n (pc := 666) hX dL_law_666 rfl 1 rfl ?_
  refine lV_callC (pc := 667) (As := []) (rest := []) (n := 0) hX hG (fun H => ct_X0_rings (G := gH Gc H) (l := X.2.1) hc) (lw_V q1593 q1594 q1595 q167 q1596) (by decide +kernel) ⟨Nat.le_of_ble_eq_true rfl, Nat.le_of_ble_eq_true rfl⟩ rfl ⟨by show gZ μ' = gZ μ; exact congrArg Prod.fst hz, by show gW μ' = gW μ; exact congrArg Prod.snd hz⟩ hb rfl (by decide) dL_law_667 ?_
  refine lV_aload_n (pc := 670) hX dL_law_670 rfl 2 rfl ?_
  refine lV_callM (pc := 671) (As := []) (rest := [.int r]) (n := 0) hX hG (fun H => mt_rings (G := gH Gm H) (l := X.2.1) hm) (lw_V q2504 q2505 q2506 q182 q2507) (by decide +kernel) ⟨Nat.le_of_ble_eq_true rfl, Nat.le_of_ble_eq_true rfl⟩ rfl hb rfl (Nat.le_of_ble_eq_true rfl) dL_law_671 ?_
  exact lV_icmp_eq (pc := 674) (tgt := 1064) hX dL_law_674 (by decide) (fun _ => kk) (fun h => absurd rfl h)
theorem lw_case_17 {X : gz_X} {Gc Gm : gz_G} {kS b L n : Nat} {xs : Nat → Int32} {μ μ' : gM} {m m' : MM} {r : Int32} (hX : lC X) (hG : LG Gc Gm X.2.2.2.2.1) (hS : lS X b L xs) (hi : 6 * n + 6 ≤ L) (hb : gZ μ' ≤ 800000 ∧ gW μ' + kS ≤ 6000000) (hz : μ'.2.2.2.2.2 = μ.2.2.2.2.2) (hc : cf_X0_lightings (xs (6 * n + 1)) μ = some (r, μ')) (hm : mf_lightings (xs (6 * n + 1)) m = some (r, m')) (kk : lV X Gc Gm kS μ' m' 1064 (lvL Gc Gm b (6 * n)) []) : lV X Gc Gm kS μ m 679 (lvL Gc Gm b (6 * n)) [] := by
  refine lV_aload_n (pc := 679) hX dL_law_679 rfl 1 rfl ?_
  refine lV_arg (pc := 680) (k := 1) hX hS hi (by decide) (by decide) dL_law_680 dL_law_681 dL_law_682 dL_law_683 dL_law_684 ?_
  refine lV_callC (pc := 685) (As := [.int (xs (6 * n + 1))]) (rest := []) (n := 1) hX hG (fun H => ct_X0_lightings (G := gH Gc H) (l := X.2.1) hc) (lw_V q1597 q1598 q1599 q167 q1600) (by decide +kernel) ⟨Nat.le_of_ble_eq_true rfl, Nat.le_of_ble_eq_true rfl⟩ rfl ⟨by show gZ μ' = gZ μ; exact congrArg Prod.fst hz, by show gW μ' = gW μ; exact congrArg Prod.snd hz⟩ hb rfl (by decide) dL_law_685 ?_
  refine lV_aload_n (pc := 688) hX dL_law_688 rfl 2 rfl ?_
  refine lV_arg (pc := 689) (k := 1) hX hS hi (by decide) (by decide) dL_law_689 dL_law_690 dL_law_691 dL_law_692 dL_law_693 ?_
  refine lV_callM (pc := 694) (As := [.int (xs (6 * n + 1))]) (rest := [.int r]) (n := 1) hX hG (fun H => mt_lightings (G := gH Gm H) (l := X.2.1) hm) (lw_V q2508 q2509 q2510 q182 q2511) (by decide +kernel) ⟨Nat.le_of_ble_eq_true rfl, Nat.le_of_ble_eq_true rfl⟩ rfl hb rfl (Nat.le_of_ble_eq_true rfl) dL_law_694 ?_
  exact lV_icmp_eq (pc := 697) (tgt := 1064) hX dL_law_697 (by decide) (fun _ => kk) (fun h => absurd rfl h)
theorem lw_case_18 {X : gz_X} {Gc Gm : gz_G} {kS b L n : Nat} {xs : Nat → Int32} {μ μ' : gM} {m m' : MM} {r : Int32} (hX : lC X) (hG : LG Gc Gm X.2.2.2.2.1) (hS : lS X b L xs) (hi : 6 * n + 6 ≤ L) (hb : gZ μ' ≤ 800000 ∧ gW μ' + kS ≤ 6000000) (hz : μ'.2.2.2.2.2 = μ.2.2.2.2.2) (hc : cf_X0_odds (xs (6 * n + 1)) μ = some (r, μ')) (hm : mf_odds (xs (6 * n + 1)) m = some (r, m')) (kk : lV X Gc Gm kS μ' m' 1064 (lvL Gc Gm b (6 * n)) []) : lV X Gc Gm kS μ m 702 (lvL Gc Gm b (6 * n)) [] := by
  refine lV_aload_n (pc := 702) hX dL_law_702 rfl 1 rfl ?_
  refine lV_arg (pc := 703) (k := 1) hX hS hi (by decide) (by decide) dL_law_703 dL_law_704 dL_law_705 dL_law_706 dL_law_707 ?_
  refine lV_callC (pc := 708) (As := [.int (xs (6 * n + 1))]) (rest := []) (n := 1) hX hG (fun H => ct_X0_odds (G := gH Gc H) (l := X.2.1) hc) (lw_V q1609 q1610 q1611 q167 q1612) (by decide +kernel) ⟨Nat.le_of_ble_eq_true rfl, Nat.le_of_ble_eq_true rfl⟩ rfl ⟨by show gZ μ' = gZ μ; exact congrArg Prod.fst hz, by show gW μ' = gW μ; exact congrArg Prod.snd hz⟩ hb rfl (by decide) dL_law_708 ?_
  refine lV_aload_n (pc := 711) hX dL_law_711 rfl 2 rfl ?_
  refine lV_arg (pc := 712) (k := 1) hX hS hi (by decide) (by decide) dL_law_712 dL_law_713 dL_law_714 dL_law_715 dL_law_716 ?_
  refine lV_callM (pc := 717) (As := [.int (xs (6 * n + 1))]) (rest := [.int r]) (n := 1) hX hG (fun H => mt_odds (G := gH Gm H) (l := X.2.1) hm) (lw_V q2520 q2521 q2522 q182 q2523) (by decide +kernel) ⟨Nat.le_of_ble_eq_true rfl, Nat.le_of_ble_eq_true rfl⟩ rfl hb rfl (Nat.le_of_ble_eq_true rfl) dL_law_717 ?_
  exact lV_icmp_eq (pc := 720) (tgt := 1064) hX dL_law_720 (by decide) (fun _ => kk) (fun h => absurd rfl h)
theorem lw_case_19 {X : gz_X} {Gc Gm : gz_G} {kS b L n : Nat} {xs : Nat → Int32} {μ μ' : gM} {m m' : MM} {r : Int32} (hX : lC X) (hG : LG Gc Gm X.2.2.2.2.1) (hS : lS X b L xs) (hi : 6 * n + 6 ≤ L) (hb : gZ μ' ≤ 800000 ∧ gW μ' + kS ≤ 6000000) (hz : μ'.2.2.2.2.2 = μ.2.2.2.2.2) (hc : cf_X0_see  μ = some (r, μ')) (hm : mf_see  m = some (r, m')) (kk : lV X Gc Gm kS μ' m' 1064 (lvL Gc Gm b (6 * n)) []) : lV X Gc Gm kS μ m 725 (lvL Gc Gm b (6 * n)) [] := by
  refine lV_aload_n (pc := 725) hX dL_law_725 rfl 1 rfl ?_
  refine lV_callC (pc := 726) (As := []) (rest := []) (n := 0) hX hG (fun H => ct_X0_see (G := gH Gc H) (l := X.2.1) hc) (lw_V q1618 q1619 q1620 q167 q1621) (by decide +kernel) ⟨Nat.le_of_ble_eq_true rfl, Nat.le_of_ble_eq_true rfl⟩ rfl ⟨by show gZ μ' = gZ μ; exact congrArg Prod.fst hz, by show gW μ' = gW μ; exact congrArg Prod.snd hz⟩ hb rfl (by decide) dL_law_726 ?_
  refine lV_aload_n (pc := 729) hX dL_law_729 rfl 2 rfl ?_
  refine lV_callM (pc := 730) (As := []) (rest := [.int r]) (n := 0) hX hG (fun H => mt_see (G := gH Gm H) (l := X.2.1) hm) (lw_V q2528 q2529 q2530 q182 q2531) (by decide +kernel) ⟨Nat.le_of_ble_eq_true rfl, Nat.le_of_ble_eq_true rfl⟩ rfl hb rfl (Nat.le_of_ble_eq_true rfl) dL_law_730 ?_
  exact lV_icmp_eq (pc := 733) (tgt := 1064) hX dL_law_733 (by decide) (fun _ => kk) (fun h => absurd rfl h)
theorem lw_case_20 {X : gz_X} {Gc Gm : gz_G} {kS b L n : Nat} {xs : Nat → Int32} {μ μ' : gM} {m m' : MM} {r : Int32} (hX : lC X) (hG : LG Gc Gm X.2.2.2.2.1) (hS : lS X b L xs) (hi : 6 * n + 6 ≤ L) (hb : gZ μ' ≤ 800000 ∧ gW μ' + kS ≤ 6000000) (hz : μ'.2.2.2.2.2 = μ.2.2.2.2.2) (hc : cf_X0_heats (xs (6 * n + 1)) μ = some (r, μ')) (hm : mf_heats (xs (6 * n + 1)) m = some (r, m')) (kk : lV X Gc Gm kS μ' m' 1064 (lvL Gc Gm b (6 * n)) []) : lV X Gc Gm kS μ m 738 (lvL Gc Gm b (6 * n)) [] := by
  refine lV_aload_n (pc := 738) hX dL_law_738 rfl 1 rfl ?_
  refine lV_arg (pc := 739) (k := 1) hX hS hi (by decide) (by decide) dL_law_739 dL_law_740 dL_law_741 dL_law_742 dL_law_743 ?_
  refine lV_callC (pc := 744) (As := [.int (xs (6 * n + 1))]) (rest := []) (n := 1) hX hG (fun H => ct_X0_heats (G := gH Gc H) (l := X.2.1) hc) (lw_V q1626 q1627 q1628 q167 q1629) (by decide +kernel) ⟨Nat.le_of_ble_eq_true rfl, Nat.le_of_ble_eq_true rfl⟩ rfl ⟨by show gZ μ' = gZ μ; exact congrArg Prod.fst hz, by show gW μ' = gW μ; exact congrArg Prod.snd hz⟩ hb rfl (by decide) dL_law_744 ?_
  refine lV_aload_n (pc := 747) hX dL_law_747 rfl 2 rfl ?_
  refine lV_arg (pc := 748) (k := 1) hX hS hi (by decide) (by decide) dL_law_748 dL_law_749 dL_law_750 dL_law_751 dL_law_752 ?_
  refine lV_callM (pc := 753) (As := [.int (xs (6 * n + 1))]) (rest := [.int r]) (n := 1) hX hG (fun H => mt_heats (G := gH Gm H) (l := X.2.1) hm) (lw_V q2536 q2537 q2538 q182 q2539) (by decide +kernel) ⟨Nat.le_of_ble_eq_true rfl, Nat.le_of_ble_eq_true rfl⟩ rfl hb rfl (Nat.le_of_ble_eq_true rfl) dL_law_753 ?_
  exact lV_icmp_eq (pc := 756) (tgt := 1064) hX dL_law_756 (by decide) (fun _ => kk) (fun h => absurd rfl h)
theorem lw_case_21 {X : gz_X} {Gc Gm : gz_G} {kS b L n : Nat} {xs : Nat → Int32} {μ μ' : gM} {m m' : MM} {r : Int32} (hX : lC X) (hG : LG Gc Gm X.2.2.2.2.1) (hS : lS X b L xs) (hi : 6 * n + 6 ≤ L) (hb : gZ μ' ≤ 800000 ∧ gW μ' + kS ≤ 6000000) (hz : μ'.2.2.2.2.2 = μ.2.2.2.2.2) (hc : cf_X0_tells (xs (6 * n + 1)) (xs (6 * n + 2)) μ = some (r, μ')) (hm : mf_tells (xs (6 * n + 1)) (xs (6 * n + 2)) m = some (r, m')) (kk : lV X Gc Gm kS μ' m' 1064 (lvL Gc Gm b (6 * n)) []) : lV X Gc Gm kS μ m 761 (lvL Gc Gm b (6 * n)) [] := by
  refine lV_aload_n (pc := 761) hX dL_law_761 rfl 1 rfl ?_
  refine lV_arg (pc := 762) (k := 1) hX hS hi (by decide) (by decide) dL_law_762 dL_law_763 dL_law_764 dL_law_765 dL_law_766 ?_
  refine lV_arg (pc := 767) (k := 2) hX hS hi (by decide) (by decide) dL_law_767 dL_law_768 dL_law_769 dL_law_770 dL_law_771 ?_
  refine lV_callC (pc := 772) (As := [.int (xs (6 * n + 1)), .int (xs (6 * n + 2))]) (rest := []) (n := 2) hX hG (fun H => ct_X0_tells (G := gH Gc H) (l := X.2.1) hc) (lw_V q1634 q1635 q1636 q167 q1637) (by decide +kernel) ⟨Nat.le_of_ble_eq_true rfl, Nat.le_of_ble_eq_true rfl⟩ rfl ⟨by show gZ μ' = gZ μ; exact congrArg Prod.fst hz, by show gW μ' = gW μ; exact congrArg Prod.snd hz⟩ hb rfl (by decide) dL_law_772 ?_
  refine lV_aload_n (pc := 775) hX dL_law_775 rfl 2 rfl ?_
  refine lV_arg (pc := 776) (k := 1) hX hS hi (by decide) (by decide) dL_law_776 dL_law_777 dL_law_778 dL_law_779 dL_law_780 ?_
  refine lV_arg (pc := 781) (k := 2) hX hS hi (by decide) (by decide) dL_law_781 dL_law_782 dL_law_783 dL_law_784 dL_law_785 ?_
  refine lV_callM (pc := 786) (As := [.int (xs (6 * n + 1)), .int (xs (6 * n + 2))]) (rest := [.int r]) (n := 2) hX hG (fun H => mt_tells (G := gH Gm H) (l := X.2.1) hm) (lw_V q2548 q2549 q2550 q182 q2551) (by decide +kernel) ⟨Nat.le_of_ble_eq_true rfl, Nat.le_of_ble_eq_true rfl⟩ rfl hb rfl (Nat.le_of_ble_eq_true rfl) dL_law_786 ?_
  exact lV_icmp_eq (pc := 789) (tgt := 1064) hX dL_law_789 (by decide) (fun _ => kk) (fun h => absurd rfl h)
theorem lw_case_22 {X : gz_X} {Gc Gm : gz_G} {kS b L n : Nat} {xs : Nat → Int32} {μ μ' : gM} {m m' : MM} {r : Int32} (hX : lC X) (hG : LG Gc Gm X.2.2.2.2.1) (hS : lS X b L xs) (hi : 6 * n + 6 ≤ L) (hb : gZ μ' ≤ 800000 ∧ gW μ' + kS ≤ 6000000) (hz : μ'.2.2.2.2.2 = μ.2.2.2.2.2) (hc : cf_X0_go (xs (6 * n + 1)) μ = some (r, μ')) (hm : mf_go (xs (6 * n + 1)) m = some (r, m')) (kk : lV X Gc Gm kS μ' m' 1064 (lvL Gc Gm b (6 * n)) []) : lV X Gc Gm kS μ m 794 (lvL Gc Gm b (6 * n)) [] := by
  refine lV_aload_n (pc := 794) hX dL_law_794 rfl 1 rfl ?_
  refine lV_arg (pc := 795) (k := 1) hX hS hi (by decide) (by decide) dL_law_795 dL_law_796 dL_law_797 dL_law_798 dL_law_799 ?_
  refine lV_callC (pc := 800) (As := [.int (xs (6 * n + 1))]) (rest := []) (n := 1) hX hG (fun H => ct_X0_go (G := gH Gc H) (l := X.2.1) hc) (lw_V q1648 q1649 q1650 q167 q1651) (by decide +kernel) ⟨Nat.le_of_ble_eq_true rfl, Nat.le_of_ble_eq_true rfl⟩ rfl ⟨by show gZ μ' = gZ μ; exact congrArg Prod.fst hz, by show gW μ' = gW μ; exact congrArg Prod.snd hz⟩ hb rfl (by decide) dL_law_800 ?_
  refine lV_aload_n (pc := 803) hX dL_law_803 rfl 2 rfl ?_
  refine lV_arg (pc := 804) (k := 1) hX hS hi (by decide) (by decide) dL_law_804 dL_law_805 dL_law_806 dL_law_807 dL_law_808 ?_
  refine lV_callM (pc := 809) (As := [.int (xs (6 * n + 1))]) (rest := [.int r]) (n := 1) hX hG (fun H => mt_go (G := gH Gm H) (l := X.2.1) hm) (lw_V q2560 q2561 q2562 q182 q2563) (by decide +kernel) ⟨Nat.le_of_ble_eq_true rfl, Nat.le_of_ble_eq_true rfl⟩ rfl hb rfl (Nat.le_of_ble_eq_true rfl) dL_law_809 ?_
  exact lV_icmp_eq (pc := 812) (tgt := 1064) hX dL_law_812 (by decide) (fun _ => kk) (fun h => absurd rfl h)
theorem lw_case_23 {X : gz_X} {Gc Gm : gz_G} {kS b L n : Nat} {xs : Nat → Int32} {μ μ' : gM} {m m' : MM} {r : Int32} (hX : lC X) (hG : LG Gc Gm X.2.2.2.2.1) (hS : lS X b L xs) (hi : 6 * n + 6 ≤ L) (hb : gZ μ' ≤ 800000 ∧ gW μ' + kS ≤ 6000000) (hz : μ'.2.2.2.2.2 = μ.2.2.2.2.2) (hc : cf_X0_snuff (xs (6 * n + 1)) μ = some (r, μ')) (hm : mf_snuff (xs (6 * n + 1)) m = some (r, m')) (kk : lV X Gc Gm kS μ' m' 1064 (lvL Gc Gm b (6 * n)) []) : lV X Gc Gm kS μ m 817 (lvL Gc Gm b (6 * n)) [] := by
  refine lV_aload_n (pc := 817) hX dL_law_817 rfl 1 rfl ?_
  refine lV_arg (pc := 818) (k := 1) hX hS hi (by decide) (by decide) dL_law_818 dL_law_819 dL_law_820 dL_law_821 dL_law_822 ?_
  refine lV_callC (pc := 823) (As := [.int (xs (6 * n + 1))]) (rest := []) (n := 1) hX hG (fun H => ct_X0_snuff (G := gH Gc H) (l := X.2.1) hc) (lw_V q1656 q1657 q1658 q167 q1659) (by decide +kernel) ⟨Nat.le_of_ble_eq_true rfl, Nat.le_of_ble_eq_true rfl⟩ rfl ⟨by show gZ μ' = gZ μ; exact congrArg Prod.fst hz, by show gW μ' = gW μ; exact congrArg Prod.snd hz⟩ hb rfl (by decide) dL_law_823 ?_
  refine lV_aload_n (pc := 826) hX dL_law_826 rfl 2 rfl ?_
  refine lV_arg (pc := 827) (k := 1) hX hS hi (by decide) (by decide) dL_law_827 dL_law_828 dL_law_829 dL_law_830 dL_law_831 ?_
  refine lV_callM (pc := 832) (As := [.int (xs (6 * n + 1))]) (rest := [.int r]) (n := 1) hX hG (fun H => mt_snuff (G := gH Gm H) (l := X.2.1) hm) (lw_V q2568 q2569 q2570 q182 q2571) (by decide +kernel) ⟨Nat.le_of_ble_eq_true rfl, Nat.le_of_ble_eq_true rfl⟩ rfl hb rfl (Nat.le_of_ble_eq_true rfl) dL_law_832 ?_
  exact lV_icmp_eq (pc := 835) (tgt := 1064) hX dL_law_835 (by decide) (fun _ => kk) (fun h => absurd rfl h)
theorem lw_case_24 {X : gz_X} {Gc Gm : gz_G} {kS b L n : Nat} {xs : Nat → Int32} {μ μ' : gM} {m m' : MM} {r : Int32} (hX : lC X) (hG : LG Gc Gm X.2.2.2.2.1) (hS : lS X b L xs) (hi : 6 * n + 6 ≤ L) (hb : gZ μ' ≤ 800000 ∧ gW μ' + kS ≤ 6000000) (hz : μ'.2.2.2.2.2 = μ.2.2.2.2.2) (hc : cf_X0_light (xs (6 * n + 1)) μ = some (r, μ')) (hm : mf_light (xs (6 * n + 1)) m = some (r, m')) (kk : lV X Gc Gm kS μ' m' 1064 (lvL Gc Gm b (6 * n)) []) : lV X Gc Gm kS μ m 840 (lvL Gc Gm b (6 * n)) [] := by
  refine lV_aload_n (pc := 840) hX dL_law_840 rfl 1 rfl ?_
  refine lV_arg (pc := 841) (k := 1) hX hS hi (by decide) (by decide) dL_law_841 dL_law_842 dL_law_843 dL_law_844 dL_law_845 ?_
  refine lV_callC (pc := 846) (As := [.int (xs (6 * n + 1))]) (rest := []) (n := 1) hX hG (fun H => ct_X0_light (G := gH Gc H) (l := X.2.1) hc) (lw_V q1664 q1665 q1666 q167 q1667) (by decide +kernel) ⟨Nat.le_of_ble_eq_true rfl, Nat.le_of_ble_eq_true rfl⟩ rfl ⟨by show gZ μ' = gZ μ; exact congrArg Prod.fst hz, by show gW μ' = gW μ; exact congrArg Prod.snd hz⟩ hb rfl (by decide) dL_law_846 ?_
  refine lV_aload_n (pc := 849) hX dL_law_849 rfl 2 rfl ?_
  refine lV_arg (pc := 850) (k := 1) hX hS hi (by decide) (by decide) dL_law_850 dL_law_851 dL_law_852 dL_law_853 dL_law_854 ?_
  refine lV_callM (pc := 855) (As := [.int (xs (6 * n + 1))]) (rest := [.int r]) (n := 1) hX hG (fun H => mt_light (G := gH Gm H) (l := X.2.1) hm) (lw_V q2576 q2577 q2578 q182 q2579) (by decide +kernel) ⟨Nat.le_of_ble_eq_true rfl, Nat.le_of_ble_eq_true rfl⟩ rfl hb rfl (Nat.le_of_ble_eq_true rfl) dL_law_855 ?_
  exact lV_icmp_eq (pc := 858) (tgt := 1064) hX dL_law_858 (by decide) (fun _ => kk) (fun h => absurd rfl h)
theorem lw_case_25 {X : gz_X} {Gc Gm : gz_G} {kS b L n : Nat} {xs : Nat → Int32} {μ μ' : gM} {m m' : MM} {r : Int32} (hX : lC X) (hG : LG Gc Gm X.2.2.2.2.1) (hS : lS X b L xs) (hi : 6 * n + 6 ≤ L) (hb : gZ μ' ≤ 800000 ∧ gW μ' + kS ≤ 6000000) (hz : μ'.2.2.2.2.2 = μ.2.2.2.2.2) (hc : cf_X0_bind (xs (6 * n + 1)) (xs (6 * n + 2)) μ = some (r, μ')) (hm : mf_bind (xs (6 * n + 1)) (xs (6 * n + 2)) m = some (r, m')) (kk : lV X Gc Gm kS μ' m' 1064 (lvL Gc Gm b (6 * n)) []) : lV X Gc Gm kS μ m 863 (lvL Gc Gm b (6 * n)) [] := by
  refine lV_aload_n (pc := 863) hX dL_law_863 rfl 1 rfl ?_
  refine lV_arg (pc := 864) (k := 1) hX hS hi (by decide) (by decide) dL_law_864 dL_law_865 dL_law_866 dL_law_867 dL_law_868 ?_
  refine lV_arg (pc := 869) (k := 2) hX hS hi (by decide) (by decide) dL_law_869 dL_law_870 dL_law_871 dL_law_872 dL_law_873 ?_
  refine lV_callC (pc := 874) (As := [.int (xs (6 * n + 1)), .int (xs (6 * n + 2))]) (rest := []) (n := 2) hX hG (fun H => ct_X0_bind (G := gH Gc H) (l := X.2.1) hc) (lw_V q1668 q1669 q1670 q167 q1671) (by decide +kernel) ⟨Nat.le_of_ble_eq_true rfl, Nat.le_of_ble_eq_true rfl⟩ rfl ⟨by show gZ μ' = gZ μ; exact congrArg Prod.fst hz, by show gW μ' = gW μ; exact congrArg Prod.snd hz⟩ hb rfl (by decide) dL_law_874 ?_
  refine lV_aload_n (pc := 877) hX dL_law_877 rfl 2 rfl ?_
  refine lV_arg (pc := 878) (k := 1) hX hS hi (by decide) (by decide) dL_law_878 dL_law_879 dL_law_880 dL_law_881 dL_law_882 ?_
  refine lV_arg (pc := 883) (k := 2) hX hS hi (by decide) (by decide) dL_law_883 dL_law_884 dL_law_885 dL_law_886 dL_law_887 ?_
  refine lV_callM (pc := 888) (As := [.int (xs (6 * n + 1)), .int (xs (6 * n + 2))]) (rest := [.int r]) (n := 2) hX hG (fun H => mt_bind (G := gH Gm H) (l := X.2.1) hm) (lw_V q2584 q2585 q2586 q182 q2587) (by decide +kernel) ⟨Nat.le_of_ble_eq_true rfl, Nat.le_of_ble_eq_true rfl⟩ rfl hb rfl (Nat.le_of_ble_eq_true rfl) dL_law_888 ?_
  exact lV_icmp_eq (pc := 891) (tgt := 1064) hX dL_law_891 (by decide) (fun _ => kk) (fun h => absurd rfl h)
theorem lw_case_26 {X : gz_X} {Gc Gm : gz_G} {kS b L n : Nat} {xs : Nat → Int32} {μ μ' : gM} {m m' : MM} {r : Int32} (hX : lC X) (hG : LG Gc Gm X.2.2.2.2.1) (hS : lS X b L xs) (hi : 6 * n + 6 ≤ L) (hb : gZ μ' ≤ 800000 ∧ gW μ' + kS ≤ 6000000) (hz : μ'.2.2.2.2.2 = μ.2.2.2.2.2) (hc : cf_X0_hours (xs (6 * n + 1)) μ = some (r, μ')) (hm : mf_hours (xs (6 * n + 1)) m = some (r, m')) (kk : lV X Gc Gm kS μ' m' 1064 (lvL Gc Gm b (6 * n)) []) : lV X Gc Gm kS μ m 896 (lvL Gc Gm b (6 * n)) [] := by
  refine lV_aload_n (pc := 896) hX dL_law_896 rfl 1 rfl ?_
  refine lV_arg (pc := 897) (k := 1) hX hS hi (by decide) (by decide) dL_law_897 dL_law_898 dL_law_899 dL_law_900 dL_law_901 ?_
  refine lV_callC (pc := 902) (As := [.int (xs (6 * n + 1))]) (rest := []) (n := 1) hX hG (fun H => ct_X0_hours (G := gH Gc H) (l := X.2.1) hc) (lw_V q1672 q1673 q1674 q167 q1675) (by decide +kernel) ⟨Nat.le_of_ble_eq_true rfl, Nat.le_of_ble_eq_true rfl⟩ rfl ⟨by show gZ μ' = gZ μ; exact congrArg Prod.fst hz, by show gW μ' = gW μ; exact congrArg Prod.snd hz⟩ hb rfl (by decide) dL_law_902 ?_
  refine lV_aload_n (pc := 905) hX dL_law_905 rfl 2 rfl ?_
  refine lV_arg (pc := 906) (k := 1) hX hS hi (by decide) (by decide) dL_law_906 dL_law_907 dL_law_908 dL_law_909 dL_law_910 ?_
  refine lV_callM (pc := 911) (As := [.int (xs (6 * n + 1))]) (rest := [.int r]) (n := 1) hX hG (fun H => mt_hours (G := gH Gm H) (l := X.2.1) hm) (lw_V q2588 q2589 q2590 q182 q2591) (by decide +kernel) ⟨Nat.le_of_ble_eq_true rfl, Nat.le_of_ble_eq_true rfl⟩ rfl hb rfl (Nat.le_of_ble_eq_true rfl) dL_law_911 ?_
  exact lV_icmp_eq (pc := 914) (tgt := 1064) hX dL_law_914 (by decide) (fun _ => kk) (fun h => absurd rfl h)
theorem lw_case_27 {X : gz_X} {Gc Gm : gz_G} {kS b L n : Nat} {xs : Nat → Int32} {μ μ' : gM} {m m' : MM} {r : Int32} (hX : lC X) (hG : LG Gc Gm X.2.2.2.2.1) (hS : lS X b L xs) (hi : 6 * n + 6 ≤ L) (hb : gZ μ' ≤ 800000 ∧ gW μ' + kS ≤ 6000000) (hz : μ'.2.2.2.2.2 = μ.2.2.2.2.2) (hc : cf_X0_chance (xs (6 * n + 1)) μ = some (r, μ')) (hm : mf_chance (xs (6 * n + 1)) m = some (r, m')) (kk : lV X Gc Gm kS μ' m' 1064 (lvL Gc Gm b (6 * n)) []) : lV X Gc Gm kS μ m 919 (lvL Gc Gm b (6 * n)) [] := by
  refine lV_aload_n (pc := 919) hX dL_law_919 rfl 1 rfl ?_
  refine lV_arg (pc := 920) (k := 1) hX hS hi (by decide) (by decide) dL_law_920 dL_law_921 dL_law_922 dL_law_923 dL_law_924 ?_
  refine lV_callC (pc := 925) (As := [.int (xs (6 * n + 1))]) (rest := []) (n := 1) hX hG (fun H => ct_X0_chance (G := gH Gc H) (l := X.2.1) hc) (lw_V q1676 q1677 q1678 q167 q1679) (by decide +kernel) ⟨Nat.le_of_ble_eq_true rfl, Nat.le_of_ble_eq_true rfl⟩ rfl ⟨by show gZ μ' = gZ μ; exact congrArg Prod.fst hz, by show gW μ' = gW μ; exact congrArg Prod.snd hz⟩ hb rfl (by decide) dL_law_925 ?_
  refine lV_aload_n (pc := 928) hX dL_law_928 rfl 2 rfl ?_
  refine lV_arg (pc := 929) (k := 1) hX hS hi (by decide) (by decide) dL_law_929 dL_law_930 dL_law_931 dL_law_932 dL_law_933 ?_
  refine lV_callM (pc := 934) (As := [.int (xs (6 * n + 1))]) (rest := [.int r]) (n := 1) hX hG (fun H => mt_chance (G := gH Gm H) (l := X.2.1) hm) (lw_V q2596 q2597 q2598 q182 q2599) (by decide +kernel) ⟨Nat.le_of_ble_eq_true rfl, Nat.le_of_ble_eq_true rfl⟩ rfl hb rfl (Nat.le_of_ble_eq_true rfl) dL_law_934 ?_
  exact lV_icmp_eq (pc := 937) (tgt := 1064) hX dL_law_937 (by decide) (fun _ => kk) (fun h => absurd rfl h)
theorem lw_case_28 {X : gz_X} {Gc Gm : gz_G} {kS b L n : Nat} {xs : Nat → Int32} {μ μ' : gM} {m m' : MM} {r : Int32} (hX : lC X) (hG : LG Gc Gm X.2.2.2.2.1) (hS : lS X b L xs) (hi : 6 * n + 6 ≤ L) (hb : gZ μ' ≤ 800000 ∧ gW μ' + kS ≤ 6000000) (hz : μ'.2.2.2.2.2 = μ.2.2.2.2.2) (hc : cf_X0_undo  μ = some (r, μ')) (hm : mf_undo  m = some (r, m')) (kk : lV X Gc Gm kS μ' m' 1064 (lvL Gc Gm b (6 * n)) []) : lV X Gc Gm kS μ m 942 (lvL Gc Gm b (6 * n)) [] := by
  refine lV_aload_n (pc := 942) hX dL_law_942 rfl 1 rfl ?_
  refine lV_callC (pc := 943) (As := []) (rest := []) (n := 0) hX hG (fun H => ct_X0_undo (G := gH Gc H) (l := X.2.1) hc) (lw_V q1644 q1645 q1646 q167 q1647) (by decide +kernel) ⟨Nat.le_of_ble_eq_true rfl, Nat.le_of_ble_eq_true rfl⟩ rfl ⟨by show gZ μ' = gZ μ; exact congrArg Prod.fst hz, by show gW μ' = gW μ; exact congrArg Prod.snd hz⟩ hb rfl (by decide) dL_law_943 ?_
  refine lV_aload_n (pc := 946) hX dL_law_946 rfl 2 rfl ?_
  refine lV_callM (pc := 947) (As := []) (rest := [.int r]) (n := 0) hX hG (fun H => mt_undo (G := gH Gm H) (l := X.2.1) hm) (lw_V q2556 q2557 q2558 q182 q2559) (by decide +kernel) ⟨Nat.le_of_ble_eq_true rfl, Nat.le_of_ble_eq_true rfl⟩ rfl hb rfl (Nat.le_of_ble_eq_true rfl) dL_law_947 ?_
  exact lV_icmp_eq (pc := 950) (tgt := 1064) hX dL_law_950 (by decide) (fun _ => kk) (fun h => absurd rfl h)
theorem lw_case_29 {X : gz_X} {Gc Gm : gz_G} {kS b L n : Nat} {xs : Nat → Int32} {μ μ' : gM} {m m' : MM} {r : Int32} (hX : lC X) (hG : LG Gc Gm X.2.2.2.2.1) (hS : lS X b L xs) (hi : 6 * n + 6 ≤ L) (hb : gZ μ' ≤ 800000 ∧ gW μ' + kS ≤ 6000000) (hz : μ'.2.2.2.2.2 = μ.2.2.2.2.2) (hc : cf_X0_seed (xs (6 * n + 1)) μ = some (r, μ')) (hm : mf_seed (xs (6 * n + 1)) m = some (r, m')) (kk : lV X Gc Gm kS μ' m' 1064 (lvL Gc Gm b (6 * n)) []) : lV X Gc Gm kS μ m 955 (lvL Gc Gm b (6 * n)) [] := by
  refine lV_aload_n (pc := 955) hX dL_law_955 rfl 1 rfl ?_
  refine lV_arg (pc := 956) (k := 1) hX hS hi (by decide) (by decide) dL_law_956 dL_law_957 dL_law_958 dL_law_959 dL_law_960 ?_
  refine lV_callC (pc := 961) (As := [.int (xs (6 * n + 1))]) (rest := []) (n := 1) hX hG (fun H => ct_X0_seed (G := gH Gc H) (l := X.2.1) hc) (lw_V q1688 q1689 q1690 q167 q1691) (by decide +kernel) ⟨Nat.le_of_ble_eq_true rfl, Nat.le_of_ble_eq_true rfl⟩ rfl ⟨by show gZ μ' = gZ μ; exact congrArg Prod.fst hz, by show gW μ' = gW μ; exact congrArg Prod.snd hz⟩ hb rfl (by decide) dL_law_961 ?_
  refine lV_aload_n (pc := 964) hX dL_law_964 rfl 2 rfl ?_
  refine lV_arg (pc := 965) (k := 1) hX hS hi (by decide) (by decide) dL_law_965 dL_law_966 dL_law_967 dL_law_968 dL_law_969 ?_
  refine lV_callM (pc := 970) (As := [.int (xs (6 * n + 1))]) (rest := [.int r]) (n := 1) hX hG (fun H => mt_seed (G := gH Gm H) (l := X.2.1) hm) (lw_V q2592 q2593 q2594 q182 q2595) (by decide +kernel) ⟨Nat.le_of_ble_eq_true rfl, Nat.le_of_ble_eq_true rfl⟩ rfl hb rfl (Nat.le_of_ble_eq_true rfl) dL_law_970 ?_
  exact lV_icmp_eq (pc := 973) (tgt := 1064) hX dL_law_973 (by decide) (fun _ => kk) (fun h => absurd rfl h)
theorem lw_case_30 {X : gz_X} {Gc Gm : gz_G} {kS b L n : Nat} {xs : Nat → Int32} {μ μ' : gM} {m m' : MM} {r : Int64} (hX : lC X) (hG : LG Gc Gm X.2.2.2.2.1) (hS : lS X b L xs) (hi : 6 * n + 6 ≤ L) (hb : gZ μ' ≤ 800000 ∧ gW μ' + kS ≤ 6000000) (hz : gZ μ ≤ gZ μ' ∧ gW μ ≤ gW μ') (hc : cf_X0_ask  μ = some (r, μ')) (hm : mf_ask  m = some (r, m')) (kk : lV X Gc Gm kS μ' m' 1064 (lvL Gc Gm b (6 * n)) []) : lV X Gc Gm kS μ m 978 (lvL Gc Gm b (6 * n)) [] := by
  refine lV_aload_n (pc := 978) hX dL_law_978 rfl 1 rfl ?_
  refine lV_callH (pc := 979) (As := []) (rest := []) (n := 0) hX hG (fun H => ct_X0_ask (G := gH Gc H) (l := X.2.1) hc) (lw_VW q1692 q1693 q1694 q167 q1695) (by decide +kernel) ⟨Nat.le_of_ble_eq_true rfl, Nat.le_of_ble_eq_true rfl⟩ rfl ⟨by have := hz.1; show gZ μ' = gZ μ + (gZ μ' - gZ μ); omega, by have := hz.2; show gW μ' = gW μ + (gW μ' - gW μ); omega⟩ hb rfl (by decide) dL_law_979 ?_
  refine lV_aload_n (pc := 982) hX dL_law_982 rfl 2 rfl ?_
  refine lV_callM (pc := 983) (As := []) (rest := [.long r]) (n := 0) hX hG (fun H => mt_ask (G := gH Gm H) (l := X.2.1) hm) (lw_V q2608 q2609 q2610 q182 q2611) (by decide +kernel) ⟨Nat.le_of_ble_eq_true rfl, Nat.le_of_ble_eq_true rfl⟩ rfl hb rfl (Nat.le_of_ble_eq_true rfl) dL_law_983 ?_
  exact lV_lcmp_eq (pc := 986) (tgt := 1064) hX dL_law_986 dL_law_987 (by decide) (fun _ => kk) (fun h => absurd rfl h)
theorem lw_case_31 {X : gz_X} {Gc Gm : gz_G} {kS b L n : Nat} {xs : Nat → Int32} {μ μ' : gM} {m m' : MM} {r : Int32} (hX : lC X) (hG : LG Gc Gm X.2.2.2.2.1) (hS : lS X b L xs) (hi : 6 * n + 6 ≤ L) (hb : gZ μ' ≤ 800000 ∧ gW μ' + kS ≤ 6000000) (hz : μ'.2.2.2.2.2 = μ.2.2.2.2.2) (hc : cf_X0_image  μ = some (r, μ')) (hm : mf_image  m = some (r, m')) (kk : lV X Gc Gm kS μ' m' 1064 (lvL Gc Gm b (6 * n)) []) : lV X Gc Gm kS μ m 992 (lvL Gc Gm b (6 * n)) [] := by
  refine lV_aload_n (pc := 992) hX dL_law_992 rfl 1 rfl ?_
  refine lV_callC (pc := 993) (As := []) (rest := []) (n := 0) hX hG (fun H => ct_X0_image (G := gH Gc H) (l := X.2.1) hc) (lw_V q1738 q1739 q1740 q167 q1741) (by decide +kernel) ⟨Nat.le_of_ble_eq_true rfl, Nat.le_of_ble_eq_true rfl⟩ rfl ⟨by show gZ μ' = gZ μ; exact congrArg Prod.fst hz, by show gW μ' = gW μ; exact congrArg Prod.snd hz⟩ hb rfl (by decide) dL_law_993 ?_
  refine lV_aload_n (pc := 996) hX dL_law_996 rfl 2 rfl ?_
  refine lV_callM (pc := 997) (As := []) (rest := [.int r]) (n := 0) hX hG (fun H => mt_image (G := gH Gm H) (l := X.2.1) hm) (lw_V q2629 q2630 q2631 q182 q2632) (by decide +kernel) ⟨Nat.le_of_ble_eq_true rfl, Nat.le_of_ble_eq_true rfl⟩ rfl hb rfl (Nat.le_of_ble_eq_true rfl) dL_law_997 ?_
  exact lV_icmp_eq (pc := 1000) (tgt := 1064) hX dL_law_1000 (by decide) (fun _ => kk) (fun h => absurd rfl h)
theorem lw_case_32 {X : gz_X} {Gc Gm : gz_G} {kS b L n : Nat} {xs : Nat → Int32} {μ μ' : gM} {m m' : MM} {r : Int32} (hX : lC X) (hG : LG Gc Gm X.2.2.2.2.1) (hS : lS X b L xs) (hi : 6 * n + 6 ≤ L) (hb : gZ μ' ≤ 800000 ∧ gW μ' + kS ≤ 6000000) (hz : μ'.2.2.2.2.2 = μ.2.2.2.2.2) (hc : cf_X0_octet (xs (6 * n + 1)) μ = some (r, μ')) (hm : mf_octet (xs (6 * n + 1)) m = some (r, m')) (kk : lV X Gc Gm kS μ' m' 1064 (lvL Gc Gm b (6 * n)) []) : lV X Gc Gm kS μ m 1005 (lvL Gc Gm b (6 * n)) [] := by
  refine lV_aload_n (pc := 1005) hX dL_law_1005 rfl 1 rfl ?_
  refine lV_arg (pc := 1006) (k := 1) hX hS hi (by decide) (by decide) dL_law_1006 dL_law_1007 dL_law_1008 dL_law_1009 dL_law_1010 ?_
  refine lV_callC (pc := 1011) (As := [.int (xs (6 * n + 1))]) (rest := []) (n := 1) hX hG (fun H => ct_X0_octet (G := gH Gc H) (l := X.2.1) hc) (lw_V q1749 q1750 q1751 q167 q1752) (by decide +kernel) ⟨Nat.le_of_ble_eq_true rfl, Nat.le_of_ble_eq_true rfl⟩ rfl ⟨by show gZ μ' = gZ μ; exact congrArg Prod.fst hz, by show gW μ' = gW μ; exact congrArg Prod.snd hz⟩ hb rfl (by decide) dL_law_1011 ?_
  refine lV_aload_n (pc := 1014) hX dL_law_1014 rfl 2 rfl ?_
  refine lV_arg (pc := 1015) (k := 1) hX hS hi (by decide) (by decide) dL_law_1015 dL_law_1016 dL_law_1017 dL_law_1018 dL_law_1019 ?_
  refine lV_callM (pc := 1020) (As := [.int (xs (6 * n + 1))]) (rest := [.int r]) (n := 1) hX hG (fun H => mt_octet (G := gH Gm H) (l := X.2.1) hm) (lw_V q2640 q2641 q2642 q182 q2643) (by decide +kernel) ⟨Nat.le_of_ble_eq_true rfl, Nat.le_of_ble_eq_true rfl⟩ rfl hb rfl (Nat.le_of_ble_eq_true rfl) dL_law_1020 ?_
  exact lV_icmp_eq (pc := 1023) (tgt := 1064) hX dL_law_1023 (by decide) (fun _ => kk) (fun h => absurd rfl h)
theorem lw_case_33 {X : gz_X} {Gc Gm : gz_G} {kS b L n : Nat} {xs : Nat → Int32} {μ μ' : gM} {m m' : MM} {r : Int32} (hX : lC X) (hG : LG Gc Gm X.2.2.2.2.1) (hS : lS X b L xs) (hi : 6 * n + 6 ≤ L) (hb : gZ μ' ≤ 800000 ∧ gW μ' + kS ≤ 6000000) (hz : μ'.2.2.2.2.2 = μ.2.2.2.2.2) (hc : cf_X0_on  μ = some (r, μ')) (hm : mf_on  m = some (r, m')) (kk : lV X Gc Gm kS μ' m' 1064 (lvL Gc Gm b (6 * n)) []) : lV X Gc Gm kS μ m 1028 (lvL Gc Gm b (6 * n)) [] := by
  refine lV_aload_n (pc := 1028) hX dL_law_1028 rfl 1 rfl ?_
  refine lV_callC (pc := 1029) (As := []) (rest := []) (n := 0) hX hG (fun H => ct_X0_on (G := gH Gc H) (l := X.2.1) hc) (lw_V q1753 q1754 q1755 q167 q1756) (by decide +kernel) ⟨Nat.le_of_ble_eq_true rfl, Nat.le_of_ble_eq_true rfl⟩ rfl ⟨by show gZ μ' = gZ μ; exact congrArg Prod.fst hz, by show gW μ' = gW μ; exact congrArg Prod.snd hz⟩ hb rfl (by decide) dL_law_1029 ?_
  refine lV_aload_n (pc := 1032) hX dL_law_1032 rfl 2 rfl ?_
  refine lV_callM (pc := 1033) (As := []) (rest := [.int r]) (n := 0) hX hG (fun H => mt_on (G := gH Gm H) (l := X.2.1) hm) (lw_V q2644 q2645 q2646 q182 q2647) (by decide +kernel) ⟨Nat.le_of_ble_eq_true rfl, Nat.le_of_ble_eq_true rfl⟩ rfl hb rfl (Nat.le_of_ble_eq_true rfl) dL_law_1033 ?_
  exact lV_icmp_eq (pc := 1036) (tgt := 1064) hX dL_law_1036 (by decide) (fun _ => kk) (fun h => absurd rfl h)
theorem lw_case_34 {X : gz_X} {Gc Gm : gz_G} {kS b L n : Nat} {xs : Nat → Int32} {μ μ' : gM} {m m' : MM} {r : Int32} (hX : lC X) (hG : LG Gc Gm X.2.2.2.2.1) (hS : lS X b L xs) (hi : 6 * n + 6 ≤ L) (hb : gZ μ' ≤ 800000 ∧ gW μ' + kS ≤ 6000000) (hz : μ'.2.2.2.2.2 = μ.2.2.2.2.2) (hc : cf_X0_status (xs (6 * n + 1)) μ = some (r, μ')) (hm : mf_status (xs (6 * n + 1)) m = some (r, m')) (kk : lV X Gc Gm kS μ' m' 1064 (lvL Gc Gm b (6 * n)) []) : lV X Gc Gm kS μ m 1041 (lvL Gc Gm b (6 * n)) [] := by
  refine lV_aload_n (pc := 1041) hX dL_law_1041 rfl 1 rfl ?_
  refine lV_arg (pc := 1042) (k := 1) hX hS hi (by decide) (by decide) dL_law_1042 dL_law_1043 dL_law_1044 dL_law_1045 dL_law_1046 ?_
  refine lV_callC (pc := 1047) (As := [.int (xs (6 * n + 1))]) (rest := []) (n := 1) hX hG (fun H => ct_X0_status (G := gH Gc H) (l := X.2.1) hc) (lw_V q1761 q1762 q1763 q167 q1764) (by decide +kernel) ⟨Nat.le_of_ble_eq_true rfl, Nat.le_of_ble_eq_true rfl⟩ rfl ⟨by show gZ μ' = gZ μ; exact congrArg Prod.fst hz, by show gW μ' = gW μ; exact congrArg Prod.snd hz⟩ hb rfl (by decide) dL_law_1047 ?_
  refine lV_aload_n (pc := 1050) hX dL_law_1050 rfl 2 rfl ?_
  refine lV_arg (pc := 1051) (k := 1) hX hS hi (by decide) (by decide) dL_law_1051 dL_law_1052 dL_law_1053 dL_law_1054 dL_law_1055 ?_
  refine lV_callM (pc := 1056) (As := [.int (xs (6 * n + 1))]) (rest := [.int r]) (n := 1) hX hG (fun H => mt_status (G := gH Gm H) (l := X.2.1) hm) (lw_V q2652 q2653 q2654 q182 q2655) (by decide +kernel) ⟨Nat.le_of_ble_eq_true rfl, Nat.le_of_ble_eq_true rfl⟩ rfl hb rfl (Nat.le_of_ble_eq_true rfl) dL_law_1056 ?_
  exact lV_icmp_eq (pc := 1059) (tgt := 1064) hX dL_law_1059 (by decide) (fun _ => kk) (fun h => absurd rfl h)
theorem lw_toI {a : Nat} (h : a < 1000) : (nI a).toInt = a := Int32.toInt_ofNat_of_lt (by omega)
theorem lw_subI {L : Nat} (h : L < 1000) : (nI L - 6).toInt = (L : Int) - 6 := by
  have e : nI L - 6 = Int32.ofInt ((L : Int) - 6) := by
    rw [Int32.ofInt_sub]
    show Int32.ofNat L - 6 = Int32.ofInt (L : Int) - Int32.ofInt 6
    rw [Int32.ofInt_eq_ofNat]
    rfl
  rw [e, Int32.toInt_ofInt_of_le (by omega) (by omega)]
theorem lw_gt {n L : Nat} (h1 : 6 * n ≤ L) (h2 : L < 6 * n + 6) (h3 : L ≤ 384) : nI L - 6 < nI (6 * n) := by
  rw [Int32.lt_iff_toInt_lt, lw_subI (by omega), lw_toI (by omega)]
  omega
theorem lw_ngt {n L : Nat} (h1 : 6 * n + 6 ≤ L) (h3 : L ≤ 384) : ¬ nI L - 6 < nI (6 * n) := by
  rw [Int32.lt_iff_toInt_lt, lw_subI (by omega), lw_toI (by omega)]
  omega
/-- what is owed of the pure programs: the two sides answer alike, whatever is asked -/
def lOps (kS : Nat) (Rl : Nat → gM → MM → Prop) : Prop := (∀ (n : Nat) (μ : gM) (m : MM), Rl n μ m → gZ μ ≤ 800000 ∧ gW μ + kS ≤ 6000000) ∧ (∀ (n : Nat) (μ : gM) (m : MM), Rl n μ m → Rl (n + 1) μ m) ∧
  (∀ (n : Nat) (μ : gM) (m : MM) (a1 a2 a3 a4 a5 : Int32), n < 64 → Rl n μ m → ∃ (r : Int32) (μ' : gM) (m' : MM), cf_X0_feed a1 a2 a3 a4 a5 μ = some (r, μ') ∧ mf_feed a1 a2 a3 a4 a5 m = some (r, m') ∧ μ'.2.2.2.2.2 = μ.2.2.2.2.2 ∧ Rl (n + 1) μ' m') ∧
  (∀ (n : Nat) (μ : gM) (m : MM) (a1 : Int32), n < 64 → Rl n μ m → ∃ (r : Int32) (μ' : gM) (m' : MM), cf_X0_end a1 μ = some (r, μ') ∧ mf_end a1 m = some (r, m') ∧ μ'.2.2.2.2.2 = μ.2.2.2.2.2 ∧ Rl (n + 1) μ' m') ∧
  (∀ (n : Nat) (μ : gM) (m : MM), n < 64 → Rl n μ m → ∃ (r : Int32) (μ' : gM) (m' : MM), cf_X0_household  μ = some (r, μ') ∧ mf_household  m = some (r, m') ∧ (gZ μ ≤ gZ μ' ∧ gW μ ≤ gW μ') ∧ Rl (n + 1) μ' m') ∧
  (∀ (n : Nat) (μ : gM) (m : MM) (a1 : Int32), n < 64 → Rl n μ m → ∃ (r : Int32) (μ' : gM) (m' : MM), cf_X0_fault a1 μ = some (r, μ') ∧ mf_fault a1 m = some (r, m') ∧ μ'.2.2.2.2.2 = μ.2.2.2.2.2 ∧ Rl (n + 1) μ' m') ∧
  (∀ (n : Nat) (μ : gM) (m : MM) (a1 : Int32), n < 64 → Rl n μ m → ∃ (r : Int32) (μ' : gM) (m' : MM), cf_X0_has_2 a1 μ = some (r, μ') ∧ mf_has a1 m = some (r, m') ∧ μ'.2.2.2.2.2 = μ.2.2.2.2.2 ∧ Rl (n + 1) μ' m') ∧
  (∀ (n : Nat) (μ : gM) (m : MM) (a1 a2 a3 : Int32), n < 64 → Rl n μ m → ∃ (r : Int32) (μ' : gM) (m' : MM), cf_X0_letterB a1 a2 a3 μ = some (r, μ') ∧ mf_letter a1 a2 a3 m = some (r, m') ∧ μ'.2.2.2.2.2 = μ.2.2.2.2.2 ∧ Rl (n + 1) μ' m') ∧
  (∀ (n : Nat) (μ : gM) (m : MM) (a1 a2 : Int32), n < 64 → Rl n μ m → ∃ (r : Int32) (μ' : gM) (m' : MM), cf_X0_thing a1 a2 μ = some (r, μ') ∧ mf_thing a1 a2 m = some (r, m') ∧ μ'.2.2.2.2.2 = μ.2.2.2.2.2 ∧ Rl (n + 1) μ' m') ∧
  (∀ (n : Nat) (μ : gM) (m : MM) (a1 a2 : Int32), n < 64 → Rl n μ m → ∃ (r : Int32) (μ' : gM) (m' : MM), cf_X0_tie a1 a2 μ = some (r, μ') ∧ mf_tie a1 a2 m = some (r, m') ∧ μ'.2.2.2.2.2 = μ.2.2.2.2.2 ∧ Rl (n + 1) μ' m') ∧
  (∀ (n : Nat) (μ : gM) (m : MM) (a1 : Int32), n < 64 → Rl n μ m → ∃ (r : Int32) (μ' : gM) (m' : MM), cf_X0_ends a1 μ = some (r, μ') ∧ mf_ends a1 m = some (r, m') ∧ μ'.2.2.2.2.2 = μ.2.2.2.2.2 ∧ Rl (n + 1) μ' m') ∧
  (∀ (n : Nat) (μ : gM) (m : MM) (a1 a2 : Int32), n < 64 → Rl n μ m → ∃ (r : Int32) (μ' : gM) (m' : MM), cf_X0_way a1 a2 μ = some (r, μ') ∧ mf_way a1 a2 m = some (r, m') ∧ μ'.2.2.2.2.2 = μ.2.2.2.2.2 ∧ Rl (n + 1) μ' m') ∧
  (∀ (n : Nat) (μ : gM) (m : MM) (a1 a2 : Int32), n < 64 → Rl n μ m → ∃ (r : Int32) (μ' : gM) (m' : MM), cf_X0_kept a1 a2 μ = some (r, μ') ∧ mf_kept a1 a2 m = some (r, m') ∧ μ'.2.2.2.2.2 = μ.2.2.2.2.2 ∧ Rl (n + 1) μ' m') ∧
  (∀ (n : Nat) (μ : gM) (m : MM) (a1 a2 : Int32), n < 64 → Rl n μ m → ∃ (r : Int32) (μ' : gM) (m' : MM), cf_X0_later a1 a2 μ = some (r, μ') ∧ mf_later a1 a2 m = some (r, m') ∧ μ'.2.2.2.2.2 = μ.2.2.2.2.2 ∧ Rl (n + 1) μ' m') ∧
  (∀ (n : Nat) (μ : gM) (m : MM) (a1 : Int32), n < 64 → Rl n μ m → ∃ (r : Int32) (μ' : gM) (m' : MM), cf_X0_dies a1 μ = some (r, μ') ∧ mf_dies a1 m = some (r, m') ∧ μ'.2.2.2.2.2 = μ.2.2.2.2.2 ∧ Rl (n + 1) μ' m') ∧
  (∀ (n : Nat) (μ : gM) (m : MM) (a1 a2 : Int32), n < 64 → Rl n μ m → ∃ (r : Int32) (μ' : gM) (m' : MM), cf_X0_round a1 a2 μ = some (r, μ') ∧ mf_round a1 a2 m = some (r, m') ∧ μ'.2.2.2.2.2 = μ.2.2.2.2.2 ∧ Rl (n + 1) μ' m') ∧
  (∀ (n : Nat) (μ : gM) (m : MM), n < 64 → Rl n μ m → ∃ (r : Int32) (μ' : gM) (m' : MM), cf_X0_least  μ = some (r, μ') ∧ mf_least  m = some (r, m') ∧ μ'.2.2.2.2.2 = μ.2.2.2.2.2 ∧ Rl (n + 1) μ' m') ∧
  (∀ (n : Nat) (μ : gM) (m : MM) (a1 a2 : Int32), n < 64 → Rl n μ m → ∃ (r : Int32) (μ' : gM) (m' : MM), cf_X0_keep a1 a2 μ = some (r, μ') ∧ mf_keep a1 a2 m = some (r, m') ∧ μ'.2.2.2.2.2 = μ.2.2.2.2.2 ∧ Rl (n + 1) μ' m') ∧
  (∀ (n : Nat) (μ : gM) (m : MM), n < 64 → Rl n μ m → ∃ (r : Int32) (μ' : gM) (m' : MM), cf_X0_rings  μ = some (r, μ') ∧ mf_rings  m = some (r, m') ∧ μ'.2.2.2.2.2 = μ.2.2.2.2.2 ∧ Rl (n + 1) μ' m') ∧
  (∀ (n : Nat) (μ : gM) (m : MM) (a1 : Int32), n < 64 → Rl n μ m → ∃ (r : Int32) (μ' : gM) (m' : MM), cf_X0_lightings a1 μ = some (r, μ') ∧ mf_lightings a1 m = some (r, m') ∧ μ'.2.2.2.2.2 = μ.2.2.2.2.2 ∧ Rl (n + 1) μ' m') ∧
  (∀ (n : Nat) (μ : gM) (m : MM) (a1 : Int32), n < 64 → Rl n μ m → ∃ (r : Int32) (μ' : gM) (m' : MM), cf_X0_odds a1 μ = some (r, μ') ∧ mf_odds a1 m = some (r, m') ∧ μ'.2.2.2.2.2 = μ.2.2.2.2.2 ∧ Rl (n + 1) μ' m') ∧
  (∀ (n : Nat) (μ : gM) (m : MM), n < 64 → Rl n μ m → ∃ (r : Int32) (μ' : gM) (m' : MM), cf_X0_see  μ = some (r, μ') ∧ mf_see  m = some (r, m') ∧ μ'.2.2.2.2.2 = μ.2.2.2.2.2 ∧ Rl (n + 1) μ' m') ∧
  (∀ (n : Nat) (μ : gM) (m : MM) (a1 : Int32), n < 64 → Rl n μ m → ∃ (r : Int32) (μ' : gM) (m' : MM), cf_X0_heats a1 μ = some (r, μ') ∧ mf_heats a1 m = some (r, m') ∧ μ'.2.2.2.2.2 = μ.2.2.2.2.2 ∧ Rl (n + 1) μ' m') ∧
  (∀ (n : Nat) (μ : gM) (m : MM) (a1 a2 : Int32), n < 64 → Rl n μ m → ∃ (r : Int32) (μ' : gM) (m' : MM), cf_X0_tells a1 a2 μ = some (r, μ') ∧ mf_tells a1 a2 m = some (r, m') ∧ μ'.2.2.2.2.2 = μ.2.2.2.2.2 ∧ Rl (n + 1) μ' m') ∧
  (∀ (n : Nat) (μ : gM) (m : MM) (a1 : Int32), n < 64 → Rl n μ m → ∃ (r : Int32) (μ' : gM) (m' : MM), cf_X0_go a1 μ = some (r, μ') ∧ mf_go a1 m = some (r, m') ∧ μ'.2.2.2.2.2 = μ.2.2.2.2.2 ∧ Rl (n + 1) μ' m') ∧
  (∀ (n : Nat) (μ : gM) (m : MM) (a1 : Int32), n < 64 → Rl n μ m → ∃ (r : Int32) (μ' : gM) (m' : MM), cf_X0_snuff a1 μ = some (r, μ') ∧ mf_snuff a1 m = some (r, m') ∧ μ'.2.2.2.2.2 = μ.2.2.2.2.2 ∧ Rl (n + 1) μ' m') ∧
  (∀ (n : Nat) (μ : gM) (m : MM) (a1 : Int32), n < 64 → Rl n μ m → ∃ (r : Int32) (μ' : gM) (m' : MM), cf_X0_light a1 μ = some (r, μ') ∧ mf_light a1 m = some (r, m') ∧ μ'.2.2.2.2.2 = μ.2.2.2.2.2 ∧ Rl (n + 1) μ' m') ∧
  (∀ (n : Nat) (μ : gM) (m : MM) (a1 a2 : Int32), n < 64 → Rl n μ m → ∃ (r : Int32) (μ' : gM) (m' : MM), cf_X0_bind a1 a2 μ = some (r, μ') ∧ mf_bind a1 a2 m = some (r, m') ∧ μ'.2.2.2.2.2 = μ.2.2.2.2.2 ∧ Rl (n + 1) μ' m') ∧
  (∀ (n : Nat) (μ : gM) (m : MM) (a1 : Int32), n < 64 → Rl n μ m → ∃ (r : Int32) (μ' : gM) (m' : MM), cf_X0_hours a1 μ = some (r, μ') ∧ mf_hours a1 m = some (r, m') ∧ μ'.2.2.2.2.2 = μ.2.2.2.2.2 ∧ Rl (n + 1) μ' m') ∧
  (∀ (n : Nat) (μ : gM) (m : MM) (a1 : Int32), n < 64 → Rl n μ m → ∃ (r : Int32) (μ' : gM) (m' : MM), cf_X0_chance a1 μ = some (r, μ') ∧ mf_chance a1 m = some (r, m') ∧ μ'.2.2.2.2.2 = μ.2.2.2.2.2 ∧ Rl (n + 1) μ' m') ∧
  (∀ (n : Nat) (μ : gM) (m : MM), n < 64 → Rl n μ m → ∃ (r : Int32) (μ' : gM) (m' : MM), cf_X0_undo  μ = some (r, μ') ∧ mf_undo  m = some (r, m') ∧ μ'.2.2.2.2.2 = μ.2.2.2.2.2 ∧ Rl (n + 1) μ' m') ∧
  (∀ (n : Nat) (μ : gM) (m : MM) (a1 : Int32), n < 64 → Rl n μ m → ∃ (r : Int32) (μ' : gM) (m' : MM), cf_X0_seed a1 μ = some (r, μ') ∧ mf_seed a1 m = some (r, m') ∧ μ'.2.2.2.2.2 = μ.2.2.2.2.2 ∧ Rl (n + 1) μ' m') ∧
  (∀ (n : Nat) (μ : gM) (m : MM), n < 64 → Rl n μ m → ∃ (r : Int64) (μ' : gM) (m' : MM), cf_X0_ask  μ = some (r, μ') ∧ mf_ask  m = some (r, m') ∧ (gZ μ ≤ gZ μ' ∧ gW μ ≤ gW μ') ∧ Rl (n + 1) μ' m') ∧
  (∀ (n : Nat) (μ : gM) (m : MM), n < 64 → Rl n μ m → ∃ (r : Int32) (μ' : gM) (m' : MM), cf_X0_image  μ = some (r, μ') ∧ mf_image  m = some (r, m') ∧ μ'.2.2.2.2.2 = μ.2.2.2.2.2 ∧ Rl (n + 1) μ' m') ∧
  (∀ (n : Nat) (μ : gM) (m : MM) (a1 : Int32), n < 64 → Rl n μ m → ∃ (r : Int32) (μ' : gM) (m' : MM), cf_X0_octet a1 μ = some (r, μ') ∧ mf_octet a1 m = some (r, m') ∧ μ'.2.2.2.2.2 = μ.2.2.2.2.2 ∧ Rl (n + 1) μ' m') ∧
  (∀ (n : Nat) (μ : gM) (m : MM), n < 64 → Rl n μ m → ∃ (r : Int32) (μ' : gM) (m' : MM), cf_X0_on  μ = some (r, μ') ∧ mf_on  m = some (r, m') ∧ μ'.2.2.2.2.2 = μ.2.2.2.2.2 ∧ Rl (n + 1) μ' m') ∧
  (∀ (n : Nat) (μ : gM) (m : MM) (a1 : Int32), n < 64 → Rl n μ m → ∃ (r : Int32) (μ' : gM) (m' : MM), cf_X0_status a1 μ = some (r, μ') ∧ mf_status a1 m = some (r, m') ∧ μ'.2.2.2.2.2 = μ.2.2.2.2.2 ∧ Rl (n + 1) μ' m')
theorem lw_loop {X : gz_X} {Gc Gm : gz_G} {kS b L : Nat} {xs : Nat → Int32} (hX : lC X) (hG : LG Gc Gm X.2.2.2.2.1) (hS : lS X b L xs) (hQ : X.2.2.2.2.2.2.2.2.2.2 = lw_Z X.2.2.2.2.2.2.2.1 #[Value.ref b] X.2.2.2.2.1) (ha : X.2.2.2.2.2.2.1 = #[Value.ref b]) (hr : X.2.2.2.2.2.2.2.2.1.sig.returnType = ret) (hlk : X.2.2.2.2.2.2.2.2.1.locks = false) (Rl : Nat → gM → MM → Prop) (hO : lOps kS Rl) : ∀ (k n : Nat) (μ : gM) (m : MM), 6 * (n + k) ≤ L → L < 6 * (n + k) + 6 → Rl n μ m → lV X Gc Gm kS μ m 18 (lvL Gc Gm b (6 * n)) [] := by
  obtain ⟨hbig, hmono, o0, o1, o2, o3, o4, o5, o6, o7, o8, o9, o10, o11, o12, o13, o14, o15, o16, o17, o18, o19, o20, o21, o22, o23, o24, o25, o26, o27, o28, o29, o30, o31, o32, o33, o34⟩ := hO
  have hL := hS.2.2
  intro k
  induction k with
  | zero =>
    intro n μ m h1 h2 hRl
    refine lV_iload_n (pc := 18) hX dL_law_18 rfl 3 rfl ?_
    refine lV_aload_n (pc := 19) hX dL_law_19 rfl 0 rfl ?_
    refine lV_slen (pc := 20) hX hS dL_law_20 ?_
    refine lV_bipush (pc := 21) (v := (6 : Int32)) hX dL_law_21 (by decide) ?_
    refine lV_isub (pc := 23) hX dL_law_23 ?_
    refine lV_icmp_gt (pc := 24) (tgt := 1070) hX dL_law_24 (by decide) (fun _ => ?_) (fun h => absurd (lw_gt (by omega) (by omega) (by omega)) h)
    refine lV_iconst (pc := 1070) (v := (1 : Int32)) hX dL_law_1070 (by decide) ?_
    exact lV_end hX hQ ha hr hlk hG (hbig n μ m hRl) dL_law_1071
  | succ k ih =>
    intro n μ m h1 h2 hRl
    have hn64 : n < 64 := by omega
    have hi : 6 * n + 6 ≤ L := by omega
    have next : ∀ (μ' : gM) (m' : MM), Rl (n + 1) μ' m' → lV X Gc Gm kS μ' m' 1064 (lvL Gc Gm b (6 * n)) [] := by
      intro μ' m' hR'
      refine lV_iinc (pc := 1064) (k := 3) (v := nI (6 * (n + 1))) (lw := [(3, .int (nI (6 * (n + 1)))), (0, .ref b), (1, .ref (gz_ad Gc 1000)), (2, .ref (gz_ad Gm 2000))]) hX dL_law_1064 rfl (nI_ad (6 * n) 6) (by decide) rfl ?_
      refine lV_goto (pc := 1067) (tgt := 18) hX dL_law_1067 (by decide) ?_
      refine lV_sub (lw := lvL Gc Gm b (6 * (n + 1))) [1, 2, 3, 0] rfl ?_
      exact ih (n + 1) μ' m' (by omega) (by omega) hR'
    refine lV_iload_n (pc := 18) hX dL_law_18 rfl 3 rfl ?_
    refine lV_aload_n (pc := 19) hX dL_law_19 rfl 0 rfl ?_
    refine lV_slen (pc := 20) hX hS dL_law_20 ?_
    refine lV_bipush (pc := 21) (v := (6 : Int32)) hX dL_law_21 (by decide) ?_
    refine lV_isub (pc := 23) hX dL_law_23 ?_
    refine lV_icmp_gt (pc := 24) (tgt := 1070) hX dL_law_24 (by decide) (fun h => absurd h (lw_ngt hi (by omega))) (fun _ => ?_)
    refine lV_aload_n (pc := 27) hX dL_law_27 rfl 0 rfl ?_
    refine lV_iload_n (pc := 28) hX dL_law_28 rfl 3 rfl ?_
    refine lV_sld (pc := 29) hX hS (i := 6 * n) (by omega) dL_law_29 ?_
    refine lV_bipush (pc := 30) (v := (63 : Int32)) hX dL_law_30 (by decide) ?_
    refine lV_iand (pc := 32) hX dL_law_32 ?_
    generalize xs (6 * n) &&& 63 = x
    by_cases c0 : x = (0 : Int32)
    · refine lV_tsIn (pc := 33) (tgt := 188) (off := 155) (v := (0 : Int32)) hX c0 dL_law_33 (by decide) (by decide) ?_
      obtain ⟨r, μ', m', hc, hm, hz, hR'⟩ := o0 n μ m (xs (6 * n + 1)) (xs (6 * n + 2)) (xs (6 * n + 3)) (xs (6 * n + 4)) (xs (6 * n + 5)) hn64 hRl
      exact lw_case_0 hX hG hS hi (hbig _ _ _ hR') hz hc hm (next μ' m' hR')
    by_cases c1 : x = (1 : Int32)
    · refine lV_tsIn (pc := 33) (tgt := 251) (off := 218) (v := (1 : Int32)) hX c1 dL_law_33 (by decide) (by decide) ?_
      obtain ⟨r, μ', m', hc, hm, hz, hR'⟩ := o1 n μ m (xs (6 * n + 1)) hn64 hRl
      exact lw_case_1 hX hG hS hi (hbig _ _ _ hR') hz hc hm (next μ' m' hR')
    by_cases c2 : x = (2 : Int32)
    · refine lV_tsIn (pc := 33) (tgt := 274) (off := 241) (v := (2 : Int32)) hX c2 dL_law_33 (by decide) (by decide) ?_
      obtain ⟨r, μ', m', hc, hm, hz, hR'⟩ := o2 n μ m  hn64 hRl
      exact lw_case_2 hX hG hS hi (hbig _ _ _ hR') hz hc hm (next μ' m' hR')
    by_cases c3 : x = (3 : Int32)
    · refine lV_tsIn (pc := 33) (tgt := 287) (off := 254) (v := (3 : Int32)) hX c3 dL_law_33 (by decide) (by decide) ?_
      obtain ⟨r, μ', m', hc, hm, hz, hR'⟩ := o3 n μ m (xs (6 * n + 1)) hn64 hRl
      exact lw_case_3 hX hG hS hi (hbig _ _ _ hR') hz hc hm (next μ' m' hR')
    by_cases c4 : x = (4 : Int32)
    · refine lV_tsIn (pc := 33) (tgt := 310) (off := 277) (v := (4 : Int32)) hX c4 dL_law_33 (by decide) (by decide) ?_
      obtain ⟨r, μ', m', hc, hm, hz, hR'⟩ := o4 n μ m (xs (6 * n + 1)) hn64 hRl
      exact lw_case_4 hX hG hS hi (hbig _ _ _ hR') hz hc hm (next μ' m' hR')
    by_cases c5 : x = (5 : Int32)
    · refine lV_tsIn (pc := 33) (tgt := 333) (off := 300) (v := (5 : Int32)) hX c5 dL_law_33 (by decide) (by decide) ?_
      obtain ⟨r, μ', m', hc, hm, hz, hR'⟩ := o5 n μ m (xs (6 * n + 1)) (xs (6 * n + 2)) (xs (6 * n + 3)) hn64 hRl
      exact lw_case_5 hX hG hS hi (hbig _ _ _ hR') hz hc hm (next μ' m' hR')
    by_cases c6 : x = (6 : Int32)
    · refine lV_tsIn (pc := 33) (tgt := 376) (off := 343) (v := (6 : Int32)) hX c6 dL_law_33 (by decide) (by decide) ?_
      obtain ⟨r, μ', m', hc, hm, hz, hR'⟩ := o6 n μ m (xs (6 * n + 1)) (xs (6 * n + 2)) hn64 hRl
      exact lw_case_6 hX hG hS hi (hbig _ _ _ hR') hz hc hm (next μ' m' hR')
    by_cases c7 : x = (7 : Int32)
    · refine lV_tsIn (pc := 33) (tgt := 409) (off := 376) (v := (7 : Int32)) hX c7 dL_law_33 (by decide) (by decide) ?_
      obtain ⟨r, μ', m', hc, hm, hz, hR'⟩ := o7 n μ m (xs (6 * n + 1)) (xs (6 * n + 2)) hn64 hRl
      exact lw_case_7 hX hG hS hi (hbig _ _ _ hR') hz hc hm (next μ' m' hR')
    by_cases c8 : x = (8 : Int32)
    · refine lV_tsIn (pc := 33) (tgt := 442) (off := 409) (v := (8 : Int32)) hX c8 dL_law_33 (by decide) (by decide) ?_
      obtain ⟨r, μ', m', hc, hm, hz, hR'⟩ := o8 n μ m (xs (6 * n + 1)) hn64 hRl
      exact lw_case_8 hX hG hS hi (hbig _ _ _ hR') hz hc hm (next μ' m' hR')
    by_cases c9 : x = (9 : Int32)
    · refine lV_tsIn (pc := 33) (tgt := 465) (off := 432) (v := (9 : Int32)) hX c9 dL_law_33 (by decide) (by decide) ?_
      obtain ⟨r, μ', m', hc, hm, hz, hR'⟩ := o9 n μ m (xs (6 * n + 1)) (xs (6 * n + 2)) hn64 hRl
      exact lw_case_9 hX hG hS hi (hbig _ _ _ hR') hz hc hm (next μ' m' hR')
    by_cases c10 : x = (10 : Int32)
    · refine lV_tsIn (pc := 33) (tgt := 498) (off := 465) (v := (10 : Int32)) hX c10 dL_law_33 (by decide) (by decide) ?_
      obtain ⟨r, μ', m', hc, hm, hz, hR'⟩ := o10 n μ m (xs (6 * n + 1)) (xs (6 * n + 2)) hn64 hRl
      exact lw_case_10 hX hG hS hi (hbig _ _ _ hR') hz hc hm (next μ' m' hR')
    by_cases c11 : x = (11 : Int32)
    · refine lV_tsIn (pc := 33) (tgt := 531) (off := 498) (v := (11 : Int32)) hX c11 dL_law_33 (by decide) (by decide) ?_
      obtain ⟨r, μ', m', hc, hm, hz, hR'⟩ := o11 n μ m (xs (6 * n + 1)) (xs (6 * n + 2)) hn64 hRl
      exact lw_case_11 hX hG hS hi (hbig _ _ _ hR') hz hc hm (next μ' m' hR')
    by_cases c12 : x = (12 : Int32)
    · refine lV_tsIn (pc := 33) (tgt := 564) (off := 531) (v := (12 : Int32)) hX c12 dL_law_33 (by decide) (by decide) ?_
      obtain ⟨r, μ', m', hc, hm, hz, hR'⟩ := o12 n μ m (xs (6 * n + 1)) hn64 hRl
      exact lw_case_12 hX hG hS hi (hbig _ _ _ hR') hz hc hm (next μ' m' hR')
    by_cases c13 : x = (13 : Int32)
    · refine lV_tsIn (pc := 33) (tgt := 587) (off := 554) (v := (13 : Int32)) hX c13 dL_law_33 (by decide) (by decide) ?_
      obtain ⟨r, μ', m', hc, hm, hz, hR'⟩ := o13 n μ m (xs (6 * n + 1)) (xs (6 * n + 2)) hn64 hRl
      exact lw_case_13 hX hG hS hi (hbig _ _ _ hR') hz hc hm (next μ' m' hR')
    by_cases c14 : x = (14 : Int32)
    · refine lV_tsIn (pc := 33) (tgt := 620) (off := 587) (v := (14 : Int32)) hX c14 dL_law_33 (by decide) (by decide) ?_
      obtain ⟨r, μ', m', hc, hm, hz, hR'⟩ := o14 n μ m  hn64 hRl
      exact lw_case_14 hX hG hS hi (hbig _ _ _ hR') hz hc hm (next μ' m' hR')
    by_cases c15 : x = (15 : Int32)
    · refine lV_tsIn (pc := 33) (tgt := 633) (off := 600) (v := (15 : Int32)) hX c15 dL_law_33 (by decide) (by decide) ?_
      obtain ⟨r, μ', m', hc, hm, hz, hR'⟩ := o15 n μ m (xs (6 * n + 1)) (xs (6 * n + 2)) hn64 hRl
      exact lw_case_15 hX hG hS hi (hbig _ _ _ hR') hz hc hm (next μ' m' hR')
    by_cases c16 : x = (16 : Int32)
    · refine lV_tsIn (pc := 33) (tgt := 666) (off := 633) (v := (16 : Int32)) hX c16 dL_law_33 (by decide) (by decide) ?_
      obtain ⟨r, μ', m', hc, hm, hz, hR'⟩ := o16 n μ m  hn64 hRl
      exact lw_case_16 hX hG hS hi (hbig _ _ _ hR') hz hc hm (next μ' m' hR')
    by_cases c17 : x = (17 : Int32)
    · refine lV_tsIn (pc := 33) (tgt := 679) (off := 646) (v := (17 : Int32)) hX c17 dL_law_33 (by decide) (by decide) ?_
      obtain ⟨r, μ', m', hc, hm, hz, hR'⟩ := o17 n μ m (xs (6 * n + 1)) hn64 hRl
      exact lw_case_17 hX hG hS hi (hbig _ _ _ hR') hz hc hm (next μ' m' hR')
    by_cases c18 : x = (18 : Int32)
    · refine lV_tsIn (pc := 33) (tgt := 702) (off := 669) (v := (18 : Int32)) hX c18 dL_law_33 (by decide) (by decide) ?_
      obtain ⟨r, μ', m', hc, hm, hz, hR'⟩ := o18 n μ m (xs (6 * n + 1)) hn64 hRl
      exact lw_case_18 hX hG hS hi (hbig _ _ _ hR') hz hc hm (next μ' m' hR')
    by_cases c19 : x = (19 : Int32)
    · refine lV_tsIn (pc := 33) (tgt := 725) (off := 692) (v := (19 : Int32)) hX c19 dL_law_33 (by decide) (by decide) ?_
      obtain ⟨r, μ', m', hc, hm, hz, hR'⟩ := o19 n μ m  hn64 hRl
      exact lw_case_19 hX hG hS hi (hbig _ _ _ hR') hz hc hm (next μ' m' hR')
    by_cases c20 : x = (20 : Int32)
    · refine lV_tsIn (pc := 33) (tgt := 738) (off := 705) (v := (20 : Int32)) hX c20 dL_law_33 (by decide) (by decide) ?_
      obtain ⟨r, μ', m', hc, hm, hz, hR'⟩ := o20 n μ m (xs (6 * n + 1)) hn64 hRl
      exact lw_case_20 hX hG hS hi (hbig _ _ _ hR') hz hc hm (next μ' m' hR')
    by_cases c21 : x = (21 : Int32)
    · refine lV_tsIn (pc := 33) (tgt := 761) (off := 728) (v := (21 : Int32)) hX c21 dL_law_33 (by decide) (by decide) ?_
      obtain ⟨r, μ', m', hc, hm, hz, hR'⟩ := o21 n μ m (xs (6 * n + 1)) (xs (6 * n + 2)) hn64 hRl
      exact lw_case_21 hX hG hS hi (hbig _ _ _ hR') hz hc hm (next μ' m' hR')
    by_cases c22 : x = (22 : Int32)
    · refine lV_tsIn (pc := 33) (tgt := 794) (off := 761) (v := (22 : Int32)) hX c22 dL_law_33 (by decide) (by decide) ?_
      obtain ⟨r, μ', m', hc, hm, hz, hR'⟩ := o22 n μ m (xs (6 * n + 1)) hn64 hRl
      exact lw_case_22 hX hG hS hi (hbig _ _ _ hR') hz hc hm (next μ' m' hR')
    by_cases c23 : x = (23 : Int32)
    · refine lV_tsIn (pc := 33) (tgt := 817) (off := 784) (v := (23 : Int32)) hX c23 dL_law_33 (by decide) (by decide) ?_
      obtain ⟨r, μ', m', hc, hm, hz, hR'⟩ := o23 n μ m (xs (6 * n + 1)) hn64 hRl
      exact lw_case_23 hX hG hS hi (hbig _ _ _ hR') hz hc hm (next μ' m' hR')
    by_cases c24 : x = (24 : Int32)
    · refine lV_tsIn (pc := 33) (tgt := 840) (off := 807) (v := (24 : Int32)) hX c24 dL_law_33 (by decide) (by decide) ?_
      obtain ⟨r, μ', m', hc, hm, hz, hR'⟩ := o24 n μ m (xs (6 * n + 1)) hn64 hRl
      exact lw_case_24 hX hG hS hi (hbig _ _ _ hR') hz hc hm (next μ' m' hR')
    by_cases c25 : x = (25 : Int32)
    · refine lV_tsIn (pc := 33) (tgt := 863) (off := 830) (v := (25 : Int32)) hX c25 dL_law_33 (by decide) (by decide) ?_
      obtain ⟨r, μ', m', hc, hm, hz, hR'⟩ := o25 n μ m (xs (6 * n + 1)) (xs (6 * n + 2)) hn64 hRl
      exact lw_case_25 hX hG hS hi (hbig _ _ _ hR') hz hc hm (next μ' m' hR')
    by_cases c26 : x = (26 : Int32)
    · refine lV_tsIn (pc := 33) (tgt := 896) (off := 863) (v := (26 : Int32)) hX c26 dL_law_33 (by decide) (by decide) ?_
      obtain ⟨r, μ', m', hc, hm, hz, hR'⟩ := o26 n μ m (xs (6 * n + 1)) hn64 hRl
      exact lw_case_26 hX hG hS hi (hbig _ _ _ hR') hz hc hm (next μ' m' hR')
    by_cases c27 : x = (27 : Int32)
    · refine lV_tsIn (pc := 33) (tgt := 919) (off := 886) (v := (27 : Int32)) hX c27 dL_law_33 (by decide) (by decide) ?_
      obtain ⟨r, μ', m', hc, hm, hz, hR'⟩ := o27 n μ m (xs (6 * n + 1)) hn64 hRl
      exact lw_case_27 hX hG hS hi (hbig _ _ _ hR') hz hc hm (next μ' m' hR')
    by_cases c28 : x = (28 : Int32)
    · refine lV_tsIn (pc := 33) (tgt := 942) (off := 909) (v := (28 : Int32)) hX c28 dL_law_33 (by decide) (by decide) ?_
      obtain ⟨r, μ', m', hc, hm, hz, hR'⟩ := o28 n μ m  hn64 hRl
      exact lw_case_28 hX hG hS hi (hbig _ _ _ hR') hz hc hm (next μ' m' hR')
    by_cases c29 : x = (29 : Int32)
    · refine lV_tsIn (pc := 33) (tgt := 955) (off := 922) (v := (29 : Int32)) hX c29 dL_law_33 (by decide) (by decide) ?_
      obtain ⟨r, μ', m', hc, hm, hz, hR'⟩ := o29 n μ m (xs (6 * n + 1)) hn64 hRl
      exact lw_case_29 hX hG hS hi (hbig _ _ _ hR') hz hc hm (next μ' m' hR')
    by_cases c30 : x = (30 : Int32)
    · refine lV_tsIn (pc := 33) (tgt := 978) (off := 945) (v := (30 : Int32)) hX c30 dL_law_33 (by decide) (by decide) ?_
      obtain ⟨r, μ', m', hc, hm, hz, hR'⟩ := o30 n μ m  hn64 hRl
      exact lw_case_30 hX hG hS hi (hbig _ _ _ hR') hz hc hm (next μ' m' hR')
    by_cases c31 : x = (31 : Int32)
    · refine lV_tsIn (pc := 33) (tgt := 992) (off := 959) (v := (31 : Int32)) hX c31 dL_law_33 (by decide) (by decide) ?_
      obtain ⟨r, μ', m', hc, hm, hz, hR'⟩ := o31 n μ m  hn64 hRl
      exact lw_case_31 hX hG hS hi (hbig _ _ _ hR') hz hc hm (next μ' m' hR')
    by_cases c32 : x = (32 : Int32)
    · refine lV_tsIn (pc := 33) (tgt := 1005) (off := 972) (v := (32 : Int32)) hX c32 dL_law_33 (by decide) (by decide) ?_
      obtain ⟨r, μ', m', hc, hm, hz, hR'⟩ := o32 n μ m (xs (6 * n + 1)) hn64 hRl
      exact lw_case_32 hX hG hS hi (hbig _ _ _ hR') hz hc hm (next μ' m' hR')
    by_cases c33 : x = (33 : Int32)
    · refine lV_tsIn (pc := 33) (tgt := 1028) (off := 995) (v := (33 : Int32)) hX c33 dL_law_33 (by decide) (by decide) ?_
      obtain ⟨r, μ', m', hc, hm, hz, hR'⟩ := o33 n μ m  hn64 hRl
      exact lw_case_33 hX hG hS hi (hbig _ _ _ hR') hz hc hm (next μ' m' hR')
    by_cases c34 : x = (34 : Int32)
    · refine lV_tsIn (pc := 33) (tgt := 1041) (off := 1008) (v := (34 : Int32)) hX c34 dL_law_33 (by decide) (by decide) ?_
      obtain ⟨r, μ', m', hc, hm, hz, hR'⟩ := o34 n μ m (xs (6 * n + 1)) hn64 hRl
      exact lw_case_34 hX hG hS hi (hbig _ _ _ hR') hz hc hm (next μ' m' hR')
    have n0 := lv_neT c0 (a := 0) (by decide)
    have n1 := lv_neT c1 (a := 1) (by decide)
    have n2 := lv_neT c2 (a := 2) (by decide)
    have n3 := lv_neT c3 (a := 3) (by decide)
    have n4 := lv_neT c4 (a := 4) (by decide)
    have n5 := lv_neT c5 (a := 5) (by decide)
    have n6 := lv_neT c6 (a := 6) (by decide)
    have n7 := lv_neT c7 (a := 7) (by decide)
    have n8 := lv_neT c8 (a := 8) (by decide)
    have n9 := lv_neT c9 (a := 9) (by decide)
    have n10 := lv_neT c10 (a := 10) (by decide)
    have n11 := lv_neT c11 (a := 11) (by decide)
    have n12 := lv_neT c12 (a := 12) (by decide)
    have n13 := lv_neT c13 (a := 13) (by decide)
    have n14 := lv_neT c14 (a := 14) (by decide)
    have n15 := lv_neT c15 (a := 15) (by decide)
    have n16 := lv_neT c16 (a := 16) (by decide)
    have n17 := lv_neT c17 (a := 17) (by decide)
    have n18 := lv_neT c18 (a := 18) (by decide)
    have n19 := lv_neT c19 (a := 19) (by decide)
    have n20 := lv_neT c20 (a := 20) (by decide)
    have n21 := lv_neT c21 (a := 21) (by decide)
    have n22 := lv_neT c22 (a := 22) (by decide)
    have n23 := lv_neT c23 (a := 23) (by decide)
    have n24 := lv_neT c24 (a := 24) (by decide)
    have n25 := lv_neT c25 (a := 25) (by decide)
    have n26 := lv_neT c26 (a := 26) (by decide)
    have n27 := lv_neT c27 (a := 27) (by decide)
    have n28 := lv_neT c28 (a := 28) (by decide)
    have n29 := lv_neT c29 (a := 29) (by decide)
    have n30 := lv_neT c30 (a := 30) (by decide)
    have n31 := lv_neT c31 (a := 31) (by decide)
    have n32 := lv_neT c32 (a := 32) (by decide)
    have n33 := lv_neT c33 (a := 33) (by decide)
    have n34 := lv_neT c34 (a := 34) (by decide)
    refine lV_tsOut (pc := 33) (tgt := 1064) hX dL_law_33 (by omega) (by decide) ?_
    exact next μ m (hmono n μ m hRl)
