theorem ic_6 : Int32.ofInt (6) = (nI 6) := by decide
noncomputable def lc_0 (z em L : Nat) (xs : Nat → Int32) (again : Int32 × Nat × Nat × Kd × Ptr × Mem × Mem → Option Unit) (i : Int32) (sz sl : Nat) (kd : Kd) (P : Ptr) (I μ : Mem) : Option Unit :=
  (sc L xs (i + (nI 1))).bind fun v1 =>
  (x0_state I z v1).bind fun r2 =>
  (sc L xs (i + (nI 1))).bind fun v3 =>
  (m_state μ v3).bind fun r4 =>
  if r2.1 = r4.1 then
  again ((i + (nI 6)), sz, sl, kd, P, r2.2, r4.2)
  else
  none
set_option maxRecDepth 100000 in
theorem gc_0 {p : Program} {l : Launch} {e : Env} {s : State} {m : MethodId} {args : Array Value} {below : List Frame} {meth : Method} {c : Code} {D : va_G} {cs : Cs} {b : Nat} {q : Unit → En} {z L : Nat} {xs : Nat → Int32} (K : CallFix p m c code 4 s args lw_all R_law) (hlt : l.stackTraces = false) (hK : xK D cs z s) (hz0 : s.heap.size = z) (hX : va_X b L xs s s.heap) (hbl : b < s.heap.size) (again : Int32 × Nat × Nat × Kd × Ptr × Mem × Mem → Option Unit) (hag : ∀ j : Int32 × Nat × Nat × Kd × Ptr × Mem × Mem, Gl p l e s m args below meth c D cs z 18 [(0, .ref b), (1, .ref z), (2, .ref (z + 2463)), (3, .int j.1)] [] ((j.2.1, j.2.2.1, j.2.2.2.1, j.2.2.2.2.1, j.2.2.2.2.2.1), j.2.2.2.2.2.2) q (again j)) (i : Int32) (sz sl : Nat) (kd : Kd) (P : Ptr) (I μ : Mem) (hsh : Shp z kd) (hkz : kd z = (0, 0, 0)) : Gl p l e s m args below meth c D cs z 204 [(0, .ref b), (1, .ref z), (2, .ref (z + 2463)), (3, .int i)] [] ((sz, sl, kd, P, I), μ) q (lc_0 z (cs 300) L xs again i sz sl kd P I μ) := by
  unfold lc_0
  refine g_aloadn K 1 rfl rfl 205 dL_law_204 rfl ?_
  refine g_aloadn K 0 rfl rfl 206 dL_law_205 rfl ?_
  refine g_iloadn K 3 rfl rfl 207 dL_law_206 rfl ?_
  refine g_iconst K (nI 1) ic_1 208 dL_law_207 rfl ?_
  refine g_iadd K 209 dL_law_208 rfl ?_
  refine gl_sld K hz0 hX hbl 210 dL_law_209 rfl (fun v1 => ?_)
  refine gl_callX K hK hz0 hsh hkz 213 (ctx_x0_state P I v1 hkz) (lw_V q996 q997 q998 q151 q999) wd_x0_state (by decide) rfl (Nat.le_of_ble_eq_true rfl) dL_law_210 rfl (fun r2 _ => ?_)
  refine g_aloadn K 2 rfl rfl 214 dL_law_213 rfl ?_
  refine g_aloadn K 0 rfl rfl 215 dL_law_214 rfl ?_
  refine g_iloadn K 3 rfl rfl 216 dL_law_215 rfl ?_
  refine g_iconst K (nI 1) ic_1 217 dL_law_216 rfl ?_
  refine g_iadd K 218 dL_law_217 rfl ?_
  refine gl_sld K hz0 hX hbl 219 dL_law_218 rfl (fun v3 => ?_)
  refine gl_callM K hK hz0 hsh 222 (ct_state μ v3) (lw_V q1715 q1716 q1717 q158 q1718) wd_state (by decide) rfl (Nat.le_of_ble_eq_true rfl) dL_law_219 rfl (fun r4 _ => ?_)
  refine g_icmp_eq K 225 1387 dL_law_222 rfl (by decide) (fun _ => ?_) (fun _ => ?_)
  · refine g_iinc K (i + (nI 6)) 3 [(0, .ref b), (1, .ref z), (2, .ref (z + 2463)), (3, .int (i + (nI 6)))] [1, 2, 3, 0] rfl (by rw [ic_6]) (by decide) rfl 1390 dL_law_1387 rfl ?_
    refine g_goto K 18 dL_law_1390 (by decide) ?_
    exact hag ((i + (nI 6)), sz, sl, kd, P, r2.2, r4.2)
  · exact g_none
noncomputable def lc_1 (z em L : Nat) (xs : Nat → Int32) (again : Int32 × Nat × Nat × Kd × Ptr × Mem × Mem → Option Unit) (i : Int32) (sz sl : Nat) (kd : Kd) (P : Ptr) (I μ : Mem) : Option Unit :=
  (sc L xs (i + (nI 1))).bind fun v5 =>
  (sc L xs (i + (nI 2))).bind fun v6 =>
  (sc L xs (i + (nI 3))).bind fun v7 =>
  (x0_house I z v5 v6 v7).bind fun r8 =>
  (sc L xs (i + (nI 1))).bind fun v9 =>
  (sc L xs (i + (nI 2))).bind fun v10 =>
  (sc L xs (i + (nI 3))).bind fun v11 =>
  (m_house μ v9 v10 v11).bind fun r12 =>
  if r8.1 = r12.1 then
  again ((i + (nI 6)), sz, sl, kd, P, r8.2, r12.2)
  else
  none
set_option maxRecDepth 100000 in
theorem gc_1 {p : Program} {l : Launch} {e : Env} {s : State} {m : MethodId} {args : Array Value} {below : List Frame} {meth : Method} {c : Code} {D : va_G} {cs : Cs} {b : Nat} {q : Unit → En} {z L : Nat} {xs : Nat → Int32} (K : CallFix p m c code 4 s args lw_all R_law) (hlt : l.stackTraces = false) (hK : xK D cs z s) (hz0 : s.heap.size = z) (hX : va_X b L xs s s.heap) (hbl : b < s.heap.size) (again : Int32 × Nat × Nat × Kd × Ptr × Mem × Mem → Option Unit) (hag : ∀ j : Int32 × Nat × Nat × Kd × Ptr × Mem × Mem, Gl p l e s m args below meth c D cs z 18 [(0, .ref b), (1, .ref z), (2, .ref (z + 2463)), (3, .int j.1)] [] ((j.2.1, j.2.2.1, j.2.2.2.1, j.2.2.2.2.1, j.2.2.2.2.2.1), j.2.2.2.2.2.2) q (again j)) (i : Int32) (sz sl : Nat) (kd : Kd) (P : Ptr) (I μ : Mem) (hsh : Shp z kd) (hkz : kd z = (0, 0, 0)) : Gl p l e s m args below meth c D cs z 227 [(0, .ref b), (1, .ref z), (2, .ref (z + 2463)), (3, .int i)] [] ((sz, sl, kd, P, I), μ) q (lc_1 z (cs 300) L xs again i sz sl kd P I μ) := by
  unfold lc_1
  refine g_aloadn K 1 rfl rfl 228 dL_law_227 rfl ?_
  refine g_aloadn K 0 rfl rfl 229 dL_law_228 rfl ?_
  refine g_iloadn K 3 rfl rfl 230 dL_law_229 rfl ?_
  refine g_iconst K (nI 1) ic_1 231 dL_law_230 rfl ?_
  refine g_iadd K 232 dL_law_231 rfl ?_
  refine gl_sld K hz0 hX hbl 233 dL_law_232 rfl (fun v5 => ?_)
  refine g_aloadn K 0 rfl rfl 234 dL_law_233 rfl ?_
  refine g_iloadn K 3 rfl rfl 235 dL_law_234 rfl ?_
  refine g_iconst K (nI 2) ic_2 236 dL_law_235 rfl ?_
  refine g_iadd K 237 dL_law_236 rfl ?_
  refine gl_sld K hz0 hX hbl 238 dL_law_237 rfl (fun v6 => ?_)
  refine g_aloadn K 0 rfl rfl 239 dL_law_238 rfl ?_
  refine g_iloadn K 3 rfl rfl 240 dL_law_239 rfl ?_
  refine g_iconst K (nI 3) ic_3 241 dL_law_240 rfl ?_
  refine g_iadd K 242 dL_law_241 rfl ?_
  refine gl_sld K hz0 hX hbl 243 dL_law_242 rfl (fun v7 => ?_)
  refine gl_callX K hK hz0 hsh hkz 246 (ctx_x0_house P I v5 v6 v7 hkz) (lw_V q1000 q1001 q1002 q151 q1003) wd_x0_house (by decide) rfl (Nat.le_of_ble_eq_true rfl) dL_law_243 rfl (fun r8 _ => ?_)
  refine g_aloadn K 2 rfl rfl 247 dL_law_246 rfl ?_
  refine g_aloadn K 0 rfl rfl 248 dL_law_247 rfl ?_
  refine g_iloadn K 3 rfl rfl 249 dL_law_248 rfl ?_
  refine g_iconst K (nI 1) ic_1 250 dL_law_249 rfl ?_
  refine g_iadd K 251 dL_law_250 rfl ?_
  refine gl_sld K hz0 hX hbl 252 dL_law_251 rfl (fun v9 => ?_)
  refine g_aloadn K 0 rfl rfl 253 dL_law_252 rfl ?_
  refine g_iloadn K 3 rfl rfl 254 dL_law_253 rfl ?_
  refine g_iconst K (nI 2) ic_2 255 dL_law_254 rfl ?_
  refine g_iadd K 256 dL_law_255 rfl ?_
  refine gl_sld K hz0 hX hbl 257 dL_law_256 rfl (fun v10 => ?_)
  refine g_aloadn K 0 rfl rfl 258 dL_law_257 rfl ?_
  refine g_iloadn K 3 rfl rfl 259 dL_law_258 rfl ?_
  refine g_iconst K (nI 3) ic_3 260 dL_law_259 rfl ?_
  refine g_iadd K 261 dL_law_260 rfl ?_
  refine gl_sld K hz0 hX hbl 262 dL_law_261 rfl (fun v11 => ?_)
  refine gl_callM K hK hz0 hsh 265 (ct_house μ v9 v10 v11) (lw_V q1719 q1720 q1721 q158 q1722) wd_house (by decide) rfl (Nat.le_of_ble_eq_true rfl) dL_law_262 rfl (fun r12 _ => ?_)
  refine g_icmp_eq K 268 1387 dL_law_265 rfl (by decide) (fun _ => ?_) (fun _ => ?_)
  · refine g_iinc K (i + (nI 6)) 3 [(0, .ref b), (1, .ref z), (2, .ref (z + 2463)), (3, .int (i + (nI 6)))] [1, 2, 3, 0] rfl (by rw [ic_6]) (by decide) rfl 1390 dL_law_1387 rfl ?_
    refine g_goto K 18 dL_law_1390 (by decide) ?_
    exact hag ((i + (nI 6)), sz, sl, kd, P, r8.2, r12.2)
  · exact g_none
noncomputable def lc_2 (z em L : Nat) (xs : Nat → Int32) (again : Int32 × Nat × Nat × Kd × Ptr × Mem × Mem → Option Unit) (i : Int32) (sz sl : Nat) (kd : Kd) (P : Ptr) (I μ : Mem) : Option Unit :=
  (sc L xs (i + (nI 1))).bind fun v13 =>
  (sc L xs (i + (nI 2))).bind fun v14 =>
  (sc L xs (i + (nI 3))).bind fun v15 =>
  (x0_set I z v13 v14 v15).bind fun r16 =>
  (sc L xs (i + (nI 1))).bind fun v17 =>
  (sc L xs (i + (nI 2))).bind fun v18 =>
  (sc L xs (i + (nI 3))).bind fun v19 =>
  (m_set μ v17 v18 v19).bind fun r20 =>
  if (bI r16.1) = (bI r20.1) then
  again ((i + (nI 6)), sz, sl, kd, P, r16.2, r20.2)
  else
  none
set_option maxRecDepth 100000 in
theorem gc_2 {p : Program} {l : Launch} {e : Env} {s : State} {m : MethodId} {args : Array Value} {below : List Frame} {meth : Method} {c : Code} {D : va_G} {cs : Cs} {b : Nat} {q : Unit → En} {z L : Nat} {xs : Nat → Int32} (K : CallFix p m c code 4 s args lw_all R_law) (hlt : l.stackTraces = false) (hK : xK D cs z s) (hz0 : s.heap.size = z) (hX : va_X b L xs s s.heap) (hbl : b < s.heap.size) (again : Int32 × Nat × Nat × Kd × Ptr × Mem × Mem → Option Unit) (hag : ∀ j : Int32 × Nat × Nat × Kd × Ptr × Mem × Mem, Gl p l e s m args below meth c D cs z 18 [(0, .ref b), (1, .ref z), (2, .ref (z + 2463)), (3, .int j.1)] [] ((j.2.1, j.2.2.1, j.2.2.2.1, j.2.2.2.2.1, j.2.2.2.2.2.1), j.2.2.2.2.2.2) q (again j)) (i : Int32) (sz sl : Nat) (kd : Kd) (P : Ptr) (I μ : Mem) (hsh : Shp z kd) (hkz : kd z = (0, 0, 0)) : Gl p l e s m args below meth c D cs z 270 [(0, .ref b), (1, .ref z), (2, .ref (z + 2463)), (3, .int i)] [] ((sz, sl, kd, P, I), μ) q (lc_2 z (cs 300) L xs again i sz sl kd P I μ) := by
  unfold lc_2
  refine g_aloadn K 1 rfl rfl 271 dL_law_270 rfl ?_
  refine g_aloadn K 0 rfl rfl 272 dL_law_271 rfl ?_
  refine g_iloadn K 3 rfl rfl 273 dL_law_272 rfl ?_
  refine g_iconst K (nI 1) ic_1 274 dL_law_273 rfl ?_
  refine g_iadd K 275 dL_law_274 rfl ?_
  refine gl_sld K hz0 hX hbl 276 dL_law_275 rfl (fun v13 => ?_)
  refine g_aloadn K 0 rfl rfl 277 dL_law_276 rfl ?_
  refine g_iloadn K 3 rfl rfl 278 dL_law_277 rfl ?_
  refine g_iconst K (nI 2) ic_2 279 dL_law_278 rfl ?_
  refine g_iadd K 280 dL_law_279 rfl ?_
  refine gl_sld K hz0 hX hbl 281 dL_law_280 rfl (fun v14 => ?_)
  refine g_aloadn K 0 rfl rfl 282 dL_law_281 rfl ?_
  refine g_iloadn K 3 rfl rfl 283 dL_law_282 rfl ?_
  refine g_iconst K (nI 3) ic_3 284 dL_law_283 rfl ?_
  refine g_iadd K 285 dL_law_284 rfl ?_
  refine gl_sld K hz0 hX hbl 286 dL_law_285 rfl (fun v15 => ?_)
  refine gl_callX K hK hz0 hsh hkz 289 (ctx_x0_set P I v13 v14 v15 hkz) (lw_V q1012 q1013 q1014 q151 q1015) wd_x0_set (by decide) rfl (Nat.le_of_ble_eq_true rfl) dL_law_286 rfl (fun r16 _ => ?_)
  refine g_aloadn K 2 rfl rfl 290 dL_law_289 rfl ?_
  refine g_aloadn K 0 rfl rfl 291 dL_law_290 rfl ?_
  refine g_iloadn K 3 rfl rfl 292 dL_law_291 rfl ?_
  refine g_iconst K (nI 1) ic_1 293 dL_law_292 rfl ?_
  refine g_iadd K 294 dL_law_293 rfl ?_
  refine gl_sld K hz0 hX hbl 295 dL_law_294 rfl (fun v17 => ?_)
  refine g_aloadn K 0 rfl rfl 296 dL_law_295 rfl ?_
  refine g_iloadn K 3 rfl rfl 297 dL_law_296 rfl ?_
  refine g_iconst K (nI 2) ic_2 298 dL_law_297 rfl ?_
  refine g_iadd K 299 dL_law_298 rfl ?_
  refine gl_sld K hz0 hX hbl 300 dL_law_299 rfl (fun v18 => ?_)
  refine g_aloadn K 0 rfl rfl 301 dL_law_300 rfl ?_
  refine g_iloadn K 3 rfl rfl 302 dL_law_301 rfl ?_
  refine g_iconst K (nI 3) ic_3 303 dL_law_302 rfl ?_
  refine g_iadd K 304 dL_law_303 rfl ?_
  refine gl_sld K hz0 hX hbl 305 dL_law_304 rfl (fun v19 => ?_)
  refine gl_callM K hK hz0 hsh 308 (ct_set μ v17 v18 v19) (lw_V q1727 q1728 q1729 q158 q1730) wd_set (by decide) rfl (Nat.le_of_ble_eq_true rfl) dL_law_305 rfl (fun r20 _ => ?_)
  refine g_icmp_eq K 311 1387 dL_law_308 rfl (by decide) (fun _ => ?_) (fun _ => ?_)
  · refine g_iinc K (i + (nI 6)) 3 [(0, .ref b), (1, .ref z), (2, .ref (z + 2463)), (3, .int (i + (nI 6)))] [1, 2, 3, 0] rfl (by rw [ic_6]) (by decide) rfl 1390 dL_law_1387 rfl ?_
    refine g_goto K 18 dL_law_1390 (by decide) ?_
    exact hag ((i + (nI 6)), sz, sl, kd, P, r16.2, r20.2)
  · exact g_none
noncomputable def lc_3 (z em L : Nat) (xs : Nat → Int32) (again : Int32 × Nat × Nat × Kd × Ptr × Mem × Mem → Option Unit) (i : Int32) (sz sl : Nat) (kd : Kd) (P : Ptr) (I μ : Mem) : Option Unit :=
  (sc L xs (i + (nI 1))).bind fun v21 =>
  (sc L xs (i + (nI 2))).bind fun v22 =>
  (sc L xs (i + (nI 3))).bind fun v23 =>
  (x0_act kd P I z v21 v22 v23).bind fun r24 =>
  (sc L xs (i + (nI 1))).bind fun v25 =>
  (sc L xs (i + (nI 2))).bind fun v26 =>
  (sc L xs (i + (nI 3))).bind fun v27 =>
  (m_act μ v25 v26 v27).bind fun r28 =>
  if (bI r24.1) = (bI r28.1) then
  again ((i + (nI 6)), sz, sl, kd, r24.2.1, r24.2.2, r28.2)
  else
  none
set_option maxRecDepth 100000 in
theorem gc_3 {p : Program} {l : Launch} {e : Env} {s : State} {m : MethodId} {args : Array Value} {below : List Frame} {meth : Method} {c : Code} {D : va_G} {cs : Cs} {b : Nat} {q : Unit → En} {z L : Nat} {xs : Nat → Int32} (K : CallFix p m c code 4 s args lw_all R_law) (hlt : l.stackTraces = false) (hK : xK D cs z s) (hz0 : s.heap.size = z) (hX : va_X b L xs s s.heap) (hbl : b < s.heap.size) (again : Int32 × Nat × Nat × Kd × Ptr × Mem × Mem → Option Unit) (hag : ∀ j : Int32 × Nat × Nat × Kd × Ptr × Mem × Mem, Gl p l e s m args below meth c D cs z 18 [(0, .ref b), (1, .ref z), (2, .ref (z + 2463)), (3, .int j.1)] [] ((j.2.1, j.2.2.1, j.2.2.2.1, j.2.2.2.2.1, j.2.2.2.2.2.1), j.2.2.2.2.2.2) q (again j)) (i : Int32) (sz sl : Nat) (kd : Kd) (P : Ptr) (I μ : Mem) (hsh : Shp z kd) (hkz : kd z = (0, 0, 0)) : Gl p l e s m args below meth c D cs z 313 [(0, .ref b), (1, .ref z), (2, .ref (z + 2463)), (3, .int i)] [] ((sz, sl, kd, P, I), μ) q (lc_3 z (cs 300) L xs again i sz sl kd P I μ) := by
  unfold lc_3
  refine g_aloadn K 1 rfl rfl 314 dL_law_313 rfl ?_
  refine g_aloadn K 0 rfl rfl 315 dL_law_314 rfl ?_
  refine g_iloadn K 3 rfl rfl 316 dL_law_315 rfl ?_
  refine g_iconst K (nI 1) ic_1 317 dL_law_316 rfl ?_
  refine g_iadd K 318 dL_law_317 rfl ?_
  refine gl_sld K hz0 hX hbl 319 dL_law_318 rfl (fun v21 => ?_)
  refine g_aloadn K 0 rfl rfl 320 dL_law_319 rfl ?_
  refine g_iloadn K 3 rfl rfl 321 dL_law_320 rfl ?_
  refine g_iconst K (nI 2) ic_2 322 dL_law_321 rfl ?_
  refine g_iadd K 323 dL_law_322 rfl ?_
  refine gl_sld K hz0 hX hbl 324 dL_law_323 rfl (fun v22 => ?_)
  refine g_aloadn K 0 rfl rfl 325 dL_law_324 rfl ?_
  refine g_iloadn K 3 rfl rfl 326 dL_law_325 rfl ?_
  refine g_iconst K (nI 3) ic_3 327 dL_law_326 rfl ?_
  refine g_iadd K 328 dL_law_327 rfl ?_
  refine gl_sld K hz0 hX hbl 329 dL_law_328 rfl (fun v23 => ?_)
  refine gl_callX K hK hz0 hsh hkz 332 (ctx_x0_act P I v21 v22 v23 hkz) (lw_V q1024 q1025 q1026 q151 q1027) wd_x0_act (by decide) rfl (Nat.le_of_ble_eq_true rfl) dL_law_329 rfl (fun r24 _ => ?_)
  refine g_aloadn K 2 rfl rfl 333 dL_law_332 rfl ?_
  refine g_aloadn K 0 rfl rfl 334 dL_law_333 rfl ?_
  refine g_iloadn K 3 rfl rfl 335 dL_law_334 rfl ?_
  refine g_iconst K (nI 1) ic_1 336 dL_law_335 rfl ?_
  refine g_iadd K 337 dL_law_336 rfl ?_
  refine gl_sld K hz0 hX hbl 338 dL_law_337 rfl (fun v25 => ?_)
  refine g_aloadn K 0 rfl rfl 339 dL_law_338 rfl ?_
  refine g_iloadn K 3 rfl rfl 340 dL_law_339 rfl ?_
  refine g_iconst K (nI 2) ic_2 341 dL_law_340 rfl ?_
  refine g_iadd K 342 dL_law_341 rfl ?_
  refine gl_sld K hz0 hX hbl 343 dL_law_342 rfl (fun v26 => ?_)
  refine g_aloadn K 0 rfl rfl 344 dL_law_343 rfl ?_
  refine g_iloadn K 3 rfl rfl 345 dL_law_344 rfl ?_
  refine g_iconst K (nI 3) ic_3 346 dL_law_345 rfl ?_
  refine g_iadd K 347 dL_law_346 rfl ?_
  refine gl_sld K hz0 hX hbl 348 dL_law_347 rfl (fun v27 => ?_)
  refine gl_callM K hK hz0 hsh 351 (ct_act μ v25 v26 v27) (lw_V q1895 q1896 q1897 q158 q1898) wd_act (by decide) rfl (Nat.le_of_ble_eq_true rfl) dL_law_348 rfl (fun r28 _ => ?_)
  refine g_icmp_eq K 354 1387 dL_law_351 rfl (by decide) (fun _ => ?_) (fun _ => ?_)
  · refine g_iinc K (i + (nI 6)) 3 [(0, .ref b), (1, .ref z), (2, .ref (z + 2463)), (3, .int (i + (nI 6)))] [1, 2, 3, 0] rfl (by rw [ic_6]) (by decide) rfl 1390 dL_law_1387 rfl ?_
    refine g_goto K 18 dL_law_1390 (by decide) ?_
    exact hag ((i + (nI 6)), sz, sl, kd, r24.2.1, r24.2.2, r28.2)
  · exact g_none
noncomputable def lc_4 (z em L : Nat) (xs : Nat → Int32) (again : Int32 × Nat × Nat × Kd × Ptr × Mem × Mem → Option Unit) (i : Int32) (sz sl : Nat) (kd : Kd) (P : Ptr) (I μ : Mem) : Option Unit :=
  (sc L xs (i + (nI 1))).bind fun v29 =>
  (x0_quarters kd P I z v29).bind fun r30 =>
  (sc L xs (i + (nI 1))).bind fun v31 =>
  (m_quarters μ v31).bind fun r32 =>
  if r30.1 = r32.1 then
  again ((i + (nI 6)), sz, sl, kd, r30.2.1, r30.2.2, r32.2)
  else
  none
set_option maxRecDepth 100000 in
theorem gc_4 {p : Program} {l : Launch} {e : Env} {s : State} {m : MethodId} {args : Array Value} {below : List Frame} {meth : Method} {c : Code} {D : va_G} {cs : Cs} {b : Nat} {q : Unit → En} {z L : Nat} {xs : Nat → Int32} (K : CallFix p m c code 4 s args lw_all R_law) (hlt : l.stackTraces = false) (hK : xK D cs z s) (hz0 : s.heap.size = z) (hX : va_X b L xs s s.heap) (hbl : b < s.heap.size) (again : Int32 × Nat × Nat × Kd × Ptr × Mem × Mem → Option Unit) (hag : ∀ j : Int32 × Nat × Nat × Kd × Ptr × Mem × Mem, Gl p l e s m args below meth c D cs z 18 [(0, .ref b), (1, .ref z), (2, .ref (z + 2463)), (3, .int j.1)] [] ((j.2.1, j.2.2.1, j.2.2.2.1, j.2.2.2.2.1, j.2.2.2.2.2.1), j.2.2.2.2.2.2) q (again j)) (i : Int32) (sz sl : Nat) (kd : Kd) (P : Ptr) (I μ : Mem) (hsh : Shp z kd) (hkz : kd z = (0, 0, 0)) : Gl p l e s m args below meth c D cs z 356 [(0, .ref b), (1, .ref z), (2, .ref (z + 2463)), (3, .int i)] [] ((sz, sl, kd, P, I), μ) q (lc_4 z (cs 300) L xs again i sz sl kd P I μ) := by
  unfold lc_4
  refine g_aloadn K 1 rfl rfl 357 dL_law_356 rfl ?_
  refine g_aloadn K 0 rfl rfl 358 dL_law_357 rfl ?_
  refine g_iloadn K 3 rfl rfl 359 dL_law_358 rfl ?_
  refine g_iconst K (nI 1) ic_1 360 dL_law_359 rfl ?_
  refine g_iadd K 361 dL_law_360 rfl ?_
  refine gl_sld K hz0 hX hbl 362 dL_law_361 rfl (fun v29 => ?_)
  refine gl_callX K hK hz0 hsh hkz 365 (ctx_x0_quarters P I v29 hkz) (lw_V q1095 q1096 q1097 q151 q1098) wd_x0_quarters (by decide) rfl (Nat.le_of_ble_eq_true rfl) dL_law_362 rfl (fun r30 _ => ?_)
  refine g_aloadn K 2 rfl rfl 366 dL_law_365 rfl ?_
  refine g_aloadn K 0 rfl rfl 367 dL_law_366 rfl ?_
  refine g_iloadn K 3 rfl rfl 368 dL_law_367 rfl ?_
  refine g_iconst K (nI 1) ic_1 369 dL_law_368 rfl ?_
  refine g_iadd K 370 dL_law_369 rfl ?_
  refine gl_sld K hz0 hX hbl 371 dL_law_370 rfl (fun v31 => ?_)
  refine gl_callM K hK hz0 hsh 374 (ct_quarters μ v31) (lw_V q1951 q1952 q1953 q158 q1954) wd_quarters (by decide) rfl (Nat.le_of_ble_eq_true rfl) dL_law_371 rfl (fun r32 _ => ?_)
  refine g_icmp_eq K 377 1387 dL_law_374 rfl (by decide) (fun _ => ?_) (fun _ => ?_)
  · refine g_iinc K (i + (nI 6)) 3 [(0, .ref b), (1, .ref z), (2, .ref (z + 2463)), (3, .int (i + (nI 6)))] [1, 2, 3, 0] rfl (by rw [ic_6]) (by decide) rfl 1390 dL_law_1387 rfl ?_
    refine g_goto K 18 dL_law_1390 (by decide) ?_
    exact hag ((i + (nI 6)), sz, sl, kd, r30.2.1, r30.2.2, r32.2)
  · exact g_none
noncomputable def lc_5 (z em L : Nat) (xs : Nat → Int32) (again : Int32 × Nat × Nat × Kd × Ptr × Mem × Mem → Option Unit) (i : Int32) (sz sl : Nat) (kd : Kd) (P : Ptr) (I μ : Mem) : Option Unit :=
  (sc L xs (i + (nI 1))).bind fun v33 =>
  (sc L xs (i + (nI 2))).bind fun v34 =>
  (sc L xs (i + (nI 3))).bind fun v35 =>
  (sc L xs (i + (nI 4))).bind fun v36 =>
  (sc L xs (i + (nI 5))).bind fun v37 =>
  (x0_feed I z v33 v34 v35 v36 v37).bind fun r38 =>
  (sc L xs (i + (nI 1))).bind fun v39 =>
  (sc L xs (i + (nI 2))).bind fun v40 =>
  (sc L xs (i + (nI 3))).bind fun v41 =>
  (sc L xs (i + (nI 4))).bind fun v42 =>
  (sc L xs (i + (nI 5))).bind fun v43 =>
  (m_feed μ v39 v40 v41 v42 v43).bind fun r44 =>
  if r38.1 = r44.1 then
  again ((i + (nI 6)), sz, sl, kd, P, r38.2, r44.2)
  else
  none
set_option maxRecDepth 100000 in
theorem gc_5 {p : Program} {l : Launch} {e : Env} {s : State} {m : MethodId} {args : Array Value} {below : List Frame} {meth : Method} {c : Code} {D : va_G} {cs : Cs} {b : Nat} {q : Unit → En} {z L : Nat} {xs : Nat → Int32} (K : CallFix p m c code 4 s args lw_all R_law) (hlt : l.stackTraces = false) (hK : xK D cs z s) (hz0 : s.heap.size = z) (hX : va_X b L xs s s.heap) (hbl : b < s.heap.size) (again : Int32 × Nat × Nat × Kd × Ptr × Mem × Mem → Option Unit) (hag : ∀ j : Int32 × Nat × Nat × Kd × Ptr × Mem × Mem, Gl p l e s m args below meth c D cs z 18 [(0, .ref b), (1, .ref z), (2, .ref (z + 2463)), (3, .int j.1)] [] ((j.2.1, j.2.2.1, j.2.2.2.1, j.2.2.2.2.1, j.2.2.2.2.2.1), j.2.2.2.2.2.2) q (again j)) (i : Int32) (sz sl : Nat) (kd : Kd) (P : Ptr) (I μ : Mem) (hsh : Shp z kd) (hkz : kd z = (0, 0, 0)) : Gl p l e s m args below meth c D cs z 379 [(0, .ref b), (1, .ref z), (2, .ref (z + 2463)), (3, .int i)] [] ((sz, sl, kd, P, I), μ) q (lc_5 z (cs 300) L xs again i sz sl kd P I μ) := by
  unfold lc_5
  refine g_aloadn K 1 rfl rfl 380 dL_law_379 rfl ?_
  refine g_aloadn K 0 rfl rfl 381 dL_law_380 rfl ?_
  refine g_iloadn K 3 rfl rfl 382 dL_law_381 rfl ?_
  refine g_iconst K (nI 1) ic_1 383 dL_law_382 rfl ?_
  refine g_iadd K 384 dL_law_383 rfl ?_
  refine gl_sld K hz0 hX hbl 385 dL_law_384 rfl (fun v33 => ?_)
  refine g_aloadn K 0 rfl rfl 386 dL_law_385 rfl ?_
  refine g_iloadn K 3 rfl rfl 387 dL_law_386 rfl ?_
  refine g_iconst K (nI 2) ic_2 388 dL_law_387 rfl ?_
  refine g_iadd K 389 dL_law_388 rfl ?_
  refine gl_sld K hz0 hX hbl 390 dL_law_389 rfl (fun v34 => ?_)
  refine g_aloadn K 0 rfl rfl 391 dL_law_390 rfl ?_
  refine g_iloadn K 3 rfl rfl 392 dL_law_391 rfl ?_
  refine g_iconst K (nI 3) ic_3 393 dL_law_392 rfl ?_
  refine g_iadd K 394 dL_law_393 rfl ?_
  refine gl_sld K hz0 hX hbl 395 dL_law_394 rfl (fun v35 => ?_)
  refine g_aloadn K 0 rfl rfl 396 dL_law_395 rfl ?_
  refine g_iloadn K 3 rfl rfl 397 dL_law_396 rfl ?_
  refine g_iconst K (nI 4) ic_4 398 dL_law_397 rfl ?_
  refine g_iadd K 399 dL_law_398 rfl ?_
  refine gl_sld K hz0 hX hbl 400 dL_law_399 rfl (fun v36 => ?_)
  refine g_aloadn K 0 rfl rfl 401 dL_law_400 rfl ?_
  refine g_iloadn K 3 rfl rfl 402 dL_law_401 rfl ?_
  refine g_iconst K (nI 5) ic_5 403 dL_law_402 rfl ?_
  refine g_iadd K 404 dL_law_403 rfl ?_
  refine gl_sld K hz0 hX hbl 405 dL_law_404 rfl (fun v37 => ?_)
  refine gl_callX K hK hz0 hsh hkz 408 (ctx_x0_feed P I v33 v34 v35 v36 v37 hkz) (lw_V q466 q467 q468 q151 q469) wd_x0_feed (by decide) rfl (Nat.le_of_ble_eq_true rfl) dL_law_405 rfl (fun r38 _ => ?_)
  refine g_aloadn K 2 rfl rfl 409 dL_law_408 rfl ?_
  refine g_aloadn K 0 rfl rfl 410 dL_law_409 rfl ?_
  refine g_iloadn K 3 rfl rfl 411 dL_law_410 rfl ?_
  refine g_iconst K (nI 1) ic_1 412 dL_law_411 rfl ?_
  refine g_iadd K 413 dL_law_412 rfl ?_
  refine gl_sld K hz0 hX hbl 414 dL_law_413 rfl (fun v39 => ?_)
  refine g_aloadn K 0 rfl rfl 415 dL_law_414 rfl ?_
  refine g_iloadn K 3 rfl rfl 416 dL_law_415 rfl ?_
  refine g_iconst K (nI 2) ic_2 417 dL_law_416 rfl ?_
  refine g_iadd K 418 dL_law_417 rfl ?_
  refine gl_sld K hz0 hX hbl 419 dL_law_418 rfl (fun v40 => ?_)
  refine g_aloadn K 0 rfl rfl 420 dL_law_419 rfl ?_
  refine g_iloadn K 3 rfl rfl 421 dL_law_420 rfl ?_
  refine g_iconst K (nI 3) ic_3 422 dL_law_421 rfl ?_
  refine g_iadd K 423 dL_law_422 rfl ?_
  refine gl_sld K hz0 hX hbl 424 dL_law_423 rfl (fun v41 => ?_)
  refine g_aloadn K 0 rfl rfl 425 dL_law_424 rfl ?_
  refine g_iloadn K 3 rfl rfl 426 dL_law_425 rfl ?_
  refine g_iconst K (nI 4) ic_4 427 dL_law_426 rfl ?_
  refine g_iadd K 428 dL_law_427 rfl ?_
  refine gl_sld K hz0 hX hbl 429 dL_law_428 rfl (fun v42 => ?_)
  refine g_aloadn K 0 rfl rfl 430 dL_law_429 rfl ?_
  refine g_iloadn K 3 rfl rfl 431 dL_law_430 rfl ?_
  refine g_iconst K (nI 5) ic_5 432 dL_law_431 rfl ?_
  refine g_iadd K 433 dL_law_432 rfl ?_
  refine gl_sld K hz0 hX hbl 434 dL_law_433 rfl (fun v43 => ?_)
  refine gl_callM K hK hz0 hsh 437 (ct_feed μ v39 v40 v41 v42 v43) (lw_V q1747 q1748 q1749 q158 q1750) wd_feed (by decide) rfl (Nat.le_of_ble_eq_true rfl) dL_law_434 rfl (fun r44 _ => ?_)
  refine g_icmp_eq K 440 1387 dL_law_437 rfl (by decide) (fun _ => ?_) (fun _ => ?_)
  · refine g_iinc K (i + (nI 6)) 3 [(0, .ref b), (1, .ref z), (2, .ref (z + 2463)), (3, .int (i + (nI 6)))] [1, 2, 3, 0] rfl (by rw [ic_6]) (by decide) rfl 1390 dL_law_1387 rfl ?_
    refine g_goto K 18 dL_law_1390 (by decide) ?_
    exact hag ((i + (nI 6)), sz, sl, kd, P, r38.2, r44.2)
  · exact g_none
noncomputable def lc_6 (z em L : Nat) (xs : Nat → Int32) (again : Int32 × Nat × Nat × Kd × Ptr × Mem × Mem → Option Unit) (i : Int32) (sz sl : Nat) (kd : Kd) (P : Ptr) (I μ : Mem) : Option Unit :=
  (sc L xs (i + (nI 1))).bind fun v45 =>
  (x0_end I z v45).bind fun r46 =>
  (sc L xs (i + (nI 1))).bind fun v47 =>
  (m_end μ v47).bind fun r48 =>
  if (bI r46.1) = (bI r48.1) then
  again ((i + (nI 6)), sz, sl, kd, P, r46.2, r48.2)
  else
  none
set_option maxRecDepth 100000 in
theorem gc_6 {p : Program} {l : Launch} {e : Env} {s : State} {m : MethodId} {args : Array Value} {below : List Frame} {meth : Method} {c : Code} {D : va_G} {cs : Cs} {b : Nat} {q : Unit → En} {z L : Nat} {xs : Nat → Int32} (K : CallFix p m c code 4 s args lw_all R_law) (hlt : l.stackTraces = false) (hK : xK D cs z s) (hz0 : s.heap.size = z) (hX : va_X b L xs s s.heap) (hbl : b < s.heap.size) (again : Int32 × Nat × Nat × Kd × Ptr × Mem × Mem → Option Unit) (hag : ∀ j : Int32 × Nat × Nat × Kd × Ptr × Mem × Mem, Gl p l e s m args below meth c D cs z 18 [(0, .ref b), (1, .ref z), (2, .ref (z + 2463)), (3, .int j.1)] [] ((j.2.1, j.2.2.1, j.2.2.2.1, j.2.2.2.2.1, j.2.2.2.2.2.1), j.2.2.2.2.2.2) q (again j)) (i : Int32) (sz sl : Nat) (kd : Kd) (P : Ptr) (I μ : Mem) (hsh : Shp z kd) (hkz : kd z = (0, 0, 0)) : Gl p l e s m args below meth c D cs z 442 [(0, .ref b), (1, .ref z), (2, .ref (z + 2463)), (3, .int i)] [] ((sz, sl, kd, P, I), μ) q (lc_6 z (cs 300) L xs again i sz sl kd P I μ) := by
  unfold lc_6
  refine g_aloadn K 1 rfl rfl 443 dL_law_442 rfl ?_
  refine g_aloadn K 0 rfl rfl 444 dL_law_443 rfl ?_
  refine g_iloadn K 3 rfl rfl 445 dL_law_444 rfl ?_
  refine g_iconst K (nI 1) ic_1 446 dL_law_445 rfl ?_
  refine g_iadd K 447 dL_law_446 rfl ?_
  refine gl_sld K hz0 hX hbl 448 dL_law_447 rfl (fun v45 => ?_)
  refine gl_callX K hK hz0 hsh hkz 451 (ctx_x0_end P I v45 hkz) (lw_V q474 q475 q476 q151 q477) wd_x0_end (by decide) rfl (Nat.le_of_ble_eq_true rfl) dL_law_448 rfl (fun r46 _ => ?_)
  refine g_aloadn K 2 rfl rfl 452 dL_law_451 rfl ?_
  refine g_aloadn K 0 rfl rfl 453 dL_law_452 rfl ?_
  refine g_iloadn K 3 rfl rfl 454 dL_law_453 rfl ?_
  refine g_iconst K (nI 1) ic_1 455 dL_law_454 rfl ?_
  refine g_iadd K 456 dL_law_455 rfl ?_
  refine gl_sld K hz0 hX hbl 457 dL_law_456 rfl (fun v47 => ?_)
  refine gl_callM K hK hz0 hsh 460 (ct_end μ v47) (lw_V q1755 q1756 q1757 q158 q1758) wd_end (by decide) rfl (Nat.le_of_ble_eq_true rfl) dL_law_457 rfl (fun r48 _ => ?_)
  refine g_icmp_eq K 463 1387 dL_law_460 rfl (by decide) (fun _ => ?_) (fun _ => ?_)
  · refine g_iinc K (i + (nI 6)) 3 [(0, .ref b), (1, .ref z), (2, .ref (z + 2463)), (3, .int (i + (nI 6)))] [1, 2, 3, 0] rfl (by rw [ic_6]) (by decide) rfl 1390 dL_law_1387 rfl ?_
    refine g_goto K 18 dL_law_1390 (by decide) ?_
    exact hag ((i + (nI 6)), sz, sl, kd, P, r46.2, r48.2)
  · exact g_none
noncomputable def lc_7 (z em L : Nat) (xs : Nat → Int32) (again : Int32 × Nat × Nat × Kd × Ptr × Mem × Mem → Option Unit) (i : Int32) (sz sl : Nat) (kd : Kd) (P : Ptr) (I μ : Mem) : Option Unit :=
  (sc L xs (i + (nI 1))).bind fun v49 =>
  cal (x0_text z em sz sl kd P I v49) fun v50 sz51 sl51 kd51 P51 I51 =>
  chk (Shp z kd51 ∧ kd51 z = (0, 0, 0)) (
  (sc L xs (i + (nI 1))).bind fun v54 =>
  (m_text μ v54).bind fun r55 =>
  if v50 = r55.1 then
  again ((i + (nI 6)), sz51, sl51, kd51, P51, I51, r55.2)
  else
  none)
set_option maxRecDepth 100000 in
theorem gc_7 {p : Program} {l : Launch} {e : Env} {s : State} {m : MethodId} {args : Array Value} {below : List Frame} {meth : Method} {c : Code} {D : va_G} {cs : Cs} {b : Nat} {q : Unit → En} {z L : Nat} {xs : Nat → Int32} (K : CallFix p m c code 4 s args lw_all R_law) (hlt : l.stackTraces = false) (hK : xK D cs z s) (hz0 : s.heap.size = z) (hX : va_X b L xs s s.heap) (hbl : b < s.heap.size) (again : Int32 × Nat × Nat × Kd × Ptr × Mem × Mem → Option Unit) (hag : ∀ j : Int32 × Nat × Nat × Kd × Ptr × Mem × Mem, Gl p l e s m args below meth c D cs z 18 [(0, .ref b), (1, .ref z), (2, .ref (z + 2463)), (3, .int j.1)] [] ((j.2.1, j.2.2.1, j.2.2.2.1, j.2.2.2.2.1, j.2.2.2.2.2.1), j.2.2.2.2.2.2) q (again j)) (i : Int32) (sz sl : Nat) (kd : Kd) (P : Ptr) (I μ : Mem) (hsh : Shp z kd) (hkz : kd z = (0, 0, 0)) : Gl p l e s m args below meth c D cs z 465 [(0, .ref b), (1, .ref z), (2, .ref (z + 2463)), (3, .int i)] [] ((sz, sl, kd, P, I), μ) q (lc_7 z (cs 300) L xs again i sz sl kd P I μ) := by
  unfold lc_7
  refine g_aloadn K 1 rfl rfl 466 dL_law_465 rfl ?_
  refine g_aloadn K 0 rfl rfl 467 dL_law_466 rfl ?_
  refine g_iloadn K 3 rfl rfl 468 dL_law_467 rfl ?_
  refine g_iconst K (nI 1) ic_1 469 dL_law_468 rfl ?_
  refine g_iadd K 470 dL_law_469 rfl ?_
  refine gl_sld K hz0 hX hbl 471 dL_law_470 rfl (fun v49 => ?_)
  refine gl_callH K hK hz0 hlt hsh hkz 474 (ct_x0_text sz sl kd P I v49 hkz) (lw_VW q481 q482 q483 q151 q484) wdb_x0_text (by decide) rfl (Nat.le_of_ble_eq_true rfl) dL_law_471 rfl (fun v50 sz51 sl51 kd51 P51 I51 _ => ?_)
  refine g_chk (fun hc => ?_)
  obtain ⟨hs52, hk53⟩ := hc
  refine g_aloadn K 2 rfl rfl 475 dL_law_474 rfl ?_
  refine g_aloadn K 0 rfl rfl 476 dL_law_475 rfl ?_
  refine g_iloadn K 3 rfl rfl 477 dL_law_476 rfl ?_
  refine g_iconst K (nI 1) ic_1 478 dL_law_477 rfl ?_
  refine g_iadd K 479 dL_law_478 rfl ?_
  refine gl_sld K hz0 hX hbl 480 dL_law_479 rfl (fun v54 => ?_)
  refine gl_callM K hK hz0 hs52 483 (ct_text μ v54) (lw_V q1759 q1760 q1761 q158 q1762) wd_text (by decide) rfl (Nat.le_of_ble_eq_true rfl) dL_law_480 rfl (fun r55 _ => ?_)
  refine g_icmp_eq K 486 1387 dL_law_483 rfl (by decide) (fun _ => ?_) (fun _ => ?_)
  · refine g_iinc K (i + (nI 6)) 3 [(0, .ref b), (1, .ref z), (2, .ref (z + 2463)), (3, .int (i + (nI 6)))] [1, 2, 3, 0] rfl (by rw [ic_6]) (by decide) rfl 1390 dL_law_1387 rfl ?_
    refine g_goto K 18 dL_law_1390 (by decide) ?_
    exact hag ((i + (nI 6)), sz51, sl51, kd51, P51, I51, r55.2)
  · exact g_none
noncomputable def lc_8 (z em L : Nat) (xs : Nat → Int32) (again : Int32 × Nat × Nat × Kd × Ptr × Mem × Mem → Option Unit) (i : Int32) (sz sl : Nat) (kd : Kd) (P : Ptr) (I μ : Mem) : Option Unit :=
  (sc L xs (i + (nI 1))).bind fun v56 =>
  (x0_fault I z v56).bind fun r57 =>
  (sc L xs (i + (nI 1))).bind fun v58 =>
  (m_fault μ v58).bind fun r59 =>
  if r57 = r59.1 then
  again ((i + (nI 6)), sz, sl, kd, P, I, r59.2)
  else
  none
set_option maxRecDepth 100000 in
theorem gc_8 {p : Program} {l : Launch} {e : Env} {s : State} {m : MethodId} {args : Array Value} {below : List Frame} {meth : Method} {c : Code} {D : va_G} {cs : Cs} {b : Nat} {q : Unit → En} {z L : Nat} {xs : Nat → Int32} (K : CallFix p m c code 4 s args lw_all R_law) (hlt : l.stackTraces = false) (hK : xK D cs z s) (hz0 : s.heap.size = z) (hX : va_X b L xs s s.heap) (hbl : b < s.heap.size) (again : Int32 × Nat × Nat × Kd × Ptr × Mem × Mem → Option Unit) (hag : ∀ j : Int32 × Nat × Nat × Kd × Ptr × Mem × Mem, Gl p l e s m args below meth c D cs z 18 [(0, .ref b), (1, .ref z), (2, .ref (z + 2463)), (3, .int j.1)] [] ((j.2.1, j.2.2.1, j.2.2.2.1, j.2.2.2.2.1, j.2.2.2.2.2.1), j.2.2.2.2.2.2) q (again j)) (i : Int32) (sz sl : Nat) (kd : Kd) (P : Ptr) (I μ : Mem) (hsh : Shp z kd) (hkz : kd z = (0, 0, 0)) : Gl p l e s m args below meth c D cs z 488 [(0, .ref b), (1, .ref z), (2, .ref (z + 2463)), (3, .int i)] [] ((sz, sl, kd, P, I), μ) q (lc_8 z (cs 300) L xs again i sz sl kd P I μ) := by
  unfold lc_8
  refine g_aloadn K 1 rfl rfl 489 dL_law_488 rfl ?_
  refine g_aloadn K 0 rfl rfl 490 dL_law_489 rfl ?_
  refine g_iloadn K 3 rfl rfl 491 dL_law_490 rfl ?_
  refine g_iconst K (nI 1) ic_1 492 dL_law_491 rfl ?_
  refine g_iadd K 493 dL_law_492 rfl ?_
  refine gl_sld K hz0 hX hbl 494 dL_law_493 rfl (fun v56 => ?_)
  refine gl_callX K hK hz0 hsh hkz 497 (ctx_x0_fault P I v56 hkz) (lw_V q980 q981 q982 q151 q983) wd_x0_fault (by decide) rfl (Nat.le_of_ble_eq_true rfl) dL_law_494 rfl (fun r57 _ => ?_)
  refine g_aloadn K 2 rfl rfl 498 dL_law_497 rfl ?_
  refine g_aloadn K 0 rfl rfl 499 dL_law_498 rfl ?_
  refine g_iloadn K 3 rfl rfl 500 dL_law_499 rfl ?_
  refine g_iconst K (nI 1) ic_1 501 dL_law_500 rfl ?_
  refine g_iadd K 502 dL_law_501 rfl ?_
  refine gl_sld K hz0 hX hbl 503 dL_law_502 rfl (fun v58 => ?_)
  refine gl_callM K hK hz0 hsh 506 (ct_fault μ v58) (lw_V q1891 q1892 q1893 q158 q1894) wd_fault (by decide) rfl (Nat.le_of_ble_eq_true rfl) dL_law_503 rfl (fun r59 _ => ?_)
  refine g_icmp_eq K 509 1387 dL_law_506 rfl (by decide) (fun _ => ?_) (fun _ => ?_)
  · refine g_iinc K (i + (nI 6)) 3 [(0, .ref b), (1, .ref z), (2, .ref (z + 2463)), (3, .int (i + (nI 6)))] [1, 2, 3, 0] rfl (by rw [ic_6]) (by decide) rfl 1390 dL_law_1387 rfl ?_
    refine g_goto K 18 dL_law_1390 (by decide) ?_
    exact hag ((i + (nI 6)), sz, sl, kd, P, I, r59.2)
  · exact g_none
noncomputable def lc_9 (z em L : Nat) (xs : Nat → Int32) (again : Int32 × Nat × Nat × Kd × Ptr × Mem × Mem → Option Unit) (i : Int32) (sz sl : Nat) (kd : Kd) (P : Ptr) (I μ : Mem) : Option Unit :=
  (sc L xs (i + (nI 1))).bind fun v60 =>
  (sc L xs (i + (nI 2))).bind fun v61 =>
  (x0_of kd P I z v60 v61).bind fun r62 =>
  (sc L xs (i + (nI 1))).bind fun v63 =>
  (sc L xs (i + (nI 2))).bind fun v64 =>
  (m_of μ v63 v64).bind fun r65 =>
  if r62.1 = r65.1 then
  again ((i + (nI 6)), sz, sl, kd, r62.2.1, r62.2.2, r65.2)
  else
  none
set_option maxRecDepth 100000 in
theorem gc_9 {p : Program} {l : Launch} {e : Env} {s : State} {m : MethodId} {args : Array Value} {below : List Frame} {meth : Method} {c : Code} {D : va_G} {cs : Cs} {b : Nat} {q : Unit → En} {z L : Nat} {xs : Nat → Int32} (K : CallFix p m c code 4 s args lw_all R_law) (hlt : l.stackTraces = false) (hK : xK D cs z s) (hz0 : s.heap.size = z) (hX : va_X b L xs s s.heap) (hbl : b < s.heap.size) (again : Int32 × Nat × Nat × Kd × Ptr × Mem × Mem → Option Unit) (hag : ∀ j : Int32 × Nat × Nat × Kd × Ptr × Mem × Mem, Gl p l e s m args below meth c D cs z 18 [(0, .ref b), (1, .ref z), (2, .ref (z + 2463)), (3, .int j.1)] [] ((j.2.1, j.2.2.1, j.2.2.2.1, j.2.2.2.2.1, j.2.2.2.2.2.1), j.2.2.2.2.2.2) q (again j)) (i : Int32) (sz sl : Nat) (kd : Kd) (P : Ptr) (I μ : Mem) (hsh : Shp z kd) (hkz : kd z = (0, 0, 0)) : Gl p l e s m args below meth c D cs z 511 [(0, .ref b), (1, .ref z), (2, .ref (z + 2463)), (3, .int i)] [] ((sz, sl, kd, P, I), μ) q (lc_9 z (cs 300) L xs again i sz sl kd P I μ) := by
  unfold lc_9
  refine g_aloadn K 1 rfl rfl 512 dL_law_511 rfl ?_
  refine g_aloadn K 0 rfl rfl 513 dL_law_512 rfl ?_
  refine g_iloadn K 3 rfl rfl 514 dL_law_513 rfl ?_
  refine g_iconst K (nI 1) ic_1 515 dL_law_514 rfl ?_
  refine g_iadd K 516 dL_law_515 rfl ?_
  refine gl_sld K hz0 hX hbl 517 dL_law_516 rfl (fun v60 => ?_)
  refine g_aloadn K 0 rfl rfl 518 dL_law_517 rfl ?_
  refine g_iloadn K 3 rfl rfl 519 dL_law_518 rfl ?_
  refine g_iconst K (nI 2) ic_2 520 dL_law_519 rfl ?_
  refine g_iadd K 521 dL_law_520 rfl ?_
  refine gl_sld K hz0 hX hbl 522 dL_law_521 rfl (fun v61 => ?_)
  refine gl_callX K hK hz0 hsh hkz 525 (ctx_x0_of P I v60 v61 hkz) (lw_V q1254 q1255 q1256 q151 q1257) wd_x0_of (by decide) rfl (Nat.le_of_ble_eq_true rfl) dL_law_522 rfl (fun r62 _ => ?_)
  refine g_aloadn K 2 rfl rfl 526 dL_law_525 rfl ?_
  refine g_aloadn K 0 rfl rfl 527 dL_law_526 rfl ?_
  refine g_iloadn K 3 rfl rfl 528 dL_law_527 rfl ?_
  refine g_iconst K (nI 1) ic_1 529 dL_law_528 rfl ?_
  refine g_iadd K 530 dL_law_529 rfl ?_
  refine gl_sld K hz0 hX hbl 531 dL_law_530 rfl (fun v63 => ?_)
  refine g_aloadn K 0 rfl rfl 532 dL_law_531 rfl ?_
  refine g_iloadn K 3 rfl rfl 533 dL_law_532 rfl ?_
  refine g_iconst K (nI 2) ic_2 534 dL_law_533 rfl ?_
  refine g_iadd K 535 dL_law_534 rfl ?_
  refine gl_sld K hz0 hX hbl 536 dL_law_535 rfl (fun v64 => ?_)
  refine gl_callM K hK hz0 hsh 539 (ct_of μ v63 v64) (lw_V q2033 q2034 q2035 q158 q2036) wd_of (by decide) rfl (Nat.le_of_ble_eq_true rfl) dL_law_536 rfl (fun r65 _ => ?_)
  refine g_icmp_eq K 542 1387 dL_law_539 rfl (by decide) (fun _ => ?_) (fun _ => ?_)
  · refine g_iinc K (i + (nI 6)) 3 [(0, .ref b), (1, .ref z), (2, .ref (z + 2463)), (3, .int (i + (nI 6)))] [1, 2, 3, 0] rfl (by rw [ic_6]) (by decide) rfl 1390 dL_law_1387 rfl ?_
    refine g_goto K 18 dL_law_1390 (by decide) ?_
    exact hag ((i + (nI 6)), sz, sl, kd, r62.2.1, r62.2.2, r65.2)
  · exact g_none
noncomputable def lc_10 (z em L : Nat) (xs : Nat → Int32) (again : Int32 × Nat × Nat × Kd × Ptr × Mem × Mem → Option Unit) (i : Int32) (sz sl : Nat) (kd : Kd) (P : Ptr) (I μ : Mem) : Option Unit :=
  (sc L xs (i + (nI 1))).bind fun v66 =>
  (sc L xs (i + (nI 2))).bind fun v67 =>
  (x0_book I z v66 v67).bind fun r68 =>
  (sc L xs (i + (nI 1))).bind fun v69 =>
  (sc L xs (i + (nI 2))).bind fun v70 =>
  (m_book μ v69 v70).bind fun r71 =>
  if r68 = r71.1 then
  again ((i + (nI 6)), sz, sl, kd, P, I, r71.2)
  else
  none
set_option maxRecDepth 100000 in
theorem gc_10 {p : Program} {l : Launch} {e : Env} {s : State} {m : MethodId} {args : Array Value} {below : List Frame} {meth : Method} {c : Code} {D : va_G} {cs : Cs} {b : Nat} {q : Unit → En} {z L : Nat} {xs : Nat → Int32} (K : CallFix p m c code 4 s args lw_all R_law) (hlt : l.stackTraces = false) (hK : xK D cs z s) (hz0 : s.heap.size = z) (hX : va_X b L xs s s.heap) (hbl : b < s.heap.size) (again : Int32 × Nat × Nat × Kd × Ptr × Mem × Mem → Option Unit) (hag : ∀ j : Int32 × Nat × Nat × Kd × Ptr × Mem × Mem, Gl p l e s m args below meth c D cs z 18 [(0, .ref b), (1, .ref z), (2, .ref (z + 2463)), (3, .int j.1)] [] ((j.2.1, j.2.2.1, j.2.2.2.1, j.2.2.2.2.1, j.2.2.2.2.2.1), j.2.2.2.2.2.2) q (again j)) (i : Int32) (sz sl : Nat) (kd : Kd) (P : Ptr) (I μ : Mem) (hsh : Shp z kd) (hkz : kd z = (0, 0, 0)) : Gl p l e s m args below meth c D cs z 544 [(0, .ref b), (1, .ref z), (2, .ref (z + 2463)), (3, .int i)] [] ((sz, sl, kd, P, I), μ) q (lc_10 z (cs 300) L xs again i sz sl kd P I μ) := by
  unfold lc_10
  refine g_aloadn K 1 rfl rfl 545 dL_law_544 rfl ?_
  refine g_aloadn K 0 rfl rfl 546 dL_law_545 rfl ?_
  refine g_iloadn K 3 rfl rfl 547 dL_law_546 rfl ?_
  refine g_iconst K (nI 1) ic_1 548 dL_law_547 rfl ?_
  refine g_iadd K 549 dL_law_548 rfl ?_
  refine gl_sld K hz0 hX hbl 550 dL_law_549 rfl (fun v66 => ?_)
  refine g_aloadn K 0 rfl rfl 551 dL_law_550 rfl ?_
  refine g_iloadn K 3 rfl rfl 552 dL_law_551 rfl ?_
  refine g_iconst K (nI 2) ic_2 553 dL_law_552 rfl ?_
  refine g_iadd K 554 dL_law_553 rfl ?_
  refine gl_sld K hz0 hX hbl 555 dL_law_554 rfl (fun v67 => ?_)
  refine gl_callX K hK hz0 hsh hkz 558 (ctx_x0_book P I v66 v67 hkz) (lw_V q1261 q1262 q1263 q151 q1264) wd_x0_book (by decide) rfl (Nat.le_of_ble_eq_true rfl) dL_law_555 rfl (fun r68 _ => ?_)
  refine g_aloadn K 2 rfl rfl 559 dL_law_558 rfl ?_
  refine g_aloadn K 0 rfl rfl 560 dL_law_559 rfl ?_
  refine g_iloadn K 3 rfl rfl 561 dL_law_560 rfl ?_
  refine g_iconst K (nI 1) ic_1 562 dL_law_561 rfl ?_
  refine g_iadd K 563 dL_law_562 rfl ?_
  refine gl_sld K hz0 hX hbl 564 dL_law_563 rfl (fun v69 => ?_)
  refine g_aloadn K 0 rfl rfl 565 dL_law_564 rfl ?_
  refine g_iloadn K 3 rfl rfl 566 dL_law_565 rfl ?_
  refine g_iconst K (nI 2) ic_2 567 dL_law_566 rfl ?_
  refine g_iadd K 568 dL_law_567 rfl ?_
  refine gl_sld K hz0 hX hbl 569 dL_law_568 rfl (fun v70 => ?_)
  refine gl_callM K hK hz0 hsh 572 (ct_book μ v69 v70) (lw_V q2037 q2038 q2039 q158 q2040) wd_book (by decide) rfl (Nat.le_of_ble_eq_true rfl) dL_law_569 rfl (fun r71 _ => ?_)
  refine g_icmp_eq K 575 1387 dL_law_572 rfl (by decide) (fun _ => ?_) (fun _ => ?_)
  · refine g_iinc K (i + (nI 6)) 3 [(0, .ref b), (1, .ref z), (2, .ref (z + 2463)), (3, .int (i + (nI 6)))] [1, 2, 3, 0] rfl (by rw [ic_6]) (by decide) rfl 1390 dL_law_1387 rfl ?_
    refine g_goto K 18 dL_law_1390 (by decide) ?_
    exact hag ((i + (nI 6)), sz, sl, kd, P, I, r71.2)
  · exact g_none
noncomputable def lc_11 (z em L : Nat) (xs : Nat → Int32) (again : Int32 × Nat × Nat × Kd × Ptr × Mem × Mem → Option Unit) (i : Int32) (sz sl : Nat) (kd : Kd) (P : Ptr) (I μ : Mem) : Option Unit :=
  (sc L xs (i + (nI 1))).bind fun v72 =>
  (sc L xs (i + (nI 2))).bind fun v73 =>
  (x0_goes kd P I z v72 v73).bind fun r74 =>
  (sc L xs (i + (nI 1))).bind fun v75 =>
  (sc L xs (i + (nI 2))).bind fun v76 =>
  (m_goes μ v75 v76).bind fun r77 =>
  if r74.1 = r77.1 then
  again ((i + (nI 6)), sz, sl, kd, r74.2.1, r74.2.2, r77.2)
  else
  none
set_option maxRecDepth 100000 in
theorem gc_11 {p : Program} {l : Launch} {e : Env} {s : State} {m : MethodId} {args : Array Value} {below : List Frame} {meth : Method} {c : Code} {D : va_G} {cs : Cs} {b : Nat} {q : Unit → En} {z L : Nat} {xs : Nat → Int32} (K : CallFix p m c code 4 s args lw_all R_law) (hlt : l.stackTraces = false) (hK : xK D cs z s) (hz0 : s.heap.size = z) (hX : va_X b L xs s s.heap) (hbl : b < s.heap.size) (again : Int32 × Nat × Nat × Kd × Ptr × Mem × Mem → Option Unit) (hag : ∀ j : Int32 × Nat × Nat × Kd × Ptr × Mem × Mem, Gl p l e s m args below meth c D cs z 18 [(0, .ref b), (1, .ref z), (2, .ref (z + 2463)), (3, .int j.1)] [] ((j.2.1, j.2.2.1, j.2.2.2.1, j.2.2.2.2.1, j.2.2.2.2.2.1), j.2.2.2.2.2.2) q (again j)) (i : Int32) (sz sl : Nat) (kd : Kd) (P : Ptr) (I μ : Mem) (hsh : Shp z kd) (hkz : kd z = (0, 0, 0)) : Gl p l e s m args below meth c D cs z 577 [(0, .ref b), (1, .ref z), (2, .ref (z + 2463)), (3, .int i)] [] ((sz, sl, kd, P, I), μ) q (lc_11 z (cs 300) L xs again i sz sl kd P I μ) := by
  unfold lc_11
  refine g_aloadn K 1 rfl rfl 578 dL_law_577 rfl ?_
  refine g_aloadn K 0 rfl rfl 579 dL_law_578 rfl ?_
  refine g_iloadn K 3 rfl rfl 580 dL_law_579 rfl ?_
  refine g_iconst K (nI 1) ic_1 581 dL_law_580 rfl ?_
  refine g_iadd K 582 dL_law_581 rfl ?_
  refine gl_sld K hz0 hX hbl 583 dL_law_582 rfl (fun v72 => ?_)
  refine g_aloadn K 0 rfl rfl 584 dL_law_583 rfl ?_
  refine g_iloadn K 3 rfl rfl 585 dL_law_584 rfl ?_
  refine g_iconst K (nI 2) ic_2 586 dL_law_585 rfl ?_
  refine g_iadd K 587 dL_law_586 rfl ?_
  refine gl_sld K hz0 hX hbl 588 dL_law_587 rfl (fun v73 => ?_)
  refine gl_callX K hK hz0 hsh hkz 591 (ctx_x0_goes P I v72 v73 hkz) (lw_V q1265 q1266 q1267 q151 q1268) wd_x0_goes (by decide) rfl (Nat.le_of_ble_eq_true rfl) dL_law_588 rfl (fun r74 _ => ?_)
  refine g_aloadn K 2 rfl rfl 592 dL_law_591 rfl ?_
  refine g_aloadn K 0 rfl rfl 593 dL_law_592 rfl ?_
  refine g_iloadn K 3 rfl rfl 594 dL_law_593 rfl ?_
  refine g_iconst K (nI 1) ic_1 595 dL_law_594 rfl ?_
  refine g_iadd K 596 dL_law_595 rfl ?_
  refine gl_sld K hz0 hX hbl 597 dL_law_596 rfl (fun v75 => ?_)
  refine g_aloadn K 0 rfl rfl 598 dL_law_597 rfl ?_
  refine g_iloadn K 3 rfl rfl 599 dL_law_598 rfl ?_
  refine g_iconst K (nI 2) ic_2 600 dL_law_599 rfl ?_
  refine g_iadd K 601 dL_law_600 rfl ?_
  refine gl_sld K hz0 hX hbl 602 dL_law_601 rfl (fun v76 => ?_)
  refine gl_callM K hK hz0 hsh 605 (ct_goes μ v75 v76) (lw_V q2041 q2042 q2043 q158 q2044) wd_goes (by decide) rfl (Nat.le_of_ble_eq_true rfl) dL_law_602 rfl (fun r77 _ => ?_)
  refine g_icmp_eq K 608 1387 dL_law_605 rfl (by decide) (fun _ => ?_) (fun _ => ?_)
  · refine g_iinc K (i + (nI 6)) 3 [(0, .ref b), (1, .ref z), (2, .ref (z + 2463)), (3, .int (i + (nI 6)))] [1, 2, 3, 0] rfl (by rw [ic_6]) (by decide) rfl 1390 dL_law_1387 rfl ?_
    refine g_goto K 18 dL_law_1390 (by decide) ?_
    exact hag ((i + (nI 6)), sz, sl, kd, r74.2.1, r74.2.2, r77.2)
  · exact g_none
noncomputable def lc_12 (z em L : Nat) (xs : Nat → Int32) (again : Int32 × Nat × Nat × Kd × Ptr × Mem × Mem → Option Unit) (i : Int32) (sz sl : Nat) (kd : Kd) (P : Ptr) (I μ : Mem) : Option Unit :=
  (sc L xs (i + (nI 1))).bind fun v78 =>
  (x0_stands kd P I z v78).bind fun r79 =>
  (sc L xs (i + (nI 1))).bind fun v80 =>
  (m_stands μ v80).bind fun r81 =>
  if r79.1 = r81.1 then
  again ((i + (nI 6)), sz, sl, kd, r79.2.1, r79.2.2, r81.2)
  else
  none
set_option maxRecDepth 100000 in
theorem gc_12 {p : Program} {l : Launch} {e : Env} {s : State} {m : MethodId} {args : Array Value} {below : List Frame} {meth : Method} {c : Code} {D : va_G} {cs : Cs} {b : Nat} {q : Unit → En} {z L : Nat} {xs : Nat → Int32} (K : CallFix p m c code 4 s args lw_all R_law) (hlt : l.stackTraces = false) (hK : xK D cs z s) (hz0 : s.heap.size = z) (hX : va_X b L xs s s.heap) (hbl : b < s.heap.size) (again : Int32 × Nat × Nat × Kd × Ptr × Mem × Mem → Option Unit) (hag : ∀ j : Int32 × Nat × Nat × Kd × Ptr × Mem × Mem, Gl p l e s m args below meth c D cs z 18 [(0, .ref b), (1, .ref z), (2, .ref (z + 2463)), (3, .int j.1)] [] ((j.2.1, j.2.2.1, j.2.2.2.1, j.2.2.2.2.1, j.2.2.2.2.2.1), j.2.2.2.2.2.2) q (again j)) (i : Int32) (sz sl : Nat) (kd : Kd) (P : Ptr) (I μ : Mem) (hsh : Shp z kd) (hkz : kd z = (0, 0, 0)) : Gl p l e s m args below meth c D cs z 610 [(0, .ref b), (1, .ref z), (2, .ref (z + 2463)), (3, .int i)] [] ((sz, sl, kd, P, I), μ) q (lc_12 z (cs 300) L xs again i sz sl kd P I μ) := by
  unfold lc_12
  refine g_aloadn K 1 rfl rfl 611 dL_law_610 rfl ?_
  refine g_aloadn K 0 rfl rfl 612 dL_law_611 rfl ?_
  refine g_iloadn K 3 rfl rfl 613 dL_law_612 rfl ?_
  refine g_iconst K (nI 1) ic_1 614 dL_law_613 rfl ?_
  refine g_iadd K 615 dL_law_614 rfl ?_
  refine gl_sld K hz0 hX hbl 616 dL_law_615 rfl (fun v78 => ?_)
  refine gl_callX K hK hz0 hsh hkz 619 (ctx_x0_stands P I v78 hkz) (lw_V q1276 q1277 q1278 q151 q1279) wd_x0_stands (by decide) rfl (Nat.le_of_ble_eq_true rfl) dL_law_616 rfl (fun r79 _ => ?_)
  refine g_aloadn K 2 rfl rfl 620 dL_law_619 rfl ?_
  refine g_aloadn K 0 rfl rfl 621 dL_law_620 rfl ?_
  refine g_iloadn K 3 rfl rfl 622 dL_law_621 rfl ?_
  refine g_iconst K (nI 1) ic_1 623 dL_law_622 rfl ?_
  refine g_iadd K 624 dL_law_623 rfl ?_
  refine gl_sld K hz0 hX hbl 625 dL_law_624 rfl (fun v80 => ?_)
  refine gl_callM K hK hz0 hsh 628 (ct_stands μ v80) (lw_V q2057 q2058 q2059 q158 q2060) wd_stands (by decide) rfl (Nat.le_of_ble_eq_true rfl) dL_law_625 rfl (fun r81 _ => ?_)
  refine g_icmp_eq K 631 1387 dL_law_628 rfl (by decide) (fun _ => ?_) (fun _ => ?_)
  · refine g_iinc K (i + (nI 6)) 3 [(0, .ref b), (1, .ref z), (2, .ref (z + 2463)), (3, .int (i + (nI 6)))] [1, 2, 3, 0] rfl (by rw [ic_6]) (by decide) rfl 1390 dL_law_1387 rfl ?_
    refine g_goto K 18 dL_law_1390 (by decide) ?_
    exact hag ((i + (nI 6)), sz, sl, kd, r79.2.1, r79.2.2, r81.2)
  · exact g_none
noncomputable def lc_13 (z em L : Nat) (xs : Nat → Int32) (again : Int32 × Nat × Nat × Kd × Ptr × Mem × Mem → Option Unit) (i : Int32) (sz sl : Nat) (kd : Kd) (P : Ptr) (I μ : Mem) : Option Unit :=
  (sc L xs (i + (nI 1))).bind fun v82 =>
  (sc L xs (i + (nI 2))).bind fun v83 =>
  (x0_hears kd P I z v82 v83).bind fun r84 =>
  (sc L xs (i + (nI 1))).bind fun v85 =>
  (sc L xs (i + (nI 2))).bind fun v86 =>
  (m_hears μ v85 v86).bind fun r87 =>
  if r84.1 = r87.1 then
  again ((i + (nI 6)), sz, sl, kd, P, r84.2, r87.2)
  else
  none
set_option maxRecDepth 100000 in
theorem gc_13 {p : Program} {l : Launch} {e : Env} {s : State} {m : MethodId} {args : Array Value} {below : List Frame} {meth : Method} {c : Code} {D : va_G} {cs : Cs} {b : Nat} {q : Unit → En} {z L : Nat} {xs : Nat → Int32} (K : CallFix p m c code 4 s args lw_all R_law) (hlt : l.stackTraces = false) (hK : xK D cs z s) (hz0 : s.heap.size = z) (hX : va_X b L xs s s.heap) (hbl : b < s.heap.size) (again : Int32 × Nat × Nat × Kd × Ptr × Mem × Mem → Option Unit) (hag : ∀ j : Int32 × Nat × Nat × Kd × Ptr × Mem × Mem, Gl p l e s m args below meth c D cs z 18 [(0, .ref b), (1, .ref z), (2, .ref (z + 2463)), (3, .int j.1)] [] ((j.2.1, j.2.2.1, j.2.2.2.1, j.2.2.2.2.1, j.2.2.2.2.2.1), j.2.2.2.2.2.2) q (again j)) (i : Int32) (sz sl : Nat) (kd : Kd) (P : Ptr) (I μ : Mem) (hsh : Shp z kd) (hkz : kd z = (0, 0, 0)) : Gl p l e s m args below meth c D cs z 633 [(0, .ref b), (1, .ref z), (2, .ref (z + 2463)), (3, .int i)] [] ((sz, sl, kd, P, I), μ) q (lc_13 z (cs 300) L xs again i sz sl kd P I μ) := by
  unfold lc_13
  refine g_aloadn K 1 rfl rfl 634 dL_law_633 rfl ?_
  refine g_aloadn K 0 rfl rfl 635 dL_law_634 rfl ?_
  refine g_iloadn K 3 rfl rfl 636 dL_law_635 rfl ?_
  refine g_iconst K (nI 1) ic_1 637 dL_law_636 rfl ?_
  refine g_iadd K 638 dL_law_637 rfl ?_
  refine gl_sld K hz0 hX hbl 639 dL_law_638 rfl (fun v82 => ?_)
  refine g_aloadn K 0 rfl rfl 640 dL_law_639 rfl ?_
  refine g_iloadn K 3 rfl rfl 641 dL_law_640 rfl ?_
  refine g_iconst K (nI 2) ic_2 642 dL_law_641 rfl ?_
  refine g_iadd K 643 dL_law_642 rfl ?_
  refine gl_sld K hz0 hX hbl 644 dL_law_643 rfl (fun v83 => ?_)
  refine gl_callX K hK hz0 hsh hkz 647 (ctx_x0_hears P I v82 v83 hkz) (lw_V q1280 q1281 q1282 q151 q1283) wd_x0_hears (by decide) rfl (Nat.le_of_ble_eq_true rfl) dL_law_644 rfl (fun r84 _ => ?_)
  refine g_aloadn K 2 rfl rfl 648 dL_law_647 rfl ?_
  refine g_aloadn K 0 rfl rfl 649 dL_law_648 rfl ?_
  refine g_iloadn K 3 rfl rfl 650 dL_law_649 rfl ?_
  refine g_iconst K (nI 1) ic_1 651 dL_law_650 rfl ?_
  refine g_iadd K 652 dL_law_651 rfl ?_
  refine gl_sld K hz0 hX hbl 653 dL_law_652 rfl (fun v85 => ?_)
  refine g_aloadn K 0 rfl rfl 654 dL_law_653 rfl ?_
  refine g_iloadn K 3 rfl rfl 655 dL_law_654 rfl ?_
  refine g_iconst K (nI 2) ic_2 656 dL_law_655 rfl ?_
  refine g_iadd K 657 dL_law_656 rfl ?_
  refine gl_sld K hz0 hX hbl 658 dL_law_657 rfl (fun v86 => ?_)
  refine gl_callM K hK hz0 hsh 661 (ct_hears μ v85 v86) (lw_V q2061 q2062 q2063 q158 q2064) wd_hears (by decide) rfl (Nat.le_of_ble_eq_true rfl) dL_law_658 rfl (fun r87 _ => ?_)
  refine g_icmp_eq K 664 1387 dL_law_661 rfl (by decide) (fun _ => ?_) (fun _ => ?_)
  · refine g_iinc K (i + (nI 6)) 3 [(0, .ref b), (1, .ref z), (2, .ref (z + 2463)), (3, .int (i + (nI 6)))] [1, 2, 3, 0] rfl (by rw [ic_6]) (by decide) rfl 1390 dL_law_1387 rfl ?_
    refine g_goto K 18 dL_law_1390 (by decide) ?_
    exact hag ((i + (nI 6)), sz, sl, kd, P, r84.2, r87.2)
  · exact g_none
noncomputable def lc_14 (z em L : Nat) (xs : Nat → Int32) (again : Int32 × Nat × Nat × Kd × Ptr × Mem × Mem → Option Unit) (i : Int32) (sz sl : Nat) (kd : Kd) (P : Ptr) (I μ : Mem) : Option Unit :=
  (sc L xs (i + (nI 1))).bind fun v88 =>
  (sc L xs (i + (nI 2))).bind fun v89 =>
  (x0_heard kd P I z v88 v89).bind fun r90 =>
  (sc L xs (i + (nI 1))).bind fun v91 =>
  (sc L xs (i + (nI 2))).bind fun v92 =>
  (m_heard μ v91 v92).bind fun r93 =>
  if r90.1 = r93.1 then
  again ((i + (nI 6)), sz, sl, kd, P, r90.2, r93.2)
  else
  none
set_option maxRecDepth 100000 in
theorem gc_14 {p : Program} {l : Launch} {e : Env} {s : State} {m : MethodId} {args : Array Value} {below : List Frame} {meth : Method} {c : Code} {D : va_G} {cs : Cs} {b : Nat} {q : Unit → En} {z L : Nat} {xs : Nat → Int32} (K : CallFix p m c code 4 s args lw_all R_law) (hlt : l.stackTraces = false) (hK : xK D cs z s) (hz0 : s.heap.size = z) (hX : va_X b L xs s s.heap) (hbl : b < s.heap.size) (again : Int32 × Nat × Nat × Kd × Ptr × Mem × Mem → Option Unit) (hag : ∀ j : Int32 × Nat × Nat × Kd × Ptr × Mem × Mem, Gl p l e s m args below meth c D cs z 18 [(0, .ref b), (1, .ref z), (2, .ref (z + 2463)), (3, .int j.1)] [] ((j.2.1, j.2.2.1, j.2.2.2.1, j.2.2.2.2.1, j.2.2.2.2.2.1), j.2.2.2.2.2.2) q (again j)) (i : Int32) (sz sl : Nat) (kd : Kd) (P : Ptr) (I μ : Mem) (hsh : Shp z kd) (hkz : kd z = (0, 0, 0)) : Gl p l e s m args below meth c D cs z 666 [(0, .ref b), (1, .ref z), (2, .ref (z + 2463)), (3, .int i)] [] ((sz, sl, kd, P, I), μ) q (lc_14 z (cs 300) L xs again i sz sl kd P I μ) := by
  unfold lc_14
  refine g_aloadn K 1 rfl rfl 667 dL_law_666 rfl ?_
  refine g_aloadn K 0 rfl rfl 668 dL_law_667 rfl ?_
  refine g_iloadn K 3 rfl rfl 669 dL_law_668 rfl ?_
  refine g_iconst K (nI 1) ic_1 670 dL_law_669 rfl ?_
  refine g_iadd K 671 dL_law_670 rfl ?_
  refine gl_sld K hz0 hX hbl 672 dL_law_671 rfl (fun v88 => ?_)
  refine g_aloadn K 0 rfl rfl 673 dL_law_672 rfl ?_
  refine g_iloadn K 3 rfl rfl 674 dL_law_673 rfl ?_
  refine g_iconst K (nI 2) ic_2 675 dL_law_674 rfl ?_
  refine g_iadd K 676 dL_law_675 rfl ?_
  refine gl_sld K hz0 hX hbl 677 dL_law_676 rfl (fun v89 => ?_)
  refine gl_callX K hK hz0 hsh hkz 680 (ctx_x0_heard P I v88 v89 hkz) (lw_V q1302 q1303 q1304 q151 q1305) wd_x0_heard (by decide) rfl (Nat.le_of_ble_eq_true rfl) dL_law_677 rfl (fun r90 _ => ?_)
  refine g_aloadn K 2 rfl rfl 681 dL_law_680 rfl ?_
  refine g_aloadn K 0 rfl rfl 682 dL_law_681 rfl ?_
  refine g_iloadn K 3 rfl rfl 683 dL_law_682 rfl ?_
  refine g_iconst K (nI 1) ic_1 684 dL_law_683 rfl ?_
  refine g_iadd K 685 dL_law_684 rfl ?_
  refine gl_sld K hz0 hX hbl 686 dL_law_685 rfl (fun v91 => ?_)
  refine g_aloadn K 0 rfl rfl 687 dL_law_686 rfl ?_
  refine g_iloadn K 3 rfl rfl 688 dL_law_687 rfl ?_
  refine g_iconst K (nI 2) ic_2 689 dL_law_688 rfl ?_
  refine g_iadd K 690 dL_law_689 rfl ?_
  refine gl_sld K hz0 hX hbl 691 dL_law_690 rfl (fun v92 => ?_)
  refine gl_callM K hK hz0 hsh 694 (ct_heard μ v91 v92) (lw_V q2078 q2079 q2080 q158 q2081) wd_heard (by decide) rfl (Nat.le_of_ble_eq_true rfl) dL_law_691 rfl (fun r93 _ => ?_)
  refine g_icmp_eq K 697 1387 dL_law_694 rfl (by decide) (fun _ => ?_) (fun _ => ?_)
  · refine g_iinc K (i + (nI 6)) 3 [(0, .ref b), (1, .ref z), (2, .ref (z + 2463)), (3, .int (i + (nI 6)))] [1, 2, 3, 0] rfl (by rw [ic_6]) (by decide) rfl 1390 dL_law_1387 rfl ?_
    refine g_goto K 18 dL_law_1390 (by decide) ?_
    exact hag ((i + (nI 6)), sz, sl, kd, P, r90.2, r93.2)
  · exact g_none
noncomputable def lc_15 (z em L : Nat) (xs : Nat → Int32) (again : Int32 × Nat × Nat × Kd × Ptr × Mem × Mem → Option Unit) (i : Int32) (sz sl : Nat) (kd : Kd) (P : Ptr) (I μ : Mem) : Option Unit :=
  (sc L xs (i + (nI 1))).bind fun v94 =>
  (sc L xs (i + (nI 2))).bind fun v95 =>
  (x0_ants kd P I z v94 v95).bind fun r96 =>
  (sc L xs (i + (nI 1))).bind fun v97 =>
  (sc L xs (i + (nI 2))).bind fun v98 =>
  (m_ants μ v97 v98).bind fun r99 =>
  if r96.1 = r99.1 then
  again ((i + (nI 6)), sz, sl, kd, P, r96.2, r99.2)
  else
  none
set_option maxRecDepth 100000 in
theorem gc_15 {p : Program} {l : Launch} {e : Env} {s : State} {m : MethodId} {args : Array Value} {below : List Frame} {meth : Method} {c : Code} {D : va_G} {cs : Cs} {b : Nat} {q : Unit → En} {z L : Nat} {xs : Nat → Int32} (K : CallFix p m c code 4 s args lw_all R_law) (hlt : l.stackTraces = false) (hK : xK D cs z s) (hz0 : s.heap.size = z) (hX : va_X b L xs s s.heap) (hbl : b < s.heap.size) (again : Int32 × Nat × Nat × Kd × Ptr × Mem × Mem → Option Unit) (hag : ∀ j : Int32 × Nat × Nat × Kd × Ptr × Mem × Mem, Gl p l e s m args below meth c D cs z 18 [(0, .ref b), (1, .ref z), (2, .ref (z + 2463)), (3, .int j.1)] [] ((j.2.1, j.2.2.1, j.2.2.2.1, j.2.2.2.2.1, j.2.2.2.2.2.1), j.2.2.2.2.2.2) q (again j)) (i : Int32) (sz sl : Nat) (kd : Kd) (P : Ptr) (I μ : Mem) (hsh : Shp z kd) (hkz : kd z = (0, 0, 0)) : Gl p l e s m args below meth c D cs z 699 [(0, .ref b), (1, .ref z), (2, .ref (z + 2463)), (3, .int i)] [] ((sz, sl, kd, P, I), μ) q (lc_15 z (cs 300) L xs again i sz sl kd P I μ) := by
  unfold lc_15
  refine g_aloadn K 1 rfl rfl 700 dL_law_699 rfl ?_
  refine g_aloadn K 0 rfl rfl 701 dL_law_700 rfl ?_
  refine g_iloadn K 3 rfl rfl 702 dL_law_701 rfl ?_
  refine g_iconst K (nI 1) ic_1 703 dL_law_702 rfl ?_
  refine g_iadd K 704 dL_law_703 rfl ?_
  refine gl_sld K hz0 hX hbl 705 dL_law_704 rfl (fun v94 => ?_)
  refine g_aloadn K 0 rfl rfl 706 dL_law_705 rfl ?_
  refine g_iloadn K 3 rfl rfl 707 dL_law_706 rfl ?_
  refine g_iconst K (nI 2) ic_2 708 dL_law_707 rfl ?_
  refine g_iadd K 709 dL_law_708 rfl ?_
  refine gl_sld K hz0 hX hbl 710 dL_law_709 rfl (fun v95 => ?_)
  refine gl_callX K hK hz0 hsh hkz 713 (ctx_x0_ants P I v94 v95 hkz) (lw_V q1298 q1299 q1300 q151 q1301) wd_x0_ants (by decide) rfl (Nat.le_of_ble_eq_true rfl) dL_law_710 rfl (fun r96 _ => ?_)
  refine g_aloadn K 2 rfl rfl 714 dL_law_713 rfl ?_
  refine g_aloadn K 0 rfl rfl 715 dL_law_714 rfl ?_
  refine g_iloadn K 3 rfl rfl 716 dL_law_715 rfl ?_
  refine g_iconst K (nI 1) ic_1 717 dL_law_716 rfl ?_
  refine g_iadd K 718 dL_law_717 rfl ?_
  refine gl_sld K hz0 hX hbl 719 dL_law_718 rfl (fun v97 => ?_)
  refine g_aloadn K 0 rfl rfl 720 dL_law_719 rfl ?_
  refine g_iloadn K 3 rfl rfl 721 dL_law_720 rfl ?_
  refine g_iconst K (nI 2) ic_2 722 dL_law_721 rfl ?_
  refine g_iadd K 723 dL_law_722 rfl ?_
  refine gl_sld K hz0 hX hbl 724 dL_law_723 rfl (fun v98 => ?_)
  refine gl_callM K hK hz0 hsh 727 (ct_ants μ v97 v98) (lw_V q2082 q2083 q2084 q158 q2085) wd_ants (by decide) rfl (Nat.le_of_ble_eq_true rfl) dL_law_724 rfl (fun r99 _ => ?_)
  refine g_icmp_eq K 730 1387 dL_law_727 rfl (by decide) (fun _ => ?_) (fun _ => ?_)
  · refine g_iinc K (i + (nI 6)) 3 [(0, .ref b), (1, .ref z), (2, .ref (z + 2463)), (3, .int (i + (nI 6)))] [1, 2, 3, 0] rfl (by rw [ic_6]) (by decide) rfl 1390 dL_law_1387 rfl ?_
    refine g_goto K 18 dL_law_1390 (by decide) ?_
    exact hag ((i + (nI 6)), sz, sl, kd, P, r96.2, r99.2)
  · exact g_none
noncomputable def lc_16 (z em L : Nat) (xs : Nat → Int32) (again : Int32 × Nat × Nat × Kd × Ptr × Mem × Mem → Option Unit) (i : Int32) (sz sl : Nat) (kd : Kd) (P : Ptr) (I μ : Mem) : Option Unit :=
  (sc L xs (i + (nI 1))).bind fun v100 =>
  (x0_piece I z v100).bind fun r101 =>
  (sc L xs (i + (nI 1))).bind fun v102 =>
  (m_piece μ v102).bind fun r103 =>
  if r101.1 = r103.1 then
  again ((i + (nI 6)), sz, sl, kd, P, r101.2, r103.2)
  else
  none
set_option maxRecDepth 100000 in
theorem gc_16 {p : Program} {l : Launch} {e : Env} {s : State} {m : MethodId} {args : Array Value} {below : List Frame} {meth : Method} {c : Code} {D : va_G} {cs : Cs} {b : Nat} {q : Unit → En} {z L : Nat} {xs : Nat → Int32} (K : CallFix p m c code 4 s args lw_all R_law) (hlt : l.stackTraces = false) (hK : xK D cs z s) (hz0 : s.heap.size = z) (hX : va_X b L xs s s.heap) (hbl : b < s.heap.size) (again : Int32 × Nat × Nat × Kd × Ptr × Mem × Mem → Option Unit) (hag : ∀ j : Int32 × Nat × Nat × Kd × Ptr × Mem × Mem, Gl p l e s m args below meth c D cs z 18 [(0, .ref b), (1, .ref z), (2, .ref (z + 2463)), (3, .int j.1)] [] ((j.2.1, j.2.2.1, j.2.2.2.1, j.2.2.2.2.1, j.2.2.2.2.2.1), j.2.2.2.2.2.2) q (again j)) (i : Int32) (sz sl : Nat) (kd : Kd) (P : Ptr) (I μ : Mem) (hsh : Shp z kd) (hkz : kd z = (0, 0, 0)) : Gl p l e s m args below meth c D cs z 732 [(0, .ref b), (1, .ref z), (2, .ref (z + 2463)), (3, .int i)] [] ((sz, sl, kd, P, I), μ) q (lc_16 z (cs 300) L xs again i sz sl kd P I μ) := by
  unfold lc_16
  refine g_aloadn K 1 rfl rfl 733 dL_law_732 rfl ?_
  refine g_aloadn K 0 rfl rfl 734 dL_law_733 rfl ?_
  refine g_iloadn K 3 rfl rfl 735 dL_law_734 rfl ?_
  refine g_iconst K (nI 1) ic_1 736 dL_law_735 rfl ?_
  refine g_iadd K 737 dL_law_736 rfl ?_
  refine gl_sld K hz0 hX hbl 738 dL_law_737 rfl (fun v100 => ?_)
  refine gl_callX K hK hz0 hsh hkz 741 (ctx_x0_piece P I v100 hkz) (lw_V q1306 q1307 q1308 q151 q1309) wd_x0_piece (by decide) rfl (Nat.le_of_ble_eq_true rfl) dL_law_738 rfl (fun r101 _ => ?_)
  refine g_aloadn K 2 rfl rfl 742 dL_law_741 rfl ?_
  refine g_aloadn K 0 rfl rfl 743 dL_law_742 rfl ?_
  refine g_iloadn K 3 rfl rfl 744 dL_law_743 rfl ?_
  refine g_iconst K (nI 1) ic_1 745 dL_law_744 rfl ?_
  refine g_iadd K 746 dL_law_745 rfl ?_
  refine gl_sld K hz0 hX hbl 747 dL_law_746 rfl (fun v102 => ?_)
  refine gl_callM K hK hz0 hsh 750 (ct_piece μ v102) (lw_V q2086 q2087 q2088 q158 q2089) wd_piece (by decide) rfl (Nat.le_of_ble_eq_true rfl) dL_law_747 rfl (fun r103 _ => ?_)
  refine g_icmp_eq K 753 1387 dL_law_750 rfl (by decide) (fun _ => ?_) (fun _ => ?_)
  · refine g_iinc K (i + (nI 6)) 3 [(0, .ref b), (1, .ref z), (2, .ref (z + 2463)), (3, .int (i + (nI 6)))] [1, 2, 3, 0] rfl (by rw [ic_6]) (by decide) rfl 1390 dL_law_1387 rfl ?_
    refine g_goto K 18 dL_law_1390 (by decide) ?_
    exact hag ((i + (nI 6)), sz, sl, kd, P, r101.2, r103.2)
  · exact g_none
noncomputable def lc_17 (z em L : Nat) (xs : Nat → Int32) (again : Int32 × Nat × Nat × Kd × Ptr × Mem × Mem → Option Unit) (i : Int32) (sz sl : Nat) (kd : Kd) (P : Ptr) (I μ : Mem) : Option Unit :=
  (sc L xs (i + (nI 1))).bind fun v104 =>
  (sc L xs (i + (nI 2))).bind fun v105 =>
  (x0_plate I z v104 v105).bind fun r106 =>
  (sc L xs (i + (nI 1))).bind fun v107 =>
  (sc L xs (i + (nI 2))).bind fun v108 =>
  (m_plate μ v107 v108).bind fun r109 =>
  if r106.1 = r109.1 then
  again ((i + (nI 6)), sz, sl, kd, P, r106.2, r109.2)
  else
  none
set_option maxRecDepth 100000 in
theorem gc_17 {p : Program} {l : Launch} {e : Env} {s : State} {m : MethodId} {args : Array Value} {below : List Frame} {meth : Method} {c : Code} {D : va_G} {cs : Cs} {b : Nat} {q : Unit → En} {z L : Nat} {xs : Nat → Int32} (K : CallFix p m c code 4 s args lw_all R_law) (hlt : l.stackTraces = false) (hK : xK D cs z s) (hz0 : s.heap.size = z) (hX : va_X b L xs s s.heap) (hbl : b < s.heap.size) (again : Int32 × Nat × Nat × Kd × Ptr × Mem × Mem → Option Unit) (hag : ∀ j : Int32 × Nat × Nat × Kd × Ptr × Mem × Mem, Gl p l e s m args below meth c D cs z 18 [(0, .ref b), (1, .ref z), (2, .ref (z + 2463)), (3, .int j.1)] [] ((j.2.1, j.2.2.1, j.2.2.2.1, j.2.2.2.2.1, j.2.2.2.2.2.1), j.2.2.2.2.2.2) q (again j)) (i : Int32) (sz sl : Nat) (kd : Kd) (P : Ptr) (I μ : Mem) (hsh : Shp z kd) (hkz : kd z = (0, 0, 0)) : Gl p l e s m args below meth c D cs z 755 [(0, .ref b), (1, .ref z), (2, .ref (z + 2463)), (3, .int i)] [] ((sz, sl, kd, P, I), μ) q (lc_17 z (cs 300) L xs again i sz sl kd P I μ) := by
  unfold lc_17
  refine g_aloadn K 1 rfl rfl 756 dL_law_755 rfl ?_
  refine g_aloadn K 0 rfl rfl 757 dL_law_756 rfl ?_
  refine g_iloadn K 3 rfl rfl 758 dL_law_757 rfl ?_
  refine g_iconst K (nI 1) ic_1 759 dL_law_758 rfl ?_
  refine g_iadd K 760 dL_law_759 rfl ?_
  refine gl_sld K hz0 hX hbl 761 dL_law_760 rfl (fun v104 => ?_)
  refine g_aloadn K 0 rfl rfl 762 dL_law_761 rfl ?_
  refine g_iloadn K 3 rfl rfl 763 dL_law_762 rfl ?_
  refine g_iconst K (nI 2) ic_2 764 dL_law_763 rfl ?_
  refine g_iadd K 765 dL_law_764 rfl ?_
  refine gl_sld K hz0 hX hbl 766 dL_law_765 rfl (fun v105 => ?_)
  refine gl_callX K hK hz0 hsh hkz 769 (ctx_x0_plate P I v104 v105 hkz) (lw_V q1318 q1319 q1320 q151 q1321) wd_x0_plate (by decide) rfl (Nat.le_of_ble_eq_true rfl) dL_law_766 rfl (fun r106 _ => ?_)
  refine g_aloadn K 2 rfl rfl 770 dL_law_769 rfl ?_
  refine g_aloadn K 0 rfl rfl 771 dL_law_770 rfl ?_
  refine g_iloadn K 3 rfl rfl 772 dL_law_771 rfl ?_
  refine g_iconst K (nI 1) ic_1 773 dL_law_772 rfl ?_
  refine g_iadd K 774 dL_law_773 rfl ?_
  refine gl_sld K hz0 hX hbl 775 dL_law_774 rfl (fun v107 => ?_)
  refine g_aloadn K 0 rfl rfl 776 dL_law_775 rfl ?_
  refine g_iloadn K 3 rfl rfl 777 dL_law_776 rfl ?_
  refine g_iconst K (nI 2) ic_2 778 dL_law_777 rfl ?_
  refine g_iadd K 779 dL_law_778 rfl ?_
  refine gl_sld K hz0 hX hbl 780 dL_law_779 rfl (fun v108 => ?_)
  refine gl_callM K hK hz0 hsh 783 (ct_plate μ v107 v108) (lw_V q2090 q2091 q2092 q158 q2093) wd_plate (by decide) rfl (Nat.le_of_ble_eq_true rfl) dL_law_780 rfl (fun r109 _ => ?_)
  refine g_icmp_eq K 786 1387 dL_law_783 rfl (by decide) (fun _ => ?_) (fun _ => ?_)
  · refine g_iinc K (i + (nI 6)) 3 [(0, .ref b), (1, .ref z), (2, .ref (z + 2463)), (3, .int (i + (nI 6)))] [1, 2, 3, 0] rfl (by rw [ic_6]) (by decide) rfl 1390 dL_law_1387 rfl ?_
    refine g_goto K 18 dL_law_1390 (by decide) ?_
    exact hag ((i + (nI 6)), sz, sl, kd, P, r106.2, r109.2)
  · exact g_none
noncomputable def lc_18 (z em L : Nat) (xs : Nat → Int32) (again : Int32 × Nat × Nat × Kd × Ptr × Mem × Mem → Option Unit) (i : Int32) (sz sl : Nat) (kd : Kd) (P : Ptr) (I μ : Mem) : Option Unit :=
  (sc L xs (i + (nI 1))).bind fun v110 =>
  (x0_dough I z v110).bind fun r111 =>
  (sc L xs (i + (nI 1))).bind fun v112 =>
  (m_dough μ v112).bind fun r113 =>
  if r111.1 = r113.1 then
  again ((i + (nI 6)), sz, sl, kd, P, r111.2, r113.2)
  else
  none
set_option maxRecDepth 100000 in
theorem gc_18 {p : Program} {l : Launch} {e : Env} {s : State} {m : MethodId} {args : Array Value} {below : List Frame} {meth : Method} {c : Code} {D : va_G} {cs : Cs} {b : Nat} {q : Unit → En} {z L : Nat} {xs : Nat → Int32} (K : CallFix p m c code 4 s args lw_all R_law) (hlt : l.stackTraces = false) (hK : xK D cs z s) (hz0 : s.heap.size = z) (hX : va_X b L xs s s.heap) (hbl : b < s.heap.size) (again : Int32 × Nat × Nat × Kd × Ptr × Mem × Mem → Option Unit) (hag : ∀ j : Int32 × Nat × Nat × Kd × Ptr × Mem × Mem, Gl p l e s m args below meth c D cs z 18 [(0, .ref b), (1, .ref z), (2, .ref (z + 2463)), (3, .int j.1)] [] ((j.2.1, j.2.2.1, j.2.2.2.1, j.2.2.2.2.1, j.2.2.2.2.2.1), j.2.2.2.2.2.2) q (again j)) (i : Int32) (sz sl : Nat) (kd : Kd) (P : Ptr) (I μ : Mem) (hsh : Shp z kd) (hkz : kd z = (0, 0, 0)) : Gl p l e s m args below meth c D cs z 788 [(0, .ref b), (1, .ref z), (2, .ref (z + 2463)), (3, .int i)] [] ((sz, sl, kd, P, I), μ) q (lc_18 z (cs 300) L xs again i sz sl kd P I μ) := by
  unfold lc_18
  refine g_aloadn K 1 rfl rfl 789 dL_law_788 rfl ?_
  refine g_aloadn K 0 rfl rfl 790 dL_law_789 rfl ?_
  refine g_iloadn K 3 rfl rfl 791 dL_law_790 rfl ?_
  refine g_iconst K (nI 1) ic_1 792 dL_law_791 rfl ?_
  refine g_iadd K 793 dL_law_792 rfl ?_
  refine gl_sld K hz0 hX hbl 794 dL_law_793 rfl (fun v110 => ?_)
  refine gl_callX K hK hz0 hsh hkz 797 (ctx_x0_dough P I v110 hkz) (lw_V q1334 q1335 q1336 q151 q1337) wd_x0_dough (by decide) rfl (Nat.le_of_ble_eq_true rfl) dL_law_794 rfl (fun r111 _ => ?_)
  refine g_aloadn K 2 rfl rfl 798 dL_law_797 rfl ?_
  refine g_aloadn K 0 rfl rfl 799 dL_law_798 rfl ?_
  refine g_iloadn K 3 rfl rfl 800 dL_law_799 rfl ?_
  refine g_iconst K (nI 1) ic_1 801 dL_law_800 rfl ?_
  refine g_iadd K 802 dL_law_801 rfl ?_
  refine gl_sld K hz0 hX hbl 803 dL_law_802 rfl (fun v112 => ?_)
  refine gl_callM K hK hz0 hsh 806 (ct_dough μ v112) (lw_V q2102 q2103 q2104 q158 q2105) wd_dough (by decide) rfl (Nat.le_of_ble_eq_true rfl) dL_law_803 rfl (fun r113 _ => ?_)
  refine g_icmp_eq K 809 1387 dL_law_806 rfl (by decide) (fun _ => ?_) (fun _ => ?_)
  · refine g_iinc K (i + (nI 6)) 3 [(0, .ref b), (1, .ref z), (2, .ref (z + 2463)), (3, .int (i + (nI 6)))] [1, 2, 3, 0] rfl (by rw [ic_6]) (by decide) rfl 1390 dL_law_1387 rfl ?_
    refine g_goto K 18 dL_law_1390 (by decide) ?_
    exact hag ((i + (nI 6)), sz, sl, kd, P, r111.2, r113.2)
  · exact g_none
noncomputable def lc_19 (z em L : Nat) (xs : Nat → Int32) (again : Int32 × Nat × Nat × Kd × Ptr × Mem × Mem → Option Unit) (i : Int32) (sz sl : Nat) (kd : Kd) (P : Ptr) (I μ : Mem) : Option Unit :=
  (sc L xs (i + (nI 1))).bind fun v114 =>
  (sc L xs (i + (nI 2))).bind fun v115 =>
  cal (x0_pans z sz sl kd P I v114 v115) fun v116 sz117 sl117 kd117 P117 I117 =>
  chk (Shp z kd117 ∧ kd117 z = (0, 0, 0)) (
  (sc L xs (i + (nI 1))).bind fun v120 =>
  (sc L xs (i + (nI 2))).bind fun v121 =>
  (m_pans μ v120 v121).bind fun r122 =>
  if v116 = r122.1 then
  again ((i + (nI 6)), sz117, sl117, kd117, P117, I117, r122.2)
  else
  none)
set_option maxRecDepth 100000 in
theorem gc_19 {p : Program} {l : Launch} {e : Env} {s : State} {m : MethodId} {args : Array Value} {below : List Frame} {meth : Method} {c : Code} {D : va_G} {cs : Cs} {b : Nat} {q : Unit → En} {z L : Nat} {xs : Nat → Int32} (K : CallFix p m c code 4 s args lw_all R_law) (hlt : l.stackTraces = false) (hK : xK D cs z s) (hz0 : s.heap.size = z) (hX : va_X b L xs s s.heap) (hbl : b < s.heap.size) (again : Int32 × Nat × Nat × Kd × Ptr × Mem × Mem → Option Unit) (hag : ∀ j : Int32 × Nat × Nat × Kd × Ptr × Mem × Mem, Gl p l e s m args below meth c D cs z 18 [(0, .ref b), (1, .ref z), (2, .ref (z + 2463)), (3, .int j.1)] [] ((j.2.1, j.2.2.1, j.2.2.2.1, j.2.2.2.2.1, j.2.2.2.2.2.1), j.2.2.2.2.2.2) q (again j)) (i : Int32) (sz sl : Nat) (kd : Kd) (P : Ptr) (I μ : Mem) (hsh : Shp z kd) (hkz : kd z = (0, 0, 0)) : Gl p l e s m args below meth c D cs z 811 [(0, .ref b), (1, .ref z), (2, .ref (z + 2463)), (3, .int i)] [] ((sz, sl, kd, P, I), μ) q (lc_19 z (cs 300) L xs again i sz sl kd P I μ) := by
  unfold lc_19
  refine g_aloadn K 1 rfl rfl 812 dL_law_811 rfl ?_
  refine g_aloadn K 0 rfl rfl 813 dL_law_812 rfl ?_
  refine g_iloadn K 3 rfl rfl 814 dL_law_813 rfl ?_
  refine g_iconst K (nI 1) ic_1 815 dL_law_814 rfl ?_
  refine g_iadd K 816 dL_law_815 rfl ?_
  refine gl_sld K hz0 hX hbl 817 dL_law_816 rfl (fun v114 => ?_)
  refine g_aloadn K 0 rfl rfl 818 dL_law_817 rfl ?_
  refine g_iloadn K 3 rfl rfl 819 dL_law_818 rfl ?_
  refine g_iconst K (nI 2) ic_2 820 dL_law_819 rfl ?_
  refine g_iadd K 821 dL_law_820 rfl ?_
  refine gl_sld K hz0 hX hbl 822 dL_law_821 rfl (fun v115 => ?_)
  refine gl_callB K hK hz0 hlt hsh hkz 825 (ct_x0_pans sz sl kd P I v114 v115 hkz) (lw_V q1338 q1339 q1340 q151 q1341) wdb_x0_pans (by decide) rfl (Nat.le_of_ble_eq_true rfl) dL_law_822 rfl (fun v116 sz117 sl117 kd117 P117 I117 _ => ?_)
  refine g_chk (fun hc => ?_)
  obtain ⟨hs118, hk119⟩ := hc
  refine g_aloadn K 2 rfl rfl 826 dL_law_825 rfl ?_
  refine g_aloadn K 0 rfl rfl 827 dL_law_826 rfl ?_
  refine g_iloadn K 3 rfl rfl 828 dL_law_827 rfl ?_
  refine g_iconst K (nI 1) ic_1 829 dL_law_828 rfl ?_
  refine g_iadd K 830 dL_law_829 rfl ?_
  refine gl_sld K hz0 hX hbl 831 dL_law_830 rfl (fun v120 => ?_)
  refine g_aloadn K 0 rfl rfl 832 dL_law_831 rfl ?_
  refine g_iloadn K 3 rfl rfl 833 dL_law_832 rfl ?_
  refine g_iconst K (nI 2) ic_2 834 dL_law_833 rfl ?_
  refine g_iadd K 835 dL_law_834 rfl ?_
  refine gl_sld K hz0 hX hbl 836 dL_law_835 rfl (fun v121 => ?_)
  refine gl_callM K hK hz0 hs118 839 (ct_pans μ v120 v121) (lw_V q2106 q2107 q2108 q158 q2109) wd_pans (by decide) rfl (Nat.le_of_ble_eq_true rfl) dL_law_836 rfl (fun r122 _ => ?_)
  refine g_icmp_eq K 842 1387 dL_law_839 rfl (by decide) (fun _ => ?_) (fun _ => ?_)
  · refine g_iinc K (i + (nI 6)) 3 [(0, .ref b), (1, .ref z), (2, .ref (z + 2463)), (3, .int (i + (nI 6)))] [1, 2, 3, 0] rfl (by rw [ic_6]) (by decide) rfl 1390 dL_law_1387 rfl ?_
    refine g_goto K 18 dL_law_1390 (by decide) ?_
    exact hag ((i + (nI 6)), sz117, sl117, kd117, P117, I117, r122.2)
  · exact g_none
noncomputable def lc_20 (z em L : Nat) (xs : Nat → Int32) (again : Int32 × Nat × Nat × Kd × Ptr × Mem × Mem → Option Unit) (i : Int32) (sz sl : Nat) (kd : Kd) (P : Ptr) (I μ : Mem) : Option Unit :=
  (sc L xs (i + (nI 1))).bind fun v123 =>
  (sc L xs (i + (nI 2))).bind fun v124 =>
  (sc L xs (i + (nI 3))).bind fun v125 =>
  (sc L xs (i + (nI 4))).bind fun v126 =>
  (x0_mortgage I z v123 v124 v125 v126).bind fun r127 =>
  (sc L xs (i + (nI 1))).bind fun v128 =>
  (sc L xs (i + (nI 2))).bind fun v129 =>
  (sc L xs (i + (nI 3))).bind fun v130 =>
  (sc L xs (i + (nI 4))).bind fun v131 =>
  (m_mortgage μ v128 v129 v130 v131).bind fun r132 =>
  if r127 = r132.1 then
  again ((i + (nI 6)), sz, sl, kd, P, I, r132.2)
  else
  none
set_option maxRecDepth 100000 in
theorem gc_20 {p : Program} {l : Launch} {e : Env} {s : State} {m : MethodId} {args : Array Value} {below : List Frame} {meth : Method} {c : Code} {D : va_G} {cs : Cs} {b : Nat} {q : Unit → En} {z L : Nat} {xs : Nat → Int32} (K : CallFix p m c code 4 s args lw_all R_law) (hlt : l.stackTraces = false) (hK : xK D cs z s) (hz0 : s.heap.size = z) (hX : va_X b L xs s s.heap) (hbl : b < s.heap.size) (again : Int32 × Nat × Nat × Kd × Ptr × Mem × Mem → Option Unit) (hag : ∀ j : Int32 × Nat × Nat × Kd × Ptr × Mem × Mem, Gl p l e s m args below meth c D cs z 18 [(0, .ref b), (1, .ref z), (2, .ref (z + 2463)), (3, .int j.1)] [] ((j.2.1, j.2.2.1, j.2.2.2.1, j.2.2.2.2.1, j.2.2.2.2.2.1), j.2.2.2.2.2.2) q (again j)) (i : Int32) (sz sl : Nat) (kd : Kd) (P : Ptr) (I μ : Mem) (hsh : Shp z kd) (hkz : kd z = (0, 0, 0)) : Gl p l e s m args below meth c D cs z 844 [(0, .ref b), (1, .ref z), (2, .ref (z + 2463)), (3, .int i)] [] ((sz, sl, kd, P, I), μ) q (lc_20 z (cs 300) L xs again i sz sl kd P I μ) := by
  unfold lc_20
  refine g_aloadn K 1 rfl rfl 845 dL_law_844 rfl ?_
  refine g_aloadn K 0 rfl rfl 846 dL_law_845 rfl ?_
  refine g_iloadn K 3 rfl rfl 847 dL_law_846 rfl ?_
  refine g_iconst K (nI 1) ic_1 848 dL_law_847 rfl ?_
  refine g_iadd K 849 dL_law_848 rfl ?_
  refine gl_sld K hz0 hX hbl 850 dL_law_849 rfl (fun v123 => ?_)
  refine g_aloadn K 0 rfl rfl 851 dL_law_850 rfl ?_
  refine g_iloadn K 3 rfl rfl 852 dL_law_851 rfl ?_
  refine g_iconst K (nI 2) ic_2 853 dL_law_852 rfl ?_
  refine g_iadd K 854 dL_law_853 rfl ?_
  refine gl_sld K hz0 hX hbl 855 dL_law_854 rfl (fun v124 => ?_)
  refine g_aloadn K 0 rfl rfl 856 dL_law_855 rfl ?_
  refine g_iloadn K 3 rfl rfl 857 dL_law_856 rfl ?_
  refine g_iconst K (nI 3) ic_3 858 dL_law_857 rfl ?_
  refine g_iadd K 859 dL_law_858 rfl ?_
  refine gl_sld K hz0 hX hbl 860 dL_law_859 rfl (fun v125 => ?_)
  refine g_aloadn K 0 rfl rfl 861 dL_law_860 rfl ?_
  refine g_iloadn K 3 rfl rfl 862 dL_law_861 rfl ?_
  refine g_iconst K (nI 4) ic_4 863 dL_law_862 rfl ?_
  refine g_iadd K 864 dL_law_863 rfl ?_
  refine gl_sld K hz0 hX hbl 865 dL_law_864 rfl (fun v126 => ?_)
  refine gl_callX K hK hz0 hsh hkz 868 (ctx_x0_mortgage P I v123 v124 v125 v126 hkz) (lw_V q1350 q1351 q1352 q151 q1353) wd_x0_mortgage (by decide) rfl (Nat.le_of_ble_eq_true rfl) dL_law_865 rfl (fun r127 _ => ?_)
  refine g_aloadn K 2 rfl rfl 869 dL_law_868 rfl ?_
  refine g_aloadn K 0 rfl rfl 870 dL_law_869 rfl ?_
  refine g_iloadn K 3 rfl rfl 871 dL_law_870 rfl ?_
  refine g_iconst K (nI 1) ic_1 872 dL_law_871 rfl ?_
  refine g_iadd K 873 dL_law_872 rfl ?_
  refine gl_sld K hz0 hX hbl 874 dL_law_873 rfl (fun v128 => ?_)
  refine g_aloadn K 0 rfl rfl 875 dL_law_874 rfl ?_
  refine g_iloadn K 3 rfl rfl 876 dL_law_875 rfl ?_
  refine g_iconst K (nI 2) ic_2 877 dL_law_876 rfl ?_
  refine g_iadd K 878 dL_law_877 rfl ?_
  refine gl_sld K hz0 hX hbl 879 dL_law_878 rfl (fun v129 => ?_)
  refine g_aloadn K 0 rfl rfl 880 dL_law_879 rfl ?_
  refine g_iloadn K 3 rfl rfl 881 dL_law_880 rfl ?_
  refine g_iconst K (nI 3) ic_3 882 dL_law_881 rfl ?_
  refine g_iadd K 883 dL_law_882 rfl ?_
  refine gl_sld K hz0 hX hbl 884 dL_law_883 rfl (fun v130 => ?_)
  refine g_aloadn K 0 rfl rfl 885 dL_law_884 rfl ?_
  refine g_iloadn K 3 rfl rfl 886 dL_law_885 rfl ?_
  refine g_iconst K (nI 4) ic_4 887 dL_law_886 rfl ?_
  refine g_iadd K 888 dL_law_887 rfl ?_
  refine gl_sld K hz0 hX hbl 889 dL_law_888 rfl (fun v131 => ?_)
  refine gl_callM K hK hz0 hsh 892 (ct_mortgage μ v128 v129 v130 v131) (lw_V q2122 q2123 q2124 q158 q2125) wd_mortgage (by decide) rfl (Nat.le_of_ble_eq_true rfl) dL_law_889 rfl (fun r132 _ => ?_)
  refine g_icmp_eq K 895 1387 dL_law_892 rfl (by decide) (fun _ => ?_) (fun _ => ?_)
  · refine g_iinc K (i + (nI 6)) 3 [(0, .ref b), (1, .ref z), (2, .ref (z + 2463)), (3, .int (i + (nI 6)))] [1, 2, 3, 0] rfl (by rw [ic_6]) (by decide) rfl 1390 dL_law_1387 rfl ?_
    refine g_goto K 18 dL_law_1390 (by decide) ?_
    exact hag ((i + (nI 6)), sz, sl, kd, P, I, r132.2)
  · exact g_none
noncomputable def lc_21 (z em L : Nat) (xs : Nat → Int32) (again : Int32 × Nat × Nat × Kd × Ptr × Mem × Mem → Option Unit) (i : Int32) (sz sl : Nat) (kd : Kd) (P : Ptr) (I μ : Mem) : Option Unit :=
  (sc L xs (i + (nI 1))).bind fun v133 =>
  (x0_mark I z v133).bind fun r134 =>
  (sc L xs (i + (nI 1))).bind fun v135 =>
  (m_mark μ v135).bind fun r136 =>
  if r134.1 = r136.1 then
  again ((i + (nI 6)), sz, sl, kd, P, r134.2, r136.2)
  else
  none
set_option maxRecDepth 100000 in
theorem gc_21 {p : Program} {l : Launch} {e : Env} {s : State} {m : MethodId} {args : Array Value} {below : List Frame} {meth : Method} {c : Code} {D : va_G} {cs : Cs} {b : Nat} {q : Unit → En} {z L : Nat} {xs : Nat → Int32} (K : CallFix p m c code 4 s args lw_all R_law) (hlt : l.stackTraces = false) (hK : xK D cs z s) (hz0 : s.heap.size = z) (hX : va_X b L xs s s.heap) (hbl : b < s.heap.size) (again : Int32 × Nat × Nat × Kd × Ptr × Mem × Mem → Option Unit) (hag : ∀ j : Int32 × Nat × Nat × Kd × Ptr × Mem × Mem, Gl p l e s m args below meth c D cs z 18 [(0, .ref b), (1, .ref z), (2, .ref (z + 2463)), (3, .int j.1)] [] ((j.2.1, j.2.2.1, j.2.2.2.1, j.2.2.2.2.1, j.2.2.2.2.2.1), j.2.2.2.2.2.2) q (again j)) (i : Int32) (sz sl : Nat) (kd : Kd) (P : Ptr) (I μ : Mem) (hsh : Shp z kd) (hkz : kd z = (0, 0, 0)) : Gl p l e s m args below meth c D cs z 897 [(0, .ref b), (1, .ref z), (2, .ref (z + 2463)), (3, .int i)] [] ((sz, sl, kd, P, I), μ) q (lc_21 z (cs 300) L xs again i sz sl kd P I μ) := by
  unfold lc_21
  refine g_aloadn K 1 rfl rfl 898 dL_law_897 rfl ?_
  refine g_aloadn K 0 rfl rfl 899 dL_law_898 rfl ?_
  refine g_iloadn K 3 rfl rfl 900 dL_law_899 rfl ?_
  refine g_iconst K (nI 1) ic_1 901 dL_law_900 rfl ?_
  refine g_iadd K 902 dL_law_901 rfl ?_
  refine gl_sld K hz0 hX hbl 903 dL_law_902 rfl (fun v133 => ?_)
  refine gl_callX K hK hz0 hsh hkz 906 (ctx_x0_mark P I v133 hkz) (lw_V q1354 q1355 q1356 q151 q1357) wd_x0_mark (by decide) rfl (Nat.le_of_ble_eq_true rfl) dL_law_903 rfl (fun r134 _ => ?_)
  refine g_aloadn K 2 rfl rfl 907 dL_law_906 rfl ?_
  refine g_aloadn K 0 rfl rfl 908 dL_law_907 rfl ?_
  refine g_iloadn K 3 rfl rfl 909 dL_law_908 rfl ?_
  refine g_iconst K (nI 1) ic_1 910 dL_law_909 rfl ?_
  refine g_iadd K 911 dL_law_910 rfl ?_
  refine gl_sld K hz0 hX hbl 912 dL_law_911 rfl (fun v135 => ?_)
  refine gl_callM K hK hz0 hsh 915 (ct_mark μ v135) (lw_V q2126 q2127 q2128 q158 q2129) wd_mark (by decide) rfl (Nat.le_of_ble_eq_true rfl) dL_law_912 rfl (fun r136 _ => ?_)
  refine g_icmp_eq K 918 1387 dL_law_915 rfl (by decide) (fun _ => ?_) (fun _ => ?_)
  · refine g_iinc K (i + (nI 6)) 3 [(0, .ref b), (1, .ref z), (2, .ref (z + 2463)), (3, .int (i + (nI 6)))] [1, 2, 3, 0] rfl (by rw [ic_6]) (by decide) rfl 1390 dL_law_1387 rfl ?_
    refine g_goto K 18 dL_law_1390 (by decide) ?_
    exact hag ((i + (nI 6)), sz, sl, kd, P, r134.2, r136.2)
  · exact g_none
noncomputable def lc_22 (z em L : Nat) (xs : Nat → Int32) (again : Int32 × Nat × Nat × Kd × Ptr × Mem × Mem → Option Unit) (i : Int32) (sz sl : Nat) (kd : Kd) (P : Ptr) (I μ : Mem) : Option Unit :=
  (sc L xs (i + (nI 1))).bind fun v137 =>
  (x0_measures I z v137).bind fun r138 =>
  (sc L xs (i + (nI 1))).bind fun v139 =>
  (m_measures μ v139).bind fun r140 =>
  if r138 = r140.1 then
  again ((i + (nI 6)), sz, sl, kd, P, I, r140.2)
  else
  none
set_option maxRecDepth 100000 in
theorem gc_22 {p : Program} {l : Launch} {e : Env} {s : State} {m : MethodId} {args : Array Value} {below : List Frame} {meth : Method} {c : Code} {D : va_G} {cs : Cs} {b : Nat} {q : Unit → En} {z L : Nat} {xs : Nat → Int32} (K : CallFix p m c code 4 s args lw_all R_law) (hlt : l.stackTraces = false) (hK : xK D cs z s) (hz0 : s.heap.size = z) (hX : va_X b L xs s s.heap) (hbl : b < s.heap.size) (again : Int32 × Nat × Nat × Kd × Ptr × Mem × Mem → Option Unit) (hag : ∀ j : Int32 × Nat × Nat × Kd × Ptr × Mem × Mem, Gl p l e s m args below meth c D cs z 18 [(0, .ref b), (1, .ref z), (2, .ref (z + 2463)), (3, .int j.1)] [] ((j.2.1, j.2.2.1, j.2.2.2.1, j.2.2.2.2.1, j.2.2.2.2.2.1), j.2.2.2.2.2.2) q (again j)) (i : Int32) (sz sl : Nat) (kd : Kd) (P : Ptr) (I μ : Mem) (hsh : Shp z kd) (hkz : kd z = (0, 0, 0)) : Gl p l e s m args below meth c D cs z 920 [(0, .ref b), (1, .ref z), (2, .ref (z + 2463)), (3, .int i)] [] ((sz, sl, kd, P, I), μ) q (lc_22 z (cs 300) L xs again i sz sl kd P I μ) := by
  unfold lc_22
  refine g_aloadn K 1 rfl rfl 921 dL_law_920 rfl ?_
  refine g_aloadn K 0 rfl rfl 922 dL_law_921 rfl ?_
  refine g_iloadn K 3 rfl rfl 923 dL_law_922 rfl ?_
  refine g_iconst K (nI 1) ic_1 924 dL_law_923 rfl ?_
  refine g_iadd K 925 dL_law_924 rfl ?_
  refine gl_sld K hz0 hX hbl 926 dL_law_925 rfl (fun v137 => ?_)
  refine gl_callX K hK hz0 hsh hkz 929 (ctx_x0_measures P I v137 hkz) (lw_V q1358 q1359 q1360 q151 q1361) wd_x0_measures (by decide) rfl (Nat.le_of_ble_eq_true rfl) dL_law_926 rfl (fun r138 _ => ?_)
  refine g_aloadn K 2 rfl rfl 930 dL_law_929 rfl ?_
  refine g_aloadn K 0 rfl rfl 931 dL_law_930 rfl ?_
  refine g_iloadn K 3 rfl rfl 932 dL_law_931 rfl ?_
  refine g_iconst K (nI 1) ic_1 933 dL_law_932 rfl ?_
  refine g_iadd K 934 dL_law_933 rfl ?_
  refine gl_sld K hz0 hX hbl 935 dL_law_934 rfl (fun v139 => ?_)
  refine gl_callM K hK hz0 hsh 938 (ct_measures μ v139) (lw_V q2130 q2131 q2132 q158 q2133) wd_measures (by decide) rfl (Nat.le_of_ble_eq_true rfl) dL_law_935 rfl (fun r140 _ => ?_)
  refine g_icmp_eq K 941 1387 dL_law_938 rfl (by decide) (fun _ => ?_) (fun _ => ?_)
  · refine g_iinc K (i + (nI 6)) 3 [(0, .ref b), (1, .ref z), (2, .ref (z + 2463)), (3, .int (i + (nI 6)))] [1, 2, 3, 0] rfl (by rw [ic_6]) (by decide) rfl 1390 dL_law_1387 rfl ?_
    refine g_goto K 18 dL_law_1390 (by decide) ?_
    exact hag ((i + (nI 6)), sz, sl, kd, P, I, r140.2)
  · exact g_none
noncomputable def lc_23 (z em L : Nat) (xs : Nat → Int32) (again : Int32 × Nat × Nat × Kd × Ptr × Mem × Mem → Option Unit) (i : Int32) (sz sl : Nat) (kd : Kd) (P : Ptr) (I μ : Mem) : Option Unit :=
  (sc L xs (i + (nI 1))).bind fun v141 =>
  (sc L xs (i + (nI 2))).bind fun v142 =>
  (x0_bite I z v141 v142).bind fun r143 =>
  (sc L xs (i + (nI 1))).bind fun v144 =>
  (sc L xs (i + (nI 2))).bind fun v145 =>
  (m_bite μ v144 v145).bind fun r146 =>
  if r143.1 = r146.1 then
  again ((i + (nI 6)), sz, sl, kd, P, r143.2, r146.2)
  else
  none
set_option maxRecDepth 100000 in
theorem gc_23 {p : Program} {l : Launch} {e : Env} {s : State} {m : MethodId} {args : Array Value} {below : List Frame} {meth : Method} {c : Code} {D : va_G} {cs : Cs} {b : Nat} {q : Unit → En} {z L : Nat} {xs : Nat → Int32} (K : CallFix p m c code 4 s args lw_all R_law) (hlt : l.stackTraces = false) (hK : xK D cs z s) (hz0 : s.heap.size = z) (hX : va_X b L xs s s.heap) (hbl : b < s.heap.size) (again : Int32 × Nat × Nat × Kd × Ptr × Mem × Mem → Option Unit) (hag : ∀ j : Int32 × Nat × Nat × Kd × Ptr × Mem × Mem, Gl p l e s m args below meth c D cs z 18 [(0, .ref b), (1, .ref z), (2, .ref (z + 2463)), (3, .int j.1)] [] ((j.2.1, j.2.2.1, j.2.2.2.1, j.2.2.2.2.1, j.2.2.2.2.2.1), j.2.2.2.2.2.2) q (again j)) (i : Int32) (sz sl : Nat) (kd : Kd) (P : Ptr) (I μ : Mem) (hsh : Shp z kd) (hkz : kd z = (0, 0, 0)) : Gl p l e s m args below meth c D cs z 943 [(0, .ref b), (1, .ref z), (2, .ref (z + 2463)), (3, .int i)] [] ((sz, sl, kd, P, I), μ) q (lc_23 z (cs 300) L xs again i sz sl kd P I μ) := by
  unfold lc_23
  refine g_aloadn K 1 rfl rfl 944 dL_law_943 rfl ?_
  refine g_aloadn K 0 rfl rfl 945 dL_law_944 rfl ?_
  refine g_iloadn K 3 rfl rfl 946 dL_law_945 rfl ?_
  refine g_iconst K (nI 1) ic_1 947 dL_law_946 rfl ?_
  refine g_iadd K 948 dL_law_947 rfl ?_
  refine gl_sld K hz0 hX hbl 949 dL_law_948 rfl (fun v141 => ?_)
  refine g_aloadn K 0 rfl rfl 950 dL_law_949 rfl ?_
  refine g_iloadn K 3 rfl rfl 951 dL_law_950 rfl ?_
  refine g_iconst K (nI 2) ic_2 952 dL_law_951 rfl ?_
  refine g_iadd K 953 dL_law_952 rfl ?_
  refine gl_sld K hz0 hX hbl 954 dL_law_953 rfl (fun v142 => ?_)
  refine gl_callX K hK hz0 hsh hkz 957 (ctx_x0_bite P I v141 v142 hkz) (lw_V q1369 q1370 q1371 q151 q1372) wd_x0_bite (by decide) rfl (Nat.le_of_ble_eq_true rfl) dL_law_954 rfl (fun r143 _ => ?_)
  refine g_aloadn K 2 rfl rfl 958 dL_law_957 rfl ?_
  refine g_aloadn K 0 rfl rfl 959 dL_law_958 rfl ?_
  refine g_iloadn K 3 rfl rfl 960 dL_law_959 rfl ?_
  refine g_iconst K (nI 1) ic_1 961 dL_law_960 rfl ?_
  refine g_iadd K 962 dL_law_961 rfl ?_
  refine gl_sld K hz0 hX hbl 963 dL_law_962 rfl (fun v144 => ?_)
  refine g_aloadn K 0 rfl rfl 964 dL_law_963 rfl ?_
  refine g_iloadn K 3 rfl rfl 965 dL_law_964 rfl ?_
  refine g_iconst K (nI 2) ic_2 966 dL_law_965 rfl ?_
  refine g_iadd K 967 dL_law_966 rfl ?_
  refine gl_sld K hz0 hX hbl 968 dL_law_967 rfl (fun v145 => ?_)
  refine gl_callM K hK hz0 hsh 971 (ct_bite μ v144 v145) (lw_V q2142 q2143 q2144 q158 q2145) wd_bite (by decide) rfl (Nat.le_of_ble_eq_true rfl) dL_law_968 rfl (fun r146 _ => ?_)
  refine g_icmp_eq K 974 1387 dL_law_971 rfl (by decide) (fun _ => ?_) (fun _ => ?_)
  · refine g_iinc K (i + (nI 6)) 3 [(0, .ref b), (1, .ref z), (2, .ref (z + 2463)), (3, .int (i + (nI 6)))] [1, 2, 3, 0] rfl (by rw [ic_6]) (by decide) rfl 1390 dL_law_1387 rfl ?_
    refine g_goto K 18 dL_law_1390 (by decide) ?_
    exact hag ((i + (nI 6)), sz, sl, kd, P, r143.2, r146.2)
  · exact g_none
noncomputable def lc_24 (z em L : Nat) (xs : Nat → Int32) (again : Int32 × Nat × Nat × Kd × Ptr × Mem × Mem → Option Unit) (i : Int32) (sz sl : Nat) (kd : Kd) (P : Ptr) (I μ : Mem) : Option Unit :=
  (sc L xs (i + (nI 1))).bind fun v147 =>
  (sc L xs (i + (nI 2))).bind fun v148 =>
  (x0_whose I z v147 v148).bind fun r149 =>
  (sc L xs (i + (nI 1))).bind fun v150 =>
  (sc L xs (i + (nI 2))).bind fun v151 =>
  (m_whose μ v150 v151).bind fun r152 =>
  if r149 = r152.1 then
  again ((i + (nI 6)), sz, sl, kd, P, I, r152.2)
  else
  none
set_option maxRecDepth 100000 in
theorem gc_24 {p : Program} {l : Launch} {e : Env} {s : State} {m : MethodId} {args : Array Value} {below : List Frame} {meth : Method} {c : Code} {D : va_G} {cs : Cs} {b : Nat} {q : Unit → En} {z L : Nat} {xs : Nat → Int32} (K : CallFix p m c code 4 s args lw_all R_law) (hlt : l.stackTraces = false) (hK : xK D cs z s) (hz0 : s.heap.size = z) (hX : va_X b L xs s s.heap) (hbl : b < s.heap.size) (again : Int32 × Nat × Nat × Kd × Ptr × Mem × Mem → Option Unit) (hag : ∀ j : Int32 × Nat × Nat × Kd × Ptr × Mem × Mem, Gl p l e s m args below meth c D cs z 18 [(0, .ref b), (1, .ref z), (2, .ref (z + 2463)), (3, .int j.1)] [] ((j.2.1, j.2.2.1, j.2.2.2.1, j.2.2.2.2.1, j.2.2.2.2.2.1), j.2.2.2.2.2.2) q (again j)) (i : Int32) (sz sl : Nat) (kd : Kd) (P : Ptr) (I μ : Mem) (hsh : Shp z kd) (hkz : kd z = (0, 0, 0)) : Gl p l e s m args below meth c D cs z 976 [(0, .ref b), (1, .ref z), (2, .ref (z + 2463)), (3, .int i)] [] ((sz, sl, kd, P, I), μ) q (lc_24 z (cs 300) L xs again i sz sl kd P I μ) := by
  unfold lc_24
  refine g_aloadn K 1 rfl rfl 977 dL_law_976 rfl ?_
  refine g_aloadn K 0 rfl rfl 978 dL_law_977 rfl ?_
  refine g_iloadn K 3 rfl rfl 979 dL_law_978 rfl ?_
  refine g_iconst K (nI 1) ic_1 980 dL_law_979 rfl ?_
  refine g_iadd K 981 dL_law_980 rfl ?_
  refine gl_sld K hz0 hX hbl 982 dL_law_981 rfl (fun v147 => ?_)
  refine g_aloadn K 0 rfl rfl 983 dL_law_982 rfl ?_
  refine g_iloadn K 3 rfl rfl 984 dL_law_983 rfl ?_
  refine g_iconst K (nI 2) ic_2 985 dL_law_984 rfl ?_
  refine g_iadd K 986 dL_law_985 rfl ?_
  refine gl_sld K hz0 hX hbl 987 dL_law_986 rfl (fun v148 => ?_)
  refine gl_callX K hK hz0 hsh hkz 990 (ctx_x0_whose P I v147 v148 hkz) (lw_V q1376 q1377 q1378 q151 q1379) wd_x0_whose (by decide) rfl (Nat.le_of_ble_eq_true rfl) dL_law_987 rfl (fun r149 _ => ?_)
  refine g_aloadn K 2 rfl rfl 991 dL_law_990 rfl ?_
  refine g_aloadn K 0 rfl rfl 992 dL_law_991 rfl ?_
  refine g_iloadn K 3 rfl rfl 993 dL_law_992 rfl ?_
  refine g_iconst K (nI 1) ic_1 994 dL_law_993 rfl ?_
  refine g_iadd K 995 dL_law_994 rfl ?_
  refine gl_sld K hz0 hX hbl 996 dL_law_995 rfl (fun v150 => ?_)
  refine g_aloadn K 0 rfl rfl 997 dL_law_996 rfl ?_
  refine g_iloadn K 3 rfl rfl 998 dL_law_997 rfl ?_
  refine g_iconst K (nI 2) ic_2 999 dL_law_998 rfl ?_
  refine g_iadd K 1000 dL_law_999 rfl ?_
  refine gl_sld K hz0 hX hbl 1001 dL_law_1000 rfl (fun v151 => ?_)
  refine gl_callM K hK hz0 hsh 1004 (ct_whose μ v150 v151) (lw_V q2146 q2147 q2148 q158 q2149) wd_whose (by decide) rfl (Nat.le_of_ble_eq_true rfl) dL_law_1001 rfl (fun r152 _ => ?_)
  refine g_icmp_eq K 1007 1387 dL_law_1004 rfl (by decide) (fun _ => ?_) (fun _ => ?_)
  · refine g_iinc K (i + (nI 6)) 3 [(0, .ref b), (1, .ref z), (2, .ref (z + 2463)), (3, .int (i + (nI 6)))] [1, 2, 3, 0] rfl (by rw [ic_6]) (by decide) rfl 1390 dL_law_1387 rfl ?_
    refine g_goto K 18 dL_law_1390 (by decide) ?_
    exact hag ((i + (nI 6)), sz, sl, kd, P, I, r152.2)
  · exact g_none
noncomputable def lc_25 (z em L : Nat) (xs : Nat → Int32) (again : Int32 × Nat × Nat × Kd × Ptr × Mem × Mem → Option Unit) (i : Int32) (sz sl : Nat) (kd : Kd) (P : Ptr) (I μ : Mem) : Option Unit :=
  (sc L xs (i + (nI 1))).bind fun v153 =>
  (x0_crumb I z v153).bind fun r154 =>
  (sc L xs (i + (nI 1))).bind fun v155 =>
  (m_crumb μ v155).bind fun r156 =>
  if r154.1 = r156.1 then
  again ((i + (nI 6)), sz, sl, kd, P, r154.2, r156.2)
  else
  none
set_option maxRecDepth 100000 in
theorem gc_25 {p : Program} {l : Launch} {e : Env} {s : State} {m : MethodId} {args : Array Value} {below : List Frame} {meth : Method} {c : Code} {D : va_G} {cs : Cs} {b : Nat} {q : Unit → En} {z L : Nat} {xs : Nat → Int32} (K : CallFix p m c code 4 s args lw_all R_law) (hlt : l.stackTraces = false) (hK : xK D cs z s) (hz0 : s.heap.size = z) (hX : va_X b L xs s s.heap) (hbl : b < s.heap.size) (again : Int32 × Nat × Nat × Kd × Ptr × Mem × Mem → Option Unit) (hag : ∀ j : Int32 × Nat × Nat × Kd × Ptr × Mem × Mem, Gl p l e s m args below meth c D cs z 18 [(0, .ref b), (1, .ref z), (2, .ref (z + 2463)), (3, .int j.1)] [] ((j.2.1, j.2.2.1, j.2.2.2.1, j.2.2.2.2.1, j.2.2.2.2.2.1), j.2.2.2.2.2.2) q (again j)) (i : Int32) (sz sl : Nat) (kd : Kd) (P : Ptr) (I μ : Mem) (hsh : Shp z kd) (hkz : kd z = (0, 0, 0)) : Gl p l e s m args below meth c D cs z 1009 [(0, .ref b), (1, .ref z), (2, .ref (z + 2463)), (3, .int i)] [] ((sz, sl, kd, P, I), μ) q (lc_25 z (cs 300) L xs again i sz sl kd P I μ) := by
  unfold lc_25
  refine g_aloadn K 1 rfl rfl 1010 dL_law_1009 rfl ?_
  refine g_aloadn K 0 rfl rfl 1011 dL_law_1010 rfl ?_
  refine g_iloadn K 3 rfl rfl 1012 dL_law_1011 rfl ?_
  refine g_iconst K (nI 1) ic_1 1013 dL_law_1012 rfl ?_
  refine g_iadd K 1014 dL_law_1013 rfl ?_
  refine gl_sld K hz0 hX hbl 1015 dL_law_1014 rfl (fun v153 => ?_)
  refine gl_callX K hK hz0 hsh hkz 1018 (ctx_x0_crumb P I v153 hkz) (lw_V q1384 q1385 q1386 q151 q1387) wd_x0_crumb (by decide) rfl (Nat.le_of_ble_eq_true rfl) dL_law_1015 rfl (fun r154 _ => ?_)
  refine g_aloadn K 2 rfl rfl 1019 dL_law_1018 rfl ?_
  refine g_aloadn K 0 rfl rfl 1020 dL_law_1019 rfl ?_
  refine g_iloadn K 3 rfl rfl 1021 dL_law_1020 rfl ?_
  refine g_iconst K (nI 1) ic_1 1022 dL_law_1021 rfl ?_
  refine g_iadd K 1023 dL_law_1022 rfl ?_
  refine gl_sld K hz0 hX hbl 1024 dL_law_1023 rfl (fun v155 => ?_)
  refine gl_callM K hK hz0 hsh 1027 (ct_crumb μ v155) (lw_V q2150 q2151 q2152 q158 q2153) wd_crumb (by decide) rfl (Nat.le_of_ble_eq_true rfl) dL_law_1024 rfl (fun r156 _ => ?_)
  refine g_icmp_eq K 1030 1387 dL_law_1027 rfl (by decide) (fun _ => ?_) (fun _ => ?_)
  · refine g_iinc K (i + (nI 6)) 3 [(0, .ref b), (1, .ref z), (2, .ref (z + 2463)), (3, .int (i + (nI 6)))] [1, 2, 3, 0] rfl (by rw [ic_6]) (by decide) rfl 1390 dL_law_1387 rfl ?_
    refine g_goto K 18 dL_law_1390 (by decide) ?_
    exact hag ((i + (nI 6)), sz, sl, kd, P, r154.2, r156.2)
  · exact g_none
noncomputable def lc_26 (z em L : Nat) (xs : Nat → Int32) (again : Int32 × Nat × Nat × Kd × Ptr × Mem × Mem → Option Unit) (i : Int32) (sz sl : Nat) (kd : Kd) (P : Ptr) (I μ : Mem) : Option Unit :=
  (sc L xs (i + (nI 1))).bind fun v157 =>
  (x0_crumbs I z v157).bind fun r158 =>
  (sc L xs (i + (nI 1))).bind fun v159 =>
  (m_crumbs μ v159).bind fun r160 =>
  if r158.1 = r160.1 then
  again ((i + (nI 6)), sz, sl, kd, P, r158.2, r160.2)
  else
  none
set_option maxRecDepth 100000 in
theorem gc_26 {p : Program} {l : Launch} {e : Env} {s : State} {m : MethodId} {args : Array Value} {below : List Frame} {meth : Method} {c : Code} {D : va_G} {cs : Cs} {b : Nat} {q : Unit → En} {z L : Nat} {xs : Nat → Int32} (K : CallFix p m c code 4 s args lw_all R_law) (hlt : l.stackTraces = false) (hK : xK D cs z s) (hz0 : s.heap.size = z) (hX : va_X b L xs s s.heap) (hbl : b < s.heap.size) (again : Int32 × Nat × Nat × Kd × Ptr × Mem × Mem → Option Unit) (hag : ∀ j : Int32 × Nat × Nat × Kd × Ptr × Mem × Mem, Gl p l e s m args below meth c D cs z 18 [(0, .ref b), (1, .ref z), (2, .ref (z + 2463)), (3, .int j.1)] [] ((j.2.1, j.2.2.1, j.2.2.2.1, j.2.2.2.2.1, j.2.2.2.2.2.1), j.2.2.2.2.2.2) q (again j)) (i : Int32) (sz sl : Nat) (kd : Kd) (P : Ptr) (I μ : Mem) (hsh : Shp z kd) (hkz : kd z = (0, 0, 0)) : Gl p l e s m args below meth c D cs z 1032 [(0, .ref b), (1, .ref z), (2, .ref (z + 2463)), (3, .int i)] [] ((sz, sl, kd, P, I), μ) q (lc_26 z (cs 300) L xs again i sz sl kd P I μ) := by
  unfold lc_26
  refine g_aloadn K 1 rfl rfl 1033 dL_law_1032 rfl ?_
  refine g_aloadn K 0 rfl rfl 1034 dL_law_1033 rfl ?_
  refine g_iloadn K 3 rfl rfl 1035 dL_law_1034 rfl ?_
  refine g_iconst K (nI 1) ic_1 1036 dL_law_1035 rfl ?_
  refine g_iadd K 1037 dL_law_1036 rfl ?_
  refine gl_sld K hz0 hX hbl 1038 dL_law_1037 rfl (fun v157 => ?_)
  refine gl_callX K hK hz0 hsh hkz 1041 (ctx_x0_crumbs P I v157 hkz) (lw_V q1388 q1389 q1390 q151 q1391) wd_x0_crumbs (by decide) rfl (Nat.le_of_ble_eq_true rfl) dL_law_1038 rfl (fun r158 _ => ?_)
  refine g_aloadn K 2 rfl rfl 1042 dL_law_1041 rfl ?_
  refine g_aloadn K 0 rfl rfl 1043 dL_law_1042 rfl ?_
  refine g_iloadn K 3 rfl rfl 1044 dL_law_1043 rfl ?_
  refine g_iconst K (nI 1) ic_1 1045 dL_law_1044 rfl ?_
  refine g_iadd K 1046 dL_law_1045 rfl ?_
  refine gl_sld K hz0 hX hbl 1047 dL_law_1046 rfl (fun v159 => ?_)
  refine gl_callM K hK hz0 hsh 1050 (ct_crumbs μ v159) (lw_V q2154 q2155 q2156 q158 q2157) wd_crumbs (by decide) rfl (Nat.le_of_ble_eq_true rfl) dL_law_1047 rfl (fun r160 _ => ?_)
  refine g_icmp_eq K 1053 1387 dL_law_1050 rfl (by decide) (fun _ => ?_) (fun _ => ?_)
  · refine g_iinc K (i + (nI 6)) 3 [(0, .ref b), (1, .ref z), (2, .ref (z + 2463)), (3, .int (i + (nI 6)))] [1, 2, 3, 0] rfl (by rw [ic_6]) (by decide) rfl 1390 dL_law_1387 rfl ?_
    refine g_goto K 18 dL_law_1390 (by decide) ?_
    exact hag ((i + (nI 6)), sz, sl, kd, P, r158.2, r160.2)
  · exact g_none
noncomputable def lc_27 (z em L : Nat) (xs : Nat → Int32) (again : Int32 × Nat × Nat × Kd × Ptr × Mem × Mem → Option Unit) (i : Int32) (sz sl : Nat) (kd : Kd) (P : Ptr) (I μ : Mem) : Option Unit :=
  (sc L xs (i + (nI 1))).bind fun v161 =>
  (sc L xs (i + (nI 2))).bind fun v162 =>
  (x0_loaf I z v161 v162).bind fun r163 =>
  (sc L xs (i + (nI 1))).bind fun v164 =>
  (sc L xs (i + (nI 2))).bind fun v165 =>
  (m_loaf μ v164 v165).bind fun r166 =>
  if r163.1 = r166.1 then
  again ((i + (nI 6)), sz, sl, kd, P, r163.2, r166.2)
  else
  none
set_option maxRecDepth 100000 in
theorem gc_27 {p : Program} {l : Launch} {e : Env} {s : State} {m : MethodId} {args : Array Value} {below : List Frame} {meth : Method} {c : Code} {D : va_G} {cs : Cs} {b : Nat} {q : Unit → En} {z L : Nat} {xs : Nat → Int32} (K : CallFix p m c code 4 s args lw_all R_law) (hlt : l.stackTraces = false) (hK : xK D cs z s) (hz0 : s.heap.size = z) (hX : va_X b L xs s s.heap) (hbl : b < s.heap.size) (again : Int32 × Nat × Nat × Kd × Ptr × Mem × Mem → Option Unit) (hag : ∀ j : Int32 × Nat × Nat × Kd × Ptr × Mem × Mem, Gl p l e s m args below meth c D cs z 18 [(0, .ref b), (1, .ref z), (2, .ref (z + 2463)), (3, .int j.1)] [] ((j.2.1, j.2.2.1, j.2.2.2.1, j.2.2.2.2.1, j.2.2.2.2.2.1), j.2.2.2.2.2.2) q (again j)) (i : Int32) (sz sl : Nat) (kd : Kd) (P : Ptr) (I μ : Mem) (hsh : Shp z kd) (hkz : kd z = (0, 0, 0)) : Gl p l e s m args below meth c D cs z 1055 [(0, .ref b), (1, .ref z), (2, .ref (z + 2463)), (3, .int i)] [] ((sz, sl, kd, P, I), μ) q (lc_27 z (cs 300) L xs again i sz sl kd P I μ) := by
  unfold lc_27
  refine g_aloadn K 1 rfl rfl 1056 dL_law_1055 rfl ?_
  refine g_aloadn K 0 rfl rfl 1057 dL_law_1056 rfl ?_
  refine g_iloadn K 3 rfl rfl 1058 dL_law_1057 rfl ?_
  refine g_iconst K (nI 1) ic_1 1059 dL_law_1058 rfl ?_
  refine g_iadd K 1060 dL_law_1059 rfl ?_
  refine gl_sld K hz0 hX hbl 1061 dL_law_1060 rfl (fun v161 => ?_)
  refine g_aloadn K 0 rfl rfl 1062 dL_law_1061 rfl ?_
  refine g_iloadn K 3 rfl rfl 1063 dL_law_1062 rfl ?_
  refine g_iconst K (nI 2) ic_2 1064 dL_law_1063 rfl ?_
  refine g_iadd K 1065 dL_law_1064 rfl ?_
  refine gl_sld K hz0 hX hbl 1066 dL_law_1065 rfl (fun v162 => ?_)
  refine gl_callX K hK hz0 hsh hkz 1069 (ctx_x0_loaf P I v161 v162 hkz) (lw_V q1392 q1393 q1394 q151 q1395) wd_x0_loaf (by decide) rfl (Nat.le_of_ble_eq_true rfl) dL_law_1066 rfl (fun r163 _ => ?_)
  refine g_aloadn K 2 rfl rfl 1070 dL_law_1069 rfl ?_
  refine g_aloadn K 0 rfl rfl 1071 dL_law_1070 rfl ?_
  refine g_iloadn K 3 rfl rfl 1072 dL_law_1071 rfl ?_
  refine g_iconst K (nI 1) ic_1 1073 dL_law_1072 rfl ?_
  refine g_iadd K 1074 dL_law_1073 rfl ?_
  refine gl_sld K hz0 hX hbl 1075 dL_law_1074 rfl (fun v164 => ?_)
  refine g_aloadn K 0 rfl rfl 1076 dL_law_1075 rfl ?_
  refine g_iloadn K 3 rfl rfl 1077 dL_law_1076 rfl ?_
  refine g_iconst K (nI 2) ic_2 1078 dL_law_1077 rfl ?_
  refine g_iadd K 1079 dL_law_1078 rfl ?_
  refine gl_sld K hz0 hX hbl 1080 dL_law_1079 rfl (fun v165 => ?_)
  refine gl_callM K hK hz0 hsh 1083 (ct_loaf μ v164 v165) (lw_V q2158 q2159 q2160 q158 q2161) wd_loaf (by decide) rfl (Nat.le_of_ble_eq_true rfl) dL_law_1080 rfl (fun r166 _ => ?_)
  refine g_icmp_eq K 1086 1387 dL_law_1083 rfl (by decide) (fun _ => ?_) (fun _ => ?_)
  · refine g_iinc K (i + (nI 6)) 3 [(0, .ref b), (1, .ref z), (2, .ref (z + 2463)), (3, .int (i + (nI 6)))] [1, 2, 3, 0] rfl (by rw [ic_6]) (by decide) rfl 1390 dL_law_1387 rfl ?_
    refine g_goto K 18 dL_law_1390 (by decide) ?_
    exact hag ((i + (nI 6)), sz, sl, kd, P, r163.2, r166.2)
  · exact g_none
noncomputable def lc_28 (z em L : Nat) (xs : Nat → Int32) (again : Int32 × Nat × Nat × Kd × Ptr × Mem × Mem → Option Unit) (i : Int32) (sz sl : Nat) (kd : Kd) (P : Ptr) (I μ : Mem) : Option Unit :=
  (sc L xs (i + (nI 1))).bind fun v167 =>
  (x0_ovens I z v167).bind fun r168 =>
  (sc L xs (i + (nI 1))).bind fun v169 =>
  (m_ovens μ v169).bind fun r170 =>
  if r168.1 = r170.1 then
  again ((i + (nI 6)), sz, sl, kd, P, r168.2, r170.2)
  else
  none
set_option maxRecDepth 100000 in
theorem gc_28 {p : Program} {l : Launch} {e : Env} {s : State} {m : MethodId} {args : Array Value} {below : List Frame} {meth : Method} {c : Code} {D : va_G} {cs : Cs} {b : Nat} {q : Unit → En} {z L : Nat} {xs : Nat → Int32} (K : CallFix p m c code 4 s args lw_all R_law) (hlt : l.stackTraces = false) (hK : xK D cs z s) (hz0 : s.heap.size = z) (hX : va_X b L xs s s.heap) (hbl : b < s.heap.size) (again : Int32 × Nat × Nat × Kd × Ptr × Mem × Mem → Option Unit) (hag : ∀ j : Int32 × Nat × Nat × Kd × Ptr × Mem × Mem, Gl p l e s m args below meth c D cs z 18 [(0, .ref b), (1, .ref z), (2, .ref (z + 2463)), (3, .int j.1)] [] ((j.2.1, j.2.2.1, j.2.2.2.1, j.2.2.2.2.1, j.2.2.2.2.2.1), j.2.2.2.2.2.2) q (again j)) (i : Int32) (sz sl : Nat) (kd : Kd) (P : Ptr) (I μ : Mem) (hsh : Shp z kd) (hkz : kd z = (0, 0, 0)) : Gl p l e s m args below meth c D cs z 1088 [(0, .ref b), (1, .ref z), (2, .ref (z + 2463)), (3, .int i)] [] ((sz, sl, kd, P, I), μ) q (lc_28 z (cs 300) L xs again i sz sl kd P I μ) := by
  unfold lc_28
  refine g_aloadn K 1 rfl rfl 1089 dL_law_1088 rfl ?_
  refine g_aloadn K 0 rfl rfl 1090 dL_law_1089 rfl ?_
  refine g_iloadn K 3 rfl rfl 1091 dL_law_1090 rfl ?_
  refine g_iconst K (nI 1) ic_1 1092 dL_law_1091 rfl ?_
  refine g_iadd K 1093 dL_law_1092 rfl ?_
  refine gl_sld K hz0 hX hbl 1094 dL_law_1093 rfl (fun v167 => ?_)
  refine gl_callX K hK hz0 hsh hkz 1097 (ctx_x0_ovens P I v167 hkz) (lw_V q1396 q1397 q1398 q151 q1399) wd_x0_ovens (by decide) rfl (Nat.le_of_ble_eq_true rfl) dL_law_1094 rfl (fun r168 _ => ?_)
  refine g_aloadn K 2 rfl rfl 1098 dL_law_1097 rfl ?_
  refine g_aloadn K 0 rfl rfl 1099 dL_law_1098 rfl ?_
  refine g_iloadn K 3 rfl rfl 1100 dL_law_1099 rfl ?_
  refine g_iconst K (nI 1) ic_1 1101 dL_law_1100 rfl ?_
  refine g_iadd K 1102 dL_law_1101 rfl ?_
  refine gl_sld K hz0 hX hbl 1103 dL_law_1102 rfl (fun v169 => ?_)
  refine gl_callM K hK hz0 hsh 1106 (ct_ovens μ v169) (lw_V q2162 q2163 q2164 q158 q2165) wd_ovens (by decide) rfl (Nat.le_of_ble_eq_true rfl) dL_law_1103 rfl (fun r170 _ => ?_)
  refine g_icmp_eq K 1109 1387 dL_law_1106 rfl (by decide) (fun _ => ?_) (fun _ => ?_)
  · refine g_iinc K (i + (nI 6)) 3 [(0, .ref b), (1, .ref z), (2, .ref (z + 2463)), (3, .int (i + (nI 6)))] [1, 2, 3, 0] rfl (by rw [ic_6]) (by decide) rfl 1390 dL_law_1387 rfl ?_
    refine g_goto K 18 dL_law_1390 (by decide) ?_
    exact hag ((i + (nI 6)), sz, sl, kd, P, r168.2, r170.2)
  · exact g_none
noncomputable def lc_29 (z em L : Nat) (xs : Nat → Int32) (again : Int32 × Nat × Nat × Kd × Ptr × Mem × Mem → Option Unit) (i : Int32) (sz sl : Nat) (kd : Kd) (P : Ptr) (I μ : Mem) : Option Unit :=
  (sc L xs (i + (nI 1))).bind fun v171 =>
  (x0_alone kd P I z v171).bind fun r172 =>
  (sc L xs (i + (nI 1))).bind fun v173 =>
  (m_alone μ v173).bind fun r174 =>
  if r172 = r174.1 then
  again ((i + (nI 6)), sz, sl, kd, P, I, r174.2)
  else
  none
set_option maxRecDepth 100000 in
theorem gc_29 {p : Program} {l : Launch} {e : Env} {s : State} {m : MethodId} {args : Array Value} {below : List Frame} {meth : Method} {c : Code} {D : va_G} {cs : Cs} {b : Nat} {q : Unit → En} {z L : Nat} {xs : Nat → Int32} (K : CallFix p m c code 4 s args lw_all R_law) (hlt : l.stackTraces = false) (hK : xK D cs z s) (hz0 : s.heap.size = z) (hX : va_X b L xs s s.heap) (hbl : b < s.heap.size) (again : Int32 × Nat × Nat × Kd × Ptr × Mem × Mem → Option Unit) (hag : ∀ j : Int32 × Nat × Nat × Kd × Ptr × Mem × Mem, Gl p l e s m args below meth c D cs z 18 [(0, .ref b), (1, .ref z), (2, .ref (z + 2463)), (3, .int j.1)] [] ((j.2.1, j.2.2.1, j.2.2.2.1, j.2.2.2.2.1, j.2.2.2.2.2.1), j.2.2.2.2.2.2) q (again j)) (i : Int32) (sz sl : Nat) (kd : Kd) (P : Ptr) (I μ : Mem) (hsh : Shp z kd) (hkz : kd z = (0, 0, 0)) : Gl p l e s m args below meth c D cs z 1111 [(0, .ref b), (1, .ref z), (2, .ref (z + 2463)), (3, .int i)] [] ((sz, sl, kd, P, I), μ) q (lc_29 z (cs 300) L xs again i sz sl kd P I μ) := by
  unfold lc_29
  refine g_aloadn K 1 rfl rfl 1112 dL_law_1111 rfl ?_
  refine g_aloadn K 0 rfl rfl 1113 dL_law_1112 rfl ?_
  refine g_iloadn K 3 rfl rfl 1114 dL_law_1113 rfl ?_
  refine g_iconst K (nI 1) ic_1 1115 dL_law_1114 rfl ?_
  refine g_iadd K 1116 dL_law_1115 rfl ?_
  refine gl_sld K hz0 hX hbl 1117 dL_law_1116 rfl (fun v171 => ?_)
  refine gl_callX K hK hz0 hsh hkz 1120 (ctx_x0_alone P I v171 hkz) (lw_V q1404 q1405 q1406 q151 q1407) wd_x0_alone (by decide) rfl (Nat.le_of_ble_eq_true rfl) dL_law_1117 rfl (fun r172 _ => ?_)
  refine g_aloadn K 2 rfl rfl 1121 dL_law_1120 rfl ?_
  refine g_aloadn K 0 rfl rfl 1122 dL_law_1121 rfl ?_
  refine g_iloadn K 3 rfl rfl 1123 dL_law_1122 rfl ?_
  refine g_iconst K (nI 1) ic_1 1124 dL_law_1123 rfl ?_
  refine g_iadd K 1125 dL_law_1124 rfl ?_
  refine gl_sld K hz0 hX hbl 1126 dL_law_1125 rfl (fun v173 => ?_)
  refine gl_callM K hK hz0 hsh 1129 (ct_alone μ v173) (lw_V q2174 q2175 q2176 q158 q2177) wd_alone (by decide) rfl (Nat.le_of_ble_eq_true rfl) dL_law_1126 rfl (fun r174 _ => ?_)
  refine g_icmp_eq K 1132 1387 dL_law_1129 rfl (by decide) (fun _ => ?_) (fun _ => ?_)
  · refine g_iinc K (i + (nI 6)) 3 [(0, .ref b), (1, .ref z), (2, .ref (z + 2463)), (3, .int (i + (nI 6)))] [1, 2, 3, 0] rfl (by rw [ic_6]) (by decide) rfl 1390 dL_law_1387 rfl ?_
    refine g_goto K 18 dL_law_1390 (by decide) ?_
    exact hag ((i + (nI 6)), sz, sl, kd, P, I, r174.2)
  · exact g_none
noncomputable def lc_30 (z em L : Nat) (xs : Nat → Int32) (again : Int32 × Nat × Nat × Kd × Ptr × Mem × Mem → Option Unit) (i : Int32) (sz sl : Nat) (kd : Kd) (P : Ptr) (I μ : Mem) : Option Unit :=
  (sc L xs (i + (nI 1))).bind fun v175 =>
  (sc L xs (i + (nI 2))).bind fun v176 =>
  (x0_heir I z v175 v176).bind fun r177 =>
  (sc L xs (i + (nI 1))).bind fun v178 =>
  (sc L xs (i + (nI 2))).bind fun v179 =>
  (m_heir μ v178 v179).bind fun r180 =>
  if r177.1 = r180.1 then
  again ((i + (nI 6)), sz, sl, kd, P, r177.2, r180.2)
  else
  none
set_option maxRecDepth 100000 in
theorem gc_30 {p : Program} {l : Launch} {e : Env} {s : State} {m : MethodId} {args : Array Value} {below : List Frame} {meth : Method} {c : Code} {D : va_G} {cs : Cs} {b : Nat} {q : Unit → En} {z L : Nat} {xs : Nat → Int32} (K : CallFix p m c code 4 s args lw_all R_law) (hlt : l.stackTraces = false) (hK : xK D cs z s) (hz0 : s.heap.size = z) (hX : va_X b L xs s s.heap) (hbl : b < s.heap.size) (again : Int32 × Nat × Nat × Kd × Ptr × Mem × Mem → Option Unit) (hag : ∀ j : Int32 × Nat × Nat × Kd × Ptr × Mem × Mem, Gl p l e s m args below meth c D cs z 18 [(0, .ref b), (1, .ref z), (2, .ref (z + 2463)), (3, .int j.1)] [] ((j.2.1, j.2.2.1, j.2.2.2.1, j.2.2.2.2.1, j.2.2.2.2.2.1), j.2.2.2.2.2.2) q (again j)) (i : Int32) (sz sl : Nat) (kd : Kd) (P : Ptr) (I μ : Mem) (hsh : Shp z kd) (hkz : kd z = (0, 0, 0)) : Gl p l e s m args below meth c D cs z 1134 [(0, .ref b), (1, .ref z), (2, .ref (z + 2463)), (3, .int i)] [] ((sz, sl, kd, P, I), μ) q (lc_30 z (cs 300) L xs again i sz sl kd P I μ) := by
  unfold lc_30
  refine g_aloadn K 1 rfl rfl 1135 dL_law_1134 rfl ?_
  refine g_aloadn K 0 rfl rfl 1136 dL_law_1135 rfl ?_
  refine g_iloadn K 3 rfl rfl 1137 dL_law_1136 rfl ?_
  refine g_iconst K (nI 1) ic_1 1138 dL_law_1137 rfl ?_
  refine g_iadd K 1139 dL_law_1138 rfl ?_
  refine gl_sld K hz0 hX hbl 1140 dL_law_1139 rfl (fun v175 => ?_)
  refine g_aloadn K 0 rfl rfl 1141 dL_law_1140 rfl ?_
  refine g_iloadn K 3 rfl rfl 1142 dL_law_1141 rfl ?_
  refine g_iconst K (nI 2) ic_2 1143 dL_law_1142 rfl ?_
  refine g_iadd K 1144 dL_law_1143 rfl ?_
  refine gl_sld K hz0 hX hbl 1145 dL_law_1144 rfl (fun v176 => ?_)
  refine gl_callX K hK hz0 hsh hkz 1148 (ctx_x0_heir P I v175 v176 hkz) (lw_V q1412 q1413 q1414 q151 q1415) wd_x0_heir (by decide) rfl (Nat.le_of_ble_eq_true rfl) dL_law_1145 rfl (fun r177 _ => ?_)
  refine g_aloadn K 2 rfl rfl 1149 dL_law_1148 rfl ?_
  refine g_aloadn K 0 rfl rfl 1150 dL_law_1149 rfl ?_
  refine g_iloadn K 3 rfl rfl 1151 dL_law_1150 rfl ?_
  refine g_iconst K (nI 1) ic_1 1152 dL_law_1151 rfl ?_
  refine g_iadd K 1153 dL_law_1152 rfl ?_
  refine gl_sld K hz0 hX hbl 1154 dL_law_1153 rfl (fun v178 => ?_)
  refine g_aloadn K 0 rfl rfl 1155 dL_law_1154 rfl ?_
  refine g_iloadn K 3 rfl rfl 1156 dL_law_1155 rfl ?_
  refine g_iconst K (nI 2) ic_2 1157 dL_law_1156 rfl ?_
  refine g_iadd K 1158 dL_law_1157 rfl ?_
  refine gl_sld K hz0 hX hbl 1159 dL_law_1158 rfl (fun v179 => ?_)
  refine gl_callM K hK hz0 hsh 1162 (ct_heir μ v178 v179) (lw_V q2182 q2183 q2184 q158 q2185) wd_heir (by decide) rfl (Nat.le_of_ble_eq_true rfl) dL_law_1159 rfl (fun r180 _ => ?_)
  refine g_icmp_eq K 1165 1387 dL_law_1162 rfl (by decide) (fun _ => ?_) (fun _ => ?_)
  · refine g_iinc K (i + (nI 6)) 3 [(0, .ref b), (1, .ref z), (2, .ref (z + 2463)), (3, .int (i + (nI 6)))] [1, 2, 3, 0] rfl (by rw [ic_6]) (by decide) rfl 1390 dL_law_1387 rfl ?_
    refine g_goto K 18 dL_law_1390 (by decide) ?_
    exact hag ((i + (nI 6)), sz, sl, kd, P, r177.2, r180.2)
  · exact g_none
noncomputable def lc_31 (z em L : Nat) (xs : Nat → Int32) (again : Int32 × Nat × Nat × Kd × Ptr × Mem × Mem → Option Unit) (i : Int32) (sz sl : Nat) (kd : Kd) (P : Ptr) (I μ : Mem) : Option Unit :=
  (sc L xs (i + (nI 1))).bind fun v181 =>
  (sc L xs (i + (nI 2))).bind fun v182 =>
  (x0_line I z v181 v182).bind fun r183 =>
  (sc L xs (i + (nI 1))).bind fun v184 =>
  (sc L xs (i + (nI 2))).bind fun v185 =>
  (m_line μ v184 v185).bind fun r186 =>
  if r183 = r186.1 then
  again ((i + (nI 6)), sz, sl, kd, P, I, r186.2)
  else
  none
set_option maxRecDepth 100000 in
theorem gc_31 {p : Program} {l : Launch} {e : Env} {s : State} {m : MethodId} {args : Array Value} {below : List Frame} {meth : Method} {c : Code} {D : va_G} {cs : Cs} {b : Nat} {q : Unit → En} {z L : Nat} {xs : Nat → Int32} (K : CallFix p m c code 4 s args lw_all R_law) (hlt : l.stackTraces = false) (hK : xK D cs z s) (hz0 : s.heap.size = z) (hX : va_X b L xs s s.heap) (hbl : b < s.heap.size) (again : Int32 × Nat × Nat × Kd × Ptr × Mem × Mem → Option Unit) (hag : ∀ j : Int32 × Nat × Nat × Kd × Ptr × Mem × Mem, Gl p l e s m args below meth c D cs z 18 [(0, .ref b), (1, .ref z), (2, .ref (z + 2463)), (3, .int j.1)] [] ((j.2.1, j.2.2.1, j.2.2.2.1, j.2.2.2.2.1, j.2.2.2.2.2.1), j.2.2.2.2.2.2) q (again j)) (i : Int32) (sz sl : Nat) (kd : Kd) (P : Ptr) (I μ : Mem) (hsh : Shp z kd) (hkz : kd z = (0, 0, 0)) : Gl p l e s m args below meth c D cs z 1167 [(0, .ref b), (1, .ref z), (2, .ref (z + 2463)), (3, .int i)] [] ((sz, sl, kd, P, I), μ) q (lc_31 z (cs 300) L xs again i sz sl kd P I μ) := by
  unfold lc_31
  refine g_aloadn K 1 rfl rfl 1168 dL_law_1167 rfl ?_
  refine g_aloadn K 0 rfl rfl 1169 dL_law_1168 rfl ?_
  refine g_iloadn K 3 rfl rfl 1170 dL_law_1169 rfl ?_
  refine g_iconst K (nI 1) ic_1 1171 dL_law_1170 rfl ?_
  refine g_iadd K 1172 dL_law_1171 rfl ?_
  refine gl_sld K hz0 hX hbl 1173 dL_law_1172 rfl (fun v181 => ?_)
  refine g_aloadn K 0 rfl rfl 1174 dL_law_1173 rfl ?_
  refine g_iloadn K 3 rfl rfl 1175 dL_law_1174 rfl ?_
  refine g_iconst K (nI 2) ic_2 1176 dL_law_1175 rfl ?_
  refine g_iadd K 1177 dL_law_1176 rfl ?_
  refine gl_sld K hz0 hX hbl 1178 dL_law_1177 rfl (fun v182 => ?_)
  refine gl_callX K hK hz0 hsh hkz 1181 (ctx_x0_line P I v181 v182 hkz) (lw_V q1416 q1417 q1418 q151 q1419) wd_x0_line (by decide) rfl (Nat.le_of_ble_eq_true rfl) dL_law_1178 rfl (fun r183 _ => ?_)
  refine g_aloadn K 2 rfl rfl 1182 dL_law_1181 rfl ?_
  refine g_aloadn K 0 rfl rfl 1183 dL_law_1182 rfl ?_
  refine g_iloadn K 3 rfl rfl 1184 dL_law_1183 rfl ?_
  refine g_iconst K (nI 1) ic_1 1185 dL_law_1184 rfl ?_
  refine g_iadd K 1186 dL_law_1185 rfl ?_
  refine gl_sld K hz0 hX hbl 1187 dL_law_1186 rfl (fun v184 => ?_)
  refine g_aloadn K 0 rfl rfl 1188 dL_law_1187 rfl ?_
  refine g_iloadn K 3 rfl rfl 1189 dL_law_1188 rfl ?_
  refine g_iconst K (nI 2) ic_2 1190 dL_law_1189 rfl ?_
  refine g_iadd K 1191 dL_law_1190 rfl ?_
  refine gl_sld K hz0 hX hbl 1192 dL_law_1191 rfl (fun v185 => ?_)
  refine gl_callM K hK hz0 hsh 1195 (ct_line μ v184 v185) (lw_V q2186 q2187 q2188 q158 q2189) wd_line (by decide) rfl (Nat.le_of_ble_eq_true rfl) dL_law_1192 rfl (fun r186 _ => ?_)
  refine g_icmp_eq K 1198 1387 dL_law_1195 rfl (by decide) (fun _ => ?_) (fun _ => ?_)
  · refine g_iinc K (i + (nI 6)) 3 [(0, .ref b), (1, .ref z), (2, .ref (z + 2463)), (3, .int (i + (nI 6)))] [1, 2, 3, 0] rfl (by rw [ic_6]) (by decide) rfl 1390 dL_law_1387 rfl ?_
    refine g_goto K 18 dL_law_1390 (by decide) ?_
    exact hag ((i + (nI 6)), sz, sl, kd, P, I, r186.2)
  · exact g_none
noncomputable def lc_32 (z em L : Nat) (xs : Nat → Int32) (again : Int32 × Nat × Nat × Kd × Ptr × Mem × Mem → Option Unit) (i : Int32) (sz sl : Nat) (kd : Kd) (P : Ptr) (I μ : Mem) : Option Unit :=
  (sc L xs (i + (nI 1))).bind fun v187 =>
  (x0_window I z v187).bind fun r188 =>
  (sc L xs (i + (nI 1))).bind fun v189 =>
  (m_window μ v189).bind fun r190 =>
  if r188.1 = r190.1 then
  again ((i + (nI 6)), sz, sl, kd, P, r188.2, r190.2)
  else
  none
set_option maxRecDepth 100000 in
theorem gc_32 {p : Program} {l : Launch} {e : Env} {s : State} {m : MethodId} {args : Array Value} {below : List Frame} {meth : Method} {c : Code} {D : va_G} {cs : Cs} {b : Nat} {q : Unit → En} {z L : Nat} {xs : Nat → Int32} (K : CallFix p m c code 4 s args lw_all R_law) (hlt : l.stackTraces = false) (hK : xK D cs z s) (hz0 : s.heap.size = z) (hX : va_X b L xs s s.heap) (hbl : b < s.heap.size) (again : Int32 × Nat × Nat × Kd × Ptr × Mem × Mem → Option Unit) (hag : ∀ j : Int32 × Nat × Nat × Kd × Ptr × Mem × Mem, Gl p l e s m args below meth c D cs z 18 [(0, .ref b), (1, .ref z), (2, .ref (z + 2463)), (3, .int j.1)] [] ((j.2.1, j.2.2.1, j.2.2.2.1, j.2.2.2.2.1, j.2.2.2.2.2.1), j.2.2.2.2.2.2) q (again j)) (i : Int32) (sz sl : Nat) (kd : Kd) (P : Ptr) (I μ : Mem) (hsh : Shp z kd) (hkz : kd z = (0, 0, 0)) : Gl p l e s m args below meth c D cs z 1200 [(0, .ref b), (1, .ref z), (2, .ref (z + 2463)), (3, .int i)] [] ((sz, sl, kd, P, I), μ) q (lc_32 z (cs 300) L xs again i sz sl kd P I μ) := by
  unfold lc_32
  refine g_aloadn K 1 rfl rfl 1201 dL_law_1200 rfl ?_
  refine g_aloadn K 0 rfl rfl 1202 dL_law_1201 rfl ?_
  refine g_iloadn K 3 rfl rfl 1203 dL_law_1202 rfl ?_
  refine g_iconst K (nI 1) ic_1 1204 dL_law_1203 rfl ?_
  refine g_iadd K 1205 dL_law_1204 rfl ?_
  refine gl_sld K hz0 hX hbl 1206 dL_law_1205 rfl (fun v187 => ?_)
  refine gl_callX K hK hz0 hsh hkz 1209 (ctx_x0_window P I v187 hkz) (lw_V q1424 q1425 q1426 q151 q1427) wd_x0_window (by decide) rfl (Nat.le_of_ble_eq_true rfl) dL_law_1206 rfl (fun r188 _ => ?_)
  refine g_aloadn K 2 rfl rfl 1210 dL_law_1209 rfl ?_
  refine g_aloadn K 0 rfl rfl 1211 dL_law_1210 rfl ?_
  refine g_iloadn K 3 rfl rfl 1212 dL_law_1211 rfl ?_
  refine g_iconst K (nI 1) ic_1 1213 dL_law_1212 rfl ?_
  refine g_iadd K 1214 dL_law_1213 rfl ?_
  refine gl_sld K hz0 hX hbl 1215 dL_law_1214 rfl (fun v189 => ?_)
  refine gl_callM K hK hz0 hsh 1218 (ct_window μ v189) (lw_V q2190 q2191 q2192 q158 q2193) wd_window (by decide) rfl (Nat.le_of_ble_eq_true rfl) dL_law_1215 rfl (fun r190 _ => ?_)
  refine g_icmp_eq K 1221 1387 dL_law_1218 rfl (by decide) (fun _ => ?_) (fun _ => ?_)
  · refine g_iinc K (i + (nI 6)) 3 [(0, .ref b), (1, .ref z), (2, .ref (z + 2463)), (3, .int (i + (nI 6)))] [1, 2, 3, 0] rfl (by rw [ic_6]) (by decide) rfl 1390 dL_law_1387 rfl ?_
    refine g_goto K 18 dL_law_1390 (by decide) ?_
    exact hag ((i + (nI 6)), sz, sl, kd, P, r188.2, r190.2)
  · exact g_none
noncomputable def lc_33 (z em L : Nat) (xs : Nat → Int32) (again : Int32 × Nat × Nat × Kd × Ptr × Mem × Mem → Option Unit) (i : Int32) (sz sl : Nat) (kd : Kd) (P : Ptr) (I μ : Mem) : Option Unit :=
  (sc L xs (i + (nI 1))).bind fun v191 =>
  (sc L xs (i + (nI 2))).bind fun v192 =>
  (x0_member I z v191 v192).bind fun r193 =>
  (sc L xs (i + (nI 1))).bind fun v194 =>
  (sc L xs (i + (nI 2))).bind fun v195 =>
  (m_member μ v194 v195).bind fun r196 =>
  if r193.1 = r196.1 then
  again ((i + (nI 6)), sz, sl, kd, P, r193.2, r196.2)
  else
  none
set_option maxRecDepth 100000 in
theorem gc_33 {p : Program} {l : Launch} {e : Env} {s : State} {m : MethodId} {args : Array Value} {below : List Frame} {meth : Method} {c : Code} {D : va_G} {cs : Cs} {b : Nat} {q : Unit → En} {z L : Nat} {xs : Nat → Int32} (K : CallFix p m c code 4 s args lw_all R_law) (hlt : l.stackTraces = false) (hK : xK D cs z s) (hz0 : s.heap.size = z) (hX : va_X b L xs s s.heap) (hbl : b < s.heap.size) (again : Int32 × Nat × Nat × Kd × Ptr × Mem × Mem → Option Unit) (hag : ∀ j : Int32 × Nat × Nat × Kd × Ptr × Mem × Mem, Gl p l e s m args below meth c D cs z 18 [(0, .ref b), (1, .ref z), (2, .ref (z + 2463)), (3, .int j.1)] [] ((j.2.1, j.2.2.1, j.2.2.2.1, j.2.2.2.2.1, j.2.2.2.2.2.1), j.2.2.2.2.2.2) q (again j)) (i : Int32) (sz sl : Nat) (kd : Kd) (P : Ptr) (I μ : Mem) (hsh : Shp z kd) (hkz : kd z = (0, 0, 0)) : Gl p l e s m args below meth c D cs z 1223 [(0, .ref b), (1, .ref z), (2, .ref (z + 2463)), (3, .int i)] [] ((sz, sl, kd, P, I), μ) q (lc_33 z (cs 300) L xs again i sz sl kd P I μ) := by
  unfold lc_33
  refine g_aloadn K 1 rfl rfl 1224 dL_law_1223 rfl ?_
  refine g_aloadn K 0 rfl rfl 1225 dL_law_1224 rfl ?_
  refine g_iloadn K 3 rfl rfl 1226 dL_law_1225 rfl ?_
  refine g_iconst K (nI 1) ic_1 1227 dL_law_1226 rfl ?_
  refine g_iadd K 1228 dL_law_1227 rfl ?_
  refine gl_sld K hz0 hX hbl 1229 dL_law_1228 rfl (fun v191 => ?_)
  refine g_aloadn K 0 rfl rfl 1230 dL_law_1229 rfl ?_
  refine g_iloadn K 3 rfl rfl 1231 dL_law_1230 rfl ?_
  refine g_iconst K (nI 2) ic_2 1232 dL_law_1231 rfl ?_
  refine g_iadd K 1233 dL_law_1232 rfl ?_
  refine gl_sld K hz0 hX hbl 1234 dL_law_1233 rfl (fun v192 => ?_)
  refine gl_callX K hK hz0 hsh hkz 1237 (ctx_x0_member P I v191 v192 hkz) (lw_V q1428 q1429 q1430 q151 q1431) wd_x0_member (by decide) rfl (Nat.le_of_ble_eq_true rfl) dL_law_1234 rfl (fun r193 _ => ?_)
  refine g_aloadn K 2 rfl rfl 1238 dL_law_1237 rfl ?_
  refine g_aloadn K 0 rfl rfl 1239 dL_law_1238 rfl ?_
  refine g_iloadn K 3 rfl rfl 1240 dL_law_1239 rfl ?_
  refine g_iconst K (nI 1) ic_1 1241 dL_law_1240 rfl ?_
  refine g_iadd K 1242 dL_law_1241 rfl ?_
  refine gl_sld K hz0 hX hbl 1243 dL_law_1242 rfl (fun v194 => ?_)
  refine g_aloadn K 0 rfl rfl 1244 dL_law_1243 rfl ?_
  refine g_iloadn K 3 rfl rfl 1245 dL_law_1244 rfl ?_
  refine g_iconst K (nI 2) ic_2 1246 dL_law_1245 rfl ?_
  refine g_iadd K 1247 dL_law_1246 rfl ?_
  refine gl_sld K hz0 hX hbl 1248 dL_law_1247 rfl (fun v195 => ?_)
  refine gl_callM K hK hz0 hsh 1251 (ct_member μ v194 v195) (lw_V q2194 q2195 q2196 q158 q2197) wd_member (by decide) rfl (Nat.le_of_ble_eq_true rfl) dL_law_1248 rfl (fun r196 _ => ?_)
  refine g_icmp_eq K 1254 1387 dL_law_1251 rfl (by decide) (fun _ => ?_) (fun _ => ?_)
  · refine g_iinc K (i + (nI 6)) 3 [(0, .ref b), (1, .ref z), (2, .ref (z + 2463)), (3, .int (i + (nI 6)))] [1, 2, 3, 0] rfl (by rw [ic_6]) (by decide) rfl 1390 dL_law_1387 rfl ?_
    refine g_goto K 18 dL_law_1390 (by decide) ?_
    exact hag ((i + (nI 6)), sz, sl, kd, P, r193.2, r196.2)
  · exact g_none
noncomputable def lc_34 (z em L : Nat) (xs : Nat → Int32) (again : Int32 × Nat × Nat × Kd × Ptr × Mem × Mem → Option Unit) (i : Int32) (sz sl : Nat) (kd : Kd) (P : Ptr) (I μ : Mem) : Option Unit :=
  (sc L xs (i + (nI 1))).bind fun v197 =>
  (x0_council I z v197).bind fun r198 =>
  (sc L xs (i + (nI 1))).bind fun v199 =>
  (m_council μ v199).bind fun r200 =>
  if r198 = r200.1 then
  again ((i + (nI 6)), sz, sl, kd, P, I, r200.2)
  else
  none
set_option maxRecDepth 100000 in
theorem gc_34 {p : Program} {l : Launch} {e : Env} {s : State} {m : MethodId} {args : Array Value} {below : List Frame} {meth : Method} {c : Code} {D : va_G} {cs : Cs} {b : Nat} {q : Unit → En} {z L : Nat} {xs : Nat → Int32} (K : CallFix p m c code 4 s args lw_all R_law) (hlt : l.stackTraces = false) (hK : xK D cs z s) (hz0 : s.heap.size = z) (hX : va_X b L xs s s.heap) (hbl : b < s.heap.size) (again : Int32 × Nat × Nat × Kd × Ptr × Mem × Mem → Option Unit) (hag : ∀ j : Int32 × Nat × Nat × Kd × Ptr × Mem × Mem, Gl p l e s m args below meth c D cs z 18 [(0, .ref b), (1, .ref z), (2, .ref (z + 2463)), (3, .int j.1)] [] ((j.2.1, j.2.2.1, j.2.2.2.1, j.2.2.2.2.1, j.2.2.2.2.2.1), j.2.2.2.2.2.2) q (again j)) (i : Int32) (sz sl : Nat) (kd : Kd) (P : Ptr) (I μ : Mem) (hsh : Shp z kd) (hkz : kd z = (0, 0, 0)) : Gl p l e s m args below meth c D cs z 1256 [(0, .ref b), (1, .ref z), (2, .ref (z + 2463)), (3, .int i)] [] ((sz, sl, kd, P, I), μ) q (lc_34 z (cs 300) L xs again i sz sl kd P I μ) := by
  unfold lc_34
  refine g_aloadn K 1 rfl rfl 1257 dL_law_1256 rfl ?_
  refine g_aloadn K 0 rfl rfl 1258 dL_law_1257 rfl ?_
  refine g_iloadn K 3 rfl rfl 1259 dL_law_1258 rfl ?_
  refine g_iconst K (nI 1) ic_1 1260 dL_law_1259 rfl ?_
  refine g_iadd K 1261 dL_law_1260 rfl ?_
  refine gl_sld K hz0 hX hbl 1262 dL_law_1261 rfl (fun v197 => ?_)
  refine gl_callX K hK hz0 hsh hkz 1265 (ctx_x0_council P I v197 hkz) (lw_V q1432 q1433 q1434 q151 q1435) wd_x0_council (by decide) rfl (Nat.le_of_ble_eq_true rfl) dL_law_1262 rfl (fun r198 _ => ?_)
  refine g_aloadn K 2 rfl rfl 1266 dL_law_1265 rfl ?_
  refine g_aloadn K 0 rfl rfl 1267 dL_law_1266 rfl ?_
  refine g_iloadn K 3 rfl rfl 1268 dL_law_1267 rfl ?_
  refine g_iconst K (nI 1) ic_1 1269 dL_law_1268 rfl ?_
  refine g_iadd K 1270 dL_law_1269 rfl ?_
  refine gl_sld K hz0 hX hbl 1271 dL_law_1270 rfl (fun v199 => ?_)
  refine gl_callM K hK hz0 hsh 1274 (ct_council μ v199) (lw_V q2198 q2199 q2200 q158 q2201) wd_council (by decide) rfl (Nat.le_of_ble_eq_true rfl) dL_law_1271 rfl (fun r200 _ => ?_)
  refine g_icmp_eq K 1277 1387 dL_law_1274 rfl (by decide) (fun _ => ?_) (fun _ => ?_)
  · refine g_iinc K (i + (nI 6)) 3 [(0, .ref b), (1, .ref z), (2, .ref (z + 2463)), (3, .int (i + (nI 6)))] [1, 2, 3, 0] rfl (by rw [ic_6]) (by decide) rfl 1390 dL_law_1387 rfl ?_
    refine g_goto K 18 dL_law_1390 (by decide) ?_
    exact hag ((i + (nI 6)), sz, sl, kd, P, I, r200.2)
  · exact g_none
noncomputable def lc_35 (z em L : Nat) (xs : Nat → Int32) (again : Int32 × Nat × Nat × Kd × Ptr × Mem × Mem → Option Unit) (i : Int32) (sz sl : Nat) (kd : Kd) (P : Ptr) (I μ : Mem) : Option Unit :=
  (sc L xs (i + (nI 1))).bind fun v201 =>
  (sc L xs (i + (nI 2))).bind fun v202 =>
  (x0_game I z v201 v202).bind fun r203 =>
  (sc L xs (i + (nI 1))).bind fun v204 =>
  (sc L xs (i + (nI 2))).bind fun v205 =>
  (m_game μ v204 v205).bind fun r206 =>
  if r203.1 = r206.1 then
  again ((i + (nI 6)), sz, sl, kd, P, r203.2, r206.2)
  else
  none
set_option maxRecDepth 100000 in
theorem gc_35 {p : Program} {l : Launch} {e : Env} {s : State} {m : MethodId} {args : Array Value} {below : List Frame} {meth : Method} {c : Code} {D : va_G} {cs : Cs} {b : Nat} {q : Unit → En} {z L : Nat} {xs : Nat → Int32} (K : CallFix p m c code 4 s args lw_all R_law) (hlt : l.stackTraces = false) (hK : xK D cs z s) (hz0 : s.heap.size = z) (hX : va_X b L xs s s.heap) (hbl : b < s.heap.size) (again : Int32 × Nat × Nat × Kd × Ptr × Mem × Mem → Option Unit) (hag : ∀ j : Int32 × Nat × Nat × Kd × Ptr × Mem × Mem, Gl p l e s m args below meth c D cs z 18 [(0, .ref b), (1, .ref z), (2, .ref (z + 2463)), (3, .int j.1)] [] ((j.2.1, j.2.2.1, j.2.2.2.1, j.2.2.2.2.1, j.2.2.2.2.2.1), j.2.2.2.2.2.2) q (again j)) (i : Int32) (sz sl : Nat) (kd : Kd) (P : Ptr) (I μ : Mem) (hsh : Shp z kd) (hkz : kd z = (0, 0, 0)) : Gl p l e s m args below meth c D cs z 1279 [(0, .ref b), (1, .ref z), (2, .ref (z + 2463)), (3, .int i)] [] ((sz, sl, kd, P, I), μ) q (lc_35 z (cs 300) L xs again i sz sl kd P I μ) := by
  unfold lc_35
  refine g_aloadn K 1 rfl rfl 1280 dL_law_1279 rfl ?_
  refine g_aloadn K 0 rfl rfl 1281 dL_law_1280 rfl ?_
  refine g_iloadn K 3 rfl rfl 1282 dL_law_1281 rfl ?_
  refine g_iconst K (nI 1) ic_1 1283 dL_law_1282 rfl ?_
  refine g_iadd K 1284 dL_law_1283 rfl ?_
  refine gl_sld K hz0 hX hbl 1285 dL_law_1284 rfl (fun v201 => ?_)
  refine g_aloadn K 0 rfl rfl 1286 dL_law_1285 rfl ?_
  refine g_iloadn K 3 rfl rfl 1287 dL_law_1286 rfl ?_
  refine g_iconst K (nI 2) ic_2 1288 dL_law_1287 rfl ?_
  refine g_iadd K 1289 dL_law_1288 rfl ?_
  refine gl_sld K hz0 hX hbl 1290 dL_law_1289 rfl (fun v202 => ?_)
  refine gl_callX K hK hz0 hsh hkz 1293 (ctx_x0_game P I v201 v202 hkz) (lw_V q1444 q1445 q1446 q151 q1447) wd_x0_game (by decide) rfl (Nat.le_of_ble_eq_true rfl) dL_law_1290 rfl (fun r203 _ => ?_)
  refine g_aloadn K 2 rfl rfl 1294 dL_law_1293 rfl ?_
  refine g_aloadn K 0 rfl rfl 1295 dL_law_1294 rfl ?_
  refine g_iloadn K 3 rfl rfl 1296 dL_law_1295 rfl ?_
  refine g_iconst K (nI 1) ic_1 1297 dL_law_1296 rfl ?_
  refine g_iadd K 1298 dL_law_1297 rfl ?_
  refine gl_sld K hz0 hX hbl 1299 dL_law_1298 rfl (fun v204 => ?_)
  refine g_aloadn K 0 rfl rfl 1300 dL_law_1299 rfl ?_
  refine g_iloadn K 3 rfl rfl 1301 dL_law_1300 rfl ?_
  refine g_iconst K (nI 2) ic_2 1302 dL_law_1301 rfl ?_
  refine g_iadd K 1303 dL_law_1302 rfl ?_
  refine gl_sld K hz0 hX hbl 1304 dL_law_1303 rfl (fun v205 => ?_)
  refine gl_callM K hK hz0 hsh 1307 (ct_game μ v204 v205) (lw_V q2206 q2207 q2208 q158 q2209) wd_game (by decide) rfl (Nat.le_of_ble_eq_true rfl) dL_law_1304 rfl (fun r206 _ => ?_)
  refine g_icmp_eq K 1310 1387 dL_law_1307 rfl (by decide) (fun _ => ?_) (fun _ => ?_)
  · refine g_iinc K (i + (nI 6)) 3 [(0, .ref b), (1, .ref z), (2, .ref (z + 2463)), (3, .int (i + (nI 6)))] [1, 2, 3, 0] rfl (by rw [ic_6]) (by decide) rfl 1390 dL_law_1387 rfl ?_
    refine g_goto K 18 dL_law_1390 (by decide) ?_
    exact hag ((i + (nI 6)), sz, sl, kd, P, r203.2, r206.2)
  · exact g_none
noncomputable def lc_36 (z em L : Nat) (xs : Nat → Int32) (again : Int32 × Nat × Nat × Kd × Ptr × Mem × Mem → Option Unit) (i : Int32) (sz sl : Nat) (kd : Kd) (P : Ptr) (I μ : Mem) : Option Unit :=
  (x0_undo kd P I z).bind fun r207 =>
  (m_undo μ).bind fun r208 =>
  if (bI r207.1) = (bI r208.1) then
  again ((i + (nI 6)), sz, sl, kd, P, r207.2, r208.2)
  else
  none
set_option maxRecDepth 100000 in
theorem gc_36 {p : Program} {l : Launch} {e : Env} {s : State} {m : MethodId} {args : Array Value} {below : List Frame} {meth : Method} {c : Code} {D : va_G} {cs : Cs} {b : Nat} {q : Unit → En} {z L : Nat} {xs : Nat → Int32} (K : CallFix p m c code 4 s args lw_all R_law) (hlt : l.stackTraces = false) (hK : xK D cs z s) (hz0 : s.heap.size = z) (hX : va_X b L xs s s.heap) (hbl : b < s.heap.size) (again : Int32 × Nat × Nat × Kd × Ptr × Mem × Mem → Option Unit) (hag : ∀ j : Int32 × Nat × Nat × Kd × Ptr × Mem × Mem, Gl p l e s m args below meth c D cs z 18 [(0, .ref b), (1, .ref z), (2, .ref (z + 2463)), (3, .int j.1)] [] ((j.2.1, j.2.2.1, j.2.2.2.1, j.2.2.2.2.1, j.2.2.2.2.2.1), j.2.2.2.2.2.2) q (again j)) (i : Int32) (sz sl : Nat) (kd : Kd) (P : Ptr) (I μ : Mem) (hsh : Shp z kd) (hkz : kd z = (0, 0, 0)) : Gl p l e s m args below meth c D cs z 1312 [(0, .ref b), (1, .ref z), (2, .ref (z + 2463)), (3, .int i)] [] ((sz, sl, kd, P, I), μ) q (lc_36 z (cs 300) L xs again i sz sl kd P I μ) := by
  unfold lc_36
  refine g_aloadn K 1 rfl rfl 1313 dL_law_1312 rfl ?_
  refine gl_callX K hK hz0 hsh hkz 1316 (ctx_x0_undo P I hkz) (lw_V q984 q985 q986 q151 q987) wd_x0_undo (by decide) rfl (Nat.le_of_ble_eq_true rfl) dL_law_1313 rfl (fun r207 _ => ?_)
  refine g_aloadn K 2 rfl rfl 1317 dL_law_1316 rfl ?_
  refine gl_callM K hK hz0 hsh 1320 (ct_undo μ) (lw_V q1711 q1712 q1713 q158 q1714) wd_undo (by decide) rfl (Nat.le_of_ble_eq_true rfl) dL_law_1317 rfl (fun r208 _ => ?_)
  refine g_icmp_eq K 1323 1387 dL_law_1320 rfl (by decide) (fun _ => ?_) (fun _ => ?_)
  · refine g_iinc K (i + (nI 6)) 3 [(0, .ref b), (1, .ref z), (2, .ref (z + 2463)), (3, .int (i + (nI 6)))] [1, 2, 3, 0] rfl (by rw [ic_6]) (by decide) rfl 1390 dL_law_1387 rfl ?_
    refine g_goto K 18 dL_law_1390 (by decide) ?_
    exact hag ((i + (nI 6)), sz, sl, kd, P, r207.2, r208.2)
  · exact g_none
noncomputable def lc_37 (z em L : Nat) (xs : Nat → Int32) (again : Int32 × Nat × Nat × Kd × Ptr × Mem × Mem → Option Unit) (i : Int32) (sz sl : Nat) (kd : Kd) (P : Ptr) (I μ : Mem) : Option Unit :=
  (sc L xs (i + (nI 1))).bind fun v209 =>
  if v209 = 0 then
  (x0_image kd P I z false).bind fun r210 =>
  (sc L xs (i + (nI 1))).bind fun v211 =>
  if v211 = 0 then
  (m_image μ false).bind fun r212 =>
  if (bI r210.1) = (bI r212.1) then
  again ((i + (nI 6)), sz, sl, kd, r210.2.1, r210.2.2, r212.2)
  else
  none
  else
  (m_image μ true).bind fun r213 =>
  if (bI r210.1) = (bI r213.1) then
  again ((i + (nI 6)), sz, sl, kd, r210.2.1, r210.2.2, r213.2)
  else
  none
  else
  (x0_image kd P I z true).bind fun r214 =>
  (sc L xs (i + (nI 1))).bind fun v215 =>
  if v215 = 0 then
  (m_image μ false).bind fun r216 =>
  if (bI r214.1) = (bI r216.1) then
  again ((i + (nI 6)), sz, sl, kd, r214.2.1, r214.2.2, r216.2)
  else
  none
  else
  (m_image μ true).bind fun r217 =>
  if (bI r214.1) = (bI r217.1) then
  again ((i + (nI 6)), sz, sl, kd, r214.2.1, r214.2.2, r217.2)
  else
  none
set_option maxRecDepth 100000 in
theorem gc_37 {p : Program} {l : Launch} {e : Env} {s : State} {m : MethodId} {args : Array Value} {below : List Frame} {meth : Method} {c : Code} {D : va_G} {cs : Cs} {b : Nat} {q : Unit → En} {z L : Nat} {xs : Nat → Int32} (K : CallFix p m c code 4 s args lw_all R_law) (hlt : l.stackTraces = false) (hK : xK D cs z s) (hz0 : s.heap.size = z) (hX : va_X b L xs s s.heap) (hbl : b < s.heap.size) (again : Int32 × Nat × Nat × Kd × Ptr × Mem × Mem → Option Unit) (hag : ∀ j : Int32 × Nat × Nat × Kd × Ptr × Mem × Mem, Gl p l e s m args below meth c D cs z 18 [(0, .ref b), (1, .ref z), (2, .ref (z + 2463)), (3, .int j.1)] [] ((j.2.1, j.2.2.1, j.2.2.2.1, j.2.2.2.2.1, j.2.2.2.2.2.1), j.2.2.2.2.2.2) q (again j)) (i : Int32) (sz sl : Nat) (kd : Kd) (P : Ptr) (I μ : Mem) (hsh : Shp z kd) (hkz : kd z = (0, 0, 0)) : Gl p l e s m args below meth c D cs z 1325 [(0, .ref b), (1, .ref z), (2, .ref (z + 2463)), (3, .int i)] [] ((sz, sl, kd, P, I), μ) q (lc_37 z (cs 300) L xs again i sz sl kd P I μ) := by
  unfold lc_37
  refine g_aloadn K 1 rfl rfl 1326 dL_law_1325 rfl ?_
  refine g_aloadn K 0 rfl rfl 1327 dL_law_1326 rfl ?_
  refine g_iloadn K 3 rfl rfl 1328 dL_law_1327 rfl ?_
  refine g_iconst K (nI 1) ic_1 1329 dL_law_1328 rfl ?_
  refine g_iadd K 1330 dL_law_1329 rfl ?_
  refine gl_sld K hz0 hX hbl 1331 dL_law_1330 rfl (fun v209 => ?_)
  refine g_if_eq K 1334 1338 dL_law_1331 rfl (by decide) (fun _ => ?_) (fun _ => ?_)
  · refine g_iconst K (nI 0) ic_0 1339 dL_law_1338 rfl ?_
    refine gl_callX K hK hz0 hsh hkz 1342 (ctx_x0_image P I false hkz) (lw_V q1462 q1463 q1464 q151 q1465) wd_x0_image (by decide) rfl (Nat.le_of_ble_eq_true rfl) dL_law_1339 rfl (fun r210 _ => ?_)
    refine g_aloadn K 2 rfl rfl 1343 dL_law_1342 rfl ?_
    refine g_aloadn K 0 rfl rfl 1344 dL_law_1343 rfl ?_
    refine g_iloadn K 3 rfl rfl 1345 dL_law_1344 rfl ?_
    refine g_iconst K (nI 1) ic_1 1346 dL_law_1345 rfl ?_
    refine g_iadd K 1347 dL_law_1346 rfl ?_
    refine gl_sld K hz0 hX hbl 1348 dL_law_1347 rfl (fun v211 => ?_)
    refine g_if_eq K 1351 1355 dL_law_1348 rfl (by decide) (fun _ => ?_) (fun _ => ?_)
    · refine g_iconst K (nI 0) ic_0 1356 dL_law_1355 rfl ?_
      refine gl_callM K hK hz0 hsh 1359 (ct_image μ false) (lw_V q2226 q2227 q2228 q158 q2229) wd_image (by decide) rfl (Nat.le_of_ble_eq_true rfl) dL_law_1356 rfl (fun r212 _ => ?_)
      refine g_icmp_eq K 1362 1387 dL_law_1359 rfl (by decide) (fun _ => ?_) (fun _ => ?_)
      · refine g_iinc K (i + (nI 6)) 3 [(0, .ref b), (1, .ref z), (2, .ref (z + 2463)), (3, .int (i + (nI 6)))] [1, 2, 3, 0] rfl (by rw [ic_6]) (by decide) rfl 1390 dL_law_1387 rfl ?_
        refine g_goto K 18 dL_law_1390 (by decide) ?_
        exact hag ((i + (nI 6)), sz, sl, kd, r210.2.1, r210.2.2, r212.2)
      · exact g_none
    · refine g_iconst K (nI 1) ic_1 1352 dL_law_1351 rfl ?_
      refine g_goto K 1356 dL_law_1352 (by decide) ?_
      refine gl_callM K hK hz0 hsh 1359 (ct_image μ true) (lw_V q2226 q2227 q2228 q158 q2229) wd_image (by decide) rfl (Nat.le_of_ble_eq_true rfl) dL_law_1356 rfl (fun r213 _ => ?_)
      refine g_icmp_eq K 1362 1387 dL_law_1359 rfl (by decide) (fun _ => ?_) (fun _ => ?_)
      · refine g_iinc K (i + (nI 6)) 3 [(0, .ref b), (1, .ref z), (2, .ref (z + 2463)), (3, .int (i + (nI 6)))] [1, 2, 3, 0] rfl (by rw [ic_6]) (by decide) rfl 1390 dL_law_1387 rfl ?_
        refine g_goto K 18 dL_law_1390 (by decide) ?_
        exact hag ((i + (nI 6)), sz, sl, kd, r210.2.1, r210.2.2, r213.2)
      · exact g_none
  · refine g_iconst K (nI 1) ic_1 1335 dL_law_1334 rfl ?_
    refine g_goto K 1339 dL_law_1335 (by decide) ?_
    refine gl_callX K hK hz0 hsh hkz 1342 (ctx_x0_image P I true hkz) (lw_V q1462 q1463 q1464 q151 q1465) wd_x0_image (by decide) rfl (Nat.le_of_ble_eq_true rfl) dL_law_1339 rfl (fun r214 _ => ?_)
    refine g_aloadn K 2 rfl rfl 1343 dL_law_1342 rfl ?_
    refine g_aloadn K 0 rfl rfl 1344 dL_law_1343 rfl ?_
    refine g_iloadn K 3 rfl rfl 1345 dL_law_1344 rfl ?_
    refine g_iconst K (nI 1) ic_1 1346 dL_law_1345 rfl ?_
    refine g_iadd K 1347 dL_law_1346 rfl ?_
    refine gl_sld K hz0 hX hbl 1348 dL_law_1347 rfl (fun v215 => ?_)
    refine g_if_eq K 1351 1355 dL_law_1348 rfl (by decide) (fun _ => ?_) (fun _ => ?_)
    · refine g_iconst K (nI 0) ic_0 1356 dL_law_1355 rfl ?_
      refine gl_callM K hK hz0 hsh 1359 (ct_image μ false) (lw_V q2226 q2227 q2228 q158 q2229) wd_image (by decide) rfl (Nat.le_of_ble_eq_true rfl) dL_law_1356 rfl (fun r216 _ => ?_)
      refine g_icmp_eq K 1362 1387 dL_law_1359 rfl (by decide) (fun _ => ?_) (fun _ => ?_)
      · refine g_iinc K (i + (nI 6)) 3 [(0, .ref b), (1, .ref z), (2, .ref (z + 2463)), (3, .int (i + (nI 6)))] [1, 2, 3, 0] rfl (by rw [ic_6]) (by decide) rfl 1390 dL_law_1387 rfl ?_
        refine g_goto K 18 dL_law_1390 (by decide) ?_
        exact hag ((i + (nI 6)), sz, sl, kd, r214.2.1, r214.2.2, r216.2)
      · exact g_none
    · refine g_iconst K (nI 1) ic_1 1352 dL_law_1351 rfl ?_
      refine g_goto K 1356 dL_law_1352 (by decide) ?_
      refine gl_callM K hK hz0 hsh 1359 (ct_image μ true) (lw_V q2226 q2227 q2228 q158 q2229) wd_image (by decide) rfl (Nat.le_of_ble_eq_true rfl) dL_law_1356 rfl (fun r217 _ => ?_)
      refine g_icmp_eq K 1362 1387 dL_law_1359 rfl (by decide) (fun _ => ?_) (fun _ => ?_)
      · refine g_iinc K (i + (nI 6)) 3 [(0, .ref b), (1, .ref z), (2, .ref (z + 2463)), (3, .int (i + (nI 6)))] [1, 2, 3, 0] rfl (by rw [ic_6]) (by decide) rfl 1390 dL_law_1387 rfl ?_
        refine g_goto K 18 dL_law_1390 (by decide) ?_
        exact hag ((i + (nI 6)), sz, sl, kd, r214.2.1, r214.2.2, r217.2)
      · exact g_none
noncomputable def lc_38 (z em L : Nat) (xs : Nat → Int32) (again : Int32 × Nat × Nat × Kd × Ptr × Mem × Mem → Option Unit) (i : Int32) (sz sl : Nat) (kd : Kd) (P : Ptr) (I μ : Mem) : Option Unit :=
  (sc L xs (i + (nI 1))).bind fun v218 =>
  (x0_look kd P I z v218).bind fun r219 =>
  (sc L xs (i + (nI 1))).bind fun v220 =>
  (m_look μ v220).bind fun r221 =>
  if r219 = r221.1 then
  again ((i + (nI 6)), sz, sl, kd, P, I, r221.2)
  else
  none
set_option maxRecDepth 100000 in
theorem gc_38 {p : Program} {l : Launch} {e : Env} {s : State} {m : MethodId} {args : Array Value} {below : List Frame} {meth : Method} {c : Code} {D : va_G} {cs : Cs} {b : Nat} {q : Unit → En} {z L : Nat} {xs : Nat → Int32} (K : CallFix p m c code 4 s args lw_all R_law) (hlt : l.stackTraces = false) (hK : xK D cs z s) (hz0 : s.heap.size = z) (hX : va_X b L xs s s.heap) (hbl : b < s.heap.size) (again : Int32 × Nat × Nat × Kd × Ptr × Mem × Mem → Option Unit) (hag : ∀ j : Int32 × Nat × Nat × Kd × Ptr × Mem × Mem, Gl p l e s m args below meth c D cs z 18 [(0, .ref b), (1, .ref z), (2, .ref (z + 2463)), (3, .int j.1)] [] ((j.2.1, j.2.2.1, j.2.2.2.1, j.2.2.2.2.1, j.2.2.2.2.2.1), j.2.2.2.2.2.2) q (again j)) (i : Int32) (sz sl : Nat) (kd : Kd) (P : Ptr) (I μ : Mem) (hsh : Shp z kd) (hkz : kd z = (0, 0, 0)) : Gl p l e s m args below meth c D cs z 1364 [(0, .ref b), (1, .ref z), (2, .ref (z + 2463)), (3, .int i)] [] ((sz, sl, kd, P, I), μ) q (lc_38 z (cs 300) L xs again i sz sl kd P I μ) := by
  unfold lc_38
  refine g_aloadn K 1 rfl rfl 1365 dL_law_1364 rfl ?_
  refine g_aloadn K 0 rfl rfl 1366 dL_law_1365 rfl ?_
  refine g_iloadn K 3 rfl rfl 1367 dL_law_1366 rfl ?_
  refine g_iconst K (nI 1) ic_1 1368 dL_law_1367 rfl ?_
  refine g_iadd K 1369 dL_law_1368 rfl ?_
  refine gl_sld K hz0 hX hbl 1370 dL_law_1369 rfl (fun v218 => ?_)
  refine gl_callX K hK hz0 hsh hkz 1373 (ctx_x0_look P I v218 hkz) (lw_V q1475 q1476 q1477 q151 q1478) wd_x0_look (by decide) rfl (Nat.le_of_ble_eq_true rfl) dL_law_1370 rfl (fun r219 _ => ?_)
  refine g_aloadn K 2 rfl rfl 1374 dL_law_1373 rfl ?_
  refine g_aloadn K 0 rfl rfl 1375 dL_law_1374 rfl ?_
  refine g_iloadn K 3 rfl rfl 1376 dL_law_1375 rfl ?_
  refine g_iconst K (nI 1) ic_1 1377 dL_law_1376 rfl ?_
  refine g_iadd K 1378 dL_law_1377 rfl ?_
  refine gl_sld K hz0 hX hbl 1379 dL_law_1378 rfl (fun v220 => ?_)
  refine gl_callM K hK hz0 hsh 1382 (ct_look μ v220) (lw_V q2246 q2247 q2248 q158 q2249) wd_look (by decide) rfl (Nat.le_of_ble_eq_true rfl) dL_law_1379 rfl (fun r221 _ => ?_)
  refine g_icmp_eq K 1385 1387 dL_law_1382 rfl (by decide) (fun _ => ?_) (fun _ => ?_)
  · refine g_iinc K (i + (nI 6)) 3 [(0, .ref b), (1, .ref z), (2, .ref (z + 2463)), (3, .int (i + (nI 6)))] [1, 2, 3, 0] rfl (by rw [ic_6]) (by decide) rfl 1390 dL_law_1387 rfl ?_
    refine g_goto K 18 dL_law_1390 (by decide) ?_
    exact hag ((i + (nI 6)), sz, sl, kd, P, I, r221.2)
  · exact g_none
/-- one turn of the law -/
noncomputable def lawB (z em L : Nat) (xs : Nat → Int32) (again : Int32 × Nat × Nat × Kd × Ptr × Mem × Mem → Option Unit) (j : Int32 × Nat × Nat × Kd × Ptr × Mem × Mem) : Option Unit :=
  chk (Shp z j.2.2.2.1 ∧ j.2.2.2.1 z = (0, 0, 0)) <|
  if ((nI L) - (nI 6)) < j.1 then
  chk (j.2.1 ≤ z + 601024 ∧ j.2.2.1 ≤ 7293034) (some ())
  else
  (sc L xs j.1).bind fun v =>
  nm (v &&& (nI 63)) fun w =>
  if w = (nI 0) then
  lc_0 z em L xs again j.1 j.2.1 j.2.2.1 j.2.2.2.1 j.2.2.2.2.1 j.2.2.2.2.2.1 j.2.2.2.2.2.2
  else
  if w = (nI 1) then
  lc_1 z em L xs again j.1 j.2.1 j.2.2.1 j.2.2.2.1 j.2.2.2.2.1 j.2.2.2.2.2.1 j.2.2.2.2.2.2
  else
  if w = (nI 2) then
  lc_2 z em L xs again j.1 j.2.1 j.2.2.1 j.2.2.2.1 j.2.2.2.2.1 j.2.2.2.2.2.1 j.2.2.2.2.2.2
  else
  if w = (nI 3) then
  lc_3 z em L xs again j.1 j.2.1 j.2.2.1 j.2.2.2.1 j.2.2.2.2.1 j.2.2.2.2.2.1 j.2.2.2.2.2.2
  else
  if w = (nI 4) then
  lc_4 z em L xs again j.1 j.2.1 j.2.2.1 j.2.2.2.1 j.2.2.2.2.1 j.2.2.2.2.2.1 j.2.2.2.2.2.2
  else
  if w = (nI 5) then
  lc_5 z em L xs again j.1 j.2.1 j.2.2.1 j.2.2.2.1 j.2.2.2.2.1 j.2.2.2.2.2.1 j.2.2.2.2.2.2
  else
  if w = (nI 6) then
  lc_6 z em L xs again j.1 j.2.1 j.2.2.1 j.2.2.2.1 j.2.2.2.2.1 j.2.2.2.2.2.1 j.2.2.2.2.2.2
  else
  if w = (nI 7) then
  lc_7 z em L xs again j.1 j.2.1 j.2.2.1 j.2.2.2.1 j.2.2.2.2.1 j.2.2.2.2.2.1 j.2.2.2.2.2.2
  else
  if w = (nI 8) then
  lc_8 z em L xs again j.1 j.2.1 j.2.2.1 j.2.2.2.1 j.2.2.2.2.1 j.2.2.2.2.2.1 j.2.2.2.2.2.2
  else
  if w = (nI 9) then
  lc_9 z em L xs again j.1 j.2.1 j.2.2.1 j.2.2.2.1 j.2.2.2.2.1 j.2.2.2.2.2.1 j.2.2.2.2.2.2
  else
  if w = (nI 10) then
  lc_10 z em L xs again j.1 j.2.1 j.2.2.1 j.2.2.2.1 j.2.2.2.2.1 j.2.2.2.2.2.1 j.2.2.2.2.2.2
  else
  if w = (nI 11) then
  lc_11 z em L xs again j.1 j.2.1 j.2.2.1 j.2.2.2.1 j.2.2.2.2.1 j.2.2.2.2.2.1 j.2.2.2.2.2.2
  else
  if w = (nI 12) then
  lc_12 z em L xs again j.1 j.2.1 j.2.2.1 j.2.2.2.1 j.2.2.2.2.1 j.2.2.2.2.2.1 j.2.2.2.2.2.2
  else
  if w = (nI 13) then
  lc_13 z em L xs again j.1 j.2.1 j.2.2.1 j.2.2.2.1 j.2.2.2.2.1 j.2.2.2.2.2.1 j.2.2.2.2.2.2
  else
  if w = (nI 14) then
  lc_14 z em L xs again j.1 j.2.1 j.2.2.1 j.2.2.2.1 j.2.2.2.2.1 j.2.2.2.2.2.1 j.2.2.2.2.2.2
  else
  if w = (nI 15) then
  lc_15 z em L xs again j.1 j.2.1 j.2.2.1 j.2.2.2.1 j.2.2.2.2.1 j.2.2.2.2.2.1 j.2.2.2.2.2.2
  else
  if w = (nI 16) then
  lc_16 z em L xs again j.1 j.2.1 j.2.2.1 j.2.2.2.1 j.2.2.2.2.1 j.2.2.2.2.2.1 j.2.2.2.2.2.2
  else
  if w = (nI 17) then
  lc_17 z em L xs again j.1 j.2.1 j.2.2.1 j.2.2.2.1 j.2.2.2.2.1 j.2.2.2.2.2.1 j.2.2.2.2.2.2
  else
  if w = (nI 18) then
  lc_18 z em L xs again j.1 j.2.1 j.2.2.1 j.2.2.2.1 j.2.2.2.2.1 j.2.2.2.2.2.1 j.2.2.2.2.2.2
  else
  if w = (nI 19) then
  lc_19 z em L xs again j.1 j.2.1 j.2.2.1 j.2.2.2.1 j.2.2.2.2.1 j.2.2.2.2.2.1 j.2.2.2.2.2.2
  else
  if w = (nI 20) then
  lc_20 z em L xs again j.1 j.2.1 j.2.2.1 j.2.2.2.1 j.2.2.2.2.1 j.2.2.2.2.2.1 j.2.2.2.2.2.2
  else
  if w = (nI 21) then
  lc_21 z em L xs again j.1 j.2.1 j.2.2.1 j.2.2.2.1 j.2.2.2.2.1 j.2.2.2.2.2.1 j.2.2.2.2.2.2
  else
  if w = (nI 22) then
  lc_22 z em L xs again j.1 j.2.1 j.2.2.1 j.2.2.2.1 j.2.2.2.2.1 j.2.2.2.2.2.1 j.2.2.2.2.2.2
  else
  if w = (nI 23) then
  lc_23 z em L xs again j.1 j.2.1 j.2.2.1 j.2.2.2.1 j.2.2.2.2.1 j.2.2.2.2.2.1 j.2.2.2.2.2.2
  else
  if w = (nI 24) then
  lc_24 z em L xs again j.1 j.2.1 j.2.2.1 j.2.2.2.1 j.2.2.2.2.1 j.2.2.2.2.2.1 j.2.2.2.2.2.2
  else
  if w = (nI 25) then
  lc_25 z em L xs again j.1 j.2.1 j.2.2.1 j.2.2.2.1 j.2.2.2.2.1 j.2.2.2.2.2.1 j.2.2.2.2.2.2
  else
  if w = (nI 26) then
  lc_26 z em L xs again j.1 j.2.1 j.2.2.1 j.2.2.2.1 j.2.2.2.2.1 j.2.2.2.2.2.1 j.2.2.2.2.2.2
  else
  if w = (nI 27) then
  lc_27 z em L xs again j.1 j.2.1 j.2.2.1 j.2.2.2.1 j.2.2.2.2.1 j.2.2.2.2.2.1 j.2.2.2.2.2.2
  else
  if w = (nI 28) then
  lc_28 z em L xs again j.1 j.2.1 j.2.2.1 j.2.2.2.1 j.2.2.2.2.1 j.2.2.2.2.2.1 j.2.2.2.2.2.2
  else
  if w = (nI 29) then
  lc_29 z em L xs again j.1 j.2.1 j.2.2.1 j.2.2.2.1 j.2.2.2.2.1 j.2.2.2.2.2.1 j.2.2.2.2.2.2
  else
  if w = (nI 30) then
  lc_30 z em L xs again j.1 j.2.1 j.2.2.1 j.2.2.2.1 j.2.2.2.2.1 j.2.2.2.2.2.1 j.2.2.2.2.2.2
  else
  if w = (nI 31) then
  lc_31 z em L xs again j.1 j.2.1 j.2.2.1 j.2.2.2.1 j.2.2.2.2.1 j.2.2.2.2.2.1 j.2.2.2.2.2.2
  else
  if w = (nI 32) then
  lc_32 z em L xs again j.1 j.2.1 j.2.2.1 j.2.2.2.1 j.2.2.2.2.1 j.2.2.2.2.2.1 j.2.2.2.2.2.2
  else
  if w = (nI 33) then
  lc_33 z em L xs again j.1 j.2.1 j.2.2.1 j.2.2.2.1 j.2.2.2.2.1 j.2.2.2.2.2.1 j.2.2.2.2.2.2
  else
  if w = (nI 34) then
  lc_34 z em L xs again j.1 j.2.1 j.2.2.1 j.2.2.2.1 j.2.2.2.2.1 j.2.2.2.2.2.1 j.2.2.2.2.2.2
  else
  if w = (nI 35) then
  lc_35 z em L xs again j.1 j.2.1 j.2.2.1 j.2.2.2.1 j.2.2.2.2.1 j.2.2.2.2.2.1 j.2.2.2.2.2.2
  else
  if w = (nI 36) then
  lc_36 z em L xs again j.1 j.2.1 j.2.2.1 j.2.2.2.1 j.2.2.2.2.1 j.2.2.2.2.2.1 j.2.2.2.2.2.2
  else
  if w = (nI 37) then
  lc_37 z em L xs again j.1 j.2.1 j.2.2.1 j.2.2.2.1 j.2.2.2.2.1 j.2.2.2.2.2.1 j.2.2.2.2.2.2
  else
  if w = (nI 38) then
  lc_38 z em L xs again j.1 j.2.1 j.2.2.1 j.2.2.2.1 j.2.2.2.2.1 j.2.2.2.2.2.1 j.2.2.2.2.2.2
  else
  again ((j.1 + (nI 6)), j.2.1, j.2.2.1, j.2.2.2.1, j.2.2.2.2.1, j.2.2.2.2.2.1, j.2.2.2.2.2.2)
noncomputable def lawL (z em L : Nat) (xs : Nat → Int32) (n : Nat) (j : Int32 × Nat × Nat × Kd × Ptr × Mem × Mem) : Option Unit := lp (lawB z em L xs) n j
/-- the law's end -/
def lawQ (z : Nat) (below : List Frame) (b : Nat) (s : State) : Unit → En := fun _ => ((z + 601024, 7293034), lw_Z below #[Value.ref b] s)
theorem gl_end {p : Program} {l : Launch} {e : Env} {s : State} {m : MethodId} {below : List Frame} {meth : Method} {c : Code} {D : va_G} {cs : Cs} {b : Nat} {z : Nat} (K : CallFix p m c code 4 s #[Value.ref b] lw_all R_law) (hz0 : s.heap.size = z) (hb0 : b < s.heap.size) (hr : meth.sig.returnType = ret) (hlk : meth.locks = false) {σ : Sl} {ls : List (Nat × Value)} (h1 : σ.1.1 ≤ z + 601024) (h2 : σ.1.2.1 ≤ 7293034) : Gl p l e s m #[Value.ref b] below meth c D cs z 1394 ls [.int (nI 1)] σ (lawQ z below b s) (some ()) := by
  intro out ho a1 a2
  refine ⟨⟨h1, h2⟩, fun H locs la hR hS hl => ?_⟩
  have hroom : ({ frames := 8192, cells := (lawQ z below b s out).1.1 - (z, 0).1, slots := (lawQ z below b s out).1.2 - (z, 0).2, locals := 100000 } : Room) = room_1 := by
    show ({ frames := 8192, cells := z + 601024 - z, slots := 7293034 - 0, locals := 100000 } : Room) = _
    rw [Nat.add_sub_cancel_left]
    rfl
  rw [hroom]
  refine va_forget (fun x hx => ?_) ?_
  · exact Nat.le_trans (Nat.le_of_eq hz0) (hS.2.2 x hx)
  refine W.widen (k := 601024) (n := 7293034) (by show σ.1.1 - z ≤ 601024; omega) (by show σ.1.2.1 - 0 ≤ 7293034; omega) ?_
  exact lw_ret K.1 K.2.1 hr hlk dL_law_1394
set_option maxRecDepth 100000 in
set_option maxHeartbeats 2000000 in
theorem ct_law {p : Program} {l : Launch} {e : Env} {s : State} {m : MethodId} {below : List Frame} {meth : Method} {c : Code} {D : va_G} {cs : Cs} {b : Nat} {z L : Nat} {xs : Nat → Int32} (K : CallFix p m c code 4 s #[Value.ref b] lw_all R_law) (hlt : l.stackTraces = false) (hK : xK D cs z s) (hz0 : s.heap.size = z) (hX : va_X b L xs s s.heap) (hbl : b < s.heap.size) (hb0 : b < s.heap.size) (hr : meth.sig.returnType = ret) (hlk : meth.locks = false) (n : Nat) (j : Int32 × Nat × Nat × Kd × Ptr × Mem × Mem) : Gl p l e s m #[Value.ref b] below meth c D cs z 18 [(0, .ref b), (1, .ref z), (2, .ref (z + 2463)), (3, .int j.1)] [] ((j.2.1, j.2.2.1, j.2.2.2.1, j.2.2.2.2.1, j.2.2.2.2.2.1), j.2.2.2.2.2.2) (lawQ z below b s) (lawL z (cs 300) L xs n j) := by
  unfold lawL
  refine g_lp (head := 18) (L := fun (j : Int32 × Nat × Nat × Kd × Ptr × Mem × Mem) => [(0, .ref b), (1, .ref z), (2, .ref (z + 2463)), (3, .int j.1)]) (sf := fun _ => []) (mf := fun j => ((j.2.1, j.2.2.1, j.2.2.2.1, j.2.2.2.2.1, j.2.2.2.2.2.1), j.2.2.2.2.2.2)) (fun again hag j => ?_) n j
  unfold lawB
  obtain ⟨i, sz, sl, kd, P, I, μ⟩ := j
  dsimp only
  refine g_chk (fun hc => ?_)
  obtain ⟨hsh, hkz⟩ := hc
  refine g_iloadn K 3 rfl rfl 19 dL_law_18 rfl ?_
  refine g_aloadn K 0 rfl rfl 20 dL_law_19 rfl ?_
  refine gl_slen K hz0 hX hbl 21 dL_law_20 rfl ?_
  refine g_bipush K (nI 6) bp_6 23 dL_law_21 rfl ?_
  refine g_isub K 24 dL_law_23 rfl ?_
  refine g_icmp_gt K 27 1393 dL_law_24 rfl (by decide) (fun _ => ?_) (fun _ => ?_)
  · refine g_chk (fun hc => ?_)
    refine g_iconst K (nI 1) ic_1 1394 dL_law_1393 rfl ?_
    exact gl_end K hz0 hb0 hr hlk hc.1 hc.2
  · refine g_aloadn K 0 rfl rfl 28 dL_law_27 rfl ?_
    refine g_iloadn K 3 rfl rfl 29 dL_law_28 rfl ?_
    refine gl_sld K hz0 hX hbl 30 dL_law_29 rfl (fun v => ?_)
    refine g_bipush K (nI 63) bp_63 32 dL_law_30 rfl ?_
    refine g_iand K 33 dL_law_32 rfl ?_
    refine g_nm (fun w _ => ?_)
    refine g_tcase K (nI 0) 204 dL_law_33 (by decide) (by decide) rfl (by decide) (fun _ => ?_) (fun hx0 => ?_)
    · exact gc_0 K hlt hK hz0 hX hbl again hag i sz sl kd P I μ hsh hkz
    · refine g_tcase K (nI 1) 227 dL_law_33 (by decide) (by decide) rfl (by decide) (fun _ => ?_) (fun hx1 => ?_)
      · exact gc_1 K hlt hK hz0 hX hbl again hag i sz sl kd P I μ hsh hkz
      · refine g_tcase K (nI 2) 270 dL_law_33 (by decide) (by decide) rfl (by decide) (fun _ => ?_) (fun hx2 => ?_)
        · exact gc_2 K hlt hK hz0 hX hbl again hag i sz sl kd P I μ hsh hkz
        · refine g_tcase K (nI 3) 313 dL_law_33 (by decide) (by decide) rfl (by decide) (fun _ => ?_) (fun hx3 => ?_)
          · exact gc_3 K hlt hK hz0 hX hbl again hag i sz sl kd P I μ hsh hkz
          · refine g_tcase K (nI 4) 356 dL_law_33 (by decide) (by decide) rfl (by decide) (fun _ => ?_) (fun hx4 => ?_)
            · exact gc_4 K hlt hK hz0 hX hbl again hag i sz sl kd P I μ hsh hkz
            · refine g_tcase K (nI 5) 379 dL_law_33 (by decide) (by decide) rfl (by decide) (fun _ => ?_) (fun hx5 => ?_)
              · exact gc_5 K hlt hK hz0 hX hbl again hag i sz sl kd P I μ hsh hkz
              · refine g_tcase K (nI 6) 442 dL_law_33 (by decide) (by decide) rfl (by decide) (fun _ => ?_) (fun hx6 => ?_)
                · exact gc_6 K hlt hK hz0 hX hbl again hag i sz sl kd P I μ hsh hkz
                · refine g_tcase K (nI 7) 465 dL_law_33 (by decide) (by decide) rfl (by decide) (fun _ => ?_) (fun hx7 => ?_)
                  · exact gc_7 K hlt hK hz0 hX hbl again hag i sz sl kd P I μ hsh hkz
                  · refine g_tcase K (nI 8) 488 dL_law_33 (by decide) (by decide) rfl (by decide) (fun _ => ?_) (fun hx8 => ?_)
                    · exact gc_8 K hlt hK hz0 hX hbl again hag i sz sl kd P I μ hsh hkz
                    · refine g_tcase K (nI 9) 511 dL_law_33 (by decide) (by decide) rfl (by decide) (fun _ => ?_) (fun hx9 => ?_)
                      · exact gc_9 K hlt hK hz0 hX hbl again hag i sz sl kd P I μ hsh hkz
                      · refine g_tcase K (nI 10) 544 dL_law_33 (by decide) (by decide) rfl (by decide) (fun _ => ?_) (fun hx10 => ?_)
                        · exact gc_10 K hlt hK hz0 hX hbl again hag i sz sl kd P I μ hsh hkz
                        · refine g_tcase K (nI 11) 577 dL_law_33 (by decide) (by decide) rfl (by decide) (fun _ => ?_) (fun hx11 => ?_)
                          · exact gc_11 K hlt hK hz0 hX hbl again hag i sz sl kd P I μ hsh hkz
                          · refine g_tcase K (nI 12) 610 dL_law_33 (by decide) (by decide) rfl (by decide) (fun _ => ?_) (fun hx12 => ?_)
                            · exact gc_12 K hlt hK hz0 hX hbl again hag i sz sl kd P I μ hsh hkz
                            · refine g_tcase K (nI 13) 633 dL_law_33 (by decide) (by decide) rfl (by decide) (fun _ => ?_) (fun hx13 => ?_)
                              · exact gc_13 K hlt hK hz0 hX hbl again hag i sz sl kd P I μ hsh hkz
                              · refine g_tcase K (nI 14) 666 dL_law_33 (by decide) (by decide) rfl (by decide) (fun _ => ?_) (fun hx14 => ?_)
                                · exact gc_14 K hlt hK hz0 hX hbl again hag i sz sl kd P I μ hsh hkz
                                · refine g_tcase K (nI 15) 699 dL_law_33 (by decide) (by decide) rfl (by decide) (fun _ => ?_) (fun hx15 => ?_)
                                  · exact gc_15 K hlt hK hz0 hX hbl again hag i sz sl kd P I μ hsh hkz
                                  · refine g_tcase K (nI 16) 732 dL_law_33 (by decide) (by decide) rfl (by decide) (fun _ => ?_) (fun hx16 => ?_)
                                    · exact gc_16 K hlt hK hz0 hX hbl again hag i sz sl kd P I μ hsh hkz
                                    · refine g_tcase K (nI 17) 755 dL_law_33 (by decide) (by decide) rfl (by decide) (fun _ => ?_) (fun hx17 => ?_)
                                      · exact gc_17 K hlt hK hz0 hX hbl again hag i sz sl kd P I μ hsh hkz
                                      · refine g_tcase K (nI 18) 788 dL_law_33 (by decide) (by decide) rfl (by decide) (fun _ => ?_) (fun hx18 => ?_)
                                        · exact gc_18 K hlt hK hz0 hX hbl again hag i sz sl kd P I μ hsh hkz
                                        · refine g_tcase K (nI 19) 811 dL_law_33 (by decide) (by decide) rfl (by decide) (fun _ => ?_) (fun hx19 => ?_)
                                          · exact gc_19 K hlt hK hz0 hX hbl again hag i sz sl kd P I μ hsh hkz
                                          · refine g_tcase K (nI 20) 844 dL_law_33 (by decide) (by decide) rfl (by decide) (fun _ => ?_) (fun hx20 => ?_)
                                            · exact gc_20 K hlt hK hz0 hX hbl again hag i sz sl kd P I μ hsh hkz
                                            · refine g_tcase K (nI 21) 897 dL_law_33 (by decide) (by decide) rfl (by decide) (fun _ => ?_) (fun hx21 => ?_)
                                              · exact gc_21 K hlt hK hz0 hX hbl again hag i sz sl kd P I μ hsh hkz
                                              · refine g_tcase K (nI 22) 920 dL_law_33 (by decide) (by decide) rfl (by decide) (fun _ => ?_) (fun hx22 => ?_)
                                                · exact gc_22 K hlt hK hz0 hX hbl again hag i sz sl kd P I μ hsh hkz
                                                · refine g_tcase K (nI 23) 943 dL_law_33 (by decide) (by decide) rfl (by decide) (fun _ => ?_) (fun hx23 => ?_)
                                                  · exact gc_23 K hlt hK hz0 hX hbl again hag i sz sl kd P I μ hsh hkz
                                                  · refine g_tcase K (nI 24) 976 dL_law_33 (by decide) (by decide) rfl (by decide) (fun _ => ?_) (fun hx24 => ?_)
                                                    · exact gc_24 K hlt hK hz0 hX hbl again hag i sz sl kd P I μ hsh hkz
                                                    · refine g_tcase K (nI 25) 1009 dL_law_33 (by decide) (by decide) rfl (by decide) (fun _ => ?_) (fun hx25 => ?_)
                                                      · exact gc_25 K hlt hK hz0 hX hbl again hag i sz sl kd P I μ hsh hkz
                                                      · refine g_tcase K (nI 26) 1032 dL_law_33 (by decide) (by decide) rfl (by decide) (fun _ => ?_) (fun hx26 => ?_)
                                                        · exact gc_26 K hlt hK hz0 hX hbl again hag i sz sl kd P I μ hsh hkz
                                                        · refine g_tcase K (nI 27) 1055 dL_law_33 (by decide) (by decide) rfl (by decide) (fun _ => ?_) (fun hx27 => ?_)
                                                          · exact gc_27 K hlt hK hz0 hX hbl again hag i sz sl kd P I μ hsh hkz
                                                          · refine g_tcase K (nI 28) 1088 dL_law_33 (by decide) (by decide) rfl (by decide) (fun _ => ?_) (fun hx28 => ?_)
                                                            · exact gc_28 K hlt hK hz0 hX hbl again hag i sz sl kd P I μ hsh hkz
                                                            · refine g_tcase K (nI 29) 1111 dL_law_33 (by decide) (by decide) rfl (by decide) (fun _ => ?_) (fun hx29 => ?_)
                                                              · exact gc_29 K hlt hK hz0 hX hbl again hag i sz sl kd P I μ hsh hkz
                                                              · refine g_tcase K (nI 30) 1134 dL_law_33 (by decide) (by decide) rfl (by decide) (fun _ => ?_) (fun hx30 => ?_)
                                                                · exact gc_30 K hlt hK hz0 hX hbl again hag i sz sl kd P I μ hsh hkz
                                                                · refine g_tcase K (nI 31) 1167 dL_law_33 (by decide) (by decide) rfl (by decide) (fun _ => ?_) (fun hx31 => ?_)
                                                                  · exact gc_31 K hlt hK hz0 hX hbl again hag i sz sl kd P I μ hsh hkz
                                                                  · refine g_tcase K (nI 32) 1200 dL_law_33 (by decide) (by decide) rfl (by decide) (fun _ => ?_) (fun hx32 => ?_)
                                                                    · exact gc_32 K hlt hK hz0 hX hbl again hag i sz sl kd P I μ hsh hkz
                                                                    · refine g_tcase K (nI 33) 1223 dL_law_33 (by decide) (by decide) rfl (by decide) (fun _ => ?_) (fun hx33 => ?_)
                                                                      · exact gc_33 K hlt hK hz0 hX hbl again hag i sz sl kd P I μ hsh hkz
                                                                      · refine g_tcase K (nI 34) 1256 dL_law_33 (by decide) (by decide) rfl (by decide) (fun _ => ?_) (fun hx34 => ?_)
                                                                        · exact gc_34 K hlt hK hz0 hX hbl again hag i sz sl kd P I μ hsh hkz
                                                                        · refine g_tcase K (nI 35) 1279 dL_law_33 (by decide) (by decide) rfl (by decide) (fun _ => ?_) (fun hx35 => ?_)
                                                                          · exact gc_35 K hlt hK hz0 hX hbl again hag i sz sl kd P I μ hsh hkz
                                                                          · refine g_tcase K (nI 36) 1312 dL_law_33 (by decide) (by decide) rfl (by decide) (fun _ => ?_) (fun hx36 => ?_)
                                                                            · exact gc_36 K hlt hK hz0 hX hbl again hag i sz sl kd P I μ hsh hkz
                                                                            · refine g_tcase K (nI 37) 1325 dL_law_33 (by decide) (by decide) rfl (by decide) (fun _ => ?_) (fun hx37 => ?_)
                                                                              · exact gc_37 K hlt hK hz0 hX hbl again hag i sz sl kd P I μ hsh hkz
                                                                              · refine g_tcase K (nI 38) 1364 dL_law_33 (by decide) (by decide) rfl (by decide) (fun _ => ?_) (fun hx38 => ?_)
                                                                                · exact gc_38 K hlt hK hz0 hX hbl again hag i sz sl kd P I μ hsh hkz
                                                                                · refine g_tdef K 1387 dL_law_33 (by have := tne (k := 0) (by decide) hx0; have := tne (k := 1) (by decide) hx1; have := tne (k := 2) (by decide) hx2; have := tne (k := 3) (by decide) hx3; have := tne (k := 4) (by decide) hx4; have := tne (k := 5) (by decide) hx5; have := tne (k := 6) (by decide) hx6; have := tne (k := 7) (by decide) hx7; have := tne (k := 8) (by decide) hx8; have := tne (k := 9) (by decide) hx9; have := tne (k := 10) (by decide) hx10; have := tne (k := 11) (by decide) hx11; have := tne (k := 12) (by decide) hx12; have := tne (k := 13) (by decide) hx13; have := tne (k := 14) (by decide) hx14; have := tne (k := 15) (by decide) hx15; have := tne (k := 16) (by decide) hx16; have := tne (k := 17) (by decide) hx17; have := tne (k := 18) (by decide) hx18; have := tne (k := 19) (by decide) hx19; have := tne (k := 20) (by decide) hx20; have := tne (k := 21) (by decide) hx21; have := tne (k := 22) (by decide) hx22; have := tne (k := 23) (by decide) hx23; have := tne (k := 24) (by decide) hx24; have := tne (k := 25) (by decide) hx25; have := tne (k := 26) (by decide) hx26; have := tne (k := 27) (by decide) hx27; have := tne (k := 28) (by decide) hx28; have := tne (k := 29) (by decide) hx29; have := tne (k := 30) (by decide) hx30; have := tne (k := 31) (by decide) hx31; have := tne (k := 32) (by decide) hx32; have := tne (k := 33) (by decide) hx33; have := tne (k := 34) (by decide) hx34; have := tne (k := 35) (by decide) hx35; have := tne (k := 36) (by decide) hx36; have := tne (k := 37) (by decide) hx37; have := tne (k := 38) (by decide) hx38; omega) (by decide) ?_
                                                                                  refine g_iinc K (i + (nI 6)) 3 [(0, .ref b), (1, .ref z), (2, .ref (z + 2463)), (3, .int (i + (nI 6)))] [1, 2, 3, 0] rfl (by rw [ic_6]) (by decide) rfl 1390 dL_law_1387 rfl ?_
                                                                                  refine g_goto K 18 dL_law_1390 (by decide) ?_
                                                                                  exact hag ((i + (nI 6)), sz, sl, kd, P, I, μ)
