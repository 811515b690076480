set_option maxRecDepth 100000
theorem cn_X1_count : zo_Cn yX1_count 1 := ⟨by decide, by decide, by decide +kernel⟩
theorem cn_X2_count : zo_Cn yX2_count 1 := ⟨by decide, by decide, by decide +kernel⟩
theorem cn_X1_out : zo_Cn yX1_out 2 := ⟨by decide, by decide, by decide +kernel⟩
theorem cn_X2_out : zo_Cn yX2_out 2 := ⟨by decide, by decide, by decide +kernel⟩
theorem cn_X1_front : zo_Cn yX1_front 3 := ⟨by decide, by decide, by decide +kernel⟩
theorem cn_X2_front : zo_Cn yX2_front 3 := ⟨by decide, by decide, by decide +kernel⟩
theorem cn_X1_grown : zo_Cn yX1_grown 2 := ⟨by decide, by decide, by decide +kernel⟩
theorem cn_X2_grown : zo_Cn yX2_grown 2 := ⟨by decide, by decide, by decide +kernel⟩
theorem cn_X1_gap : zo_Cn yX1_gap 7 := ⟨by decide, by decide, by decide +kernel⟩
theorem cn_X2_gap : zo_Cn yX2_gap 7 := ⟨by decide, by decide, by decide +kernel⟩
theorem cn_X1_gaps : zo_Cn yX1_gaps 5 := ⟨by decide, by decide, by decide +kernel⟩
theorem cn_X2_gaps : zo_Cn yX2_gaps 5 := ⟨by decide, by decide, by decide +kernel⟩
theorem cn_X1_claim : zo_Cn yX1_claim 3 := ⟨by decide, by decide, by decide +kernel⟩
theorem cn_X2_claim : zo_Cn yX2_claim 3 := ⟨by decide, by decide, by decide +kernel⟩
theorem cn_X1_same : zo_Cn yX1_same 3 := ⟨by decide, by decide, by decide +kernel⟩
theorem cn_X2_same : zo_Cn yX2_same 3 := ⟨by decide, by decide, by decide +kernel⟩
theorem cn_X1_bound : zo_Cn yX1_bound 3 := ⟨by decide, by decide, by decide +kernel⟩
theorem cn_X2_bound : zo_Cn yX2_bound 3 := ⟨by decide, by decide, by decide +kernel⟩
theorem cn_X1_span : zo_Cn yX1_span 3 := ⟨by decide, by decide, by decide +kernel⟩
theorem cn_X2_span : zo_Cn yX2_span 3 := ⟨by decide, by decide, by decide +kernel⟩
theorem cn_X1_size : zo_Cn yX1_size 6 := ⟨by decide, by decide, by decide +kernel⟩
theorem cn_X2_size : zo_Cn yX2_size 6 := ⟨by decide, by decide, by decide +kernel⟩
theorem cn_X1_struck : zo_Cn yX1_struck 4 := ⟨by decide, by decide, by decide +kernel⟩
theorem cn_X2_struck : zo_Cn yX2_struck 4 := ⟨by decide, by decide, by decide +kernel⟩
theorem cn_X1_trueSize : zo_Cn yX1_trueSize 3 := ⟨by decide, by decide, by decide +kernel⟩
theorem cn_X2_trueSize : zo_Cn yX2_trueSize 3 := ⟨by decide, by decide, by decide +kernel⟩
theorem cn_X1_used : zo_Cn yX1_used 2 := ⟨by decide, by decide, by decide +kernel⟩
theorem cn_X2_used : zo_Cn yX2_used 2 := ⟨by decide, by decide, by decide +kernel⟩
theorem cn_X0_habit : zo_Cn yX0_habit 5 := ⟨by decide, by decide, by decide +kernel⟩
theorem cn_X2_habit : zo_Cn yX2_habit 3 := ⟨by decide, by decide, by decide +kernel⟩
theorem cn_X2_thrown : zo_Cn yX2_thrown 0 := ⟨by decide, by decide, by decide +kernel⟩
theorem cn_X1_day : zo_Cn yX1_day 1 := ⟨by decide, by decide, by decide +kernel⟩
theorem cn_X2_day : zo_Cn yX2_day 1 := ⟨by decide, by decide, by decide +kernel⟩
theorem cn_X1_place : zo_Cn yX1_place 0 := ⟨by decide, by decide, by decide +kernel⟩
theorem cn_X2_place : zo_Cn yX2_place 0 := ⟨by decide, by decide, by decide +kernel⟩
theorem cn_X1_rule : zo_Cn yX1_rule 0 := ⟨by decide, by decide, by decide +kernel⟩
theorem cn_X2_rule : zo_Cn yX2_rule 0 := ⟨by decide, by decide, by decide +kernel⟩
theorem cn_X1_end : zo_Cn yX1_end 1 := ⟨by decide, by decide, by decide +kernel⟩
theorem cn_X2_end : zo_Cn yX2_end 1 := ⟨by decide, by decide, by decide +kernel⟩
theorem cn_X1_feed : zo_Cn yX1_feed 5 := ⟨by decide, by decide, by decide +kernel⟩
theorem cn_X2_feed : zo_Cn yX2_feed 5 := ⟨by decide, by decide, by decide +kernel⟩
theorem cn_X1_delay : zo_Cn yX1_delay 2 := ⟨by decide, by decide, by decide +kernel⟩
theorem cn_X2_delay : zo_Cn yX2_delay 2 := ⟨by decide, by decide, by decide +kernel⟩
theorem cn_X1_house : zo_Cn yX1_house 3 := ⟨by decide, by decide, by decide +kernel⟩
theorem cn_X2_house : zo_Cn yX2_house 3 := ⟨by decide, by decide, by decide +kernel⟩
theorem cn_X1_again : zo_Cn yX1_again 2 := ⟨by decide, by decide, by decide +kernel⟩
theorem cn_X2_again : zo_Cn yX2_again 2 := ⟨by decide, by decide, by decide +kernel⟩
theorem cn_X1_order : zo_Cn yX1_order 3 := ⟨by decide, by decide, by decide +kernel⟩
theorem cn_X2_order : zo_Cn yX2_order 3 := ⟨by decide, by decide, by decide +kernel⟩
theorem cn_X1_witness : zo_Cn yX1_witness 3 := ⟨by decide, by decide, by decide +kernel⟩
theorem cn_X2_witness : zo_Cn yX2_witness 3 := ⟨by decide, by decide, by decide +kernel⟩
theorem cn_X1_twice : zo_Cn yX1_twice 4 := ⟨by decide, by decide, by decide +kernel⟩
theorem cn_X2_twice : zo_Cn yX2_twice 4 := ⟨by decide, by decide, by decide +kernel⟩
theorem cn_X1_looked : zo_Cn yX1_looked 3 := ⟨by decide, by decide, by decide +kernel⟩
theorem cn_X2_looked : zo_Cn yX2_looked 3 := ⟨by decide, by decide, by decide +kernel⟩
theorem cn_X1_circle : zo_Cn yX1_circle 7 := ⟨by decide, by decide, by decide +kernel⟩
theorem cn_X2_circle : zo_Cn yX2_circle 7 := ⟨by decide, by decide, by decide +kernel⟩
theorem cn_X1_site : zo_Cn yX1_site 4 := ⟨by decide, by decide, by decide +kernel⟩
theorem cn_X2_site : zo_Cn yX2_site 4 := ⟨by decide, by decide, by decide +kernel⟩
theorem dL_law_20 : decode cL_law 20 = .ok (.iconst 0, 1) := by decide +kernel
theorem dL_law_21 : decode cL_law 21 = .ok (.istore 4, 2) := by decide +kernel
theorem dL_law_23 : decode cL_law 23 = .ok (.iload 4, 2) := by decide +kernel
theorem dL_law_25 : decode cL_law 25 = .ok (.aload_n 0, 1) := by decide +kernel
theorem dL_law_26 : decode cL_law 26 = .ok (.arraylength, 1) := by decide +kernel
theorem dL_law_27 : decode cL_law 27 = .ok (.bipush 8, 2) := by decide +kernel
theorem dL_law_29 : decode cL_law 29 = .ok (.isub, 1) := by decide +kernel
theorem dL_law_30 : decode cL_law 30 = .ok (.if_icmp .gt 1638, 3) := by decide +kernel
theorem dL_law_33 : decode cL_law 33 = .ok (.aload_n 0, 1) := by decide +kernel
theorem dL_law_34 : decode cL_law 34 = .ok (.iload 4, 2) := by decide +kernel
theorem dL_law_36 : decode cL_law 36 = .ok (.iaload, 1) := by decide +kernel
theorem dL_law_37 : decode cL_law 37 = .ok (.bipush 31, 2) := by decide +kernel
theorem dL_law_39 : decode cL_law 39 = .ok (.iand, 1) := by decide +kernel
theorem dL_law_40 : decode cL_law 40 = .ok (.tableswitch 1622 0 28 #[132, 193, 310, 359, 420, 469, 518, 555, 604, 641, 714, 739, 752, 765, 790, 870, 907, 956, 1017, 1104, 1153, 1202, 1251, 1300, 1373, 1474, 1511, 1560, 1597], 132) := by decide +kernel
theorem dL_law_172 : decode cL_law 172 = .ok (.aload_n 1, 1) := by decide +kernel
theorem dL_law_173 : decode cL_law 173 = .ok (.aload_n 0, 1) := by decide +kernel
theorem dL_law_174 : decode cL_law 174 = .ok (.iload 4, 2) := by decide +kernel
theorem dL_law_176 : decode cL_law 176 = .ok (.iconst 1, 1) := by decide +kernel
theorem dL_law_177 : decode cL_law 177 = .ok (.iadd, 1) := by decide +kernel
theorem dL_law_178 : decode cL_law 178 = .ok (.iaload, 1) := by decide +kernel
theorem dL_law_179 : decode cL_law 179 = .ok (.aload_n 0, 1) := by decide +kernel
theorem dL_law_180 : decode cL_law 180 = .ok (.iload 4, 2) := by decide +kernel
theorem dL_law_182 : decode cL_law 182 = .ok (.iconst 2, 1) := by decide +kernel
theorem dL_law_183 : decode cL_law 183 = .ok (.iadd, 1) := by decide +kernel
theorem dL_law_184 : decode cL_law 184 = .ok (.iaload, 1) := by decide +kernel
theorem dL_law_185 : decode cL_law 185 = .ok (.aload_n 0, 1) := by decide +kernel
theorem dL_law_186 : decode cL_law 186 = .ok (.iload 4, 2) := by decide +kernel
theorem dL_law_188 : decode cL_law 188 = .ok (.iconst 3, 1) := by decide +kernel
theorem dL_law_189 : decode cL_law 189 = .ok (.iadd, 1) := by decide +kernel
theorem dL_law_190 : decode cL_law 190 = .ok (.iaload, 1) := by decide +kernel
theorem dL_law_191 : decode cL_law 191 = .ok (.aload_n 0, 1) := by decide +kernel
theorem dL_law_192 : decode cL_law 192 = .ok (.iload 4, 2) := by decide +kernel
theorem dL_law_194 : decode cL_law 194 = .ok (.iconst 4, 1) := by decide +kernel
theorem dL_law_195 : decode cL_law 195 = .ok (.iadd, 1) := by decide +kernel
theorem dL_law_196 : decode cL_law 196 = .ok (.iaload, 1) := by decide +kernel
theorem dL_law_197 : decode cL_law 197 = .ok (.invokevirtual 19, 3) := by decide +kernel
theorem dL_law_200 : decode cL_law 200 = .ok (.aload_n 2, 1) := by decide +kernel
theorem dL_law_201 : decode cL_law 201 = .ok (.aload_n 0, 1) := by decide +kernel
theorem dL_law_202 : decode cL_law 202 = .ok (.iload 4, 2) := by decide +kernel
theorem dL_law_204 : decode cL_law 204 = .ok (.iconst 1, 1) := by decide +kernel
theorem dL_law_205 : decode cL_law 205 = .ok (.iadd, 1) := by decide +kernel
theorem dL_law_206 : decode cL_law 206 = .ok (.iaload, 1) := by decide +kernel
theorem dL_law_207 : decode cL_law 207 = .ok (.aload_n 0, 1) := by decide +kernel
theorem dL_law_208 : decode cL_law 208 = .ok (.iload 4, 2) := by decide +kernel
theorem dL_law_210 : decode cL_law 210 = .ok (.iconst 2, 1) := by decide +kernel
theorem dL_law_211 : decode cL_law 211 = .ok (.iadd, 1) := by decide +kernel
theorem dL_law_212 : decode cL_law 212 = .ok (.iaload, 1) := by decide +kernel
theorem dL_law_213 : decode cL_law 213 = .ok (.aload_n 0, 1) := by decide +kernel
theorem dL_law_214 : decode cL_law 214 = .ok (.iload 4, 2) := by decide +kernel
theorem dL_law_216 : decode cL_law 216 = .ok (.iconst 3, 1) := by decide +kernel
theorem dL_law_217 : decode cL_law 217 = .ok (.iadd, 1) := by decide +kernel
theorem dL_law_218 : decode cL_law 218 = .ok (.iaload, 1) := by decide +kernel
theorem dL_law_219 : decode cL_law 219 = .ok (.aload_n 0, 1) := by decide +kernel
theorem dL_law_220 : decode cL_law 220 = .ok (.iload 4, 2) := by decide +kernel
theorem dL_law_222 : decode cL_law 222 = .ok (.iconst 4, 1) := by decide +kernel
theorem dL_law_223 : decode cL_law 223 = .ok (.iadd, 1) := by decide +kernel
theorem dL_law_224 : decode cL_law 224 = .ok (.iaload, 1) := by decide +kernel
theorem dL_law_225 : decode cL_law 225 = .ok (.invokevirtual 23, 3) := by decide +kernel
theorem dL_law_228 : decode cL_law 228 = .ok (.if_icmp .eq 1434, 3) := by decide +kernel
theorem dL_law_231 : decode cL_law 231 = .ok (.iconst 0, 1) := by decide +kernel
theorem dL_law_232 : decode cL_law 232 = .ok (.ireturn, 1) := by decide +kernel
theorem dL_law_233 : decode cL_law 233 = .ok (.aload_n 1, 1) := by decide +kernel
theorem dL_law_234 : decode cL_law 234 = .ok (.aload_n 0, 1) := by decide +kernel
theorem dL_law_235 : decode cL_law 235 = .ok (.iload 4, 2) := by decide +kernel
theorem dL_law_237 : decode cL_law 237 = .ok (.iconst 1, 1) := by decide +kernel
theorem dL_law_238 : decode cL_law 238 = .ok (.iadd, 1) := by decide +kernel
theorem dL_law_239 : decode cL_law 239 = .ok (.iaload, 1) := by decide +kernel
theorem dL_law_240 : decode cL_law 240 = .ok (.aload_n 0, 1) := by decide +kernel
theorem dL_law_241 : decode cL_law 241 = .ok (.iload 4, 2) := by decide +kernel
theorem dL_law_243 : decode cL_law 243 = .ok (.iconst 2, 1) := by decide +kernel
theorem dL_law_244 : decode cL_law 244 = .ok (.iadd, 1) := by decide +kernel
theorem dL_law_245 : decode cL_law 245 = .ok (.iaload, 1) := by decide +kernel
theorem dL_law_246 : decode cL_law 246 = .ok (.aload_n 0, 1) := by decide +kernel
theorem dL_law_247 : decode cL_law 247 = .ok (.iload 4, 2) := by decide +kernel
theorem dL_law_249 : decode cL_law 249 = .ok (.iconst 3, 1) := by decide +kernel
theorem dL_law_250 : decode cL_law 250 = .ok (.iadd, 1) := by decide +kernel
theorem dL_law_251 : decode cL_law 251 = .ok (.iaload, 1) := by decide +kernel
theorem dL_law_252 : decode cL_law 252 = .ok (.aload_n 0, 1) := by decide +kernel
theorem dL_law_253 : decode cL_law 253 = .ok (.iload 4, 2) := by decide +kernel
theorem dL_law_255 : decode cL_law 255 = .ok (.iconst 4, 1) := by decide +kernel
theorem dL_law_256 : decode cL_law 256 = .ok (.iadd, 1) := by decide +kernel
theorem dL_law_257 : decode cL_law 257 = .ok (.iaload, 1) := by decide +kernel
theorem dL_law_258 : decode cL_law 258 = .ok (.aload_n 0, 1) := by decide +kernel
theorem dL_law_259 : decode cL_law 259 = .ok (.iload 4, 2) := by decide +kernel
theorem dL_law_261 : decode cL_law 261 = .ok (.iconst 5, 1) := by decide +kernel
theorem dL_law_262 : decode cL_law 262 = .ok (.iadd, 1) := by decide +kernel
theorem dL_law_263 : decode cL_law 263 = .ok (.iaload, 1) := by decide +kernel
theorem dL_law_264 : decode cL_law 264 = .ok (.aload_n 0, 1) := by decide +kernel
theorem dL_law_265 : decode cL_law 265 = .ok (.iload 4, 2) := by decide +kernel
theorem dL_law_267 : decode cL_law 267 = .ok (.bipush 6, 2) := by decide +kernel
theorem dL_law_269 : decode cL_law 269 = .ok (.iadd, 1) := by decide +kernel
theorem dL_law_270 : decode cL_law 270 = .ok (.iaload, 1) := by decide +kernel
theorem dL_law_271 : decode cL_law 271 = .ok (.aload_n 0, 1) := by decide +kernel
theorem dL_law_272 : decode cL_law 272 = .ok (.iload 4, 2) := by decide +kernel
theorem dL_law_274 : decode cL_law 274 = .ok (.bipush 7, 2) := by decide +kernel
theorem dL_law_276 : decode cL_law 276 = .ok (.iadd, 1) := by decide +kernel
theorem dL_law_277 : decode cL_law 277 = .ok (.iaload, 1) := by decide +kernel
theorem dL_law_278 : decode cL_law 278 = .ok (.ifCond .eq 7, 3) := by decide +kernel
theorem dL_law_281 : decode cL_law 281 = .ok (.iconst 1, 1) := by decide +kernel
theorem dL_law_282 : decode cL_law 282 = .ok (.goto 4, 3) := by decide +kernel
theorem dL_law_285 : decode cL_law 285 = .ok (.iconst 0, 1) := by decide +kernel
theorem dL_law_286 : decode cL_law 286 = .ok (.invokevirtual 24, 3) := by decide +kernel
theorem dL_law_289 : decode cL_law 289 = .ok (.aload_n 2, 1) := by decide +kernel
theorem dL_law_290 : decode cL_law 290 = .ok (.aload_n 0, 1) := by decide +kernel
theorem dL_law_291 : decode cL_law 291 = .ok (.iload 4, 2) := by decide +kernel
theorem dL_law_293 : decode cL_law 293 = .ok (.iconst 1, 1) := by decide +kernel
theorem dL_law_294 : decode cL_law 294 = .ok (.iadd, 1) := by decide +kernel
theorem dL_law_295 : decode cL_law 295 = .ok (.iaload, 1) := by decide +kernel
theorem dL_law_296 : decode cL_law 296 = .ok (.aload_n 0, 1) := by decide +kernel
theorem dL_law_297 : decode cL_law 297 = .ok (.iload 4, 2) := by decide +kernel
theorem dL_law_299 : decode cL_law 299 = .ok (.iconst 2, 1) := by decide +kernel
theorem dL_law_300 : decode cL_law 300 = .ok (.iadd, 1) := by decide +kernel
theorem dL_law_301 : decode cL_law 301 = .ok (.iaload, 1) := by decide +kernel
theorem dL_law_302 : decode cL_law 302 = .ok (.aload_n 0, 1) := by decide +kernel
theorem dL_law_303 : decode cL_law 303 = .ok (.iload 4, 2) := by decide +kernel
theorem dL_law_305 : decode cL_law 305 = .ok (.iconst 3, 1) := by decide +kernel
theorem dL_law_306 : decode cL_law 306 = .ok (.iadd, 1) := by decide +kernel
theorem dL_law_307 : decode cL_law 307 = .ok (.iaload, 1) := by decide +kernel
theorem dL_law_308 : decode cL_law 308 = .ok (.aload_n 0, 1) := by decide +kernel
theorem dL_law_309 : decode cL_law 309 = .ok (.iload 4, 2) := by decide +kernel
theorem dL_law_311 : decode cL_law 311 = .ok (.iconst 4, 1) := by decide +kernel
theorem dL_law_312 : decode cL_law 312 = .ok (.iadd, 1) := by decide +kernel
theorem dL_law_313 : decode cL_law 313 = .ok (.iaload, 1) := by decide +kernel
theorem dL_law_314 : decode cL_law 314 = .ok (.aload_n 0, 1) := by decide +kernel
theorem dL_law_315 : decode cL_law 315 = .ok (.iload 4, 2) := by decide +kernel
theorem dL_law_317 : decode cL_law 317 = .ok (.iconst 5, 1) := by decide +kernel
theorem dL_law_318 : decode cL_law 318 = .ok (.iadd, 1) := by decide +kernel
theorem dL_law_319 : decode cL_law 319 = .ok (.iaload, 1) := by decide +kernel
theorem dL_law_320 : decode cL_law 320 = .ok (.aload_n 0, 1) := by decide +kernel
theorem dL_law_321 : decode cL_law 321 = .ok (.iload 4, 2) := by decide +kernel
theorem dL_law_323 : decode cL_law 323 = .ok (.bipush 6, 2) := by decide +kernel
theorem dL_law_325 : decode cL_law 325 = .ok (.iadd, 1) := by decide +kernel
theorem dL_law_326 : decode cL_law 326 = .ok (.iaload, 1) := by decide +kernel
theorem dL_law_327 : decode cL_law 327 = .ok (.aload_n 0, 1) := by decide +kernel
theorem dL_law_328 : decode cL_law 328 = .ok (.iload 4, 2) := by decide +kernel
theorem dL_law_330 : decode cL_law 330 = .ok (.bipush 7, 2) := by decide +kernel
theorem dL_law_332 : decode cL_law 332 = .ok (.iadd, 1) := by decide +kernel
theorem dL_law_333 : decode cL_law 333 = .ok (.iaload, 1) := by decide +kernel
theorem dL_law_334 : decode cL_law 334 = .ok (.ifCond .eq 7, 3) := by decide +kernel
theorem dL_law_337 : decode cL_law 337 = .ok (.iconst 1, 1) := by decide +kernel
theorem dL_law_338 : decode cL_law 338 = .ok (.goto 4, 3) := by decide +kernel
theorem dL_law_341 : decode cL_law 341 = .ok (.iconst 0, 1) := by decide +kernel
theorem dL_law_342 : decode cL_law 342 = .ok (.invokevirtual 28, 3) := by decide +kernel
theorem dL_law_345 : decode cL_law 345 = .ok (.if_icmp .eq 1317, 3) := by decide +kernel
theorem dL_law_348 : decode cL_law 348 = .ok (.iconst 0, 1) := by decide +kernel
theorem dL_law_349 : decode cL_law 349 = .ok (.ireturn, 1) := by decide +kernel
theorem dL_law_350 : decode cL_law 350 = .ok (.aload_n 1, 1) := by decide +kernel
theorem dL_law_351 : decode cL_law 351 = .ok (.aload_n 0, 1) := by decide +kernel
theorem dL_law_352 : decode cL_law 352 = .ok (.iload 4, 2) := by decide +kernel
theorem dL_law_354 : decode cL_law 354 = .ok (.iconst 1, 1) := by decide +kernel
theorem dL_law_355 : decode cL_law 355 = .ok (.iadd, 1) := by decide +kernel
theorem dL_law_356 : decode cL_law 356 = .ok (.iaload, 1) := by decide +kernel
theorem dL_law_357 : decode cL_law 357 = .ok (.aload_n 0, 1) := by decide +kernel
theorem dL_law_358 : decode cL_law 358 = .ok (.iload 4, 2) := by decide +kernel
theorem dL_law_360 : decode cL_law 360 = .ok (.iconst 2, 1) := by decide +kernel
theorem dL_law_361 : decode cL_law 361 = .ok (.iadd, 1) := by decide +kernel
theorem dL_law_362 : decode cL_law 362 = .ok (.iaload, 1) := by decide +kernel
theorem dL_law_363 : decode cL_law 363 = .ok (.aload_n 0, 1) := by decide +kernel
theorem dL_law_364 : decode cL_law 364 = .ok (.iload 4, 2) := by decide +kernel
theorem dL_law_366 : decode cL_law 366 = .ok (.iconst 3, 1) := by decide +kernel
theorem dL_law_367 : decode cL_law 367 = .ok (.iadd, 1) := by decide +kernel
theorem dL_law_368 : decode cL_law 368 = .ok (.iaload, 1) := by decide +kernel
theorem dL_law_369 : decode cL_law 369 = .ok (.invokevirtual 29, 3) := by decide +kernel
theorem dL_law_372 : decode cL_law 372 = .ok (.aload_n 2, 1) := by decide +kernel
theorem dL_law_373 : decode cL_law 373 = .ok (.aload_n 0, 1) := by decide +kernel
theorem dL_law_374 : decode cL_law 374 = .ok (.iload 4, 2) := by decide +kernel
theorem dL_law_376 : decode cL_law 376 = .ok (.iconst 1, 1) := by decide +kernel
theorem dL_law_377 : decode cL_law 377 = .ok (.iadd, 1) := by decide +kernel
theorem dL_law_378 : decode cL_law 378 = .ok (.iaload, 1) := by decide +kernel
theorem dL_law_379 : decode cL_law 379 = .ok (.aload_n 0, 1) := by decide +kernel
theorem dL_law_380 : decode cL_law 380 = .ok (.iload 4, 2) := by decide +kernel
theorem dL_law_382 : decode cL_law 382 = .ok (.iconst 2, 1) := by decide +kernel
theorem dL_law_383 : decode cL_law 383 = .ok (.iadd, 1) := by decide +kernel
theorem dL_law_384 : decode cL_law 384 = .ok (.iaload, 1) := by decide +kernel
theorem dL_law_385 : decode cL_law 385 = .ok (.aload_n 0, 1) := by decide +kernel
theorem dL_law_386 : decode cL_law 386 = .ok (.iload 4, 2) := by decide +kernel
theorem dL_law_388 : decode cL_law 388 = .ok (.iconst 3, 1) := by decide +kernel
theorem dL_law_389 : decode cL_law 389 = .ok (.iadd, 1) := by decide +kernel
theorem dL_law_390 : decode cL_law 390 = .ok (.iaload, 1) := by decide +kernel
theorem dL_law_391 : decode cL_law 391 = .ok (.invokevirtual 33, 3) := by decide +kernel
theorem dL_law_394 : decode cL_law 394 = .ok (.if_icmp .eq 1268, 3) := by decide +kernel
theorem dL_law_397 : decode cL_law 397 = .ok (.iconst 0, 1) := by decide +kernel
theorem dL_law_398 : decode cL_law 398 = .ok (.ireturn, 1) := by decide +kernel
theorem dL_law_399 : decode cL_law 399 = .ok (.aload_n 1, 1) := by decide +kernel
theorem dL_law_400 : decode cL_law 400 = .ok (.aload_n 0, 1) := by decide +kernel
theorem dL_law_401 : decode cL_law 401 = .ok (.iload 4, 2) := by decide +kernel
theorem dL_law_403 : decode cL_law 403 = .ok (.iconst 1, 1) := by decide +kernel
theorem dL_law_404 : decode cL_law 404 = .ok (.iadd, 1) := by decide +kernel
theorem dL_law_405 : decode cL_law 405 = .ok (.iaload, 1) := by decide +kernel
theorem dL_law_406 : decode cL_law 406 = .ok (.aload_n 0, 1) := by decide +kernel
theorem dL_law_407 : decode cL_law 407 = .ok (.iload 4, 2) := by decide +kernel
theorem dL_law_409 : decode cL_law 409 = .ok (.iconst 2, 1) := by decide +kernel
theorem dL_law_410 : decode cL_law 410 = .ok (.iadd, 1) := by decide +kernel
theorem dL_law_411 : decode cL_law 411 = .ok (.iaload, 1) := by decide +kernel
theorem dL_law_412 : decode cL_law 412 = .ok (.aload_n 0, 1) := by decide +kernel
theorem dL_law_413 : decode cL_law 413 = .ok (.iload 4, 2) := by decide +kernel
theorem dL_law_415 : decode cL_law 415 = .ok (.iconst 3, 1) := by decide +kernel
theorem dL_law_416 : decode cL_law 416 = .ok (.iadd, 1) := by decide +kernel
theorem dL_law_417 : decode cL_law 417 = .ok (.iaload, 1) := by decide +kernel
theorem dL_law_418 : decode cL_law 418 = .ok (.aload_n 0, 1) := by decide +kernel
theorem dL_law_419 : decode cL_law 419 = .ok (.iload 4, 2) := by decide +kernel
theorem dL_law_421 : decode cL_law 421 = .ok (.iconst 4, 1) := by decide +kernel
theorem dL_law_422 : decode cL_law 422 = .ok (.iadd, 1) := by decide +kernel
theorem dL_law_423 : decode cL_law 423 = .ok (.iaload, 1) := by decide +kernel
theorem dL_law_424 : decode cL_law 424 = .ok (.invokevirtual 34, 3) := by decide +kernel
theorem dL_law_427 : decode cL_law 427 = .ok (.aload_n 2, 1) := by decide +kernel
theorem dL_law_428 : decode cL_law 428 = .ok (.aload_n 0, 1) := by decide +kernel
theorem dL_law_429 : decode cL_law 429 = .ok (.iload 4, 2) := by decide +kernel
theorem dL_law_431 : decode cL_law 431 = .ok (.iconst 1, 1) := by decide +kernel
theorem dL_law_432 : decode cL_law 432 = .ok (.iadd, 1) := by decide +kernel
theorem dL_law_433 : decode cL_law 433 = .ok (.iaload, 1) := by decide +kernel
theorem dL_law_434 : decode cL_law 434 = .ok (.aload_n 0, 1) := by decide +kernel
theorem dL_law_435 : decode cL_law 435 = .ok (.iload 4, 2) := by decide +kernel
theorem dL_law_437 : decode cL_law 437 = .ok (.iconst 2, 1) := by decide +kernel
theorem dL_law_438 : decode cL_law 438 = .ok (.iadd, 1) := by decide +kernel
theorem dL_law_439 : decode cL_law 439 = .ok (.iaload, 1) := by decide +kernel
theorem dL_law_440 : decode cL_law 440 = .ok (.aload_n 0, 1) := by decide +kernel
theorem dL_law_441 : decode cL_law 441 = .ok (.iload 4, 2) := by decide +kernel
theorem dL_law_443 : decode cL_law 443 = .ok (.iconst 3, 1) := by decide +kernel
theorem dL_law_444 : decode cL_law 444 = .ok (.iadd, 1) := by decide +kernel
theorem dL_law_445 : decode cL_law 445 = .ok (.iaload, 1) := by decide +kernel
theorem dL_law_446 : decode cL_law 446 = .ok (.aload_n 0, 1) := by decide +kernel
theorem dL_law_447 : decode cL_law 447 = .ok (.iload 4, 2) := by decide +kernel
theorem dL_law_449 : decode cL_law 449 = .ok (.iconst 4, 1) := by decide +kernel
theorem dL_law_450 : decode cL_law 450 = .ok (.iadd, 1) := by decide +kernel
theorem dL_law_451 : decode cL_law 451 = .ok (.iaload, 1) := by decide +kernel
theorem dL_law_452 : decode cL_law 452 = .ok (.invokevirtual 38, 3) := by decide +kernel
theorem dL_law_455 : decode cL_law 455 = .ok (.if_icmp .eq 1207, 3) := by decide +kernel
theorem dL_law_458 : decode cL_law 458 = .ok (.iconst 0, 1) := by decide +kernel
theorem dL_law_459 : decode cL_law 459 = .ok (.ireturn, 1) := by decide +kernel
theorem dL_law_460 : decode cL_law 460 = .ok (.aload_n 1, 1) := by decide +kernel
theorem dL_law_461 : decode cL_law 461 = .ok (.aload_n 0, 1) := by decide +kernel
theorem dL_law_462 : decode cL_law 462 = .ok (.iload 4, 2) := by decide +kernel
theorem dL_law_464 : decode cL_law 464 = .ok (.iconst 1, 1) := by decide +kernel
theorem dL_law_465 : decode cL_law 465 = .ok (.iadd, 1) := by decide +kernel
theorem dL_law_466 : decode cL_law 466 = .ok (.iaload, 1) := by decide +kernel
theorem dL_law_467 : decode cL_law 467 = .ok (.aload_n 0, 1) := by decide +kernel
theorem dL_law_468 : decode cL_law 468 = .ok (.iload 4, 2) := by decide +kernel
theorem dL_law_470 : decode cL_law 470 = .ok (.iconst 2, 1) := by decide +kernel
theorem dL_law_471 : decode cL_law 471 = .ok (.iadd, 1) := by decide +kernel
theorem dL_law_472 : decode cL_law 472 = .ok (.iaload, 1) := by decide +kernel
theorem dL_law_473 : decode cL_law 473 = .ok (.aload_n 0, 1) := by decide +kernel
theorem dL_law_474 : decode cL_law 474 = .ok (.iload 4, 2) := by decide +kernel
theorem dL_law_476 : decode cL_law 476 = .ok (.iconst 3, 1) := by decide +kernel
theorem dL_law_477 : decode cL_law 477 = .ok (.iadd, 1) := by decide +kernel
theorem dL_law_478 : decode cL_law 478 = .ok (.iaload, 1) := by decide +kernel
theorem dL_law_479 : decode cL_law 479 = .ok (.invokevirtual 39, 3) := by decide +kernel
theorem dL_law_482 : decode cL_law 482 = .ok (.aload_n 2, 1) := by decide +kernel
theorem dL_law_483 : decode cL_law 483 = .ok (.aload_n 0, 1) := by decide +kernel
theorem dL_law_484 : decode cL_law 484 = .ok (.iload 4, 2) := by decide +kernel
theorem dL_law_486 : decode cL_law 486 = .ok (.iconst 1, 1) := by decide +kernel
theorem dL_law_487 : decode cL_law 487 = .ok (.iadd, 1) := by decide +kernel
theorem dL_law_488 : decode cL_law 488 = .ok (.iaload, 1) := by decide +kernel
theorem dL_law_489 : decode cL_law 489 = .ok (.aload_n 0, 1) := by decide +kernel
theorem dL_law_490 : decode cL_law 490 = .ok (.iload 4, 2) := by decide +kernel
theorem dL_law_492 : decode cL_law 492 = .ok (.iconst 2, 1) := by decide +kernel
theorem dL_law_493 : decode cL_law 493 = .ok (.iadd, 1) := by decide +kernel
theorem dL_law_494 : decode cL_law 494 = .ok (.iaload, 1) := by decide +kernel
theorem dL_law_495 : decode cL_law 495 = .ok (.aload_n 0, 1) := by decide +kernel
theorem dL_law_496 : decode cL_law 496 = .ok (.iload 4, 2) := by decide +kernel
theorem dL_law_498 : decode cL_law 498 = .ok (.iconst 3, 1) := by decide +kernel
theorem dL_law_499 : decode cL_law 499 = .ok (.iadd, 1) := by decide +kernel
theorem dL_law_500 : decode cL_law 500 = .ok (.iaload, 1) := by decide +kernel
theorem dL_law_501 : decode cL_law 501 = .ok (.invokevirtual 42, 3) := by decide +kernel
theorem dL_law_504 : decode cL_law 504 = .ok (.if_icmp .eq 1158, 3) := by decide +kernel
theorem dL_law_507 : decode cL_law 507 = .ok (.iconst 0, 1) := by decide +kernel
theorem dL_law_508 : decode cL_law 508 = .ok (.ireturn, 1) := by decide +kernel
theorem dL_law_509 : decode cL_law 509 = .ok (.aload_n 1, 1) := by decide +kernel
theorem dL_law_510 : decode cL_law 510 = .ok (.aload_n 0, 1) := by decide +kernel
theorem dL_law_511 : decode cL_law 511 = .ok (.iload 4, 2) := by decide +kernel
theorem dL_law_513 : decode cL_law 513 = .ok (.iconst 1, 1) := by decide +kernel
theorem dL_law_514 : decode cL_law 514 = .ok (.iadd, 1) := by decide +kernel
theorem dL_law_515 : decode cL_law 515 = .ok (.iaload, 1) := by decide +kernel
theorem dL_law_516 : decode cL_law 516 = .ok (.aload_n 0, 1) := by decide +kernel
theorem dL_law_517 : decode cL_law 517 = .ok (.iload 4, 2) := by decide +kernel
theorem dL_law_519 : decode cL_law 519 = .ok (.iconst 2, 1) := by decide +kernel
theorem dL_law_520 : decode cL_law 520 = .ok (.iadd, 1) := by decide +kernel
theorem dL_law_521 : decode cL_law 521 = .ok (.iaload, 1) := by decide +kernel
theorem dL_law_522 : decode cL_law 522 = .ok (.aload_n 0, 1) := by decide +kernel
theorem dL_law_523 : decode cL_law 523 = .ok (.iload 4, 2) := by decide +kernel
theorem dL_law_525 : decode cL_law 525 = .ok (.iconst 3, 1) := by decide +kernel
theorem dL_law_526 : decode cL_law 526 = .ok (.iadd, 1) := by decide +kernel
theorem dL_law_527 : decode cL_law 527 = .ok (.iaload, 1) := by decide +kernel
theorem dL_law_528 : decode cL_law 528 = .ok (.invokevirtual 43, 3) := by decide +kernel
theorem dL_law_531 : decode cL_law 531 = .ok (.aload_n 2, 1) := by decide +kernel
theorem dL_law_532 : decode cL_law 532 = .ok (.aload_n 0, 1) := by decide +kernel
theorem dL_law_533 : decode cL_law 533 = .ok (.iload 4, 2) := by decide +kernel
theorem dL_law_535 : decode cL_law 535 = .ok (.iconst 1, 1) := by decide +kernel
theorem dL_law_536 : decode cL_law 536 = .ok (.iadd, 1) := by decide +kernel
theorem dL_law_537 : decode cL_law 537 = .ok (.iaload, 1) := by decide +kernel
theorem dL_law_538 : decode cL_law 538 = .ok (.aload_n 0, 1) := by decide +kernel
theorem dL_law_539 : decode cL_law 539 = .ok (.iload 4, 2) := by decide +kernel
theorem dL_law_541 : decode cL_law 541 = .ok (.iconst 2, 1) := by decide +kernel
theorem dL_law_542 : decode cL_law 542 = .ok (.iadd, 1) := by decide +kernel
theorem dL_law_543 : decode cL_law 543 = .ok (.iaload, 1) := by decide +kernel
theorem dL_law_544 : decode cL_law 544 = .ok (.aload_n 0, 1) := by decide +kernel
theorem dL_law_545 : decode cL_law 545 = .ok (.iload 4, 2) := by decide +kernel
theorem dL_law_547 : decode cL_law 547 = .ok (.iconst 3, 1) := by decide +kernel
theorem dL_law_548 : decode cL_law 548 = .ok (.iadd, 1) := by decide +kernel
theorem dL_law_549 : decode cL_law 549 = .ok (.iaload, 1) := by decide +kernel
theorem dL_law_550 : decode cL_law 550 = .ok (.invokevirtual 46, 3) := by decide +kernel
theorem dL_law_553 : decode cL_law 553 = .ok (.if_icmp .eq 1109, 3) := by decide +kernel
theorem dL_law_556 : decode cL_law 556 = .ok (.iconst 0, 1) := by decide +kernel
theorem dL_law_557 : decode cL_law 557 = .ok (.ireturn, 1) := by decide +kernel
theorem dL_law_558 : decode cL_law 558 = .ok (.aload_n 1, 1) := by decide +kernel
theorem dL_law_559 : decode cL_law 559 = .ok (.aload_n 0, 1) := by decide +kernel
theorem dL_law_560 : decode cL_law 560 = .ok (.iload 4, 2) := by decide +kernel
theorem dL_law_562 : decode cL_law 562 = .ok (.iconst 1, 1) := by decide +kernel
theorem dL_law_563 : decode cL_law 563 = .ok (.iadd, 1) := by decide +kernel
theorem dL_law_564 : decode cL_law 564 = .ok (.iaload, 1) := by decide +kernel
theorem dL_law_565 : decode cL_law 565 = .ok (.aload_n 0, 1) := by decide +kernel
theorem dL_law_566 : decode cL_law 566 = .ok (.iload 4, 2) := by decide +kernel
theorem dL_law_568 : decode cL_law 568 = .ok (.iconst 2, 1) := by decide +kernel
theorem dL_law_569 : decode cL_law 569 = .ok (.iadd, 1) := by decide +kernel
theorem dL_law_570 : decode cL_law 570 = .ok (.iaload, 1) := by decide +kernel
theorem dL_law_571 : decode cL_law 571 = .ok (.invokevirtual 47, 3) := by decide +kernel
theorem dL_law_574 : decode cL_law 574 = .ok (.aload_n 2, 1) := by decide +kernel
theorem dL_law_575 : decode cL_law 575 = .ok (.aload_n 0, 1) := by decide +kernel
theorem dL_law_576 : decode cL_law 576 = .ok (.iload 4, 2) := by decide +kernel
theorem dL_law_578 : decode cL_law 578 = .ok (.iconst 1, 1) := by decide +kernel
theorem dL_law_579 : decode cL_law 579 = .ok (.iadd, 1) := by decide +kernel
theorem dL_law_580 : decode cL_law 580 = .ok (.iaload, 1) := by decide +kernel
theorem dL_law_581 : decode cL_law 581 = .ok (.aload_n 0, 1) := by decide +kernel
theorem dL_law_582 : decode cL_law 582 = .ok (.iload 4, 2) := by decide +kernel
theorem dL_law_584 : decode cL_law 584 = .ok (.iconst 2, 1) := by decide +kernel
theorem dL_law_585 : decode cL_law 585 = .ok (.iadd, 1) := by decide +kernel
theorem dL_law_586 : decode cL_law 586 = .ok (.iaload, 1) := by decide +kernel
theorem dL_law_587 : decode cL_law 587 = .ok (.invokevirtual 51, 3) := by decide +kernel
theorem dL_law_590 : decode cL_law 590 = .ok (.if_icmp .eq 1072, 3) := by decide +kernel
theorem dL_law_593 : decode cL_law 593 = .ok (.iconst 0, 1) := by decide +kernel
theorem dL_law_594 : decode cL_law 594 = .ok (.ireturn, 1) := by decide +kernel
theorem dL_law_595 : decode cL_law 595 = .ok (.aload_n 1, 1) := by decide +kernel
theorem dL_law_596 : decode cL_law 596 = .ok (.aload_n 0, 1) := by decide +kernel
theorem dL_law_597 : decode cL_law 597 = .ok (.iload 4, 2) := by decide +kernel
theorem dL_law_599 : decode cL_law 599 = .ok (.iconst 1, 1) := by decide +kernel
theorem dL_law_600 : decode cL_law 600 = .ok (.iadd, 1) := by decide +kernel
theorem dL_law_601 : decode cL_law 601 = .ok (.iaload, 1) := by decide +kernel
theorem dL_law_602 : decode cL_law 602 = .ok (.aload_n 0, 1) := by decide +kernel
theorem dL_law_603 : decode cL_law 603 = .ok (.iload 4, 2) := by decide +kernel
theorem dL_law_605 : decode cL_law 605 = .ok (.iconst 2, 1) := by decide +kernel
theorem dL_law_606 : decode cL_law 606 = .ok (.iadd, 1) := by decide +kernel
theorem dL_law_607 : decode cL_law 607 = .ok (.iaload, 1) := by decide +kernel
theorem dL_law_608 : decode cL_law 608 = .ok (.aload_n 0, 1) := by decide +kernel
theorem dL_law_609 : decode cL_law 609 = .ok (.iload 4, 2) := by decide +kernel
theorem dL_law_611 : decode cL_law 611 = .ok (.iconst 3, 1) := by decide +kernel
theorem dL_law_612 : decode cL_law 612 = .ok (.iadd, 1) := by decide +kernel
theorem dL_law_613 : decode cL_law 613 = .ok (.iaload, 1) := by decide +kernel
theorem dL_law_614 : decode cL_law 614 = .ok (.invokevirtual 52, 3) := by decide +kernel
theorem dL_law_617 : decode cL_law 617 = .ok (.aload_n 2, 1) := by decide +kernel
theorem dL_law_618 : decode cL_law 618 = .ok (.aload_n 0, 1) := by decide +kernel
theorem dL_law_619 : decode cL_law 619 = .ok (.iload 4, 2) := by decide +kernel
theorem dL_law_621 : decode cL_law 621 = .ok (.iconst 1, 1) := by decide +kernel
theorem dL_law_622 : decode cL_law 622 = .ok (.iadd, 1) := by decide +kernel
theorem dL_law_623 : decode cL_law 623 = .ok (.iaload, 1) := by decide +kernel
theorem dL_law_624 : decode cL_law 624 = .ok (.aload_n 0, 1) := by decide +kernel
theorem dL_law_625 : decode cL_law 625 = .ok (.iload 4, 2) := by decide +kernel
theorem dL_law_627 : decode cL_law 627 = .ok (.iconst 2, 1) := by decide +kernel
theorem dL_law_628 : decode cL_law 628 = .ok (.iadd, 1) := by decide +kernel
theorem dL_law_629 : decode cL_law 629 = .ok (.iaload, 1) := by decide +kernel
theorem dL_law_630 : decode cL_law 630 = .ok (.aload_n 0, 1) := by decide +kernel
theorem dL_law_631 : decode cL_law 631 = .ok (.iload 4, 2) := by decide +kernel
theorem dL_law_633 : decode cL_law 633 = .ok (.iconst 3, 1) := by decide +kernel
theorem dL_law_634 : decode cL_law 634 = .ok (.iadd, 1) := by decide +kernel
theorem dL_law_635 : decode cL_law 635 = .ok (.iaload, 1) := by decide +kernel
theorem dL_law_636 : decode cL_law 636 = .ok (.invokevirtual 55, 3) := by decide +kernel
theorem dL_law_639 : decode cL_law 639 = .ok (.if_icmp .eq 1023, 3) := by decide +kernel
theorem dL_law_642 : decode cL_law 642 = .ok (.iconst 0, 1) := by decide +kernel
theorem dL_law_643 : decode cL_law 643 = .ok (.ireturn, 1) := by decide +kernel
theorem dL_law_644 : decode cL_law 644 = .ok (.aload_n 1, 1) := by decide +kernel
theorem dL_law_645 : decode cL_law 645 = .ok (.aload_n 0, 1) := by decide +kernel
theorem dL_law_646 : decode cL_law 646 = .ok (.iload 4, 2) := by decide +kernel
theorem dL_law_648 : decode cL_law 648 = .ok (.iconst 1, 1) := by decide +kernel
theorem dL_law_649 : decode cL_law 649 = .ok (.iadd, 1) := by decide +kernel
theorem dL_law_650 : decode cL_law 650 = .ok (.iaload, 1) := by decide +kernel
theorem dL_law_651 : decode cL_law 651 = .ok (.aload_n 0, 1) := by decide +kernel
theorem dL_law_652 : decode cL_law 652 = .ok (.iload 4, 2) := by decide +kernel
theorem dL_law_654 : decode cL_law 654 = .ok (.iconst 2, 1) := by decide +kernel
theorem dL_law_655 : decode cL_law 655 = .ok (.iadd, 1) := by decide +kernel
theorem dL_law_656 : decode cL_law 656 = .ok (.iaload, 1) := by decide +kernel
theorem dL_law_657 : decode cL_law 657 = .ok (.invokevirtual 56, 3) := by decide +kernel
theorem dL_law_660 : decode cL_law 660 = .ok (.aload_n 2, 1) := by decide +kernel
theorem dL_law_661 : decode cL_law 661 = .ok (.aload_n 0, 1) := by decide +kernel
theorem dL_law_662 : decode cL_law 662 = .ok (.iload 4, 2) := by decide +kernel
theorem dL_law_664 : decode cL_law 664 = .ok (.iconst 1, 1) := by decide +kernel
theorem dL_law_665 : decode cL_law 665 = .ok (.iadd, 1) := by decide +kernel
theorem dL_law_666 : decode cL_law 666 = .ok (.iaload, 1) := by decide +kernel
theorem dL_law_667 : decode cL_law 667 = .ok (.aload_n 0, 1) := by decide +kernel
theorem dL_law_668 : decode cL_law 668 = .ok (.iload 4, 2) := by decide +kernel
theorem dL_law_670 : decode cL_law 670 = .ok (.iconst 2, 1) := by decide +kernel
theorem dL_law_671 : decode cL_law 671 = .ok (.iadd, 1) := by decide +kernel
theorem dL_law_672 : decode cL_law 672 = .ok (.iaload, 1) := by decide +kernel
theorem dL_law_673 : decode cL_law 673 = .ok (.invokevirtual 60, 3) := by decide +kernel
theorem dL_law_676 : decode cL_law 676 = .ok (.if_icmp .eq 986, 3) := by decide +kernel
theorem dL_law_679 : decode cL_law 679 = .ok (.iconst 0, 1) := by decide +kernel
theorem dL_law_680 : decode cL_law 680 = .ok (.ireturn, 1) := by decide +kernel
theorem dL_law_681 : decode cL_law 681 = .ok (.aload_n 1, 1) := by decide +kernel
theorem dL_law_682 : decode cL_law 682 = .ok (.aload_n 0, 1) := by decide +kernel
theorem dL_law_683 : decode cL_law 683 = .ok (.iload 4, 2) := by decide +kernel
theorem dL_law_685 : decode cL_law 685 = .ok (.iconst 1, 1) := by decide +kernel
theorem dL_law_686 : decode cL_law 686 = .ok (.iadd, 1) := by decide +kernel
theorem dL_law_687 : decode cL_law 687 = .ok (.iaload, 1) := by decide +kernel
theorem dL_law_688 : decode cL_law 688 = .ok (.aload_n 0, 1) := by decide +kernel
theorem dL_law_689 : decode cL_law 689 = .ok (.iload 4, 2) := by decide +kernel
theorem dL_law_691 : decode cL_law 691 = .ok (.iconst 2, 1) := by decide +kernel
theorem dL_law_692 : decode cL_law 692 = .ok (.iadd, 1) := by decide +kernel
theorem dL_law_693 : decode cL_law 693 = .ok (.iaload, 1) := by decide +kernel
theorem dL_law_694 : decode cL_law 694 = .ok (.aload_n 0, 1) := by decide +kernel
theorem dL_law_695 : decode cL_law 695 = .ok (.iload 4, 2) := by decide +kernel
theorem dL_law_697 : decode cL_law 697 = .ok (.iconst 3, 1) := by decide +kernel
theorem dL_law_698 : decode cL_law 698 = .ok (.iadd, 1) := by decide +kernel
theorem dL_law_699 : decode cL_law 699 = .ok (.iaload, 1) := by decide +kernel
theorem dL_law_700 : decode cL_law 700 = .ok (.aload_n 0, 1) := by decide +kernel
theorem dL_law_701 : decode cL_law 701 = .ok (.iload 4, 2) := by decide +kernel
theorem dL_law_703 : decode cL_law 703 = .ok (.iconst 4, 1) := by decide +kernel
theorem dL_law_704 : decode cL_law 704 = .ok (.iadd, 1) := by decide +kernel
theorem dL_law_705 : decode cL_law 705 = .ok (.iaload, 1) := by decide +kernel
theorem dL_law_706 : decode cL_law 706 = .ok (.aload_n 0, 1) := by decide +kernel
theorem dL_law_707 : decode cL_law 707 = .ok (.iload 4, 2) := by decide +kernel
theorem dL_law_709 : decode cL_law 709 = .ok (.iconst 5, 1) := by decide +kernel
theorem dL_law_710 : decode cL_law 710 = .ok (.iadd, 1) := by decide +kernel
theorem dL_law_711 : decode cL_law 711 = .ok (.iaload, 1) := by decide +kernel
theorem dL_law_712 : decode cL_law 712 = .ok (.invokevirtual 61, 3) := by decide +kernel
theorem dL_law_715 : decode cL_law 715 = .ok (.aload_n 2, 1) := by decide +kernel
theorem dL_law_716 : decode cL_law 716 = .ok (.aload_n 0, 1) := by decide +kernel
theorem dL_law_717 : decode cL_law 717 = .ok (.iload 4, 2) := by decide +kernel
theorem dL_law_719 : decode cL_law 719 = .ok (.iconst 1, 1) := by decide +kernel
theorem dL_law_720 : decode cL_law 720 = .ok (.iadd, 1) := by decide +kernel
theorem dL_law_721 : decode cL_law 721 = .ok (.iaload, 1) := by decide +kernel
theorem dL_law_722 : decode cL_law 722 = .ok (.aload_n 0, 1) := by decide +kernel
theorem dL_law_723 : decode cL_law 723 = .ok (.iload 4, 2) := by decide +kernel
theorem dL_law_725 : decode cL_law 725 = .ok (.iconst 2, 1) := by decide +kernel
theorem dL_law_726 : decode cL_law 726 = .ok (.iadd, 1) := by decide +kernel
theorem dL_law_727 : decode cL_law 727 = .ok (.iaload, 1) := by decide +kernel
theorem dL_law_728 : decode cL_law 728 = .ok (.aload_n 0, 1) := by decide +kernel
theorem dL_law_729 : decode cL_law 729 = .ok (.iload 4, 2) := by decide +kernel
theorem dL_law_731 : decode cL_law 731 = .ok (.iconst 3, 1) := by decide +kernel
theorem dL_law_732 : decode cL_law 732 = .ok (.iadd, 1) := by decide +kernel
theorem dL_law_733 : decode cL_law 733 = .ok (.iaload, 1) := by decide +kernel
theorem dL_law_734 : decode cL_law 734 = .ok (.aload_n 0, 1) := by decide +kernel
theorem dL_law_735 : decode cL_law 735 = .ok (.iload 4, 2) := by decide +kernel
theorem dL_law_737 : decode cL_law 737 = .ok (.iconst 4, 1) := by decide +kernel
theorem dL_law_738 : decode cL_law 738 = .ok (.iadd, 1) := by decide +kernel
theorem dL_law_739 : decode cL_law 739 = .ok (.iaload, 1) := by decide +kernel
theorem dL_law_740 : decode cL_law 740 = .ok (.aload_n 0, 1) := by decide +kernel
theorem dL_law_741 : decode cL_law 741 = .ok (.iload 4, 2) := by decide +kernel
theorem dL_law_743 : decode cL_law 743 = .ok (.iconst 5, 1) := by decide +kernel
theorem dL_law_744 : decode cL_law 744 = .ok (.iadd, 1) := by decide +kernel
theorem dL_law_745 : decode cL_law 745 = .ok (.iaload, 1) := by decide +kernel
theorem dL_law_746 : decode cL_law 746 = .ok (.invokevirtual 65, 3) := by decide +kernel
theorem dL_law_749 : decode cL_law 749 = .ok (.if_icmp .eq 913, 3) := by decide +kernel
theorem dL_law_752 : decode cL_law 752 = .ok (.iconst 0, 1) := by decide +kernel
theorem dL_law_753 : decode cL_law 753 = .ok (.ireturn, 1) := by decide +kernel
theorem dL_law_754 : decode cL_law 754 = .ok (.aload_n 1, 1) := by decide +kernel
theorem dL_law_755 : decode cL_law 755 = .ok (.aload_n 0, 1) := by decide +kernel
theorem dL_law_756 : decode cL_law 756 = .ok (.iload 4, 2) := by decide +kernel
theorem dL_law_758 : decode cL_law 758 = .ok (.iconst 1, 1) := by decide +kernel
theorem dL_law_759 : decode cL_law 759 = .ok (.iadd, 1) := by decide +kernel
theorem dL_law_760 : decode cL_law 760 = .ok (.iaload, 1) := by decide +kernel
theorem dL_law_761 : decode cL_law 761 = .ok (.invokevirtual 66, 3) := by decide +kernel
theorem dL_law_764 : decode cL_law 764 = .ok (.aload_n 2, 1) := by decide +kernel
theorem dL_law_765 : decode cL_law 765 = .ok (.aload_n 0, 1) := by decide +kernel
theorem dL_law_766 : decode cL_law 766 = .ok (.iload 4, 2) := by decide +kernel
theorem dL_law_768 : decode cL_law 768 = .ok (.iconst 1, 1) := by decide +kernel
theorem dL_law_769 : decode cL_law 769 = .ok (.iadd, 1) := by decide +kernel
theorem dL_law_770 : decode cL_law 770 = .ok (.iaload, 1) := by decide +kernel
theorem dL_law_771 : decode cL_law 771 = .ok (.invokevirtual 70, 3) := by decide +kernel
theorem dL_law_774 : decode cL_law 774 = .ok (.if_icmp .eq 888, 3) := by decide +kernel
theorem dL_law_777 : decode cL_law 777 = .ok (.iconst 0, 1) := by decide +kernel
theorem dL_law_778 : decode cL_law 778 = .ok (.ireturn, 1) := by decide +kernel
theorem dL_law_779 : decode cL_law 779 = .ok (.aload_n 1, 1) := by decide +kernel
theorem dL_law_780 : decode cL_law 780 = .ok (.invokevirtual 71, 3) := by decide +kernel
theorem dL_law_783 : decode cL_law 783 = .ok (.aload_n 2, 1) := by decide +kernel
theorem dL_law_784 : decode cL_law 784 = .ok (.invokevirtual 75, 3) := by decide +kernel
theorem dL_law_787 : decode cL_law 787 = .ok (.if_icmp .eq 875, 3) := by decide +kernel
theorem dL_law_790 : decode cL_law 790 = .ok (.iconst 0, 1) := by decide +kernel
theorem dL_law_791 : decode cL_law 791 = .ok (.ireturn, 1) := by decide +kernel
theorem dL_law_792 : decode cL_law 792 = .ok (.aload_n 1, 1) := by decide +kernel
theorem dL_law_793 : decode cL_law 793 = .ok (.invokevirtual 76, 3) := by decide +kernel
theorem dL_law_796 : decode cL_law 796 = .ok (.aload_n 2, 1) := by decide +kernel
theorem dL_law_797 : decode cL_law 797 = .ok (.invokevirtual 79, 3) := by decide +kernel
theorem dL_law_800 : decode cL_law 800 = .ok (.if_icmp .eq 862, 3) := by decide +kernel
theorem dL_law_803 : decode cL_law 803 = .ok (.iconst 0, 1) := by decide +kernel
theorem dL_law_804 : decode cL_law 804 = .ok (.ireturn, 1) := by decide +kernel
theorem dL_law_805 : decode cL_law 805 = .ok (.aload_n 1, 1) := by decide +kernel
theorem dL_law_806 : decode cL_law 806 = .ok (.aload_n 0, 1) := by decide +kernel
theorem dL_law_807 : decode cL_law 807 = .ok (.iload 4, 2) := by decide +kernel
theorem dL_law_809 : decode cL_law 809 = .ok (.iconst 1, 1) := by decide +kernel
theorem dL_law_810 : decode cL_law 810 = .ok (.iadd, 1) := by decide +kernel
theorem dL_law_811 : decode cL_law 811 = .ok (.iaload, 1) := by decide +kernel
theorem dL_law_812 : decode cL_law 812 = .ok (.invokevirtual 80, 3) := by decide +kernel
theorem dL_law_815 : decode cL_law 815 = .ok (.aload_n 2, 1) := by decide +kernel
theorem dL_law_816 : decode cL_law 816 = .ok (.aload_n 0, 1) := by decide +kernel
theorem dL_law_817 : decode cL_law 817 = .ok (.iload 4, 2) := by decide +kernel
theorem dL_law_819 : decode cL_law 819 = .ok (.iconst 1, 1) := by decide +kernel
theorem dL_law_820 : decode cL_law 820 = .ok (.iadd, 1) := by decide +kernel
theorem dL_law_821 : decode cL_law 821 = .ok (.iaload, 1) := by decide +kernel
theorem dL_law_822 : decode cL_law 822 = .ok (.invokevirtual 83, 3) := by decide +kernel
theorem dL_law_825 : decode cL_law 825 = .ok (.if_icmp .eq 837, 3) := by decide +kernel
theorem dL_law_828 : decode cL_law 828 = .ok (.iconst 0, 1) := by decide +kernel
theorem dL_law_829 : decode cL_law 829 = .ok (.ireturn, 1) := by decide +kernel
theorem dL_law_830 : decode cL_law 830 = .ok (.aload_n 1, 1) := by decide +kernel
theorem dL_law_831 : decode cL_law 831 = .ok (.aload_n 0, 1) := by decide +kernel
theorem dL_law_832 : decode cL_law 832 = .ok (.iload 4, 2) := by decide +kernel
theorem dL_law_834 : decode cL_law 834 = .ok (.iconst 1, 1) := by decide +kernel
theorem dL_law_835 : decode cL_law 835 = .ok (.iadd, 1) := by decide +kernel
theorem dL_law_836 : decode cL_law 836 = .ok (.iaload, 1) := by decide +kernel
theorem dL_law_837 : decode cL_law 837 = .ok (.aload_n 0, 1) := by decide +kernel
theorem dL_law_838 : decode cL_law 838 = .ok (.iload 4, 2) := by decide +kernel
theorem dL_law_840 : decode cL_law 840 = .ok (.iconst 2, 1) := by decide +kernel
theorem dL_law_841 : decode cL_law 841 = .ok (.iadd, 1) := by decide +kernel
theorem dL_law_842 : decode cL_law 842 = .ok (.iaload, 1) := by decide +kernel
theorem dL_law_843 : decode cL_law 843 = .ok (.aload_n 0, 1) := by decide +kernel
theorem dL_law_844 : decode cL_law 844 = .ok (.iload 4, 2) := by decide +kernel
theorem dL_law_846 : decode cL_law 846 = .ok (.iconst 3, 1) := by decide +kernel
theorem dL_law_847 : decode cL_law 847 = .ok (.iadd, 1) := by decide +kernel
theorem dL_law_848 : decode cL_law 848 = .ok (.iaload, 1) := by decide +kernel
theorem dL_law_849 : decode cL_law 849 = .ok (.aload_n 3, 1) := by decide +kernel
theorem dL_law_850 : decode cL_law 850 = .ok (.invokestatic 84, 3) := by decide +kernel
theorem dL_law_853 : decode cL_law 853 = .ok (.istore 5, 2) := by decide +kernel
theorem dL_law_855 : decode cL_law 855 = .ok (.aload_n 2, 1) := by decide +kernel
theorem dL_law_856 : decode cL_law 856 = .ok (.aload_n 0, 1) := by decide +kernel
theorem dL_law_857 : decode cL_law 857 = .ok (.iload 4, 2) := by decide +kernel
theorem dL_law_859 : decode cL_law 859 = .ok (.iconst 1, 1) := by decide +kernel
theorem dL_law_860 : decode cL_law 860 = .ok (.iadd, 1) := by decide +kernel
theorem dL_law_861 : decode cL_law 861 = .ok (.iaload, 1) := by decide +kernel
theorem dL_law_862 : decode cL_law 862 = .ok (.aload_n 0, 1) := by decide +kernel
theorem dL_law_863 : decode cL_law 863 = .ok (.iload 4, 2) := by decide +kernel
theorem dL_law_865 : decode cL_law 865 = .ok (.iconst 2, 1) := by decide +kernel
theorem dL_law_866 : decode cL_law 866 = .ok (.iadd, 1) := by decide +kernel
theorem dL_law_867 : decode cL_law 867 = .ok (.iaload, 1) := by decide +kernel
theorem dL_law_868 : decode cL_law 868 = .ok (.aload_n 0, 1) := by decide +kernel
theorem dL_law_869 : decode cL_law 869 = .ok (.iload 4, 2) := by decide +kernel
theorem dL_law_871 : decode cL_law 871 = .ok (.iconst 3, 1) := by decide +kernel
theorem dL_law_872 : decode cL_law 872 = .ok (.iadd, 1) := by decide +kernel
theorem dL_law_873 : decode cL_law 873 = .ok (.iaload, 1) := by decide +kernel
theorem dL_law_874 : decode cL_law 874 = .ok (.invokevirtual 89, 3) := by decide +kernel
theorem dL_law_877 : decode cL_law 877 = .ok (.istore 6, 2) := by decide +kernel
theorem dL_law_879 : decode cL_law 879 = .ok (.aload_n 2, 1) := by decide +kernel
theorem dL_law_880 : decode cL_law 880 = .ok (.invokevirtual 90, 3) := by decide +kernel
theorem dL_law_883 : decode cL_law 883 = .ok (.iload 5, 2) := by decide +kernel
theorem dL_law_885 : decode cL_law 885 = .ok (.if_icmp .eq 5, 3) := by decide +kernel
theorem dL_law_888 : decode cL_law 888 = .ok (.iconst 0, 1) := by decide +kernel
theorem dL_law_889 : decode cL_law 889 = .ok (.ireturn, 1) := by decide +kernel
theorem dL_law_890 : decode cL_law 890 = .ok (.iload 5, 2) := by decide +kernel
theorem dL_law_892 : decode cL_law 892 = .ok (.ifCond .ne 15, 3) := by decide +kernel
theorem dL_law_895 : decode cL_law 895 = .ok (.aload_n 3, 1) := by decide +kernel
theorem dL_law_896 : decode cL_law 896 = .ok (.iconst 0, 1) := by decide +kernel
theorem dL_law_897 : decode cL_law 897 = .ok (.laload, 1) := by decide +kernel
theorem dL_law_898 : decode cL_law 898 = .ok (.iload 6, 2) := by decide +kernel
theorem dL_law_900 : decode cL_law 900 = .ok (.i2l, 1) := by decide +kernel
theorem dL_law_901 : decode cL_law 901 = .ok (.lcmp, 1) := by decide +kernel
theorem dL_law_902 : decode cL_law 902 = .ok (.ifCond .eq 5, 3) := by decide +kernel
theorem dL_law_905 : decode cL_law 905 = .ok (.iconst 0, 1) := by decide +kernel
theorem dL_law_906 : decode cL_law 906 = .ok (.ireturn, 1) := by decide +kernel
theorem dL_law_907 : decode cL_law 907 = .ok (.goto 755, 3) := by decide +kernel
theorem dL_law_910 : decode cL_law 910 = .ok (.aload_n 1, 1) := by decide +kernel
theorem dL_law_911 : decode cL_law 911 = .ok (.aload_n 0, 1) := by decide +kernel
theorem dL_law_912 : decode cL_law 912 = .ok (.iload 4, 2) := by decide +kernel
theorem dL_law_914 : decode cL_law 914 = .ok (.iconst 1, 1) := by decide +kernel
theorem dL_law_915 : decode cL_law 915 = .ok (.iadd, 1) := by decide +kernel
theorem dL_law_916 : decode cL_law 916 = .ok (.iaload, 1) := by decide +kernel
theorem dL_law_917 : decode cL_law 917 = .ok (.aload_n 0, 1) := by decide +kernel
theorem dL_law_918 : decode cL_law 918 = .ok (.iload 4, 2) := by decide +kernel
theorem dL_law_920 : decode cL_law 920 = .ok (.iconst 2, 1) := by decide +kernel
theorem dL_law_921 : decode cL_law 921 = .ok (.iadd, 1) := by decide +kernel
theorem dL_law_922 : decode cL_law 922 = .ok (.iaload, 1) := by decide +kernel
theorem dL_law_923 : decode cL_law 923 = .ok (.invokevirtual 93, 3) := by decide +kernel
theorem dL_law_926 : decode cL_law 926 = .ok (.aload_n 2, 1) := by decide +kernel
theorem dL_law_927 : decode cL_law 927 = .ok (.aload_n 0, 1) := by decide +kernel
theorem dL_law_928 : decode cL_law 928 = .ok (.iload 4, 2) := by decide +kernel
theorem dL_law_930 : decode cL_law 930 = .ok (.iconst 1, 1) := by decide +kernel
theorem dL_law_931 : decode cL_law 931 = .ok (.iadd, 1) := by decide +kernel
theorem dL_law_932 : decode cL_law 932 = .ok (.iaload, 1) := by decide +kernel
theorem dL_law_933 : decode cL_law 933 = .ok (.aload_n 0, 1) := by decide +kernel
theorem dL_law_934 : decode cL_law 934 = .ok (.iload 4, 2) := by decide +kernel
theorem dL_law_936 : decode cL_law 936 = .ok (.iconst 2, 1) := by decide +kernel
theorem dL_law_937 : decode cL_law 937 = .ok (.iadd, 1) := by decide +kernel
theorem dL_law_938 : decode cL_law 938 = .ok (.iaload, 1) := by decide +kernel
theorem dL_law_939 : decode cL_law 939 = .ok (.invokevirtual 96, 3) := by decide +kernel
theorem dL_law_942 : decode cL_law 942 = .ok (.if_icmp .eq 720, 3) := by decide +kernel
theorem dL_law_945 : decode cL_law 945 = .ok (.iconst 0, 1) := by decide +kernel
theorem dL_law_946 : decode cL_law 946 = .ok (.ireturn, 1) := by decide +kernel
theorem dL_law_947 : decode cL_law 947 = .ok (.aload_n 1, 1) := by decide +kernel
theorem dL_law_948 : decode cL_law 948 = .ok (.aload_n 0, 1) := by decide +kernel
theorem dL_law_949 : decode cL_law 949 = .ok (.iload 4, 2) := by decide +kernel
theorem dL_law_951 : decode cL_law 951 = .ok (.iconst 1, 1) := by decide +kernel
theorem dL_law_952 : decode cL_law 952 = .ok (.iadd, 1) := by decide +kernel
theorem dL_law_953 : decode cL_law 953 = .ok (.iaload, 1) := by decide +kernel
theorem dL_law_954 : decode cL_law 954 = .ok (.aload_n 0, 1) := by decide +kernel
theorem dL_law_955 : decode cL_law 955 = .ok (.iload 4, 2) := by decide +kernel
theorem dL_law_957 : decode cL_law 957 = .ok (.iconst 2, 1) := by decide +kernel
theorem dL_law_958 : decode cL_law 958 = .ok (.iadd, 1) := by decide +kernel
theorem dL_law_959 : decode cL_law 959 = .ok (.iaload, 1) := by decide +kernel
theorem dL_law_960 : decode cL_law 960 = .ok (.aload_n 0, 1) := by decide +kernel
theorem dL_law_961 : decode cL_law 961 = .ok (.iload 4, 2) := by decide +kernel
theorem dL_law_963 : decode cL_law 963 = .ok (.iconst 3, 1) := by decide +kernel
theorem dL_law_964 : decode cL_law 964 = .ok (.iadd, 1) := by decide +kernel
theorem dL_law_965 : decode cL_law 965 = .ok (.iaload, 1) := by decide +kernel
theorem dL_law_966 : decode cL_law 966 = .ok (.invokevirtual 97, 3) := by decide +kernel
theorem dL_law_969 : decode cL_law 969 = .ok (.aload_n 2, 1) := by decide +kernel
theorem dL_law_970 : decode cL_law 970 = .ok (.aload_n 0, 1) := by decide +kernel
theorem dL_law_971 : decode cL_law 971 = .ok (.iload 4, 2) := by decide +kernel
theorem dL_law_973 : decode cL_law 973 = .ok (.iconst 1, 1) := by decide +kernel
theorem dL_law_974 : decode cL_law 974 = .ok (.iadd, 1) := by decide +kernel
theorem dL_law_975 : decode cL_law 975 = .ok (.iaload, 1) := by decide +kernel
theorem dL_law_976 : decode cL_law 976 = .ok (.aload_n 0, 1) := by decide +kernel
theorem dL_law_977 : decode cL_law 977 = .ok (.iload 4, 2) := by decide +kernel
theorem dL_law_979 : decode cL_law 979 = .ok (.iconst 2, 1) := by decide +kernel
theorem dL_law_980 : decode cL_law 980 = .ok (.iadd, 1) := by decide +kernel
theorem dL_law_981 : decode cL_law 981 = .ok (.iaload, 1) := by decide +kernel
theorem dL_law_982 : decode cL_law 982 = .ok (.aload_n 0, 1) := by decide +kernel
theorem dL_law_983 : decode cL_law 983 = .ok (.iload 4, 2) := by decide +kernel
theorem dL_law_985 : decode cL_law 985 = .ok (.iconst 3, 1) := by decide +kernel
theorem dL_law_986 : decode cL_law 986 = .ok (.iadd, 1) := by decide +kernel
theorem dL_law_987 : decode cL_law 987 = .ok (.iaload, 1) := by decide +kernel
theorem dL_law_988 : decode cL_law 988 = .ok (.invokevirtual 100, 3) := by decide +kernel
theorem dL_law_991 : decode cL_law 991 = .ok (.if_icmp .eq 671, 3) := by decide +kernel
theorem dL_law_994 : decode cL_law 994 = .ok (.iconst 0, 1) := by decide +kernel
theorem dL_law_995 : decode cL_law 995 = .ok (.ireturn, 1) := by decide +kernel
theorem dL_law_996 : decode cL_law 996 = .ok (.aload_n 1, 1) := by decide +kernel
theorem dL_law_997 : decode cL_law 997 = .ok (.aload_n 0, 1) := by decide +kernel
theorem dL_law_998 : decode cL_law 998 = .ok (.iload 4, 2) := by decide +kernel
theorem dL_law_1000 : decode cL_law 1000 = .ok (.iconst 1, 1) := by decide +kernel
theorem dL_law_1001 : decode cL_law 1001 = .ok (.iadd, 1) := by decide +kernel
theorem dL_law_1002 : decode cL_law 1002 = .ok (.iaload, 1) := by decide +kernel
theorem dL_law_1003 : decode cL_law 1003 = .ok (.aload_n 0, 1) := by decide +kernel
theorem dL_law_1004 : decode cL_law 1004 = .ok (.iload 4, 2) := by decide +kernel
theorem dL_law_1006 : decode cL_law 1006 = .ok (.iconst 2, 1) := by decide +kernel
theorem dL_law_1007 : decode cL_law 1007 = .ok (.iadd, 1) := by decide +kernel
theorem dL_law_1008 : decode cL_law 1008 = .ok (.iaload, 1) := by decide +kernel
theorem dL_law_1009 : decode cL_law 1009 = .ok (.aload_n 0, 1) := by decide +kernel
theorem dL_law_1010 : decode cL_law 1010 = .ok (.iload 4, 2) := by decide +kernel
theorem dL_law_1012 : decode cL_law 1012 = .ok (.iconst 3, 1) := by decide +kernel
theorem dL_law_1013 : decode cL_law 1013 = .ok (.iadd, 1) := by decide +kernel
theorem dL_law_1014 : decode cL_law 1014 = .ok (.iaload, 1) := by decide +kernel
theorem dL_law_1015 : decode cL_law 1015 = .ok (.aload_n 0, 1) := by decide +kernel
theorem dL_law_1016 : decode cL_law 1016 = .ok (.iload 4, 2) := by decide +kernel
theorem dL_law_1018 : decode cL_law 1018 = .ok (.iconst 4, 1) := by decide +kernel
theorem dL_law_1019 : decode cL_law 1019 = .ok (.iadd, 1) := by decide +kernel
theorem dL_law_1020 : decode cL_law 1020 = .ok (.iaload, 1) := by decide +kernel
theorem dL_law_1021 : decode cL_law 1021 = .ok (.invokevirtual 101, 3) := by decide +kernel
theorem dL_law_1024 : decode cL_law 1024 = .ok (.aload_n 2, 1) := by decide +kernel
theorem dL_law_1025 : decode cL_law 1025 = .ok (.aload_n 0, 1) := by decide +kernel
theorem dL_law_1026 : decode cL_law 1026 = .ok (.iload 4, 2) := by decide +kernel
theorem dL_law_1028 : decode cL_law 1028 = .ok (.iconst 1, 1) := by decide +kernel
theorem dL_law_1029 : decode cL_law 1029 = .ok (.iadd, 1) := by decide +kernel
theorem dL_law_1030 : decode cL_law 1030 = .ok (.iaload, 1) := by decide +kernel
theorem dL_law_1031 : decode cL_law 1031 = .ok (.aload_n 0, 1) := by decide +kernel
theorem dL_law_1032 : decode cL_law 1032 = .ok (.iload 4, 2) := by decide +kernel
theorem dL_law_1034 : decode cL_law 1034 = .ok (.iconst 2, 1) := by decide +kernel
theorem dL_law_1035 : decode cL_law 1035 = .ok (.iadd, 1) := by decide +kernel
theorem dL_law_1036 : decode cL_law 1036 = .ok (.iaload, 1) := by decide +kernel
theorem dL_law_1037 : decode cL_law 1037 = .ok (.aload_n 0, 1) := by decide +kernel
theorem dL_law_1038 : decode cL_law 1038 = .ok (.iload 4, 2) := by decide +kernel
theorem dL_law_1040 : decode cL_law 1040 = .ok (.iconst 3, 1) := by decide +kernel
theorem dL_law_1041 : decode cL_law 1041 = .ok (.iadd, 1) := by decide +kernel
theorem dL_law_1042 : decode cL_law 1042 = .ok (.iaload, 1) := by decide +kernel
theorem dL_law_1043 : decode cL_law 1043 = .ok (.aload_n 0, 1) := by decide +kernel
theorem dL_law_1044 : decode cL_law 1044 = .ok (.iload 4, 2) := by decide +kernel
theorem dL_law_1046 : decode cL_law 1046 = .ok (.iconst 4, 1) := by decide +kernel
theorem dL_law_1047 : decode cL_law 1047 = .ok (.iadd, 1) := by decide +kernel
theorem dL_law_1048 : decode cL_law 1048 = .ok (.iaload, 1) := by decide +kernel
theorem dL_law_1049 : decode cL_law 1049 = .ok (.invokevirtual 104, 3) := by decide +kernel
theorem dL_law_1052 : decode cL_law 1052 = .ok (.if_icmp .eq 610, 3) := by decide +kernel
theorem dL_law_1055 : decode cL_law 1055 = .ok (.iconst 0, 1) := by decide +kernel
theorem dL_law_1056 : decode cL_law 1056 = .ok (.ireturn, 1) := by decide +kernel
theorem dL_law_1057 : decode cL_law 1057 = .ok (.aload_n 1, 1) := by decide +kernel
theorem dL_law_1058 : decode cL_law 1058 = .ok (.aload_n 0, 1) := by decide +kernel
theorem dL_law_1059 : decode cL_law 1059 = .ok (.iload 4, 2) := by decide +kernel
theorem dL_law_1061 : decode cL_law 1061 = .ok (.iconst 1, 1) := by decide +kernel
theorem dL_law_1062 : decode cL_law 1062 = .ok (.iadd, 1) := by decide +kernel
theorem dL_law_1063 : decode cL_law 1063 = .ok (.iaload, 1) := by decide +kernel
theorem dL_law_1064 : decode cL_law 1064 = .ok (.aload_n 0, 1) := by decide +kernel
theorem dL_law_1065 : decode cL_law 1065 = .ok (.iload 4, 2) := by decide +kernel
theorem dL_law_1067 : decode cL_law 1067 = .ok (.iconst 2, 1) := by decide +kernel
theorem dL_law_1068 : decode cL_law 1068 = .ok (.iadd, 1) := by decide +kernel
theorem dL_law_1069 : decode cL_law 1069 = .ok (.iaload, 1) := by decide +kernel
theorem dL_law_1070 : decode cL_law 1070 = .ok (.aload_n 0, 1) := by decide +kernel
theorem dL_law_1071 : decode cL_law 1071 = .ok (.iload 4, 2) := by decide +kernel
theorem dL_law_1073 : decode cL_law 1073 = .ok (.iconst 3, 1) := by decide +kernel
theorem dL_law_1074 : decode cL_law 1074 = .ok (.iadd, 1) := by decide +kernel
theorem dL_law_1075 : decode cL_law 1075 = .ok (.iaload, 1) := by decide +kernel
theorem dL_law_1076 : decode cL_law 1076 = .ok (.aload_n 0, 1) := by decide +kernel
theorem dL_law_1077 : decode cL_law 1077 = .ok (.iload 4, 2) := by decide +kernel
theorem dL_law_1079 : decode cL_law 1079 = .ok (.iconst 4, 1) := by decide +kernel
theorem dL_law_1080 : decode cL_law 1080 = .ok (.iadd, 1) := by decide +kernel
theorem dL_law_1081 : decode cL_law 1081 = .ok (.iaload, 1) := by decide +kernel
theorem dL_law_1082 : decode cL_law 1082 = .ok (.aload_n 0, 1) := by decide +kernel
theorem dL_law_1083 : decode cL_law 1083 = .ok (.iload 4, 2) := by decide +kernel
theorem dL_law_1085 : decode cL_law 1085 = .ok (.iconst 5, 1) := by decide +kernel
theorem dL_law_1086 : decode cL_law 1086 = .ok (.iadd, 1) := by decide +kernel
theorem dL_law_1087 : decode cL_law 1087 = .ok (.iaload, 1) := by decide +kernel
theorem dL_law_1088 : decode cL_law 1088 = .ok (.aload_n 0, 1) := by decide +kernel
theorem dL_law_1089 : decode cL_law 1089 = .ok (.iload 4, 2) := by decide +kernel
theorem dL_law_1091 : decode cL_law 1091 = .ok (.bipush 6, 2) := by decide +kernel
theorem dL_law_1093 : decode cL_law 1093 = .ok (.iadd, 1) := by decide +kernel
theorem dL_law_1094 : decode cL_law 1094 = .ok (.iaload, 1) := by decide +kernel
theorem dL_law_1095 : decode cL_law 1095 = .ok (.invokevirtual 105, 3) := by decide +kernel
theorem dL_law_1098 : decode cL_law 1098 = .ok (.aload_n 2, 1) := by decide +kernel
theorem dL_law_1099 : decode cL_law 1099 = .ok (.aload_n 0, 1) := by decide +kernel
theorem dL_law_1100 : decode cL_law 1100 = .ok (.iload 4, 2) := by decide +kernel
theorem dL_law_1102 : decode cL_law 1102 = .ok (.iconst 1, 1) := by decide +kernel
theorem dL_law_1103 : decode cL_law 1103 = .ok (.iadd, 1) := by decide +kernel
theorem dL_law_1104 : decode cL_law 1104 = .ok (.iaload, 1) := by decide +kernel
theorem dL_law_1105 : decode cL_law 1105 = .ok (.aload_n 0, 1) := by decide +kernel
theorem dL_law_1106 : decode cL_law 1106 = .ok (.iload 4, 2) := by decide +kernel
theorem dL_law_1108 : decode cL_law 1108 = .ok (.iconst 2, 1) := by decide +kernel
theorem dL_law_1109 : decode cL_law 1109 = .ok (.iadd, 1) := by decide +kernel
theorem dL_law_1110 : decode cL_law 1110 = .ok (.iaload, 1) := by decide +kernel
theorem dL_law_1111 : decode cL_law 1111 = .ok (.aload_n 0, 1) := by decide +kernel
theorem dL_law_1112 : decode cL_law 1112 = .ok (.iload 4, 2) := by decide +kernel
theorem dL_law_1114 : decode cL_law 1114 = .ok (.iconst 3, 1) := by decide +kernel
theorem dL_law_1115 : decode cL_law 1115 = .ok (.iadd, 1) := by decide +kernel
theorem dL_law_1116 : decode cL_law 1116 = .ok (.iaload, 1) := by decide +kernel
theorem dL_law_1117 : decode cL_law 1117 = .ok (.aload_n 0, 1) := by decide +kernel
theorem dL_law_1118 : decode cL_law 1118 = .ok (.iload 4, 2) := by decide +kernel
theorem dL_law_1120 : decode cL_law 1120 = .ok (.iconst 4, 1) := by decide +kernel
theorem dL_law_1121 : decode cL_law 1121 = .ok (.iadd, 1) := by decide +kernel
theorem dL_law_1122 : decode cL_law 1122 = .ok (.iaload, 1) := by decide +kernel
theorem dL_law_1123 : decode cL_law 1123 = .ok (.aload_n 0, 1) := by decide +kernel
theorem dL_law_1124 : decode cL_law 1124 = .ok (.iload 4, 2) := by decide +kernel
theorem dL_law_1126 : decode cL_law 1126 = .ok (.iconst 5, 1) := by decide +kernel
theorem dL_law_1127 : decode cL_law 1127 = .ok (.iadd, 1) := by decide +kernel
theorem dL_law_1128 : decode cL_law 1128 = .ok (.iaload, 1) := by decide +kernel
theorem dL_law_1129 : decode cL_law 1129 = .ok (.aload_n 0, 1) := by decide +kernel
theorem dL_law_1130 : decode cL_law 1130 = .ok (.iload 4, 2) := by decide +kernel
theorem dL_law_1132 : decode cL_law 1132 = .ok (.bipush 6, 2) := by decide +kernel
theorem dL_law_1134 : decode cL_law 1134 = .ok (.iadd, 1) := by decide +kernel
theorem dL_law_1135 : decode cL_law 1135 = .ok (.iaload, 1) := by decide +kernel
theorem dL_law_1136 : decode cL_law 1136 = .ok (.invokevirtual 109, 3) := by decide +kernel
theorem dL_law_1139 : decode cL_law 1139 = .ok (.if_icmp .eq 523, 3) := by decide +kernel
theorem dL_law_1142 : decode cL_law 1142 = .ok (.iconst 0, 1) := by decide +kernel
theorem dL_law_1143 : decode cL_law 1143 = .ok (.ireturn, 1) := by decide +kernel
theorem dL_law_1144 : decode cL_law 1144 = .ok (.aload_n 1, 1) := by decide +kernel
theorem dL_law_1145 : decode cL_law 1145 = .ok (.aload_n 0, 1) := by decide +kernel
theorem dL_law_1146 : decode cL_law 1146 = .ok (.iload 4, 2) := by decide +kernel
theorem dL_law_1148 : decode cL_law 1148 = .ok (.iconst 1, 1) := by decide +kernel
theorem dL_law_1149 : decode cL_law 1149 = .ok (.iadd, 1) := by decide +kernel
theorem dL_law_1150 : decode cL_law 1150 = .ok (.iaload, 1) := by decide +kernel
theorem dL_law_1151 : decode cL_law 1151 = .ok (.aload_n 0, 1) := by decide +kernel
theorem dL_law_1152 : decode cL_law 1152 = .ok (.iload 4, 2) := by decide +kernel
theorem dL_law_1154 : decode cL_law 1154 = .ok (.iconst 2, 1) := by decide +kernel
theorem dL_law_1155 : decode cL_law 1155 = .ok (.iadd, 1) := by decide +kernel
theorem dL_law_1156 : decode cL_law 1156 = .ok (.iaload, 1) := by decide +kernel
theorem dL_law_1157 : decode cL_law 1157 = .ok (.aload_n 0, 1) := by decide +kernel
theorem dL_law_1158 : decode cL_law 1158 = .ok (.iload 4, 2) := by decide +kernel
theorem dL_law_1160 : decode cL_law 1160 = .ok (.iconst 3, 1) := by decide +kernel
theorem dL_law_1161 : decode cL_law 1161 = .ok (.iadd, 1) := by decide +kernel
theorem dL_law_1162 : decode cL_law 1162 = .ok (.iaload, 1) := by decide +kernel
theorem dL_law_1163 : decode cL_law 1163 = .ok (.invokevirtual 110, 3) := by decide +kernel
theorem dL_law_1166 : decode cL_law 1166 = .ok (.aload_n 2, 1) := by decide +kernel
theorem dL_law_1167 : decode cL_law 1167 = .ok (.aload_n 0, 1) := by decide +kernel
theorem dL_law_1168 : decode cL_law 1168 = .ok (.iload 4, 2) := by decide +kernel
theorem dL_law_1170 : decode cL_law 1170 = .ok (.iconst 1, 1) := by decide +kernel
theorem dL_law_1171 : decode cL_law 1171 = .ok (.iadd, 1) := by decide +kernel
theorem dL_law_1172 : decode cL_law 1172 = .ok (.iaload, 1) := by decide +kernel
theorem dL_law_1173 : decode cL_law 1173 = .ok (.aload_n 0, 1) := by decide +kernel
theorem dL_law_1174 : decode cL_law 1174 = .ok (.iload 4, 2) := by decide +kernel
theorem dL_law_1176 : decode cL_law 1176 = .ok (.iconst 2, 1) := by decide +kernel
theorem dL_law_1177 : decode cL_law 1177 = .ok (.iadd, 1) := by decide +kernel
theorem dL_law_1178 : decode cL_law 1178 = .ok (.iaload, 1) := by decide +kernel
theorem dL_law_1179 : decode cL_law 1179 = .ok (.aload_n 0, 1) := by decide +kernel
theorem dL_law_1180 : decode cL_law 1180 = .ok (.iload 4, 2) := by decide +kernel
theorem dL_law_1182 : decode cL_law 1182 = .ok (.iconst 3, 1) := by decide +kernel
theorem dL_law_1183 : decode cL_law 1183 = .ok (.iadd, 1) := by decide +kernel
theorem dL_law_1184 : decode cL_law 1184 = .ok (.iaload, 1) := by decide +kernel
theorem dL_law_1185 : decode cL_law 1185 = .ok (.invokevirtual 113, 3) := by decide +kernel
theorem dL_law_1188 : decode cL_law 1188 = .ok (.if_icmp .eq 474, 3) := by decide +kernel
theorem dL_law_1191 : decode cL_law 1191 = .ok (.iconst 0, 1) := by decide +kernel
theorem dL_law_1192 : decode cL_law 1192 = .ok (.ireturn, 1) := by decide +kernel
theorem dL_law_1193 : decode cL_law 1193 = .ok (.aload_n 1, 1) := by decide +kernel
theorem dL_law_1194 : decode cL_law 1194 = .ok (.aload_n 0, 1) := by decide +kernel
theorem dL_law_1195 : decode cL_law 1195 = .ok (.iload 4, 2) := by decide +kernel
theorem dL_law_1197 : decode cL_law 1197 = .ok (.iconst 1, 1) := by decide +kernel
theorem dL_law_1198 : decode cL_law 1198 = .ok (.iadd, 1) := by decide +kernel
theorem dL_law_1199 : decode cL_law 1199 = .ok (.iaload, 1) := by decide +kernel
theorem dL_law_1200 : decode cL_law 1200 = .ok (.aload_n 0, 1) := by decide +kernel
theorem dL_law_1201 : decode cL_law 1201 = .ok (.iload 4, 2) := by decide +kernel
theorem dL_law_1203 : decode cL_law 1203 = .ok (.iconst 2, 1) := by decide +kernel
theorem dL_law_1204 : decode cL_law 1204 = .ok (.iadd, 1) := by decide +kernel
theorem dL_law_1205 : decode cL_law 1205 = .ok (.iaload, 1) := by decide +kernel
theorem dL_law_1206 : decode cL_law 1206 = .ok (.aload_n 0, 1) := by decide +kernel
theorem dL_law_1207 : decode cL_law 1207 = .ok (.iload 4, 2) := by decide +kernel
theorem dL_law_1209 : decode cL_law 1209 = .ok (.iconst 3, 1) := by decide +kernel
theorem dL_law_1210 : decode cL_law 1210 = .ok (.iadd, 1) := by decide +kernel
theorem dL_law_1211 : decode cL_law 1211 = .ok (.iaload, 1) := by decide +kernel
theorem dL_law_1212 : decode cL_law 1212 = .ok (.invokevirtual 114, 3) := by decide +kernel
theorem dL_law_1215 : decode cL_law 1215 = .ok (.aload_n 2, 1) := by decide +kernel
theorem dL_law_1216 : decode cL_law 1216 = .ok (.aload_n 0, 1) := by decide +kernel
theorem dL_law_1217 : decode cL_law 1217 = .ok (.iload 4, 2) := by decide +kernel
theorem dL_law_1219 : decode cL_law 1219 = .ok (.iconst 1, 1) := by decide +kernel
theorem dL_law_1220 : decode cL_law 1220 = .ok (.iadd, 1) := by decide +kernel
theorem dL_law_1221 : decode cL_law 1221 = .ok (.iaload, 1) := by decide +kernel
theorem dL_law_1222 : decode cL_law 1222 = .ok (.aload_n 0, 1) := by decide +kernel
theorem dL_law_1223 : decode cL_law 1223 = .ok (.iload 4, 2) := by decide +kernel
theorem dL_law_1225 : decode cL_law 1225 = .ok (.iconst 2, 1) := by decide +kernel
theorem dL_law_1226 : decode cL_law 1226 = .ok (.iadd, 1) := by decide +kernel
theorem dL_law_1227 : decode cL_law 1227 = .ok (.iaload, 1) := by decide +kernel
theorem dL_law_1228 : decode cL_law 1228 = .ok (.aload_n 0, 1) := by decide +kernel
theorem dL_law_1229 : decode cL_law 1229 = .ok (.iload 4, 2) := by decide +kernel
theorem dL_law_1231 : decode cL_law 1231 = .ok (.iconst 3, 1) := by decide +kernel
theorem dL_law_1232 : decode cL_law 1232 = .ok (.iadd, 1) := by decide +kernel
theorem dL_law_1233 : decode cL_law 1233 = .ok (.iaload, 1) := by decide +kernel
theorem dL_law_1234 : decode cL_law 1234 = .ok (.invokevirtual 117, 3) := by decide +kernel
theorem dL_law_1237 : decode cL_law 1237 = .ok (.if_icmp .eq 425, 3) := by decide +kernel
theorem dL_law_1240 : decode cL_law 1240 = .ok (.iconst 0, 1) := by decide +kernel
theorem dL_law_1241 : decode cL_law 1241 = .ok (.ireturn, 1) := by decide +kernel
theorem dL_law_1242 : decode cL_law 1242 = .ok (.aload_n 1, 1) := by decide +kernel
theorem dL_law_1243 : decode cL_law 1243 = .ok (.aload_n 0, 1) := by decide +kernel
theorem dL_law_1244 : decode cL_law 1244 = .ok (.iload 4, 2) := by decide +kernel
theorem dL_law_1246 : decode cL_law 1246 = .ok (.iconst 1, 1) := by decide +kernel
theorem dL_law_1247 : decode cL_law 1247 = .ok (.iadd, 1) := by decide +kernel
theorem dL_law_1248 : decode cL_law 1248 = .ok (.iaload, 1) := by decide +kernel
theorem dL_law_1249 : decode cL_law 1249 = .ok (.aload_n 0, 1) := by decide +kernel
theorem dL_law_1250 : decode cL_law 1250 = .ok (.iload 4, 2) := by decide +kernel
theorem dL_law_1252 : decode cL_law 1252 = .ok (.iconst 2, 1) := by decide +kernel
theorem dL_law_1253 : decode cL_law 1253 = .ok (.iadd, 1) := by decide +kernel
theorem dL_law_1254 : decode cL_law 1254 = .ok (.iaload, 1) := by decide +kernel
theorem dL_law_1255 : decode cL_law 1255 = .ok (.aload_n 0, 1) := by decide +kernel
theorem dL_law_1256 : decode cL_law 1256 = .ok (.iload 4, 2) := by decide +kernel
theorem dL_law_1258 : decode cL_law 1258 = .ok (.iconst 3, 1) := by decide +kernel
theorem dL_law_1259 : decode cL_law 1259 = .ok (.iadd, 1) := by decide +kernel
theorem dL_law_1260 : decode cL_law 1260 = .ok (.iaload, 1) := by decide +kernel
theorem dL_law_1261 : decode cL_law 1261 = .ok (.invokevirtual 118, 3) := by decide +kernel
theorem dL_law_1264 : decode cL_law 1264 = .ok (.aload_n 2, 1) := by decide +kernel
theorem dL_law_1265 : decode cL_law 1265 = .ok (.aload_n 0, 1) := by decide +kernel
theorem dL_law_1266 : decode cL_law 1266 = .ok (.iload 4, 2) := by decide +kernel
theorem dL_law_1268 : decode cL_law 1268 = .ok (.iconst 1, 1) := by decide +kernel
theorem dL_law_1269 : decode cL_law 1269 = .ok (.iadd, 1) := by decide +kernel
theorem dL_law_1270 : decode cL_law 1270 = .ok (.iaload, 1) := by decide +kernel
theorem dL_law_1271 : decode cL_law 1271 = .ok (.aload_n 0, 1) := by decide +kernel
theorem dL_law_1272 : decode cL_law 1272 = .ok (.iload 4, 2) := by decide +kernel
theorem dL_law_1274 : decode cL_law 1274 = .ok (.iconst 2, 1) := by decide +kernel
theorem dL_law_1275 : decode cL_law 1275 = .ok (.iadd, 1) := by decide +kernel
theorem dL_law_1276 : decode cL_law 1276 = .ok (.iaload, 1) := by decide +kernel
theorem dL_law_1277 : decode cL_law 1277 = .ok (.aload_n 0, 1) := by decide +kernel
theorem dL_law_1278 : decode cL_law 1278 = .ok (.iload 4, 2) := by decide +kernel
theorem dL_law_1280 : decode cL_law 1280 = .ok (.iconst 3, 1) := by decide +kernel
theorem dL_law_1281 : decode cL_law 1281 = .ok (.iadd, 1) := by decide +kernel
theorem dL_law_1282 : decode cL_law 1282 = .ok (.iaload, 1) := by decide +kernel
theorem dL_law_1283 : decode cL_law 1283 = .ok (.invokevirtual 121, 3) := by decide +kernel
theorem dL_law_1286 : decode cL_law 1286 = .ok (.if_icmp .eq 376, 3) := by decide +kernel
theorem dL_law_1289 : decode cL_law 1289 = .ok (.iconst 0, 1) := by decide +kernel
theorem dL_law_1290 : decode cL_law 1290 = .ok (.ireturn, 1) := by decide +kernel
theorem dL_law_1291 : decode cL_law 1291 = .ok (.aload_n 1, 1) := by decide +kernel
theorem dL_law_1292 : decode cL_law 1292 = .ok (.aload_n 0, 1) := by decide +kernel
theorem dL_law_1293 : decode cL_law 1293 = .ok (.iload 4, 2) := by decide +kernel
theorem dL_law_1295 : decode cL_law 1295 = .ok (.iconst 1, 1) := by decide +kernel
theorem dL_law_1296 : decode cL_law 1296 = .ok (.iadd, 1) := by decide +kernel
theorem dL_law_1297 : decode cL_law 1297 = .ok (.iaload, 1) := by decide +kernel
theorem dL_law_1298 : decode cL_law 1298 = .ok (.aload_n 0, 1) := by decide +kernel
theorem dL_law_1299 : decode cL_law 1299 = .ok (.iload 4, 2) := by decide +kernel
theorem dL_law_1301 : decode cL_law 1301 = .ok (.iconst 2, 1) := by decide +kernel
theorem dL_law_1302 : decode cL_law 1302 = .ok (.iadd, 1) := by decide +kernel
theorem dL_law_1303 : decode cL_law 1303 = .ok (.iaload, 1) := by decide +kernel
theorem dL_law_1304 : decode cL_law 1304 = .ok (.aload_n 0, 1) := by decide +kernel
theorem dL_law_1305 : decode cL_law 1305 = .ok (.iload 4, 2) := by decide +kernel
theorem dL_law_1307 : decode cL_law 1307 = .ok (.iconst 3, 1) := by decide +kernel
theorem dL_law_1308 : decode cL_law 1308 = .ok (.iadd, 1) := by decide +kernel
theorem dL_law_1309 : decode cL_law 1309 = .ok (.iaload, 1) := by decide +kernel
theorem dL_law_1310 : decode cL_law 1310 = .ok (.invokevirtual 122, 3) := by decide +kernel
theorem dL_law_1313 : decode cL_law 1313 = .ok (.aload_n 2, 1) := by decide +kernel
theorem dL_law_1314 : decode cL_law 1314 = .ok (.aload_n 0, 1) := by decide +kernel
theorem dL_law_1315 : decode cL_law 1315 = .ok (.iload 4, 2) := by decide +kernel
theorem dL_law_1317 : decode cL_law 1317 = .ok (.iconst 1, 1) := by decide +kernel
theorem dL_law_1318 : decode cL_law 1318 = .ok (.iadd, 1) := by decide +kernel
theorem dL_law_1319 : decode cL_law 1319 = .ok (.iaload, 1) := by decide +kernel
theorem dL_law_1320 : decode cL_law 1320 = .ok (.aload_n 0, 1) := by decide +kernel
theorem dL_law_1321 : decode cL_law 1321 = .ok (.iload 4, 2) := by decide +kernel
theorem dL_law_1323 : decode cL_law 1323 = .ok (.iconst 2, 1) := by decide +kernel
theorem dL_law_1324 : decode cL_law 1324 = .ok (.iadd, 1) := by decide +kernel
theorem dL_law_1325 : decode cL_law 1325 = .ok (.iaload, 1) := by decide +kernel
theorem dL_law_1326 : decode cL_law 1326 = .ok (.aload_n 0, 1) := by decide +kernel
theorem dL_law_1327 : decode cL_law 1327 = .ok (.iload 4, 2) := by decide +kernel
theorem dL_law_1329 : decode cL_law 1329 = .ok (.iconst 3, 1) := by decide +kernel
theorem dL_law_1330 : decode cL_law 1330 = .ok (.iadd, 1) := by decide +kernel
theorem dL_law_1331 : decode cL_law 1331 = .ok (.iaload, 1) := by decide +kernel
theorem dL_law_1332 : decode cL_law 1332 = .ok (.invokevirtual 125, 3) := by decide +kernel
theorem dL_law_1335 : decode cL_law 1335 = .ok (.if_icmp .eq 327, 3) := by decide +kernel
theorem dL_law_1338 : decode cL_law 1338 = .ok (.iconst 0, 1) := by decide +kernel
theorem dL_law_1339 : decode cL_law 1339 = .ok (.ireturn, 1) := by decide +kernel
theorem dL_law_1340 : decode cL_law 1340 = .ok (.aload_n 1, 1) := by decide +kernel
theorem dL_law_1341 : decode cL_law 1341 = .ok (.aload_n 0, 1) := by decide +kernel
theorem dL_law_1342 : decode cL_law 1342 = .ok (.iload 4, 2) := by decide +kernel
theorem dL_law_1344 : decode cL_law 1344 = .ok (.iconst 1, 1) := by decide +kernel
theorem dL_law_1345 : decode cL_law 1345 = .ok (.iadd, 1) := by decide +kernel
theorem dL_law_1346 : decode cL_law 1346 = .ok (.iaload, 1) := by decide +kernel
theorem dL_law_1347 : decode cL_law 1347 = .ok (.aload_n 0, 1) := by decide +kernel
theorem dL_law_1348 : decode cL_law 1348 = .ok (.iload 4, 2) := by decide +kernel
theorem dL_law_1350 : decode cL_law 1350 = .ok (.iconst 2, 1) := by decide +kernel
theorem dL_law_1351 : decode cL_law 1351 = .ok (.iadd, 1) := by decide +kernel
theorem dL_law_1352 : decode cL_law 1352 = .ok (.iaload, 1) := by decide +kernel
theorem dL_law_1353 : decode cL_law 1353 = .ok (.aload_n 0, 1) := by decide +kernel
theorem dL_law_1354 : decode cL_law 1354 = .ok (.iload 4, 2) := by decide +kernel
theorem dL_law_1356 : decode cL_law 1356 = .ok (.iconst 3, 1) := by decide +kernel
theorem dL_law_1357 : decode cL_law 1357 = .ok (.iadd, 1) := by decide +kernel
theorem dL_law_1358 : decode cL_law 1358 = .ok (.iaload, 1) := by decide +kernel
theorem dL_law_1359 : decode cL_law 1359 = .ok (.aload_n 0, 1) := by decide +kernel
theorem dL_law_1360 : decode cL_law 1360 = .ok (.iload 4, 2) := by decide +kernel
theorem dL_law_1362 : decode cL_law 1362 = .ok (.iconst 4, 1) := by decide +kernel
theorem dL_law_1363 : decode cL_law 1363 = .ok (.iadd, 1) := by decide +kernel
theorem dL_law_1364 : decode cL_law 1364 = .ok (.iaload, 1) := by decide +kernel
theorem dL_law_1365 : decode cL_law 1365 = .ok (.aload_n 0, 1) := by decide +kernel
theorem dL_law_1366 : decode cL_law 1366 = .ok (.iload 4, 2) := by decide +kernel
theorem dL_law_1368 : decode cL_law 1368 = .ok (.iconst 5, 1) := by decide +kernel
theorem dL_law_1369 : decode cL_law 1369 = .ok (.iadd, 1) := by decide +kernel
theorem dL_law_1370 : decode cL_law 1370 = .ok (.iaload, 1) := by decide +kernel
theorem dL_law_1371 : decode cL_law 1371 = .ok (.invokevirtual 126, 3) := by decide +kernel
theorem dL_law_1374 : decode cL_law 1374 = .ok (.aload_n 2, 1) := by decide +kernel
theorem dL_law_1375 : decode cL_law 1375 = .ok (.aload_n 0, 1) := by decide +kernel
theorem dL_law_1376 : decode cL_law 1376 = .ok (.iload 4, 2) := by decide +kernel
theorem dL_law_1378 : decode cL_law 1378 = .ok (.iconst 1, 1) := by decide +kernel
theorem dL_law_1379 : decode cL_law 1379 = .ok (.iadd, 1) := by decide +kernel
theorem dL_law_1380 : decode cL_law 1380 = .ok (.iaload, 1) := by decide +kernel
theorem dL_law_1381 : decode cL_law 1381 = .ok (.aload_n 0, 1) := by decide +kernel
theorem dL_law_1382 : decode cL_law 1382 = .ok (.iload 4, 2) := by decide +kernel
theorem dL_law_1384 : decode cL_law 1384 = .ok (.iconst 2, 1) := by decide +kernel
theorem dL_law_1385 : decode cL_law 1385 = .ok (.iadd, 1) := by decide +kernel
theorem dL_law_1386 : decode cL_law 1386 = .ok (.iaload, 1) := by decide +kernel
theorem dL_law_1387 : decode cL_law 1387 = .ok (.aload_n 0, 1) := by decide +kernel
theorem dL_law_1388 : decode cL_law 1388 = .ok (.iload 4, 2) := by decide +kernel
theorem dL_law_1390 : decode cL_law 1390 = .ok (.iconst 3, 1) := by decide +kernel
theorem dL_law_1391 : decode cL_law 1391 = .ok (.iadd, 1) := by decide +kernel
theorem dL_law_1392 : decode cL_law 1392 = .ok (.iaload, 1) := by decide +kernel
theorem dL_law_1393 : decode cL_law 1393 = .ok (.aload_n 0, 1) := by decide +kernel
theorem dL_law_1394 : decode cL_law 1394 = .ok (.iload 4, 2) := by decide +kernel
theorem dL_law_1396 : decode cL_law 1396 = .ok (.iconst 4, 1) := by decide +kernel
theorem dL_law_1397 : decode cL_law 1397 = .ok (.iadd, 1) := by decide +kernel
theorem dL_law_1398 : decode cL_law 1398 = .ok (.iaload, 1) := by decide +kernel
theorem dL_law_1399 : decode cL_law 1399 = .ok (.aload_n 0, 1) := by decide +kernel
theorem dL_law_1400 : decode cL_law 1400 = .ok (.iload 4, 2) := by decide +kernel
theorem dL_law_1402 : decode cL_law 1402 = .ok (.iconst 5, 1) := by decide +kernel
theorem dL_law_1403 : decode cL_law 1403 = .ok (.iadd, 1) := by decide +kernel
theorem dL_law_1404 : decode cL_law 1404 = .ok (.iaload, 1) := by decide +kernel
theorem dL_law_1405 : decode cL_law 1405 = .ok (.invokevirtual 129, 3) := by decide +kernel
theorem dL_law_1408 : decode cL_law 1408 = .ok (.if_icmp .eq 254, 3) := by decide +kernel
theorem dL_law_1411 : decode cL_law 1411 = .ok (.iconst 0, 1) := by decide +kernel
theorem dL_law_1412 : decode cL_law 1412 = .ok (.ireturn, 1) := by decide +kernel
theorem dL_law_1413 : decode cL_law 1413 = .ok (.aload_n 1, 1) := by decide +kernel
theorem dL_law_1414 : decode cL_law 1414 = .ok (.aload_n 0, 1) := by decide +kernel
theorem dL_law_1415 : decode cL_law 1415 = .ok (.iload 4, 2) := by decide +kernel
theorem dL_law_1417 : decode cL_law 1417 = .ok (.iconst 1, 1) := by decide +kernel
theorem dL_law_1418 : decode cL_law 1418 = .ok (.iadd, 1) := by decide +kernel
theorem dL_law_1419 : decode cL_law 1419 = .ok (.iaload, 1) := by decide +kernel
theorem dL_law_1420 : decode cL_law 1420 = .ok (.aload_n 0, 1) := by decide +kernel
theorem dL_law_1421 : decode cL_law 1421 = .ok (.iload 4, 2) := by decide +kernel
theorem dL_law_1423 : decode cL_law 1423 = .ok (.iconst 2, 1) := by decide +kernel
theorem dL_law_1424 : decode cL_law 1424 = .ok (.iadd, 1) := by decide +kernel
theorem dL_law_1425 : decode cL_law 1425 = .ok (.iaload, 1) := by decide +kernel
theorem dL_law_1426 : decode cL_law 1426 = .ok (.aload_n 0, 1) := by decide +kernel
theorem dL_law_1427 : decode cL_law 1427 = .ok (.iload 4, 2) := by decide +kernel
theorem dL_law_1429 : decode cL_law 1429 = .ok (.iconst 3, 1) := by decide +kernel
theorem dL_law_1430 : decode cL_law 1430 = .ok (.iadd, 1) := by decide +kernel
theorem dL_law_1431 : decode cL_law 1431 = .ok (.iaload, 1) := by decide +kernel
theorem dL_law_1432 : decode cL_law 1432 = .ok (.aload_n 0, 1) := by decide +kernel
theorem dL_law_1433 : decode cL_law 1433 = .ok (.iload 4, 2) := by decide +kernel
theorem dL_law_1435 : decode cL_law 1435 = .ok (.iconst 4, 1) := by decide +kernel
theorem dL_law_1436 : decode cL_law 1436 = .ok (.iadd, 1) := by decide +kernel
theorem dL_law_1437 : decode cL_law 1437 = .ok (.iaload, 1) := by decide +kernel
theorem dL_law_1438 : decode cL_law 1438 = .ok (.aload_n 0, 1) := by decide +kernel
theorem dL_law_1439 : decode cL_law 1439 = .ok (.iload 4, 2) := by decide +kernel
theorem dL_law_1441 : decode cL_law 1441 = .ok (.iconst 5, 1) := by decide +kernel
theorem dL_law_1442 : decode cL_law 1442 = .ok (.iadd, 1) := by decide +kernel
theorem dL_law_1443 : decode cL_law 1443 = .ok (.iaload, 1) := by decide +kernel
theorem dL_law_1444 : decode cL_law 1444 = .ok (.aload_n 0, 1) := by decide +kernel
theorem dL_law_1445 : decode cL_law 1445 = .ok (.iload 4, 2) := by decide +kernel
theorem dL_law_1447 : decode cL_law 1447 = .ok (.bipush 6, 2) := by decide +kernel
theorem dL_law_1449 : decode cL_law 1449 = .ok (.iadd, 1) := by decide +kernel
theorem dL_law_1450 : decode cL_law 1450 = .ok (.iaload, 1) := by decide +kernel
theorem dL_law_1451 : decode cL_law 1451 = .ok (.aload_n 0, 1) := by decide +kernel
theorem dL_law_1452 : decode cL_law 1452 = .ok (.iload 4, 2) := by decide +kernel
theorem dL_law_1454 : decode cL_law 1454 = .ok (.bipush 7, 2) := by decide +kernel
theorem dL_law_1456 : decode cL_law 1456 = .ok (.iadd, 1) := by decide +kernel
theorem dL_law_1457 : decode cL_law 1457 = .ok (.iaload, 1) := by decide +kernel
theorem dL_law_1458 : decode cL_law 1458 = .ok (.invokevirtual 130, 3) := by decide +kernel
theorem dL_law_1461 : decode cL_law 1461 = .ok (.aload_n 2, 1) := by decide +kernel
theorem dL_law_1462 : decode cL_law 1462 = .ok (.aload_n 0, 1) := by decide +kernel
theorem dL_law_1463 : decode cL_law 1463 = .ok (.iload 4, 2) := by decide +kernel
theorem dL_law_1465 : decode cL_law 1465 = .ok (.iconst 1, 1) := by decide +kernel
theorem dL_law_1466 : decode cL_law 1466 = .ok (.iadd, 1) := by decide +kernel
theorem dL_law_1467 : decode cL_law 1467 = .ok (.iaload, 1) := by decide +kernel
theorem dL_law_1468 : decode cL_law 1468 = .ok (.aload_n 0, 1) := by decide +kernel
theorem dL_law_1469 : decode cL_law 1469 = .ok (.iload 4, 2) := by decide +kernel
theorem dL_law_1471 : decode cL_law 1471 = .ok (.iconst 2, 1) := by decide +kernel
theorem dL_law_1472 : decode cL_law 1472 = .ok (.iadd, 1) := by decide +kernel
theorem dL_law_1473 : decode cL_law 1473 = .ok (.iaload, 1) := by decide +kernel
theorem dL_law_1474 : decode cL_law 1474 = .ok (.aload_n 0, 1) := by decide +kernel
theorem dL_law_1475 : decode cL_law 1475 = .ok (.iload 4, 2) := by decide +kernel
theorem dL_law_1477 : decode cL_law 1477 = .ok (.iconst 3, 1) := by decide +kernel
theorem dL_law_1478 : decode cL_law 1478 = .ok (.iadd, 1) := by decide +kernel
theorem dL_law_1479 : decode cL_law 1479 = .ok (.iaload, 1) := by decide +kernel
theorem dL_law_1480 : decode cL_law 1480 = .ok (.aload_n 0, 1) := by decide +kernel
theorem dL_law_1481 : decode cL_law 1481 = .ok (.iload 4, 2) := by decide +kernel
theorem dL_law_1483 : decode cL_law 1483 = .ok (.iconst 4, 1) := by decide +kernel
theorem dL_law_1484 : decode cL_law 1484 = .ok (.iadd, 1) := by decide +kernel
theorem dL_law_1485 : decode cL_law 1485 = .ok (.iaload, 1) := by decide +kernel
theorem dL_law_1486 : decode cL_law 1486 = .ok (.aload_n 0, 1) := by decide +kernel
theorem dL_law_1487 : decode cL_law 1487 = .ok (.iload 4, 2) := by decide +kernel
theorem dL_law_1489 : decode cL_law 1489 = .ok (.iconst 5, 1) := by decide +kernel
theorem dL_law_1490 : decode cL_law 1490 = .ok (.iadd, 1) := by decide +kernel
theorem dL_law_1491 : decode cL_law 1491 = .ok (.iaload, 1) := by decide +kernel
theorem dL_law_1492 : decode cL_law 1492 = .ok (.aload_n 0, 1) := by decide +kernel
theorem dL_law_1493 : decode cL_law 1493 = .ok (.iload 4, 2) := by decide +kernel
theorem dL_law_1495 : decode cL_law 1495 = .ok (.bipush 6, 2) := by decide +kernel
theorem dL_law_1497 : decode cL_law 1497 = .ok (.iadd, 1) := by decide +kernel
theorem dL_law_1498 : decode cL_law 1498 = .ok (.iaload, 1) := by decide +kernel
theorem dL_law_1499 : decode cL_law 1499 = .ok (.aload_n 0, 1) := by decide +kernel
theorem dL_law_1500 : decode cL_law 1500 = .ok (.iload 4, 2) := by decide +kernel
theorem dL_law_1502 : decode cL_law 1502 = .ok (.bipush 7, 2) := by decide +kernel
theorem dL_law_1504 : decode cL_law 1504 = .ok (.iadd, 1) := by decide +kernel
theorem dL_law_1505 : decode cL_law 1505 = .ok (.iaload, 1) := by decide +kernel
theorem dL_law_1506 : decode cL_law 1506 = .ok (.invokevirtual 134, 3) := by decide +kernel
theorem dL_law_1509 : decode cL_law 1509 = .ok (.if_icmp .eq 153, 3) := by decide +kernel
theorem dL_law_1512 : decode cL_law 1512 = .ok (.iconst 0, 1) := by decide +kernel
theorem dL_law_1513 : decode cL_law 1513 = .ok (.ireturn, 1) := by decide +kernel
theorem dL_law_1514 : decode cL_law 1514 = .ok (.aload_n 1, 1) := by decide +kernel
theorem dL_law_1515 : decode cL_law 1515 = .ok (.aload_n 0, 1) := by decide +kernel
theorem dL_law_1516 : decode cL_law 1516 = .ok (.iload 4, 2) := by decide +kernel
theorem dL_law_1518 : decode cL_law 1518 = .ok (.iconst 1, 1) := by decide +kernel
theorem dL_law_1519 : decode cL_law 1519 = .ok (.iadd, 1) := by decide +kernel
theorem dL_law_1520 : decode cL_law 1520 = .ok (.iaload, 1) := by decide +kernel
theorem dL_law_1521 : decode cL_law 1521 = .ok (.aload_n 0, 1) := by decide +kernel
theorem dL_law_1522 : decode cL_law 1522 = .ok (.iload 4, 2) := by decide +kernel
theorem dL_law_1524 : decode cL_law 1524 = .ok (.iconst 2, 1) := by decide +kernel
theorem dL_law_1525 : decode cL_law 1525 = .ok (.iadd, 1) := by decide +kernel
theorem dL_law_1526 : decode cL_law 1526 = .ok (.iaload, 1) := by decide +kernel
theorem dL_law_1527 : decode cL_law 1527 = .ok (.invokevirtual 135, 3) := by decide +kernel
theorem dL_law_1530 : decode cL_law 1530 = .ok (.aload_n 2, 1) := by decide +kernel
theorem dL_law_1531 : decode cL_law 1531 = .ok (.aload_n 0, 1) := by decide +kernel
theorem dL_law_1532 : decode cL_law 1532 = .ok (.iload 4, 2) := by decide +kernel
theorem dL_law_1534 : decode cL_law 1534 = .ok (.iconst 1, 1) := by decide +kernel
theorem dL_law_1535 : decode cL_law 1535 = .ok (.iadd, 1) := by decide +kernel
theorem dL_law_1536 : decode cL_law 1536 = .ok (.iaload, 1) := by decide +kernel
theorem dL_law_1537 : decode cL_law 1537 = .ok (.aload_n 0, 1) := by decide +kernel
theorem dL_law_1538 : decode cL_law 1538 = .ok (.iload 4, 2) := by decide +kernel
theorem dL_law_1540 : decode cL_law 1540 = .ok (.iconst 2, 1) := by decide +kernel
theorem dL_law_1541 : decode cL_law 1541 = .ok (.iadd, 1) := by decide +kernel
theorem dL_law_1542 : decode cL_law 1542 = .ok (.iaload, 1) := by decide +kernel
theorem dL_law_1543 : decode cL_law 1543 = .ok (.invokevirtual 138, 3) := by decide +kernel
theorem dL_law_1546 : decode cL_law 1546 = .ok (.if_icmp .eq 116, 3) := by decide +kernel
theorem dL_law_1549 : decode cL_law 1549 = .ok (.iconst 0, 1) := by decide +kernel
theorem dL_law_1550 : decode cL_law 1550 = .ok (.ireturn, 1) := by decide +kernel
theorem dL_law_1551 : decode cL_law 1551 = .ok (.aload_n 1, 1) := by decide +kernel
theorem dL_law_1552 : decode cL_law 1552 = .ok (.aload_n 0, 1) := by decide +kernel
theorem dL_law_1553 : decode cL_law 1553 = .ok (.iload 4, 2) := by decide +kernel
theorem dL_law_1555 : decode cL_law 1555 = .ok (.iconst 1, 1) := by decide +kernel
theorem dL_law_1556 : decode cL_law 1556 = .ok (.iadd, 1) := by decide +kernel
theorem dL_law_1557 : decode cL_law 1557 = .ok (.iaload, 1) := by decide +kernel
theorem dL_law_1558 : decode cL_law 1558 = .ok (.aload_n 0, 1) := by decide +kernel
theorem dL_law_1559 : decode cL_law 1559 = .ok (.iload 4, 2) := by decide +kernel
theorem dL_law_1561 : decode cL_law 1561 = .ok (.iconst 2, 1) := by decide +kernel
theorem dL_law_1562 : decode cL_law 1562 = .ok (.iadd, 1) := by decide +kernel
theorem dL_law_1563 : decode cL_law 1563 = .ok (.iaload, 1) := by decide +kernel
theorem dL_law_1564 : decode cL_law 1564 = .ok (.aload_n 0, 1) := by decide +kernel
theorem dL_law_1565 : decode cL_law 1565 = .ok (.iload 4, 2) := by decide +kernel
theorem dL_law_1567 : decode cL_law 1567 = .ok (.iconst 3, 1) := by decide +kernel
theorem dL_law_1568 : decode cL_law 1568 = .ok (.iadd, 1) := by decide +kernel
theorem dL_law_1569 : decode cL_law 1569 = .ok (.iaload, 1) := by decide +kernel
theorem dL_law_1570 : decode cL_law 1570 = .ok (.invokevirtual 139, 3) := by decide +kernel
theorem dL_law_1573 : decode cL_law 1573 = .ok (.aload_n 2, 1) := by decide +kernel
theorem dL_law_1574 : decode cL_law 1574 = .ok (.aload_n 0, 1) := by decide +kernel
theorem dL_law_1575 : decode cL_law 1575 = .ok (.iload 4, 2) := by decide +kernel
theorem dL_law_1577 : decode cL_law 1577 = .ok (.iconst 1, 1) := by decide +kernel
theorem dL_law_1578 : decode cL_law 1578 = .ok (.iadd, 1) := by decide +kernel
theorem dL_law_1579 : decode cL_law 1579 = .ok (.iaload, 1) := by decide +kernel
theorem dL_law_1580 : decode cL_law 1580 = .ok (.aload_n 0, 1) := by decide +kernel
theorem dL_law_1581 : decode cL_law 1581 = .ok (.iload 4, 2) := by decide +kernel
theorem dL_law_1583 : decode cL_law 1583 = .ok (.iconst 2, 1) := by decide +kernel
theorem dL_law_1584 : decode cL_law 1584 = .ok (.iadd, 1) := by decide +kernel
theorem dL_law_1585 : decode cL_law 1585 = .ok (.iaload, 1) := by decide +kernel
theorem dL_law_1586 : decode cL_law 1586 = .ok (.aload_n 0, 1) := by decide +kernel
theorem dL_law_1587 : decode cL_law 1587 = .ok (.iload 4, 2) := by decide +kernel
theorem dL_law_1589 : decode cL_law 1589 = .ok (.iconst 3, 1) := by decide +kernel
theorem dL_law_1590 : decode cL_law 1590 = .ok (.iadd, 1) := by decide +kernel
theorem dL_law_1591 : decode cL_law 1591 = .ok (.iaload, 1) := by decide +kernel
theorem dL_law_1592 : decode cL_law 1592 = .ok (.invokevirtual 142, 3) := by decide +kernel
theorem dL_law_1595 : decode cL_law 1595 = .ok (.if_icmp .eq 67, 3) := by decide +kernel
theorem dL_law_1598 : decode cL_law 1598 = .ok (.iconst 0, 1) := by decide +kernel
theorem dL_law_1599 : decode cL_law 1599 = .ok (.ireturn, 1) := by decide +kernel
theorem dL_law_1600 : decode cL_law 1600 = .ok (.aload_n 1, 1) := by decide +kernel
theorem dL_law_1601 : decode cL_law 1601 = .ok (.aload_n 0, 1) := by decide +kernel
theorem dL_law_1602 : decode cL_law 1602 = .ok (.iload 4, 2) := by decide +kernel
theorem dL_law_1604 : decode cL_law 1604 = .ok (.iconst 1, 1) := by decide +kernel
theorem dL_law_1605 : decode cL_law 1605 = .ok (.iadd, 1) := by decide +kernel
theorem dL_law_1606 : decode cL_law 1606 = .ok (.iaload, 1) := by decide +kernel
theorem dL_law_1607 : decode cL_law 1607 = .ok (.aload_n 0, 1) := by decide +kernel
theorem dL_law_1608 : decode cL_law 1608 = .ok (.iload 4, 2) := by decide +kernel
theorem dL_law_1610 : decode cL_law 1610 = .ok (.iconst 2, 1) := by decide +kernel
theorem dL_law_1611 : decode cL_law 1611 = .ok (.iadd, 1) := by decide +kernel
theorem dL_law_1612 : decode cL_law 1612 = .ok (.iaload, 1) := by decide +kernel
theorem dL_law_1613 : decode cL_law 1613 = .ok (.invokevirtual 143, 3) := by decide +kernel
theorem dL_law_1616 : decode cL_law 1616 = .ok (.aload_n 2, 1) := by decide +kernel
theorem dL_law_1617 : decode cL_law 1617 = .ok (.aload_n 0, 1) := by decide +kernel
theorem dL_law_1618 : decode cL_law 1618 = .ok (.iload 4, 2) := by decide +kernel
theorem dL_law_1620 : decode cL_law 1620 = .ok (.iconst 1, 1) := by decide +kernel
theorem dL_law_1621 : decode cL_law 1621 = .ok (.iadd, 1) := by decide +kernel
theorem dL_law_1622 : decode cL_law 1622 = .ok (.iaload, 1) := by decide +kernel
theorem dL_law_1623 : decode cL_law 1623 = .ok (.aload_n 0, 1) := by decide +kernel
theorem dL_law_1624 : decode cL_law 1624 = .ok (.iload 4, 2) := by decide +kernel
theorem dL_law_1626 : decode cL_law 1626 = .ok (.iconst 2, 1) := by decide +kernel
theorem dL_law_1627 : decode cL_law 1627 = .ok (.iadd, 1) := by decide +kernel
theorem dL_law_1628 : decode cL_law 1628 = .ok (.iaload, 1) := by decide +kernel
theorem dL_law_1629 : decode cL_law 1629 = .ok (.invokevirtual 146, 3) := by decide +kernel
theorem dL_law_1632 : decode cL_law 1632 = .ok (.if_icmp .eq 30, 3) := by decide +kernel
theorem dL_law_1635 : decode cL_law 1635 = .ok (.iconst 0, 1) := by decide +kernel
theorem dL_law_1636 : decode cL_law 1636 = .ok (.ireturn, 1) := by decide +kernel
theorem dL_law_1637 : decode cL_law 1637 = .ok (.aload_n 1, 1) := by decide +kernel
theorem dL_law_1638 : decode cL_law 1638 = .ok (.aload_n 0, 1) := by decide +kernel
theorem dL_law_1639 : decode cL_law 1639 = .ok (.iload 4, 2) := by decide +kernel
theorem dL_law_1641 : decode cL_law 1641 = .ok (.iconst 1, 1) := by decide +kernel
theorem dL_law_1642 : decode cL_law 1642 = .ok (.iadd, 1) := by decide +kernel
theorem dL_law_1643 : decode cL_law 1643 = .ok (.iaload, 1) := by decide +kernel
theorem dL_law_1644 : decode cL_law 1644 = .ok (.invokevirtual 147, 3) := by decide +kernel
theorem dL_law_1647 : decode cL_law 1647 = .ok (.aload_n 2, 1) := by decide +kernel
theorem dL_law_1648 : decode cL_law 1648 = .ok (.aload_n 0, 1) := by decide +kernel
theorem dL_law_1649 : decode cL_law 1649 = .ok (.iload 4, 2) := by decide +kernel
theorem dL_law_1651 : decode cL_law 1651 = .ok (.iconst 1, 1) := by decide +kernel
theorem dL_law_1652 : decode cL_law 1652 = .ok (.iadd, 1) := by decide +kernel
theorem dL_law_1653 : decode cL_law 1653 = .ok (.iaload, 1) := by decide +kernel
theorem dL_law_1654 : decode cL_law 1654 = .ok (.invokevirtual 150, 3) := by decide +kernel
theorem dL_law_1657 : decode cL_law 1657 = .ok (.if_icmp .eq 5, 3) := by decide +kernel
theorem dL_law_1660 : decode cL_law 1660 = .ok (.iconst 0, 1) := by decide +kernel
theorem dL_law_1661 : decode cL_law 1661 = .ok (.ireturn, 1) := by decide +kernel
theorem dL_law_1662 : decode cL_law 1662 = .ok (.iinc 4 8, 3) := by decide +kernel
theorem dL_law_1665 : decode cL_law 1665 = .ok (.goto (-1642), 3) := by decide +kernel
theorem dL_law_1668 : decode cL_law 1668 = .ok (.iconst 1, 1) := by decide +kernel
theorem dL_law_1669 : decode cL_law 1669 = .ok (.ireturn, 1) := by decide +kernel
def fn_L_law_1662 (N L : Nat) (xs : Nat → Int32) (K23 : Int32 → zo_O → Option zo_R) (x4 : Int32) (Ω : zo_O) : Option zo_R :=
  K23 (x4 + 8) Ω
theorem ct_L_law_1662 {Y : zo_Y} {L : Nat} {xs : Nat → Int32} (hY : zo_Gd Y cL_law 7 RX0 13) (hJ : zo_JC (zo_J Y)) (hCon : ∀ Ω, zo_J Y Ω → zo_Con Ω) (hr : zo_rtL Y) (hS : zo_scr Y L xs) (N : Nat) (K23 : Int32 → zo_O → Option zo_R) (hK23 : ∀ (x4 : Int32) (Ω : zo_O) (res : zo_R), K23 x4 Ω = some res → TW Y res Ω 23 [(0, vr 22 0), (1, vr 0 0), (2, vr 1 0), (3, vr 42 0), (4, vi x4)] []) (x4 : Int32) (Ω : zo_O) (res : zo_R) (h : fn_L_law_1662 N L xs K23 x4 Ω = some res) : TW Y res Ω 1662 [(0, vr 22 0), (1, vr 0 0), (2, vr 1 0), (3, vr 42 0), (4, vi x4)] [] := by
  unfold fn_L_law_1662 at h
  refine zo_iinc hY 8 dL_law_1662 (by decide) (by decide) 4 rfl rfl (ls' := [(4, vi (x4 + 8)), (0, vr 22 0), (1, vr 0 0), (2, vr 1 0), (3, vr 42 0)]) rfl ?_
  refine zo_goto hY 23 dL_law_1665 (by decide) ?_
  refine zo_sub [1, 2, 3, 4, 0] rfl ?_
  exact hK23 (x4 + 8) Ω _ h
def fn_L_law_172 (N L : Nat) (xs : Nat → Int32) (K23 : Int32 → zo_O → Option zo_R) (x4 : Int32) (Ω : zo_O) : Option zo_R :=
  ix (x4 + 1) L fun j1 =>
  ix (x4 + 2) L fun j2 =>
  ix (x4 + 3) L fun j3 =>
  ix (x4 + 4) L fun j4 =>
  ci (fn_X1_site N (xs j1) (xs j2) (xs j3) (xs j4) Ω) fun r6 Ω5 =>
  ix (x4 + 1) L fun j7 =>
  ix (x4 + 2) L fun j8 =>
  ix (x4 + 3) L fun j9 =>
  ix (x4 + 4) L fun j10 =>
  ci (fn_X2_site N (xs j7) (xs j8) (xs j9) (xs j10) Ω5) fun r12 Ω11 =>
  if r6 = r12 then (
    fn_L_law_1662 N L xs K23 x4 Ω11
    ) else
  rI 0 Ω11
theorem ct_L_law_172 {Y : zo_Y} {L : Nat} {xs : Nat → Int32} (hY : zo_Gd Y cL_law 7 RX0 13) (hJ : zo_JC (zo_J Y)) (hCon : ∀ Ω, zo_J Y Ω → zo_Con Ω) (hr : zo_rtL Y) (hS : zo_scr Y L xs) (N : Nat) (K23 : Int32 → zo_O → Option zo_R) (hK23 : ∀ (x4 : Int32) (Ω : zo_O) (res : zo_R), K23 x4 Ω = some res → TW Y res Ω 23 [(0, vr 22 0), (1, vr 0 0), (2, vr 1 0), (3, vr 42 0), (4, vi x4)] []) (x4 : Int32) (Ω : zo_O) (res : zo_R) (h : fn_L_law_172 N L xs K23 x4 Ω = some res) : TW Y res Ω 172 [(0, vr 22 0), (1, vr 0 0), (2, vr 1 0), (3, vr 42 0), (4, vi x4)] [] := by
  unfold fn_L_law_172 at h
  refine zo_aload_n hY dL_law_172 rfl 1 rfl ?_
  refine zo_aload_n hY dL_law_173 rfl 0 rfl ?_
  refine zo_iload hY dL_law_174 4 rfl ?_
  refine zo_iconst hY 1 (by decide) dL_law_176 ?_
  refine zo_iadd hY dL_law_177 ?_
  refine zo_scdL hY hS dL_law_178 h (fun j1 h => ?_)
  refine zo_aload_n hY dL_law_179 rfl 0 rfl ?_
  refine zo_iload hY dL_law_180 4 rfl ?_
  refine zo_iconst hY 2 (by decide) dL_law_182 ?_
  refine zo_iadd hY dL_law_183 ?_
  refine zo_scdL hY hS dL_law_184 h (fun j2 h => ?_)
  refine zo_aload_n hY dL_law_185 rfl 0 rfl ?_
  refine zo_iload hY dL_law_186 4 rfl ?_
  refine zo_iconst hY 3 (by decide) dL_law_188 ?_
  refine zo_iadd hY dL_law_189 ?_
  refine zo_scdL hY hS dL_law_190 h (fun j3 h => ?_)
  refine zo_aload_n hY dL_law_191 rfl 0 rfl ?_
  refine zo_iload hY dL_law_192 4 rfl ?_
  refine zo_iconst hY 4 (by decide) dL_law_194 ?_
  refine zo_iadd hY dL_law_195 ?_
  refine zo_scdL hY hS dL_law_196 h (fun j4 h => ?_)
  refine zo_callV hY (fun q hq => mt_X1_site hJ hCon N (xs j1) (xs j2) (xs j3) (xs j4) Ω q hq) (by decide) (by decide) (by decide) ⟨rfl, cn_X1_site⟩ rfl q235 q236 q237 q78 q238 (Nat.le_of_ble_eq_true rfl) dL_law_197 rfl h (ci_k (fun r6 Ω5 res h => ?_))
  refine zo_aload_n hY dL_law_200 rfl 2 rfl ?_
  refine zo_aload_n hY dL_law_201 rfl 0 rfl ?_
  refine zo_iload hY dL_law_202 4 rfl ?_
  refine zo_iconst hY 1 (by decide) dL_law_204 ?_
  refine zo_iadd hY dL_law_205 ?_
  refine zo_scdL hY hS dL_law_206 h (fun j7 h => ?_)
  refine zo_aload_n hY dL_law_207 rfl 0 rfl ?_
  refine zo_iload hY dL_law_208 4 rfl ?_
  refine zo_iconst hY 2 (by decide) dL_law_210 ?_
  refine zo_iadd hY dL_law_211 ?_
  refine zo_scdL hY hS dL_law_212 h (fun j8 h => ?_)
  refine zo_aload_n hY dL_law_213 rfl 0 rfl ?_
  refine zo_iload hY dL_law_214 4 rfl ?_
  refine zo_iconst hY 3 (by decide) dL_law_216 ?_
  refine zo_iadd hY dL_law_217 ?_
  refine zo_scdL hY hS dL_law_218 h (fun j9 h => ?_)
  refine zo_aload_n hY dL_law_219 rfl 0 rfl ?_
  refine zo_iload hY dL_law_220 4 rfl ?_
  refine zo_iconst hY 4 (by decide) dL_law_222 ?_
  refine zo_iadd hY dL_law_223 ?_
  refine zo_scdL hY hS dL_law_224 h (fun j10 h => ?_)
  refine zo_callV hY (fun q hq => mt_X2_site hJ hCon N (xs j7) (xs j8) (xs j9) (xs j10) Ω5 q hq) (by decide) (by decide) (by decide) ⟨rfl, cn_X2_site⟩ rfl q1517 q1518 q1519 q82 q1520 (Nat.le_of_ble_eq_true rfl) dL_law_225 rfl h (ci_k (fun r12 Ω11 res h => ?_))
  refine zo_icmp_eq hY 1662 dL_law_228 (by decide) h (fun c13 h => ?_) (fun c13 h => ?_)
  · exact ct_L_law_1662 hY hJ hCon hr hS N K23 hK23 x4 Ω11 _ h
  · refine zo_iconst hY 0 (by decide) dL_law_231 ?_
    exact zo_lret hY hr dL_law_232 h
def fn_L_law_342 (N L : Nat) (xs : Nat → Int32) (K23 : Int32 → zo_O → Option zo_R) (x4 : Int32) (s0 : Int32) (s1 : Int32) (s2 : Int32) (s3 : Int32) (s4 : Int32) (s5 : Int32) (s6 : Int32) (s8 : Int32) (Ω : zo_O) : Option zo_R :=
  ci (fn_X2_circle N s6 s5 s4 s3 s2 s1 s0 Ω) fun r2 Ω1 =>
  if s8 = r2 then (
    fn_L_law_1662 N L xs K23 x4 Ω1
    ) else
  rI 0 Ω1
theorem ct_L_law_342 {Y : zo_Y} {L : Nat} {xs : Nat → Int32} (hY : zo_Gd Y cL_law 7 RX0 13) (hJ : zo_JC (zo_J Y)) (hCon : ∀ Ω, zo_J Y Ω → zo_Con Ω) (hr : zo_rtL Y) (hS : zo_scr Y L xs) (N : Nat) (K23 : Int32 → zo_O → Option zo_R) (hK23 : ∀ (x4 : Int32) (Ω : zo_O) (res : zo_R), K23 x4 Ω = some res → TW Y res Ω 23 [(0, vr 22 0), (1, vr 0 0), (2, vr 1 0), (3, vr 42 0), (4, vi x4)] []) (x4 : Int32) (s0 : Int32) (s1 : Int32) (s2 : Int32) (s3 : Int32) (s4 : Int32) (s5 : Int32) (s6 : Int32) (s8 : Int32) (Ω : zo_O) (res : zo_R) (h : fn_L_law_342 N L xs K23 x4 s0 s1 s2 s3 s4 s5 s6 s8 Ω = some res) : TW Y res Ω 342 [(0, vr 22 0), (1, vr 0 0), (2, vr 1 0), (3, vr 42 0), (4, vi x4)] [vi s0, vi s1, vi s2, vi s3, vi s4, vi s5, vi s6, vr 1 0, vi s8] := by
  unfold fn_L_law_342 at h
  refine zo_callV hY (fun q hq => mt_X2_circle hJ hCon N s6 s5 s4 s3 s2 s1 s0 Ω q hq) (by decide) (by decide) (by decide) ⟨rfl, cn_X2_circle⟩ rfl q1527 q1528 q1529 q82 q1530 (Nat.le_of_ble_eq_true rfl) dL_law_342 rfl h (ci_k (fun r2 Ω1 res h => ?_))
  refine zo_icmp_eq hY 1662 dL_law_345 (by decide) h (fun c3 h => ?_) (fun c3 h => ?_)
  · exact ct_L_law_1662 hY hJ hCon hr hS N K23 hK23 x4 Ω1 _ h
  · refine zo_iconst hY 0 (by decide) dL_law_348 ?_
    exact zo_lret hY hr dL_law_349 h
def fn_L_law_286 (N L : Nat) (xs : Nat → Int32) (K23 : Int32 → zo_O → Option zo_R) (x4 : Int32) (s0 : Int32) (s1 : Int32) (s2 : Int32) (s3 : Int32) (s4 : Int32) (s5 : Int32) (s6 : Int32) (Ω : zo_O) : Option zo_R :=
  ci (fn_X1_circle N s6 s5 s4 s3 s2 s1 s0 Ω) fun r2 Ω1 =>
  ix (x4 + 1) L fun j3 =>
  ix (x4 + 2) L fun j4 =>
  ix (x4 + 3) L fun j5 =>
  ix (x4 + 4) L fun j6 =>
  ix (x4 + 5) L fun j7 =>
  ix (x4 + 6) L fun j8 =>
  ix (x4 + 7) L fun j9 =>
  if xs j9 = 0 then (
    fn_L_law_342 N L xs K23 x4 0 (xs j8) (xs j7) (xs j6) (xs j5) (xs j4) (xs j3) r2 Ω1
    ) else
  fn_L_law_342 N L xs K23 x4 1 (xs j8) (xs j7) (xs j6) (xs j5) (xs j4) (xs j3) r2 Ω1
theorem ct_L_law_286 {Y : zo_Y} {L : Nat} {xs : Nat → Int32} (hY : zo_Gd Y cL_law 7 RX0 13) (hJ : zo_JC (zo_J Y)) (hCon : ∀ Ω, zo_J Y Ω → zo_Con Ω) (hr : zo_rtL Y) (hS : zo_scr Y L xs) (N : Nat) (K23 : Int32 → zo_O → Option zo_R) (hK23 : ∀ (x4 : Int32) (Ω : zo_O) (res : zo_R), K23 x4 Ω = some res → TW Y res Ω 23 [(0, vr 22 0), (1, vr 0 0), (2, vr 1 0), (3, vr 42 0), (4, vi x4)] []) (x4 : Int32) (s0 : Int32) (s1 : Int32) (s2 : Int32) (s3 : Int32) (s4 : Int32) (s5 : Int32) (s6 : Int32) (Ω : zo_O) (res : zo_R) (h : fn_L_law_286 N L xs K23 x4 s0 s1 s2 s3 s4 s5 s6 Ω = some res) : TW Y res Ω 286 [(0, vr 22 0), (1, vr 0 0), (2, vr 1 0), (3, vr 42 0), (4, vi x4)] [vi s0, vi s1, vi s2, vi s3, vi s4, vi s5, vi s6, vr 0 0] := by
  unfold fn_L_law_286 at h
  refine zo_callV hY (fun q hq => mt_X1_circle hJ hCon N s6 s5 s4 s3 s2 s1 s0 Ω q hq) (by decide) (by decide) (by decide) ⟨rfl, cn_X1_circle⟩ rfl q352 q353 q354 q78 q355 (Nat.le_of_ble_eq_true rfl) dL_law_286 rfl h (ci_k (fun r2 Ω1 res h => ?_))
  refine zo_aload_n hY dL_law_289 rfl 2 rfl ?_
  refine zo_aload_n hY dL_law_290 rfl 0 rfl ?_
  refine zo_iload hY dL_law_291 4 rfl ?_
  refine zo_iconst hY 1 (by decide) dL_law_293 ?_
  refine zo_iadd hY dL_law_294 ?_
  refine zo_scdL hY hS dL_law_295 h (fun j3 h => ?_)
  refine zo_aload_n hY dL_law_296 rfl 0 rfl ?_
  refine zo_iload hY dL_law_297 4 rfl ?_
  refine zo_iconst hY 2 (by decide) dL_law_299 ?_
  refine zo_iadd hY dL_law_300 ?_
  refine zo_scdL hY hS dL_law_301 h (fun j4 h => ?_)
  refine zo_aload_n hY dL_law_302 rfl 0 rfl ?_
  refine zo_iload hY dL_law_303 4 rfl ?_
  refine zo_iconst hY 3 (by decide) dL_law_305 ?_
  refine zo_iadd hY dL_law_306 ?_
  refine zo_scdL hY hS dL_law_307 h (fun j5 h => ?_)
  refine zo_aload_n hY dL_law_308 rfl 0 rfl ?_
  refine zo_iload hY dL_law_309 4 rfl ?_
  refine zo_iconst hY 4 (by decide) dL_law_311 ?_
  refine zo_iadd hY dL_law_312 ?_
  refine zo_scdL hY hS dL_law_313 h (fun j6 h => ?_)
  refine zo_aload_n hY dL_law_314 rfl 0 rfl ?_
  refine zo_iload hY dL_law_315 4 rfl ?_
  refine zo_iconst hY 5 (by decide) dL_law_317 ?_
  refine zo_iadd hY dL_law_318 ?_
  refine zo_scdL hY hS dL_law_319 h (fun j7 h => ?_)
  refine zo_aload_n hY dL_law_320 rfl 0 rfl ?_
  refine zo_iload hY dL_law_321 4 rfl ?_
  refine zo_bipush hY 6 (by decide) dL_law_323 ?_
  refine zo_iadd hY dL_law_325 ?_
  refine zo_scdL hY hS dL_law_326 h (fun j8 h => ?_)
  refine zo_aload_n hY dL_law_327 rfl 0 rfl ?_
  refine zo_iload hY dL_law_328 4 rfl ?_
  refine zo_bipush hY 7 (by decide) dL_law_330 ?_
  refine zo_iadd hY dL_law_332 ?_
  refine zo_scdL hY hS dL_law_333 h (fun j9 h => ?_)
  refine zo_if_eq hY 341 dL_law_334 (by decide) h (fun c10 h => ?_) (fun c10 h => ?_)
  · refine zo_iconst hY 0 (by decide) dL_law_341 ?_
    exact ct_L_law_342 hY hJ hCon hr hS N K23 hK23 x4 0 (xs j8) (xs j7) (xs j6) (xs j5) (xs j4) (xs j3) r2 Ω1 _ h
  · refine zo_iconst hY 1 (by decide) dL_law_337 ?_
    refine zo_goto hY 342 dL_law_338 (by decide) ?_
    exact ct_L_law_342 hY hJ hCon hr hS N K23 hK23 x4 1 (xs j8) (xs j7) (xs j6) (xs j5) (xs j4) (xs j3) r2 Ω1 _ h
def fn_L_law_233 (N L : Nat) (xs : Nat → Int32) (K23 : Int32 → zo_O → Option zo_R) (x4 : Int32) (Ω : zo_O) : Option zo_R :=
  ix (x4 + 1) L fun j1 =>
  ix (x4 + 2) L fun j2 =>
  ix (x4 + 3) L fun j3 =>
  ix (x4 + 4) L fun j4 =>
  ix (x4 + 5) L fun j5 =>
  ix (x4 + 6) L fun j6 =>
  ix (x4 + 7) L fun j7 =>
  if xs j7 = 0 then (
    fn_L_law_286 N L xs K23 x4 0 (xs j6) (xs j5) (xs j4) (xs j3) (xs j2) (xs j1) Ω
    ) else
  fn_L_law_286 N L xs K23 x4 1 (xs j6) (xs j5) (xs j4) (xs j3) (xs j2) (xs j1) Ω
theorem ct_L_law_233 {Y : zo_Y} {L : Nat} {xs : Nat → Int32} (hY : zo_Gd Y cL_law 7 RX0 13) (hJ : zo_JC (zo_J Y)) (hCon : ∀ Ω, zo_J Y Ω → zo_Con Ω) (hr : zo_rtL Y) (hS : zo_scr Y L xs) (N : Nat) (K23 : Int32 → zo_O → Option zo_R) (hK23 : ∀ (x4 : Int32) (Ω : zo_O) (res : zo_R), K23 x4 Ω = some res → TW Y res Ω 23 [(0, vr 22 0), (1, vr 0 0), (2, vr 1 0), (3, vr 42 0), (4, vi x4)] []) (x4 : Int32) (Ω : zo_O) (res : zo_R) (h : fn_L_law_233 N L xs K23 x4 Ω = some res) : TW Y res Ω 233 [(0, vr 22 0), (1, vr 0 0), (2, vr 1 0), (3, vr 42 0), (4, vi x4)] [] := by
  unfold fn_L_law_233 at h
  refine zo_aload_n hY dL_law_233 rfl 1 rfl ?_
  refine zo_aload_n hY dL_law_234 rfl 0 rfl ?_
  refine zo_iload hY dL_law_235 4 rfl ?_
  refine zo_iconst hY 1 (by decide) dL_law_237 ?_
  refine zo_iadd hY dL_law_238 ?_
  refine zo_scdL hY hS dL_law_239 h (fun j1 h => ?_)
  refine zo_aload_n hY dL_law_240 rfl 0 rfl ?_
  refine zo_iload hY dL_law_241 4 rfl ?_
  refine zo_iconst hY 2 (by decide) dL_law_243 ?_
  refine zo_iadd hY dL_law_244 ?_
  refine zo_scdL hY hS dL_law_245 h (fun j2 h => ?_)
  refine zo_aload_n hY dL_law_246 rfl 0 rfl ?_
  refine zo_iload hY dL_law_247 4 rfl ?_
  refine zo_iconst hY 3 (by decide) dL_law_249 ?_
  refine zo_iadd hY dL_law_250 ?_
  refine zo_scdL hY hS dL_law_251 h (fun j3 h => ?_)
  refine zo_aload_n hY dL_law_252 rfl 0 rfl ?_
  refine zo_iload hY dL_law_253 4 rfl ?_
  refine zo_iconst hY 4 (by decide) dL_law_255 ?_
  refine zo_iadd hY dL_law_256 ?_
  refine zo_scdL hY hS dL_law_257 h (fun j4 h => ?_)
  refine zo_aload_n hY dL_law_258 rfl 0 rfl ?_
  refine zo_iload hY dL_law_259 4 rfl ?_
  refine zo_iconst hY 5 (by decide) dL_law_261 ?_
  refine zo_iadd hY dL_law_262 ?_
  refine zo_scdL hY hS dL_law_263 h (fun j5 h => ?_)
  refine zo_aload_n hY dL_law_264 rfl 0 rfl ?_
  refine zo_iload hY dL_law_265 4 rfl ?_
  refine zo_bipush hY 6 (by decide) dL_law_267 ?_
  refine zo_iadd hY dL_law_269 ?_
  refine zo_scdL hY hS dL_law_270 h (fun j6 h => ?_)
  refine zo_aload_n hY dL_law_271 rfl 0 rfl ?_
  refine zo_iload hY dL_law_272 4 rfl ?_
  refine zo_bipush hY 7 (by decide) dL_law_274 ?_
  refine zo_iadd hY dL_law_276 ?_
  refine zo_scdL hY hS dL_law_277 h (fun j7 h => ?_)
  refine zo_if_eq hY 285 dL_law_278 (by decide) h (fun c8 h => ?_) (fun c8 h => ?_)
  · refine zo_iconst hY 0 (by decide) dL_law_285 ?_
    exact ct_L_law_286 hY hJ hCon hr hS N K23 hK23 x4 0 (xs j6) (xs j5) (xs j4) (xs j3) (xs j2) (xs j1) Ω _ h
  · refine zo_iconst hY 1 (by decide) dL_law_281 ?_
    refine zo_goto hY 286 dL_law_282 (by decide) ?_
    exact ct_L_law_286 hY hJ hCon hr hS N K23 hK23 x4 1 (xs j6) (xs j5) (xs j4) (xs j3) (xs j2) (xs j1) Ω _ h
def fn_L_law_350 (N L : Nat) (xs : Nat → Int32) (K23 : Int32 → zo_O → Option zo_R) (x4 : Int32) (Ω : zo_O) : Option zo_R :=
  ix (x4 + 1) L fun j1 =>
  ix (x4 + 2) L fun j2 =>
  ix (x4 + 3) L fun j3 =>
  ci (fn_X1_looked N (xs j1) (xs j2) (xs j3) Ω) fun r5 Ω4 =>
  ix (x4 + 1) L fun j6 =>
  ix (x4 + 2) L fun j7 =>
  ix (x4 + 3) L fun j8 =>
  ci (fn_X2_looked N (xs j6) (xs j7) (xs j8) Ω4) fun r10 Ω9 =>
  if r5 = r10 then (
    fn_L_law_1662 N L xs K23 x4 Ω9
    ) else
  rI 0 Ω9
theorem ct_L_law_350 {Y : zo_Y} {L : Nat} {xs : Nat → Int32} (hY : zo_Gd Y cL_law 7 RX0 13) (hJ : zo_JC (zo_J Y)) (hCon : ∀ Ω, zo_J Y Ω → zo_Con Ω) (hr : zo_rtL Y) (hS : zo_scr Y L xs) (N : Nat) (K23 : Int32 → zo_O → Option zo_R) (hK23 : ∀ (x4 : Int32) (Ω : zo_O) (res : zo_R), K23 x4 Ω = some res → TW Y res Ω 23 [(0, vr 22 0), (1, vr 0 0), (2, vr 1 0), (3, vr 42 0), (4, vi x4)] []) (x4 : Int32) (Ω : zo_O) (res : zo_R) (h : fn_L_law_350 N L xs K23 x4 Ω = some res) : TW Y res Ω 350 [(0, vr 22 0), (1, vr 0 0), (2, vr 1 0), (3, vr 42 0), (4, vi x4)] [] := by
  unfold fn_L_law_350 at h
  refine zo_aload_n hY dL_law_350 rfl 1 rfl ?_
  refine zo_aload_n hY dL_law_351 rfl 0 rfl ?_
  refine zo_iload hY dL_law_352 4 rfl ?_
  refine zo_iconst hY 1 (by decide) dL_law_354 ?_
  refine zo_iadd hY dL_law_355 ?_
  refine zo_scdL hY hS dL_law_356 h (fun j1 h => ?_)
  refine zo_aload_n hY dL_law_357 rfl 0 rfl ?_
  refine zo_iload hY dL_law_358 4 rfl ?_
  refine zo_iconst hY 2 (by decide) dL_law_360 ?_
  refine zo_iadd hY dL_law_361 ?_
  refine zo_scdL hY hS dL_law_362 h (fun j2 h => ?_)
  refine zo_aload_n hY dL_law_363 rfl 0 rfl ?_
  refine zo_iload hY dL_law_364 4 rfl ?_
  refine zo_iconst hY 3 (by decide) dL_law_366 ?_
  refine zo_iadd hY dL_law_367 ?_
  refine zo_scdL hY hS dL_law_368 h (fun j3 h => ?_)
  refine zo_callV hY (fun q hq => mt_X1_looked hJ hCon N (xs j1) (xs j2) (xs j3) Ω q hq) (by decide) (by decide) (by decide) ⟨rfl, cn_X1_looked⟩ rfl q416 q417 q418 q78 q419 (Nat.le_of_ble_eq_true rfl) dL_law_369 rfl h (ci_k (fun r5 Ω4 res h => ?_))
  refine zo_aload_n hY dL_law_372 rfl 2 rfl ?_
  refine zo_aload_n hY dL_law_373 rfl 0 rfl ?_
  refine zo_iload hY dL_law_374 4 rfl ?_
  refine zo_iconst hY 1 (by decide) dL_law_376 ?_
  refine zo_iadd hY dL_law_377 ?_
  refine zo_scdL hY hS dL_law_378 h (fun j6 h => ?_)
  refine zo_aload_n hY dL_law_379 rfl 0 rfl ?_
  refine zo_iload hY dL_law_380 4 rfl ?_
  refine zo_iconst hY 2 (by decide) dL_law_382 ?_
  refine zo_iadd hY dL_law_383 ?_
  refine zo_scdL hY hS dL_law_384 h (fun j7 h => ?_)
  refine zo_aload_n hY dL_law_385 rfl 0 rfl ?_
  refine zo_iload hY dL_law_386 4 rfl ?_
  refine zo_iconst hY 3 (by decide) dL_law_388 ?_
  refine zo_iadd hY dL_law_389 ?_
  refine zo_scdL hY hS dL_law_390 h (fun j8 h => ?_)
  refine zo_callV hY (fun q hq => mt_X2_looked hJ hCon N (xs j6) (xs j7) (xs j8) Ω4 q hq) (by decide) (by decide) (by decide) ⟨rfl, cn_X2_looked⟩ rfl q1541 q1542 q1543 q82 q1544 (Nat.le_of_ble_eq_true rfl) dL_law_391 rfl h (ci_k (fun r10 Ω9 res h => ?_))
  refine zo_icmp_eq hY 1662 dL_law_394 (by decide) h (fun c11 h => ?_) (fun c11 h => ?_)
  · exact ct_L_law_1662 hY hJ hCon hr hS N K23 hK23 x4 Ω9 _ h
  · refine zo_iconst hY 0 (by decide) dL_law_397 ?_
    exact zo_lret hY hr dL_law_398 h
def fn_L_law_399 (N L : Nat) (xs : Nat → Int32) (K23 : Int32 → zo_O → Option zo_R) (x4 : Int32) (Ω : zo_O) : Option zo_R :=
  ix (x4 + 1) L fun j1 =>
  ix (x4 + 2) L fun j2 =>
  ix (x4 + 3) L fun j3 =>
  ix (x4 + 4) L fun j4 =>
  ci (fn_X1_twice N (xs j1) (xs j2) (xs j3) (xs j4) Ω) fun r6 Ω5 =>
  ix (x4 + 1) L fun j7 =>
  ix (x4 + 2) L fun j8 =>
  ix (x4 + 3) L fun j9 =>
  ix (x4 + 4) L fun j10 =>
  ci (fn_X2_twice N (xs j7) (xs j8) (xs j9) (xs j10) Ω5) fun r12 Ω11 =>
  if r6 = r12 then (
    fn_L_law_1662 N L xs K23 x4 Ω11
    ) else
  rI 0 Ω11
theorem ct_L_law_399 {Y : zo_Y} {L : Nat} {xs : Nat → Int32} (hY : zo_Gd Y cL_law 7 RX0 13) (hJ : zo_JC (zo_J Y)) (hCon : ∀ Ω, zo_J Y Ω → zo_Con Ω) (hr : zo_rtL Y) (hS : zo_scr Y L xs) (N : Nat) (K23 : Int32 → zo_O → Option zo_R) (hK23 : ∀ (x4 : Int32) (Ω : zo_O) (res : zo_R), K23 x4 Ω = some res → TW Y res Ω 23 [(0, vr 22 0), (1, vr 0 0), (2, vr 1 0), (3, vr 42 0), (4, vi x4)] []) (x4 : Int32) (Ω : zo_O) (res : zo_R) (h : fn_L_law_399 N L xs K23 x4 Ω = some res) : TW Y res Ω 399 [(0, vr 22 0), (1, vr 0 0), (2, vr 1 0), (3, vr 42 0), (4, vi x4)] [] := by
  unfold fn_L_law_399 at h
  refine zo_aload_n hY dL_law_399 rfl 1 rfl ?_
  refine zo_aload_n hY dL_law_400 rfl 0 rfl ?_
  refine zo_iload hY dL_law_401 4 rfl ?_
  refine zo_iconst hY 1 (by decide) dL_law_403 ?_
  refine zo_iadd hY dL_law_404 ?_
  refine zo_scdL hY hS dL_law_405 h (fun j1 h => ?_)
  refine zo_aload_n hY dL_law_406 rfl 0 rfl ?_
  refine zo_iload hY dL_law_407 4 rfl ?_
  refine zo_iconst hY 2 (by decide) dL_law_409 ?_
  refine zo_iadd hY dL_law_410 ?_
  refine zo_scdL hY hS dL_law_411 h (fun j2 h => ?_)
  refine zo_aload_n hY dL_law_412 rfl 0 rfl ?_
  refine zo_iload hY dL_law_413 4 rfl ?_
  refine zo_iconst hY 3 (by decide) dL_law_415 ?_
  refine zo_iadd hY dL_law_416 ?_
  refine zo_scdL hY hS dL_law_417 h (fun j3 h => ?_)
  refine zo_aload_n hY dL_law_418 rfl 0 rfl ?_
  refine zo_iload hY dL_law_419 4 rfl ?_
  refine zo_iconst hY 4 (by decide) dL_law_421 ?_
  refine zo_iadd hY dL_law_422 ?_
  refine zo_scdL hY hS dL_law_423 h (fun j4 h => ?_)
  refine zo_callV hY (fun q hq => mt_X1_twice hJ hCon N (xs j1) (xs j2) (xs j3) (xs j4) Ω q hq) (by decide) (by decide) (by decide) ⟨rfl, cn_X1_twice⟩ rfl q440 q441 q442 q78 q443 (Nat.le_of_ble_eq_true rfl) dL_law_424 rfl h (ci_k (fun r6 Ω5 res h => ?_))
  refine zo_aload_n hY dL_law_427 rfl 2 rfl ?_
  refine zo_aload_n hY dL_law_428 rfl 0 rfl ?_
  refine zo_iload hY dL_law_429 4 rfl ?_
  refine zo_iconst hY 1 (by decide) dL_law_431 ?_
  refine zo_iadd hY dL_law_432 ?_
  refine zo_scdL hY hS dL_law_433 h (fun j7 h => ?_)
  refine zo_aload_n hY dL_law_434 rfl 0 rfl ?_
  refine zo_iload hY dL_law_435 4 rfl ?_
  refine zo_iconst hY 2 (by decide) dL_law_437 ?_
  refine zo_iadd hY dL_law_438 ?_
  refine zo_scdL hY hS dL_law_439 h (fun j8 h => ?_)
  refine zo_aload_n hY dL_law_440 rfl 0 rfl ?_
  refine zo_iload hY dL_law_441 4 rfl ?_
  refine zo_iconst hY 3 (by decide) dL_law_443 ?_
  refine zo_iadd hY dL_law_444 ?_
  refine zo_scdL hY hS dL_law_445 h (fun j9 h => ?_)
  refine zo_aload_n hY dL_law_446 rfl 0 rfl ?_
  refine zo_iload hY dL_law_447 4 rfl ?_
  refine zo_iconst hY 4 (by decide) dL_law_449 ?_
  refine zo_iadd hY dL_law_450 ?_
  refine zo_scdL hY hS dL_law_451 h (fun j10 h => ?_)
  refine zo_callV hY (fun q hq => mt_X2_twice hJ hCon N (xs j7) (xs j8) (xs j9) (xs j10) Ω5 q hq) (by decide) (by decide) (by decide) ⟨rfl, cn_X2_twice⟩ rfl q1545 q1546 q1547 q82 q1548 (Nat.le_of_ble_eq_true rfl) dL_law_452 rfl h (ci_k (fun r12 Ω11 res h => ?_))
  refine zo_icmp_eq hY 1662 dL_law_455 (by decide) h (fun c13 h => ?_) (fun c13 h => ?_)
  · exact ct_L_law_1662 hY hJ hCon hr hS N K23 hK23 x4 Ω11 _ h
  · refine zo_iconst hY 0 (by decide) dL_law_458 ?_
    exact zo_lret hY hr dL_law_459 h
def fn_L_law_460 (N L : Nat) (xs : Nat → Int32) (K23 : Int32 → zo_O → Option zo_R) (x4 : Int32) (Ω : zo_O) : Option zo_R :=
  ix (x4 + 1) L fun j1 =>
  ix (x4 + 2) L fun j2 =>
  ix (x4 + 3) L fun j3 =>
  ci (fn_X1_witness N (xs j1) (xs j2) (xs j3) Ω) fun r5 Ω4 =>
  ix (x4 + 1) L fun j6 =>
  ix (x4 + 2) L fun j7 =>
  ix (x4 + 3) L fun j8 =>
  ci (fn_X2_witness N (xs j6) (xs j7) (xs j8) Ω4) fun r10 Ω9 =>
  if r5 = r10 then (
    fn_L_law_1662 N L xs K23 x4 Ω9
    ) else
  rI 0 Ω9
theorem ct_L_law_460 {Y : zo_Y} {L : Nat} {xs : Nat → Int32} (hY : zo_Gd Y cL_law 7 RX0 13) (hJ : zo_JC (zo_J Y)) (hCon : ∀ Ω, zo_J Y Ω → zo_Con Ω) (hr : zo_rtL Y) (hS : zo_scr Y L xs) (N : Nat) (K23 : Int32 → zo_O → Option zo_R) (hK23 : ∀ (x4 : Int32) (Ω : zo_O) (res : zo_R), K23 x4 Ω = some res → TW Y res Ω 23 [(0, vr 22 0), (1, vr 0 0), (2, vr 1 0), (3, vr 42 0), (4, vi x4)] []) (x4 : Int32) (Ω : zo_O) (res : zo_R) (h : fn_L_law_460 N L xs K23 x4 Ω = some res) : TW Y res Ω 460 [(0, vr 22 0), (1, vr 0 0), (2, vr 1 0), (3, vr 42 0), (4, vi x4)] [] := by
  unfold fn_L_law_460 at h
  refine zo_aload_n hY dL_law_460 rfl 1 rfl ?_
  refine zo_aload_n hY dL_law_461 rfl 0 rfl ?_
  refine zo_iload hY dL_law_462 4 rfl ?_
  refine zo_iconst hY 1 (by decide) dL_law_464 ?_
  refine zo_iadd hY dL_law_465 ?_
  refine zo_scdL hY hS dL_law_466 h (fun j1 h => ?_)
  refine zo_aload_n hY dL_law_467 rfl 0 rfl ?_
  refine zo_iload hY dL_law_468 4 rfl ?_
  refine zo_iconst hY 2 (by decide) dL_law_470 ?_
  refine zo_iadd hY dL_law_471 ?_
  refine zo_scdL hY hS dL_law_472 h (fun j2 h => ?_)
  refine zo_aload_n hY dL_law_473 rfl 0 rfl ?_
  refine zo_iload hY dL_law_474 4 rfl ?_
  refine zo_iconst hY 3 (by decide) dL_law_476 ?_
  refine zo_iadd hY dL_law_477 ?_
  refine zo_scdL hY hS dL_law_478 h (fun j3 h => ?_)
  refine zo_callV hY (fun q hq => mt_X1_witness hJ hCon N (xs j1) (xs j2) (xs j3) Ω q hq) (by decide) (by decide) (by decide) ⟨rfl, cn_X1_witness⟩ rfl q464 q465 q466 q78 q467 (Nat.le_of_ble_eq_true rfl) dL_law_479 rfl h (ci_k (fun r5 Ω4 res h => ?_))
  refine zo_aload_n hY dL_law_482 rfl 2 rfl ?_
  refine zo_aload_n hY dL_law_483 rfl 0 rfl ?_
  refine zo_iload hY dL_law_484 4 rfl ?_
  refine zo_iconst hY 1 (by decide) dL_law_486 ?_
  refine zo_iadd hY dL_law_487 ?_
  refine zo_scdL hY hS dL_law_488 h (fun j6 h => ?_)
  refine zo_aload_n hY dL_law_489 rfl 0 rfl ?_
  refine zo_iload hY dL_law_490 4 rfl ?_
  refine zo_iconst hY 2 (by decide) dL_law_492 ?_
  refine zo_iadd hY dL_law_493 ?_
  refine zo_scdL hY hS dL_law_494 h (fun j7 h => ?_)
  refine zo_aload_n hY dL_law_495 rfl 0 rfl ?_
  refine zo_iload hY dL_law_496 4 rfl ?_
  refine zo_iconst hY 3 (by decide) dL_law_498 ?_
  refine zo_iadd hY dL_law_499 ?_
  refine zo_scdL hY hS dL_law_500 h (fun j8 h => ?_)
  refine zo_callV hY (fun q hq => mt_X2_witness hJ hCon N (xs j6) (xs j7) (xs j8) Ω4 q hq) (by decide) (by decide) (by decide) ⟨rfl, cn_X2_witness⟩ rfl q1549 q1550 q1551 q82 q1552 (Nat.le_of_ble_eq_true rfl) dL_law_501 rfl h (ci_k (fun r10 Ω9 res h => ?_))
  refine zo_icmp_eq hY 1662 dL_law_504 (by decide) h (fun c11 h => ?_) (fun c11 h => ?_)
  · exact ct_L_law_1662 hY hJ hCon hr hS N K23 hK23 x4 Ω9 _ h
  · refine zo_iconst hY 0 (by decide) dL_law_507 ?_
    exact zo_lret hY hr dL_law_508 h
def fn_L_law_509 (N L : Nat) (xs : Nat → Int32) (K23 : Int32 → zo_O → Option zo_R) (x4 : Int32) (Ω : zo_O) : Option zo_R :=
  ix (x4 + 1) L fun j1 =>
  ix (x4 + 2) L fun j2 =>
  ix (x4 + 3) L fun j3 =>
  ci (fn_X1_order N (xs j1) (xs j2) (xs j3) Ω) fun r5 Ω4 =>
  ix (x4 + 1) L fun j6 =>
  ix (x4 + 2) L fun j7 =>
  ix (x4 + 3) L fun j8 =>
  ci (fn_X2_order N (xs j6) (xs j7) (xs j8) Ω4) fun r10 Ω9 =>
  if r5 = r10 then (
    fn_L_law_1662 N L xs K23 x4 Ω9
    ) else
  rI 0 Ω9
theorem ct_L_law_509 {Y : zo_Y} {L : Nat} {xs : Nat → Int32} (hY : zo_Gd Y cL_law 7 RX0 13) (hJ : zo_JC (zo_J Y)) (hCon : ∀ Ω, zo_J Y Ω → zo_Con Ω) (hr : zo_rtL Y) (hS : zo_scr Y L xs) (N : Nat) (K23 : Int32 → zo_O → Option zo_R) (hK23 : ∀ (x4 : Int32) (Ω : zo_O) (res : zo_R), K23 x4 Ω = some res → TW Y res Ω 23 [(0, vr 22 0), (1, vr 0 0), (2, vr 1 0), (3, vr 42 0), (4, vi x4)] []) (x4 : Int32) (Ω : zo_O) (res : zo_R) (h : fn_L_law_509 N L xs K23 x4 Ω = some res) : TW Y res Ω 509 [(0, vr 22 0), (1, vr 0 0), (2, vr 1 0), (3, vr 42 0), (4, vi x4)] [] := by
  unfold fn_L_law_509 at h
  refine zo_aload_n hY dL_law_509 rfl 1 rfl ?_
  refine zo_aload_n hY dL_law_510 rfl 0 rfl ?_
  refine zo_iload hY dL_law_511 4 rfl ?_
  refine zo_iconst hY 1 (by decide) dL_law_513 ?_
  refine zo_iadd hY dL_law_514 ?_
  refine zo_scdL hY hS dL_law_515 h (fun j1 h => ?_)
  refine zo_aload_n hY dL_law_516 rfl 0 rfl ?_
  refine zo_iload hY dL_law_517 4 rfl ?_
  refine zo_iconst hY 2 (by decide) dL_law_519 ?_
  refine zo_iadd hY dL_law_520 ?_
  refine zo_scdL hY hS dL_law_521 h (fun j2 h => ?_)
  refine zo_aload_n hY dL_law_522 rfl 0 rfl ?_
  refine zo_iload hY dL_law_523 4 rfl ?_
  refine zo_iconst hY 3 (by decide) dL_law_525 ?_
  refine zo_iadd hY dL_law_526 ?_
  refine zo_scdL hY hS dL_law_527 h (fun j3 h => ?_)
  refine zo_callV hY (fun q hq => mt_X1_order hJ hCon N (xs j1) (xs j2) (xs j3) Ω q hq) (by decide) (by decide) (by decide) ⟨rfl, cn_X1_order⟩ rfl q488 q489 q490 q78 q491 (Nat.le_of_ble_eq_true rfl) dL_law_528 rfl h (ci_k (fun r5 Ω4 res h => ?_))
  refine zo_aload_n hY dL_law_531 rfl 2 rfl ?_
  refine zo_aload_n hY dL_law_532 rfl 0 rfl ?_
  refine zo_iload hY dL_law_533 4 rfl ?_
  refine zo_iconst hY 1 (by decide) dL_law_535 ?_
  refine zo_iadd hY dL_law_536 ?_
  refine zo_scdL hY hS dL_law_537 h (fun j6 h => ?_)
  refine zo_aload_n hY dL_law_538 rfl 0 rfl ?_
  refine zo_iload hY dL_law_539 4 rfl ?_
  refine zo_iconst hY 2 (by decide) dL_law_541 ?_
  refine zo_iadd hY dL_law_542 ?_
  refine zo_scdL hY hS dL_law_543 h (fun j7 h => ?_)
  refine zo_aload_n hY dL_law_544 rfl 0 rfl ?_
  refine zo_iload hY dL_law_545 4 rfl ?_
  refine zo_iconst hY 3 (by decide) dL_law_547 ?_
  refine zo_iadd hY dL_law_548 ?_
  refine zo_scdL hY hS dL_law_549 h (fun j8 h => ?_)
  refine zo_callV hY (fun q hq => mt_X2_order hJ hCon N (xs j6) (xs j7) (xs j8) Ω4 q hq) (by decide) (by decide) (by decide) ⟨rfl, cn_X2_order⟩ rfl q1553 q1554 q1555 q82 q1556 (Nat.le_of_ble_eq_true rfl) dL_law_550 rfl h (ci_k (fun r10 Ω9 res h => ?_))
  refine zo_icmp_eq hY 1662 dL_law_553 (by decide) h (fun c11 h => ?_) (fun c11 h => ?_)
  · exact ct_L_law_1662 hY hJ hCon hr hS N K23 hK23 x4 Ω9 _ h
  · refine zo_iconst hY 0 (by decide) dL_law_556 ?_
    exact zo_lret hY hr dL_law_557 h
def fn_L_law_558 (N L : Nat) (xs : Nat → Int32) (K23 : Int32 → zo_O → Option zo_R) (x4 : Int32) (Ω : zo_O) : Option zo_R :=
  ix (x4 + 1) L fun j1 =>
  ix (x4 + 2) L fun j2 =>
  ci (fn_X1_again N (xs j1) (xs j2) Ω) fun r4 Ω3 =>
  ix (x4 + 1) L fun j5 =>
  ix (x4 + 2) L fun j6 =>
  ci (fn_X2_again N (xs j5) (xs j6) Ω3) fun r8 Ω7 =>
  if r4 = r8 then (
    fn_L_law_1662 N L xs K23 x4 Ω7
    ) else
  rI 0 Ω7
theorem ct_L_law_558 {Y : zo_Y} {L : Nat} {xs : Nat → Int32} (hY : zo_Gd Y cL_law 7 RX0 13) (hJ : zo_JC (zo_J Y)) (hCon : ∀ Ω, zo_J Y Ω → zo_Con Ω) (hr : zo_rtL Y) (hS : zo_scr Y L xs) (N : Nat) (K23 : Int32 → zo_O → Option zo_R) (hK23 : ∀ (x4 : Int32) (Ω : zo_O) (res : zo_R), K23 x4 Ω = some res → TW Y res Ω 23 [(0, vr 22 0), (1, vr 0 0), (2, vr 1 0), (3, vr 42 0), (4, vi x4)] []) (x4 : Int32) (Ω : zo_O) (res : zo_R) (h : fn_L_law_558 N L xs K23 x4 Ω = some res) : TW Y res Ω 558 [(0, vr 22 0), (1, vr 0 0), (2, vr 1 0), (3, vr 42 0), (4, vi x4)] [] := by
  unfold fn_L_law_558 at h
  refine zo_aload_n hY dL_law_558 rfl 1 rfl ?_
  refine zo_aload_n hY dL_law_559 rfl 0 rfl ?_
  refine zo_iload hY dL_law_560 4 rfl ?_
  refine zo_iconst hY 1 (by decide) dL_law_562 ?_
  refine zo_iadd hY dL_law_563 ?_
  refine zo_scdL hY hS dL_law_564 h (fun j1 h => ?_)
  refine zo_aload_n hY dL_law_565 rfl 0 rfl ?_
  refine zo_iload hY dL_law_566 4 rfl ?_
  refine zo_iconst hY 2 (by decide) dL_law_568 ?_
  refine zo_iadd hY dL_law_569 ?_
  refine zo_scdL hY hS dL_law_570 h (fun j2 h => ?_)
  refine zo_callV hY (fun q hq => mt_X1_again hJ hCon N (xs j1) (xs j2) Ω q hq) (by decide) (by decide) (by decide) ⟨rfl, cn_X1_again⟩ rfl q512 q513 q514 q78 q515 (Nat.le_of_ble_eq_true rfl) dL_law_571 rfl h (ci_k (fun r4 Ω3 res h => ?_))
  refine zo_aload_n hY dL_law_574 rfl 2 rfl ?_
  refine zo_aload_n hY dL_law_575 rfl 0 rfl ?_
  refine zo_iload hY dL_law_576 4 rfl ?_
  refine zo_iconst hY 1 (by decide) dL_law_578 ?_
  refine zo_iadd hY dL_law_579 ?_
  refine zo_scdL hY hS dL_law_580 h (fun j5 h => ?_)
  refine zo_aload_n hY dL_law_581 rfl 0 rfl ?_
  refine zo_iload hY dL_law_582 4 rfl ?_
  refine zo_iconst hY 2 (by decide) dL_law_584 ?_
  refine zo_iadd hY dL_law_585 ?_
  refine zo_scdL hY hS dL_law_586 h (fun j6 h => ?_)
  refine zo_callV hY (fun q hq => mt_X2_again hJ hCon N (xs j5) (xs j6) Ω3 q hq) (by decide) (by decide) (by decide) ⟨rfl, cn_X2_again⟩ rfl q1557 q1558 q1559 q82 q1560 (Nat.le_of_ble_eq_true rfl) dL_law_587 rfl h (ci_k (fun r8 Ω7 res h => ?_))
  refine zo_icmp_eq hY 1662 dL_law_590 (by decide) h (fun c9 h => ?_) (fun c9 h => ?_)
  · exact ct_L_law_1662 hY hJ hCon hr hS N K23 hK23 x4 Ω7 _ h
  · refine zo_iconst hY 0 (by decide) dL_law_593 ?_
    exact zo_lret hY hr dL_law_594 h
def fn_L_law_595 (N L : Nat) (xs : Nat → Int32) (K23 : Int32 → zo_O → Option zo_R) (x4 : Int32) (Ω : zo_O) : Option zo_R :=
  ix (x4 + 1) L fun j1 =>
  ix (x4 + 2) L fun j2 =>
  ix (x4 + 3) L fun j3 =>
  ci (fn_X1_house N (xs j1) (xs j2) (xs j3) Ω) fun r5 Ω4 =>
  ix (x4 + 1) L fun j6 =>
  ix (x4 + 2) L fun j7 =>
  ix (x4 + 3) L fun j8 =>
  ci (fn_X2_house N (xs j6) (xs j7) (xs j8) Ω4) fun r10 Ω9 =>
  if r5 = r10 then (
    fn_L_law_1662 N L xs K23 x4 Ω9
    ) else
  rI 0 Ω9
theorem ct_L_law_595 {Y : zo_Y} {L : Nat} {xs : Nat → Int32} (hY : zo_Gd Y cL_law 7 RX0 13) (hJ : zo_JC (zo_J Y)) (hCon : ∀ Ω, zo_J Y Ω → zo_Con Ω) (hr : zo_rtL Y) (hS : zo_scr Y L xs) (N : Nat) (K23 : Int32 → zo_O → Option zo_R) (hK23 : ∀ (x4 : Int32) (Ω : zo_O) (res : zo_R), K23 x4 Ω = some res → TW Y res Ω 23 [(0, vr 22 0), (1, vr 0 0), (2, vr 1 0), (3, vr 42 0), (4, vi x4)] []) (x4 : Int32) (Ω : zo_O) (res : zo_R) (h : fn_L_law_595 N L xs K23 x4 Ω = some res) : TW Y res Ω 595 [(0, vr 22 0), (1, vr 0 0), (2, vr 1 0), (3, vr 42 0), (4, vi x4)] [] := by
  unfold fn_L_law_595 at h
  refine zo_aload_n hY dL_law_595 rfl 1 rfl ?_
  refine zo_aload_n hY dL_law_596 rfl 0 rfl ?_
  refine zo_iload hY dL_law_597 4 rfl ?_
  refine zo_iconst hY 1 (by decide) dL_law_599 ?_
  refine zo_iadd hY dL_law_600 ?_
  refine zo_scdL hY hS dL_law_601 h (fun j1 h => ?_)
  refine zo_aload_n hY dL_law_602 rfl 0 rfl ?_
  refine zo_iload hY dL_law_603 4 rfl ?_
  refine zo_iconst hY 2 (by decide) dL_law_605 ?_
  refine zo_iadd hY dL_law_606 ?_
  refine zo_scdL hY hS dL_law_607 h (fun j2 h => ?_)
  refine zo_aload_n hY dL_law_608 rfl 0 rfl ?_
  refine zo_iload hY dL_law_609 4 rfl ?_
  refine zo_iconst hY 3 (by decide) dL_law_611 ?_
  refine zo_iadd hY dL_law_612 ?_
  refine zo_scdL hY hS dL_law_613 h (fun j3 h => ?_)
  refine zo_callV hY (fun q hq => mt_X1_house hJ hCon N (xs j1) (xs j2) (xs j3) Ω q hq) (by decide) (by decide) (by decide) ⟨rfl, cn_X1_house⟩ rfl q532 q533 q534 q78 q535 (Nat.le_of_ble_eq_true rfl) dL_law_614 rfl h (ci_k (fun r5 Ω4 res h => ?_))
  refine zo_aload_n hY dL_law_617 rfl 2 rfl ?_
  refine zo_aload_n hY dL_law_618 rfl 0 rfl ?_
  refine zo_iload hY dL_law_619 4 rfl ?_
  refine zo_iconst hY 1 (by decide) dL_law_621 ?_
  refine zo_iadd hY dL_law_622 ?_
  refine zo_scdL hY hS dL_law_623 h (fun j6 h => ?_)
  refine zo_aload_n hY dL_law_624 rfl 0 rfl ?_
  refine zo_iload hY dL_law_625 4 rfl ?_
  refine zo_iconst hY 2 (by decide) dL_law_627 ?_
  refine zo_iadd hY dL_law_628 ?_
  refine zo_scdL hY hS dL_law_629 h (fun j7 h => ?_)
  refine zo_aload_n hY dL_law_630 rfl 0 rfl ?_
  refine zo_iload hY dL_law_631 4 rfl ?_
  refine zo_iconst hY 3 (by decide) dL_law_633 ?_
  refine zo_iadd hY dL_law_634 ?_
  refine zo_scdL hY hS dL_law_635 h (fun j8 h => ?_)
  refine zo_callV hY (fun q hq => mt_X2_house hJ hCon N (xs j6) (xs j7) (xs j8) Ω4 q hq) (by decide) (by decide) (by decide) ⟨rfl, cn_X2_house⟩ rfl q1565 q1566 q1567 q82 q1568 (Nat.le_of_ble_eq_true rfl) dL_law_636 rfl h (ci_k (fun r10 Ω9 res h => ?_))
  refine zo_icmp_eq hY 1662 dL_law_639 (by decide) h (fun c11 h => ?_) (fun c11 h => ?_)
  · exact ct_L_law_1662 hY hJ hCon hr hS N K23 hK23 x4 Ω9 _ h
  · refine zo_iconst hY 0 (by decide) dL_law_642 ?_
    exact zo_lret hY hr dL_law_643 h
def fn_L_law_644 (N L : Nat) (xs : Nat → Int32) (K23 : Int32 → zo_O → Option zo_R) (x4 : Int32) (Ω : zo_O) : Option zo_R :=
  ix (x4 + 1) L fun j1 =>
  ix (x4 + 2) L fun j2 =>
  ci (fn_X1_delay N (xs j1) (xs j2) Ω) fun r4 Ω3 =>
  ix (x4 + 1) L fun j5 =>
  ix (x4 + 2) L fun j6 =>
  ci (fn_X2_delay N (xs j5) (xs j6) Ω3) fun r8 Ω7 =>
  if r4 = r8 then (
    fn_L_law_1662 N L xs K23 x4 Ω7
    ) else
  rI 0 Ω7
theorem ct_L_law_644 {Y : zo_Y} {L : Nat} {xs : Nat → Int32} (hY : zo_Gd Y cL_law 7 RX0 13) (hJ : zo_JC (zo_J Y)) (hCon : ∀ Ω, zo_J Y Ω → zo_Con Ω) (hr : zo_rtL Y) (hS : zo_scr Y L xs) (N : Nat) (K23 : Int32 → zo_O → Option zo_R) (hK23 : ∀ (x4 : Int32) (Ω : zo_O) (res : zo_R), K23 x4 Ω = some res → TW Y res Ω 23 [(0, vr 22 0), (1, vr 0 0), (2, vr 1 0), (3, vr 42 0), (4, vi x4)] []) (x4 : Int32) (Ω : zo_O) (res : zo_R) (h : fn_L_law_644 N L xs K23 x4 Ω = some res) : TW Y res Ω 644 [(0, vr 22 0), (1, vr 0 0), (2, vr 1 0), (3, vr 42 0), (4, vi x4)] [] := by
  unfold fn_L_law_644 at h
  refine zo_aload_n hY dL_law_644 rfl 1 rfl ?_
  refine zo_aload_n hY dL_law_645 rfl 0 rfl ?_
  refine zo_iload hY dL_law_646 4 rfl ?_
  refine zo_iconst hY 1 (by decide) dL_law_648 ?_
  refine zo_iadd hY dL_law_649 ?_
  refine zo_scdL hY hS dL_law_650 h (fun j1 h => ?_)
  refine zo_aload_n hY dL_law_651 rfl 0 rfl ?_
  refine zo_iload hY dL_law_652 4 rfl ?_
  refine zo_iconst hY 2 (by decide) dL_law_654 ?_
  refine zo_iadd hY dL_law_655 ?_
  refine zo_scdL hY hS dL_law_656 h (fun j2 h => ?_)
  refine zo_callV hY (fun q hq => mt_X1_delay hJ hCon N (xs j1) (xs j2) Ω q hq) (by decide) (by decide) (by decide) ⟨rfl, cn_X1_delay⟩ rfl q536 q537 q538 q78 q539 (Nat.le_of_ble_eq_true rfl) dL_law_657 rfl h (ci_k (fun r4 Ω3 res h => ?_))
  refine zo_aload_n hY dL_law_660 rfl 2 rfl ?_
  refine zo_aload_n hY dL_law_661 rfl 0 rfl ?_
  refine zo_iload hY dL_law_662 4 rfl ?_
  refine zo_iconst hY 1 (by decide) dL_law_664 ?_
  refine zo_iadd hY dL_law_665 ?_
  refine zo_scdL hY hS dL_law_666 h (fun j5 h => ?_)
  refine zo_aload_n hY dL_law_667 rfl 0 rfl ?_
  refine zo_iload hY dL_law_668 4 rfl ?_
  refine zo_iconst hY 2 (by decide) dL_law_670 ?_
  refine zo_iadd hY dL_law_671 ?_
  refine zo_scdL hY hS dL_law_672 h (fun j6 h => ?_)
  refine zo_callV hY (fun q hq => mt_X2_delay hJ hCon N (xs j5) (xs j6) Ω3 q hq) (by decide) (by decide) (by decide) ⟨rfl, cn_X2_delay⟩ rfl q1569 q1570 q1571 q82 q1572 (Nat.le_of_ble_eq_true rfl) dL_law_673 rfl h (ci_k (fun r8 Ω7 res h => ?_))
  refine zo_icmp_eq hY 1662 dL_law_676 (by decide) h (fun c9 h => ?_) (fun c9 h => ?_)
  · exact ct_L_law_1662 hY hJ hCon hr hS N K23 hK23 x4 Ω7 _ h
  · refine zo_iconst hY 0 (by decide) dL_law_679 ?_
    exact zo_lret hY hr dL_law_680 h
def fn_L_law_681 (N L : Nat) (xs : Nat → Int32) (K23 : Int32 → zo_O → Option zo_R) (x4 : Int32) (Ω : zo_O) : Option zo_R :=
  ix (x4 + 1) L fun j1 =>
  ix (x4 + 2) L fun j2 =>
  ix (x4 + 3) L fun j3 =>
  ix (x4 + 4) L fun j4 =>
  ix (x4 + 5) L fun j5 =>
  ci (fn_X1_feed N (xs j1) (xs j2) (xs j3) (xs j4) (xs j5) Ω) fun r7 Ω6 =>
  ix (x4 + 1) L fun j8 =>
  ix (x4 + 2) L fun j9 =>
  ix (x4 + 3) L fun j10 =>
  ix (x4 + 4) L fun j11 =>
  ix (x4 + 5) L fun j12 =>
  ci (fn_X2_feed N (xs j8) (xs j9) (xs j10) (xs j11) (xs j12) Ω6) fun r14 Ω13 =>
  if r7 = r14 then (
    fn_L_law_1662 N L xs K23 x4 Ω13
    ) else
  rI 0 Ω13
theorem ct_L_law_681 {Y : zo_Y} {L : Nat} {xs : Nat → Int32} (hY : zo_Gd Y cL_law 7 RX0 13) (hJ : zo_JC (zo_J Y)) (hCon : ∀ Ω, zo_J Y Ω → zo_Con Ω) (hr : zo_rtL Y) (hS : zo_scr Y L xs) (N : Nat) (K23 : Int32 → zo_O → Option zo_R) (hK23 : ∀ (x4 : Int32) (Ω : zo_O) (res : zo_R), K23 x4 Ω = some res → TW Y res Ω 23 [(0, vr 22 0), (1, vr 0 0), (2, vr 1 0), (3, vr 42 0), (4, vi x4)] []) (x4 : Int32) (Ω : zo_O) (res : zo_R) (h : fn_L_law_681 N L xs K23 x4 Ω = some res) : TW Y res Ω 681 [(0, vr 22 0), (1, vr 0 0), (2, vr 1 0), (3, vr 42 0), (4, vi x4)] [] := by
  unfold fn_L_law_681 at h
  refine zo_aload_n hY dL_law_681 rfl 1 rfl ?_
  refine zo_aload_n hY dL_law_682 rfl 0 rfl ?_
  refine zo_iload hY dL_law_683 4 rfl ?_
  refine zo_iconst hY 1 (by decide) dL_law_685 ?_
  refine zo_iadd hY dL_law_686 ?_
  refine zo_scdL hY hS dL_law_687 h (fun j1 h => ?_)
  refine zo_aload_n hY dL_law_688 rfl 0 rfl ?_
  refine zo_iload hY dL_law_689 4 rfl ?_
  refine zo_iconst hY 2 (by decide) dL_law_691 ?_
  refine zo_iadd hY dL_law_692 ?_
  refine zo_scdL hY hS dL_law_693 h (fun j2 h => ?_)
  refine zo_aload_n hY dL_law_694 rfl 0 rfl ?_
  refine zo_iload hY dL_law_695 4 rfl ?_
  refine zo_iconst hY 3 (by decide) dL_law_697 ?_
  refine zo_iadd hY dL_law_698 ?_
  refine zo_scdL hY hS dL_law_699 h (fun j3 h => ?_)
  refine zo_aload_n hY dL_law_700 rfl 0 rfl ?_
  refine zo_iload hY dL_law_701 4 rfl ?_
  refine zo_iconst hY 4 (by decide) dL_law_703 ?_
  refine zo_iadd hY dL_law_704 ?_
  refine zo_scdL hY hS dL_law_705 h (fun j4 h => ?_)
  refine zo_aload_n hY dL_law_706 rfl 0 rfl ?_
  refine zo_iload hY dL_law_707 4 rfl ?_
  refine zo_iconst hY 5 (by decide) dL_law_709 ?_
  refine zo_iadd hY dL_law_710 ?_
  refine zo_scdL hY hS dL_law_711 h (fun j5 h => ?_)
  refine zo_callV hY (fun q hq => mt_X1_feed hJ hCon N (xs j1) (xs j2) (xs j3) (xs j4) (xs j5) Ω q hq) (by decide) (by decide) (by decide) ⟨rfl, cn_X1_feed⟩ rfl q545 q546 q547 q78 q548 (Nat.le_of_ble_eq_true rfl) dL_law_712 rfl h (ci_k (fun r7 Ω6 res h => ?_))
  refine zo_aload_n hY dL_law_715 rfl 2 rfl ?_
  refine zo_aload_n hY dL_law_716 rfl 0 rfl ?_
  refine zo_iload hY dL_law_717 4 rfl ?_
  refine zo_iconst hY 1 (by decide) dL_law_719 ?_
  refine zo_iadd hY dL_law_720 ?_
  refine zo_scdL hY hS dL_law_721 h (fun j8 h => ?_)
  refine zo_aload_n hY dL_law_722 rfl 0 rfl ?_
  refine zo_iload hY dL_law_723 4 rfl ?_
  refine zo_iconst hY 2 (by decide) dL_law_725 ?_
  refine zo_iadd hY dL_law_726 ?_
  refine zo_scdL hY hS dL_law_727 h (fun j9 h => ?_)
  refine zo_aload_n hY dL_law_728 rfl 0 rfl ?_
  refine zo_iload hY dL_law_729 4 rfl ?_
  refine zo_iconst hY 3 (by decide) dL_law_731 ?_
  refine zo_iadd hY dL_law_732 ?_
  refine zo_scdL hY hS dL_law_733 h (fun j10 h => ?_)
  refine zo_aload_n hY dL_law_734 rfl 0 rfl ?_
  refine zo_iload hY dL_law_735 4 rfl ?_
  refine zo_iconst hY 4 (by decide) dL_law_737 ?_
  refine zo_iadd hY dL_law_738 ?_
  refine zo_scdL hY hS dL_law_739 h (fun j11 h => ?_)
  refine zo_aload_n hY dL_law_740 rfl 0 rfl ?_
  refine zo_iload hY dL_law_741 4 rfl ?_
  refine zo_iconst hY 5 (by decide) dL_law_743 ?_
  refine zo_iadd hY dL_law_744 ?_
  refine zo_scdL hY hS dL_law_745 h (fun j12 h => ?_)
  refine zo_callV hY (fun q hq => mt_X2_feed hJ hCon N (xs j8) (xs j9) (xs j10) (xs j11) (xs j12) Ω6 q hq) (by decide) (by decide) (by decide) ⟨rfl, cn_X2_feed⟩ rfl q1578 q1579 q1580 q82 q1581 (Nat.le_of_ble_eq_true rfl) dL_law_746 rfl h (ci_k (fun r14 Ω13 res h => ?_))
  refine zo_icmp_eq hY 1662 dL_law_749 (by decide) h (fun c15 h => ?_) (fun c15 h => ?_)
  · exact ct_L_law_1662 hY hJ hCon hr hS N K23 hK23 x4 Ω13 _ h
  · refine zo_iconst hY 0 (by decide) dL_law_752 ?_
    exact zo_lret hY hr dL_law_753 h
def fn_L_law_754 (N L : Nat) (xs : Nat → Int32) (K23 : Int32 → zo_O → Option zo_R) (x4 : Int32) (Ω : zo_O) : Option zo_R :=
  ix (x4 + 1) L fun j1 =>
  ci (fn_X1_end N (xs j1) Ω) fun r3 Ω2 =>
  ix (x4 + 1) L fun j4 =>
  ci (fn_X2_end N (xs j4) Ω2) fun r6 Ω5 =>
  if r3 = r6 then (
    fn_L_law_1662 N L xs K23 x4 Ω5
    ) else
  rI 0 Ω5
theorem ct_L_law_754 {Y : zo_Y} {L : Nat} {xs : Nat → Int32} (hY : zo_Gd Y cL_law 7 RX0 13) (hJ : zo_JC (zo_J Y)) (hCon : ∀ Ω, zo_J Y Ω → zo_Con Ω) (hr : zo_rtL Y) (hS : zo_scr Y L xs) (N : Nat) (K23 : Int32 → zo_O → Option zo_R) (hK23 : ∀ (x4 : Int32) (Ω : zo_O) (res : zo_R), K23 x4 Ω = some res → TW Y res Ω 23 [(0, vr 22 0), (1, vr 0 0), (2, vr 1 0), (3, vr 42 0), (4, vi x4)] []) (x4 : Int32) (Ω : zo_O) (res : zo_R) (h : fn_L_law_754 N L xs K23 x4 Ω = some res) : TW Y res Ω 754 [(0, vr 22 0), (1, vr 0 0), (2, vr 1 0), (3, vr 42 0), (4, vi x4)] [] := by
  unfold fn_L_law_754 at h
  refine zo_aload_n hY dL_law_754 rfl 1 rfl ?_
  refine zo_aload_n hY dL_law_755 rfl 0 rfl ?_
  refine zo_iload hY dL_law_756 4 rfl ?_
  refine zo_iconst hY 1 (by decide) dL_law_758 ?_
  refine zo_iadd hY dL_law_759 ?_
  refine zo_scdL hY hS dL_law_760 h (fun j1 h => ?_)
  refine zo_callV hY (fun q hq => mt_X1_end hJ hCon N (xs j1) Ω q hq) (by decide) (by decide) (by decide) ⟨rfl, cn_X1_end⟩ rfl q553 q554 q555 q78 q556 (Nat.le_of_ble_eq_true rfl) dL_law_761 rfl h (ci_k (fun r3 Ω2 res h => ?_))
  refine zo_aload_n hY dL_law_764 rfl 2 rfl ?_
  refine zo_aload_n hY dL_law_765 rfl 0 rfl ?_
  refine zo_iload hY dL_law_766 4 rfl ?_
  refine zo_iconst hY 1 (by decide) dL_law_768 ?_
  refine zo_iadd hY dL_law_769 ?_
  refine zo_scdL hY hS dL_law_770 h (fun j4 h => ?_)
  refine zo_callV hY (fun q hq => mt_X2_end hJ hCon N (xs j4) Ω2 q hq) (by decide) (by decide) (by decide) ⟨rfl, cn_X2_end⟩ rfl q1582 q1583 q1584 q82 q1585 (Nat.le_of_ble_eq_true rfl) dL_law_771 rfl h (ci_k (fun r6 Ω5 res h => ?_))
  refine zo_icmp_eq hY 1662 dL_law_774 (by decide) h (fun c7 h => ?_) (fun c7 h => ?_)
  · exact ct_L_law_1662 hY hJ hCon hr hS N K23 hK23 x4 Ω5 _ h
  · refine zo_iconst hY 0 (by decide) dL_law_777 ?_
    exact zo_lret hY hr dL_law_778 h
def fn_L_law_779 (N L : Nat) (xs : Nat → Int32) (K23 : Int32 → zo_O → Option zo_R) (x4 : Int32) (Ω : zo_O) : Option zo_R :=
  ci (fn_X1_rule N Ω) fun r2 Ω1 =>
  ci (fn_X2_rule N Ω1) fun r4 Ω3 =>
  if r2 = r4 then (
    fn_L_law_1662 N L xs K23 x4 Ω3
    ) else
  rI 0 Ω3
theorem ct_L_law_779 {Y : zo_Y} {L : Nat} {xs : Nat → Int32} (hY : zo_Gd Y cL_law 7 RX0 13) (hJ : zo_JC (zo_J Y)) (hCon : ∀ Ω, zo_J Y Ω → zo_Con Ω) (hr : zo_rtL Y) (hS : zo_scr Y L xs) (N : Nat) (K23 : Int32 → zo_O → Option zo_R) (hK23 : ∀ (x4 : Int32) (Ω : zo_O) (res : zo_R), K23 x4 Ω = some res → TW Y res Ω 23 [(0, vr 22 0), (1, vr 0 0), (2, vr 1 0), (3, vr 42 0), (4, vi x4)] []) (x4 : Int32) (Ω : zo_O) (res : zo_R) (h : fn_L_law_779 N L xs K23 x4 Ω = some res) : TW Y res Ω 779 [(0, vr 22 0), (1, vr 0 0), (2, vr 1 0), (3, vr 42 0), (4, vi x4)] [] := by
  unfold fn_L_law_779 at h
  refine zo_aload_n hY dL_law_779 rfl 1 rfl ?_
  refine zo_callVW hY hr.lf (fun q hq => mt_X1_rule hJ hCon N Ω q hq) (by decide) (by decide) (by decide) ⟨rfl, cn_X1_rule⟩ rfl q557 q558 q559 q78 q560 (Nat.le_of_ble_eq_true rfl) dL_law_780 rfl h (ci_k (fun r2 Ω1 res h => ?_))
  refine zo_aload_n hY dL_law_783 rfl 2 rfl ?_
  refine zo_callV hY (fun q hq => mt_X2_rule hJ hCon N Ω1 q hq) (by decide) (by decide) (by decide) ⟨rfl, cn_X2_rule⟩ rfl q1586 q1587 q1588 q82 q1589 (Nat.le_of_ble_eq_true rfl) dL_law_784 rfl h (ci_k (fun r4 Ω3 res h => ?_))
  refine zo_icmp_eq hY 1662 dL_law_787 (by decide) h (fun c5 h => ?_) (fun c5 h => ?_)
  · exact ct_L_law_1662 hY hJ hCon hr hS N K23 hK23 x4 Ω3 _ h
  · refine zo_iconst hY 0 (by decide) dL_law_790 ?_
    exact zo_lret hY hr dL_law_791 h
def fn_L_law_792 (N L : Nat) (xs : Nat → Int32) (K23 : Int32 → zo_O → Option zo_R) (x4 : Int32) (Ω : zo_O) : Option zo_R :=
  ci (fn_X1_place N Ω) fun r2 Ω1 =>
  ci (fn_X2_place N Ω1) fun r4 Ω3 =>
  if r2 = r4 then (
    fn_L_law_1662 N L xs K23 x4 Ω3
    ) else
  rI 0 Ω3
theorem ct_L_law_792 {Y : zo_Y} {L : Nat} {xs : Nat → Int32} (hY : zo_Gd Y cL_law 7 RX0 13) (hJ : zo_JC (zo_J Y)) (hCon : ∀ Ω, zo_J Y Ω → zo_Con Ω) (hr : zo_rtL Y) (hS : zo_scr Y L xs) (N : Nat) (K23 : Int32 → zo_O → Option zo_R) (hK23 : ∀ (x4 : Int32) (Ω : zo_O) (res : zo_R), K23 x4 Ω = some res → TW Y res Ω 23 [(0, vr 22 0), (1, vr 0 0), (2, vr 1 0), (3, vr 42 0), (4, vi x4)] []) (x4 : Int32) (Ω : zo_O) (res : zo_R) (h : fn_L_law_792 N L xs K23 x4 Ω = some res) : TW Y res Ω 792 [(0, vr 22 0), (1, vr 0 0), (2, vr 1 0), (3, vr 42 0), (4, vi x4)] [] := by
  unfold fn_L_law_792 at h
  refine zo_aload_n hY dL_law_792 rfl 1 rfl ?_
  refine zo_callV hY (fun q hq => mt_X1_place hJ hCon N Ω q hq) (by decide) (by decide) (by decide) ⟨rfl, cn_X1_place⟩ rfl q804 q805 q806 q78 q807 (Nat.le_of_ble_eq_true rfl) dL_law_793 rfl h (ci_k (fun r2 Ω1 res h => ?_))
  refine zo_aload_n hY dL_law_796 rfl 2 rfl ?_
  refine zo_callV hY (fun q hq => mt_X2_place hJ hCon N Ω1 q hq) (by decide) (by decide) (by decide) ⟨rfl, cn_X2_place⟩ rfl q1641 q1642 q1643 q82 q1644 (Nat.le_of_ble_eq_true rfl) dL_law_797 rfl h (ci_k (fun r4 Ω3 res h => ?_))
  refine zo_icmp_eq hY 1662 dL_law_800 (by decide) h (fun c5 h => ?_) (fun c5 h => ?_)
  · exact ct_L_law_1662 hY hJ hCon hr hS N K23 hK23 x4 Ω3 _ h
  · refine zo_iconst hY 0 (by decide) dL_law_803 ?_
    exact zo_lret hY hr dL_law_804 h
def fn_L_law_805 (N L : Nat) (xs : Nat → Int32) (K23 : Int32 → zo_O → Option zo_R) (x4 : Int32) (Ω : zo_O) : Option zo_R :=
  ix (x4 + 1) L fun j1 =>
  ci (fn_X1_day N (xs j1) Ω) fun r3 Ω2 =>
  ix (x4 + 1) L fun j4 =>
  ci (fn_X2_day N (xs j4) Ω2) fun r6 Ω5 =>
  if r3 = r6 then (
    fn_L_law_1662 N L xs K23 x4 Ω5
    ) else
  rI 0 Ω5
theorem ct_L_law_805 {Y : zo_Y} {L : Nat} {xs : Nat → Int32} (hY : zo_Gd Y cL_law 7 RX0 13) (hJ : zo_JC (zo_J Y)) (hCon : ∀ Ω, zo_J Y Ω → zo_Con Ω) (hr : zo_rtL Y) (hS : zo_scr Y L xs) (N : Nat) (K23 : Int32 → zo_O → Option zo_R) (hK23 : ∀ (x4 : Int32) (Ω : zo_O) (res : zo_R), K23 x4 Ω = some res → TW Y res Ω 23 [(0, vr 22 0), (1, vr 0 0), (2, vr 1 0), (3, vr 42 0), (4, vi x4)] []) (x4 : Int32) (Ω : zo_O) (res : zo_R) (h : fn_L_law_805 N L xs K23 x4 Ω = some res) : TW Y res Ω 805 [(0, vr 22 0), (1, vr 0 0), (2, vr 1 0), (3, vr 42 0), (4, vi x4)] [] := by
  unfold fn_L_law_805 at h
  refine zo_aload_n hY dL_law_805 rfl 1 rfl ?_
  refine zo_aload_n hY dL_law_806 rfl 0 rfl ?_
  refine zo_iload hY dL_law_807 4 rfl ?_
  refine zo_iconst hY 1 (by decide) dL_law_809 ?_
  refine zo_iadd hY dL_law_810 ?_
  refine zo_scdL hY hS dL_law_811 h (fun j1 h => ?_)
  refine zo_callV hY (fun q hq => mt_X1_day hJ hCon N (xs j1) Ω q hq) (by decide) (by decide) (by decide) ⟨rfl, cn_X1_day⟩ rfl q540 q541 q542 q78 q543 (Nat.le_of_ble_eq_true rfl) dL_law_812 rfl h (ci_k (fun r3 Ω2 res h => ?_))
  refine zo_aload_n hY dL_law_815 rfl 2 rfl ?_
  refine zo_aload_n hY dL_law_816 rfl 0 rfl ?_
  refine zo_iload hY dL_law_817 4 rfl ?_
  refine zo_iconst hY 1 (by decide) dL_law_819 ?_
  refine zo_iadd hY dL_law_820 ?_
  refine zo_scdL hY hS dL_law_821 h (fun j4 h => ?_)
  refine zo_callV hY (fun q hq => mt_X2_day hJ hCon N (xs j4) Ω2 q hq) (by decide) (by decide) (by decide) ⟨rfl, cn_X2_day⟩ rfl q1573 q1574 q1575 q82 q1576 (Nat.le_of_ble_eq_true rfl) dL_law_822 rfl h (ci_k (fun r6 Ω5 res h => ?_))
  refine zo_icmp_eq hY 1662 dL_law_825 (by decide) h (fun c7 h => ?_) (fun c7 h => ?_)
  · exact ct_L_law_1662 hY hJ hCon hr hS N K23 hK23 x4 Ω5 _ h
  · refine zo_iconst hY 0 (by decide) dL_law_828 ?_
    exact zo_lret hY hr dL_law_829 h
def fn_L_law_907 (N L : Nat) (xs : Nat → Int32) (K23 : Int32 → zo_O → Option zo_R) (x4 : Int32) (Ω : zo_O) : Option zo_R :=
  fn_L_law_1662 N L xs K23 x4 Ω
theorem ct_L_law_907 {Y : zo_Y} {L : Nat} {xs : Nat → Int32} (hY : zo_Gd Y cL_law 7 RX0 13) (hJ : zo_JC (zo_J Y)) (hCon : ∀ Ω, zo_J Y Ω → zo_Con Ω) (hr : zo_rtL Y) (hS : zo_scr Y L xs) (N : Nat) (K23 : Int32 → zo_O → Option zo_R) (hK23 : ∀ (x4 : Int32) (Ω : zo_O) (res : zo_R), K23 x4 Ω = some res → TW Y res Ω 23 [(0, vr 22 0), (1, vr 0 0), (2, vr 1 0), (3, vr 42 0), (4, vi x4)] []) (x4 : Int32) (Ω : zo_O) (res : zo_R) (h : fn_L_law_907 N L xs K23 x4 Ω = some res) : TW Y res Ω 907 [(0, vr 22 0), (1, vr 0 0), (2, vr 1 0), (3, vr 42 0), (4, vi x4)] [] := by
  unfold fn_L_law_907 at h
  refine zo_goto hY 1662 dL_law_907 (by decide) ?_
  exact ct_L_law_1662 hY hJ hCon hr hS N K23 hK23 x4 Ω _ h
def fn_L_law_830 (N L : Nat) (xs : Nat → Int32) (K23 : Int32 → zo_O → Option zo_R) (x4 : Int32) (Ω : zo_O) : Option zo_R :=
  ix (x4 + 1) L fun j1 =>
  ix (x4 + 2) L fun j2 =>
  ix (x4 + 3) L fun j3 =>
  ci (fn_X0_habit N (xs j1) (xs j2) (xs j3) Ω) fun r5 Ω4 =>
  ix (x4 + 1) L fun j6 =>
  ix (x4 + 2) L fun j7 =>
  ix (x4 + 3) L fun j8 =>
  ci (fn_X2_habit N (xs j6) (xs j7) (xs j8) Ω4) fun r10 Ω9 =>
  ci (fn_X2_thrown N Ω9) fun r12 Ω11 =>
  if r12 = r5 then (
    if r5 = 0 then (
      ix 0 (gL Ω11 42 0) fun j15 =>
      if lg_cmp (gJ Ω11 42 0 j15) r10.toInt64 = 0 then (
        fn_L_law_907 N L xs K23 x4 Ω11
        ) else
      rI 0 Ω11
      ) else
    fn_L_law_907 N L xs K23 x4 Ω11
    ) else
  rI 0 Ω11
theorem ct_L_law_830 {Y : zo_Y} {L : Nat} {xs : Nat → Int32} (hY : zo_Gd Y cL_law 7 RX0 13) (hJ : zo_JC (zo_J Y)) (hCon : ∀ Ω, zo_J Y Ω → zo_Con Ω) (hr : zo_rtL Y) (hS : zo_scr Y L xs) (N : Nat) (K23 : Int32 → zo_O → Option zo_R) (hK23 : ∀ (x4 : Int32) (Ω : zo_O) (res : zo_R), K23 x4 Ω = some res → TW Y res Ω 23 [(0, vr 22 0), (1, vr 0 0), (2, vr 1 0), (3, vr 42 0), (4, vi x4)] []) (x4 : Int32) (Ω : zo_O) (res : zo_R) (h : fn_L_law_830 N L xs K23 x4 Ω = some res) : TW Y res Ω 830 [(0, vr 22 0), (1, vr 0 0), (2, vr 1 0), (3, vr 42 0), (4, vi x4)] [] := by
  unfold fn_L_law_830 at h
  refine zo_aload_n hY dL_law_830 rfl 1 rfl ?_
  refine zo_aload_n hY dL_law_831 rfl 0 rfl ?_
  refine zo_iload hY dL_law_832 4 rfl ?_
  refine zo_iconst hY 1 (by decide) dL_law_834 ?_
  refine zo_iadd hY dL_law_835 ?_
  refine zo_scdL hY hS dL_law_836 h (fun j1 h => ?_)
  refine zo_aload_n hY dL_law_837 rfl 0 rfl ?_
  refine zo_iload hY dL_law_838 4 rfl ?_
  refine zo_iconst hY 2 (by decide) dL_law_840 ?_
  refine zo_iadd hY dL_law_841 ?_
  refine zo_scdL hY hS dL_law_842 h (fun j2 h => ?_)
  refine zo_aload_n hY dL_law_843 rfl 0 rfl ?_
  refine zo_iload hY dL_law_844 4 rfl ?_
  refine zo_iconst hY 3 (by decide) dL_law_846 ?_
  refine zo_iadd hY dL_law_847 ?_
  refine zo_scdL hY hS dL_law_848 h (fun j3 h => ?_)
  refine zo_aload_n hY dL_law_849 rfl 3 rfl ?_
  refine zo_callSW hY hr.lf (fun q hq => mt_X0_habit hJ hCon N (xs j1) (xs j2) (xs j3) Ω q hq) (by decide) (by decide) cn_X0_habit rfl q1234 q1235 q77 q1236 (Nat.le_of_ble_eq_true rfl) dL_law_850 rfl h (ci_k (fun r5 Ω4 res h => ?_))
  refine zo_istore hY dL_law_853 (by decide) rfl (ls' := [(5, vi r5), (0, vr 22 0), (1, vr 0 0), (2, vr 1 0), (3, vr 42 0), (4, vi x4)]) rfl ?_
  refine zo_aload_n hY dL_law_855 rfl 3 rfl ?_
  refine zo_aload_n hY dL_law_856 rfl 1 rfl ?_
  refine zo_iload hY dL_law_857 5 rfl ?_
  refine zo_iconst hY 1 (by decide) dL_law_859 ?_
  refine zo_iadd hY dL_law_860 ?_
  refine zo_scdL hY hS dL_law_861 h (fun j6 h => ?_)
  refine zo_aload_n hY dL_law_862 rfl 1 rfl ?_
  refine zo_iload hY dL_law_863 5 rfl ?_
  refine zo_iconst hY 2 (by decide) dL_law_865 ?_
  refine zo_iadd hY dL_law_866 ?_
  refine zo_scdL hY hS dL_law_867 h (fun j7 h => ?_)
  refine zo_aload_n hY dL_law_868 rfl 1 rfl ?_
  refine zo_iload hY dL_law_869 5 rfl ?_
  refine zo_iconst hY 3 (by decide) dL_law_871 ?_
  refine zo_iadd hY dL_law_872 ?_
  refine zo_scdL hY hS dL_law_873 h (fun j8 h => ?_)
  refine zo_callV hY (fun q hq => mt_X2_habit hJ hCon N (xs j6) (xs j7) (xs j8) Ω4 q hq) (by decide) (by decide) (by decide) ⟨rfl, cn_X2_habit⟩ rfl q1645 q1646 q1647 q82 q1648 (Nat.le_of_ble_eq_true rfl) dL_law_874 rfl h (ci_k (fun r10 Ω9 res h => ?_))
  refine zo_istore hY dL_law_877 (by decide) rfl (ls' := [(6, vi r10), (5, vi r5), (0, vr 22 0), (1, vr 0 0), (2, vr 1 0), (3, vr 42 0), (4, vi x4)]) rfl ?_
  refine zo_aload_n hY dL_law_879 rfl 4 rfl ?_
  refine zo_callV hY (fun q hq => mt_X2_thrown hJ hCon N Ω9 q hq) (by decide) (by decide) (by decide) ⟨rfl, cn_X2_thrown⟩ rfl q1513 q1514 q1515 q82 q1516 (Nat.le_of_ble_eq_true rfl) dL_law_880 rfl h (ci_k (fun r12 Ω11 res h => ?_))
  refine zo_iload hY dL_law_883 1 rfl ?_
  refine zo_icmp_eq hY 890 dL_law_885 (by decide) h (fun c13 h => ?_) (fun c13 h => ?_)
  · refine zo_iload hY dL_law_890 1 rfl ?_
    refine zo_if_ne hY 907 dL_law_892 (by decide) h (fun c14 h => ?_) (fun c14 h => ?_)
    · refine zo_aload_n hY dL_law_895 rfl 5 rfl ?_
      refine zo_iconst hY 0 (by decide) dL_law_896 ?_
      refine zo_lald hY dL_law_897 (fun _ => rfl) h (fun j15 h => ?_)
      refine zo_iload hY dL_law_898 0 rfl ?_
      refine zo_i2l hY dL_law_900 ?_
      refine zo_lcmp hY dL_law_901 ?_
      refine zo_if_eq hY 907 dL_law_902 (by decide) h (fun c16 h => ?_) (fun c16 h => ?_)
      · refine zo_sub [2, 3, 4, 5, 6] rfl ?_
        exact ct_L_law_907 hY hJ hCon hr hS N K23 hK23 x4 Ω11 _ h
      · refine zo_iconst hY 0 (by decide) dL_law_905 ?_
        exact zo_lret hY hr dL_law_906 h
    · refine zo_sub [2, 3, 4, 5, 6] rfl ?_
      exact ct_L_law_907 hY hJ hCon hr hS N K23 hK23 x4 Ω11 _ h
  · refine zo_iconst hY 0 (by decide) dL_law_888 ?_
    exact zo_lret hY hr dL_law_889 h
def fn_L_law_910 (N L : Nat) (xs : Nat → Int32) (K23 : Int32 → zo_O → Option zo_R) (x4 : Int32) (Ω : zo_O) : Option zo_R :=
  ix (x4 + 1) L fun j1 =>
  ix (x4 + 2) L fun j2 =>
  ci (fn_X1_used N (xs j1) (xs j2) Ω) fun r4 Ω3 =>
  ix (x4 + 1) L fun j5 =>
  ix (x4 + 2) L fun j6 =>
  ci (fn_X2_used N (xs j5) (xs j6) Ω3) fun r8 Ω7 =>
  if r4 = r8 then (
    fn_L_law_1662 N L xs K23 x4 Ω7
    ) else
  rI 0 Ω7
theorem ct_L_law_910 {Y : zo_Y} {L : Nat} {xs : Nat → Int32} (hY : zo_Gd Y cL_law 7 RX0 13) (hJ : zo_JC (zo_J Y)) (hCon : ∀ Ω, zo_J Y Ω → zo_Con Ω) (hr : zo_rtL Y) (hS : zo_scr Y L xs) (N : Nat) (K23 : Int32 → zo_O → Option zo_R) (hK23 : ∀ (x4 : Int32) (Ω : zo_O) (res : zo_R), K23 x4 Ω = some res → TW Y res Ω 23 [(0, vr 22 0), (1, vr 0 0), (2, vr 1 0), (3, vr 42 0), (4, vi x4)] []) (x4 : Int32) (Ω : zo_O) (res : zo_R) (h : fn_L_law_910 N L xs K23 x4 Ω = some res) : TW Y res Ω 910 [(0, vr 22 0), (1, vr 0 0), (2, vr 1 0), (3, vr 42 0), (4, vi x4)] [] := by
  unfold fn_L_law_910 at h
  refine zo_aload_n hY dL_law_910 rfl 1 rfl ?_
  refine zo_aload_n hY dL_law_911 rfl 0 rfl ?_
  refine zo_iload hY dL_law_912 4 rfl ?_
  refine zo_iconst hY 1 (by decide) dL_law_914 ?_
  refine zo_iadd hY dL_law_915 ?_
  refine zo_scdL hY hS dL_law_916 h (fun j1 h => ?_)
  refine zo_aload_n hY dL_law_917 rfl 0 rfl ?_
  refine zo_iload hY dL_law_918 4 rfl ?_
  refine zo_iconst hY 2 (by decide) dL_law_920 ?_
  refine zo_iadd hY dL_law_921 ?_
  refine zo_scdL hY hS dL_law_922 h (fun j2 h => ?_)
  refine zo_callV hY (fun q hq => mt_X1_used hJ hCon N (xs j1) (xs j2) Ω q hq) (by decide) (by decide) (by decide) ⟨rfl, cn_X1_used⟩ rfl q808 q809 q810 q78 q811 (Nat.le_of_ble_eq_true rfl) dL_law_923 rfl h (ci_k (fun r4 Ω3 res h => ?_))
  refine zo_aload_n hY dL_law_926 rfl 2 rfl ?_
  refine zo_aload_n hY dL_law_927 rfl 0 rfl ?_
  refine zo_iload hY dL_law_928 4 rfl ?_
  refine zo_iconst hY 1 (by decide) dL_law_930 ?_
  refine zo_iadd hY dL_law_931 ?_
  refine zo_scdL hY hS dL_law_932 h (fun j5 h => ?_)
  refine zo_aload_n hY dL_law_933 rfl 0 rfl ?_
  refine zo_iload hY dL_law_934 4 rfl ?_
  refine zo_iconst hY 2 (by decide) dL_law_936 ?_
  refine zo_iadd hY dL_law_937 ?_
  refine zo_scdL hY hS dL_law_938 h (fun j6 h => ?_)
  refine zo_callV hY (fun q hq => mt_X2_used hJ hCon N (xs j5) (xs j6) Ω3 q hq) (by decide) (by decide) (by decide) ⟨rfl, cn_X2_used⟩ rfl q1663 q1664 q1665 q82 q1666 (Nat.le_of_ble_eq_true rfl) dL_law_939 rfl h (ci_k (fun r8 Ω7 res h => ?_))
  refine zo_icmp_eq hY 1662 dL_law_942 (by decide) h (fun c9 h => ?_) (fun c9 h => ?_)
  · exact ct_L_law_1662 hY hJ hCon hr hS N K23 hK23 x4 Ω7 _ h
  · refine zo_iconst hY 0 (by decide) dL_law_945 ?_
    exact zo_lret hY hr dL_law_946 h
def fn_L_law_947 (N L : Nat) (xs : Nat → Int32) (K23 : Int32 → zo_O → Option zo_R) (x4 : Int32) (Ω : zo_O) : Option zo_R :=
  ix (x4 + 1) L fun j1 =>
  ix (x4 + 2) L fun j2 =>
  ix (x4 + 3) L fun j3 =>
  ci (fn_X1_trueSize N (xs j1) (xs j2) (xs j3) Ω) fun r5 Ω4 =>
  ix (x4 + 1) L fun j6 =>
  ix (x4 + 2) L fun j7 =>
  ix (x4 + 3) L fun j8 =>
  ci (fn_X2_trueSize N (xs j6) (xs j7) (xs j8) Ω4) fun r10 Ω9 =>
  if r5 = r10 then (
    fn_L_law_1662 N L xs K23 x4 Ω9
    ) else
  rI 0 Ω9
theorem ct_L_law_947 {Y : zo_Y} {L : Nat} {xs : Nat → Int32} (hY : zo_Gd Y cL_law 7 RX0 13) (hJ : zo_JC (zo_J Y)) (hCon : ∀ Ω, zo_J Y Ω → zo_Con Ω) (hr : zo_rtL Y) (hS : zo_scr Y L xs) (N : Nat) (K23 : Int32 → zo_O → Option zo_R) (hK23 : ∀ (x4 : Int32) (Ω : zo_O) (res : zo_R), K23 x4 Ω = some res → TW Y res Ω 23 [(0, vr 22 0), (1, vr 0 0), (2, vr 1 0), (3, vr 42 0), (4, vi x4)] []) (x4 : Int32) (Ω : zo_O) (res : zo_R) (h : fn_L_law_947 N L xs K23 x4 Ω = some res) : TW Y res Ω 947 [(0, vr 22 0), (1, vr 0 0), (2, vr 1 0), (3, vr 42 0), (4, vi x4)] [] := by
  unfold fn_L_law_947 at h
  refine zo_aload_n hY dL_law_947 rfl 1 rfl ?_
  refine zo_aload_n hY dL_law_948 rfl 0 rfl ?_
  refine zo_iload hY dL_law_949 4 rfl ?_
  refine zo_iconst hY 1 (by decide) dL_law_951 ?_
  refine zo_iadd hY dL_law_952 ?_
  refine zo_scdL hY hS dL_law_953 h (fun j1 h => ?_)
  refine zo_aload_n hY dL_law_954 rfl 0 rfl ?_
  refine zo_iload hY dL_law_955 4 rfl ?_
  refine zo_iconst hY 2 (by decide) dL_law_957 ?_
  refine zo_iadd hY dL_law_958 ?_
  refine zo_scdL hY hS dL_law_959 h (fun j2 h => ?_)
  refine zo_aload_n hY dL_law_960 rfl 0 rfl ?_
  refine zo_iload hY dL_law_961 4 rfl ?_
  refine zo_iconst hY 3 (by decide) dL_law_963 ?_
  refine zo_iadd hY dL_law_964 ?_
  refine zo_scdL hY hS dL_law_965 h (fun j3 h => ?_)
  refine zo_callV hY (fun q hq => mt_X1_trueSize hJ hCon N (xs j1) (xs j2) (xs j3) Ω q hq) (by decide) (by decide) (by decide) ⟨rfl, cn_X1_trueSize⟩ rfl q873 q874 q875 q78 q876 (Nat.le_of_ble_eq_true rfl) dL_law_966 rfl h (ci_k (fun r5 Ω4 res h => ?_))
  refine zo_aload_n hY dL_law_969 rfl 2 rfl ?_
  refine zo_aload_n hY dL_law_970 rfl 0 rfl ?_
  refine zo_iload hY dL_law_971 4 rfl ?_
  refine zo_iconst hY 1 (by decide) dL_law_973 ?_
  refine zo_iadd hY dL_law_974 ?_
  refine zo_scdL hY hS dL_law_975 h (fun j6 h => ?_)
  refine zo_aload_n hY dL_law_976 rfl 0 rfl ?_
  refine zo_iload hY dL_law_977 4 rfl ?_
  refine zo_iconst hY 2 (by decide) dL_law_979 ?_
  refine zo_iadd hY dL_law_980 ?_
  refine zo_scdL hY hS dL_law_981 h (fun j7 h => ?_)
  refine zo_aload_n hY dL_law_982 rfl 0 rfl ?_
  refine zo_iload hY dL_law_983 4 rfl ?_
  refine zo_iconst hY 3 (by decide) dL_law_985 ?_
  refine zo_iadd hY dL_law_986 ?_
  refine zo_scdL hY hS dL_law_987 h (fun j8 h => ?_)
  refine zo_callV hY (fun q hq => mt_X2_trueSize hJ hCon N (xs j6) (xs j7) (xs j8) Ω4 q hq) (by decide) (by decide) (by decide) ⟨rfl, cn_X2_trueSize⟩ rfl q1679 q1680 q1681 q82 q1682 (Nat.le_of_ble_eq_true rfl) dL_law_988 rfl h (ci_k (fun r10 Ω9 res h => ?_))
  refine zo_icmp_eq hY 1662 dL_law_991 (by decide) h (fun c11 h => ?_) (fun c11 h => ?_)
  · exact ct_L_law_1662 hY hJ hCon hr hS N K23 hK23 x4 Ω9 _ h
  · refine zo_iconst hY 0 (by decide) dL_law_994 ?_
    exact zo_lret hY hr dL_law_995 h
def fn_L_law_996 (N L : Nat) (xs : Nat → Int32) (K23 : Int32 → zo_O → Option zo_R) (x4 : Int32) (Ω : zo_O) : Option zo_R :=
  ix (x4 + 1) L fun j1 =>
  ix (x4 + 2) L fun j2 =>
  ix (x4 + 3) L fun j3 =>
  ix (x4 + 4) L fun j4 =>
  ci (fn_X1_struck N (xs j1) (xs j2) (xs j3) (xs j4) Ω) fun r6 Ω5 =>
  ix (x4 + 1) L fun j7 =>
  ix (x4 + 2) L fun j8 =>
  ix (x4 + 3) L fun j9 =>
  ix (x4 + 4) L fun j10 =>
  ci (fn_X2_struck N (xs j7) (xs j8) (xs j9) (xs j10) Ω5) fun r12 Ω11 =>
  if r6 = r12 then (
    fn_L_law_1662 N L xs K23 x4 Ω11
    ) else
  rI 0 Ω11
theorem ct_L_law_996 {Y : zo_Y} {L : Nat} {xs : Nat → Int32} (hY : zo_Gd Y cL_law 7 RX0 13) (hJ : zo_JC (zo_J Y)) (hCon : ∀ Ω, zo_J Y Ω → zo_Con Ω) (hr : zo_rtL Y) (hS : zo_scr Y L xs) (N : Nat) (K23 : Int32 → zo_O → Option zo_R) (hK23 : ∀ (x4 : Int32) (Ω : zo_O) (res : zo_R), K23 x4 Ω = some res → TW Y res Ω 23 [(0, vr 22 0), (1, vr 0 0), (2, vr 1 0), (3, vr 42 0), (4, vi x4)] []) (x4 : Int32) (Ω : zo_O) (res : zo_R) (h : fn_L_law_996 N L xs K23 x4 Ω = some res) : TW Y res Ω 996 [(0, vr 22 0), (1, vr 0 0), (2, vr 1 0), (3, vr 42 0), (4, vi x4)] [] := by
  unfold fn_L_law_996 at h
  refine zo_aload_n hY dL_law_996 rfl 1 rfl ?_
  refine zo_aload_n hY dL_law_997 rfl 0 rfl ?_
  refine zo_iload hY dL_law_998 4 rfl ?_
  refine zo_iconst hY 1 (by decide) dL_law_1000 ?_
  refine zo_iadd hY dL_law_1001 ?_
  refine zo_scdL hY hS dL_law_1002 h (fun j1 h => ?_)
  refine zo_aload_n hY dL_law_1003 rfl 0 rfl ?_
  refine zo_iload hY dL_law_1004 4 rfl ?_
  refine zo_iconst hY 2 (by decide) dL_law_1006 ?_
  refine zo_iadd hY dL_law_1007 ?_
  refine zo_scdL hY hS dL_law_1008 h (fun j2 h => ?_)
  refine zo_aload_n hY dL_law_1009 rfl 0 rfl ?_
  refine zo_iload hY dL_law_1010 4 rfl ?_
  refine zo_iconst hY 3 (by decide) dL_law_1012 ?_
  refine zo_iadd hY dL_law_1013 ?_
  refine zo_scdL hY hS dL_law_1014 h (fun j3 h => ?_)
  refine zo_aload_n hY dL_law_1015 rfl 0 rfl ?_
  refine zo_iload hY dL_law_1016 4 rfl ?_
  refine zo_iconst hY 4 (by decide) dL_law_1018 ?_
  refine zo_iadd hY dL_law_1019 ?_
  refine zo_scdL hY hS dL_law_1020 h (fun j4 h => ?_)
  refine zo_callV hY (fun q hq => mt_X1_struck hJ hCon N (xs j1) (xs j2) (xs j3) (xs j4) Ω q hq) (by decide) (by decide) (by decide) ⟨rfl, cn_X1_struck⟩ rfl q886 q887 q888 q78 q889 (Nat.le_of_ble_eq_true rfl) dL_law_1021 rfl h (ci_k (fun r6 Ω5 res h => ?_))
  refine zo_aload_n hY dL_law_1024 rfl 2 rfl ?_
  refine zo_aload_n hY dL_law_1025 rfl 0 rfl ?_
  refine zo_iload hY dL_law_1026 4 rfl ?_
  refine zo_iconst hY 1 (by decide) dL_law_1028 ?_
  refine zo_iadd hY dL_law_1029 ?_
  refine zo_scdL hY hS dL_law_1030 h (fun j7 h => ?_)
  refine zo_aload_n hY dL_law_1031 rfl 0 rfl ?_
  refine zo_iload hY dL_law_1032 4 rfl ?_
  refine zo_iconst hY 2 (by decide) dL_law_1034 ?_
  refine zo_iadd hY dL_law_1035 ?_
  refine zo_scdL hY hS dL_law_1036 h (fun j8 h => ?_)
  refine zo_aload_n hY dL_law_1037 rfl 0 rfl ?_
  refine zo_iload hY dL_law_1038 4 rfl ?_
  refine zo_iconst hY 3 (by decide) dL_law_1040 ?_
  refine zo_iadd hY dL_law_1041 ?_
  refine zo_scdL hY hS dL_law_1042 h (fun j9 h => ?_)
  refine zo_aload_n hY dL_law_1043 rfl 0 rfl ?_
  refine zo_iload hY dL_law_1044 4 rfl ?_
  refine zo_iconst hY 4 (by decide) dL_law_1046 ?_
  refine zo_iadd hY dL_law_1047 ?_
  refine zo_scdL hY hS dL_law_1048 h (fun j10 h => ?_)
  refine zo_callV hY (fun q hq => mt_X2_struck hJ hCon N (xs j7) (xs j8) (xs j9) (xs j10) Ω5 q hq) (by decide) (by decide) (by decide) ⟨rfl, cn_X2_struck⟩ rfl q1692 q1693 q1694 q82 q1695 (Nat.le_of_ble_eq_true rfl) dL_law_1049 rfl h (ci_k (fun r12 Ω11 res h => ?_))
  refine zo_icmp_eq hY 1662 dL_law_1052 (by decide) h (fun c13 h => ?_) (fun c13 h => ?_)
  · exact ct_L_law_1662 hY hJ hCon hr hS N K23 hK23 x4 Ω11 _ h
  · refine zo_iconst hY 0 (by decide) dL_law_1055 ?_
    exact zo_lret hY hr dL_law_1056 h
def fn_L_law_1057 (N L : Nat) (xs : Nat → Int32) (K23 : Int32 → zo_O → Option zo_R) (x4 : Int32) (Ω : zo_O) : Option zo_R :=
  ix (x4 + 1) L fun j1 =>
  ix (x4 + 2) L fun j2 =>
  ix (x4 + 3) L fun j3 =>
  ix (x4 + 4) L fun j4 =>
  ix (x4 + 5) L fun j5 =>
  ix (x4 + 6) L fun j6 =>
  ci (fn_X1_size N (xs j1) (xs j2) (xs j3) (xs j4) (xs j5) (xs j6) Ω) fun r8 Ω7 =>
  ix (x4 + 1) L fun j9 =>
  ix (x4 + 2) L fun j10 =>
  ix (x4 + 3) L fun j11 =>
  ix (x4 + 4) L fun j12 =>
  ix (x4 + 5) L fun j13 =>
  ix (x4 + 6) L fun j14 =>
  ci (fn_X2_size N (xs j9) (xs j10) (xs j11) (xs j12) (xs j13) (xs j14) Ω7) fun r16 Ω15 =>
  if r8 = r16 then (
    fn_L_law_1662 N L xs K23 x4 Ω15
    ) else
  rI 0 Ω15
theorem ct_L_law_1057 {Y : zo_Y} {L : Nat} {xs : Nat → Int32} (hY : zo_Gd Y cL_law 7 RX0 13) (hJ : zo_JC (zo_J Y)) (hCon : ∀ Ω, zo_J Y Ω → zo_Con Ω) (hr : zo_rtL Y) (hS : zo_scr Y L xs) (N : Nat) (K23 : Int32 → zo_O → Option zo_R) (hK23 : ∀ (x4 : Int32) (Ω : zo_O) (res : zo_R), K23 x4 Ω = some res → TW Y res Ω 23 [(0, vr 22 0), (1, vr 0 0), (2, vr 1 0), (3, vr 42 0), (4, vi x4)] []) (x4 : Int32) (Ω : zo_O) (res : zo_R) (h : fn_L_law_1057 N L xs K23 x4 Ω = some res) : TW Y res Ω 1057 [(0, vr 22 0), (1, vr 0 0), (2, vr 1 0), (3, vr 42 0), (4, vi x4)] [] := by
  unfold fn_L_law_1057 at h
  refine zo_aload_n hY dL_law_1057 rfl 1 rfl ?_
  refine zo_aload_n hY dL_law_1058 rfl 0 rfl ?_
  refine zo_iload hY dL_law_1059 4 rfl ?_
  refine zo_iconst hY 1 (by decide) dL_law_1061 ?_
  refine zo_iadd hY dL_law_1062 ?_
  refine zo_scdL hY hS dL_law_1063 h (fun j1 h => ?_)
  refine zo_aload_n hY dL_law_1064 rfl 0 rfl ?_
  refine zo_iload hY dL_law_1065 4 rfl ?_
  refine zo_iconst hY 2 (by decide) dL_law_1067 ?_
  refine zo_iadd hY dL_law_1068 ?_
  refine zo_scdL hY hS dL_law_1069 h (fun j2 h => ?_)
  refine zo_aload_n hY dL_law_1070 rfl 0 rfl ?_
  refine zo_iload hY dL_law_1071 4 rfl ?_
  refine zo_iconst hY 3 (by decide) dL_law_1073 ?_
  refine zo_iadd hY dL_law_1074 ?_
  refine zo_scdL hY hS dL_law_1075 h (fun j3 h => ?_)
  refine zo_aload_n hY dL_law_1076 rfl 0 rfl ?_
  refine zo_iload hY dL_law_1077 4 rfl ?_
  refine zo_iconst hY 4 (by decide) dL_law_1079 ?_
  refine zo_iadd hY dL_law_1080 ?_
  refine zo_scdL hY hS dL_law_1081 h (fun j4 h => ?_)
  refine zo_aload_n hY dL_law_1082 rfl 0 rfl ?_
  refine zo_iload hY dL_law_1083 4 rfl ?_
  refine zo_iconst hY 5 (by decide) dL_law_1085 ?_
  refine zo_iadd hY dL_law_1086 ?_
  refine zo_scdL hY hS dL_law_1087 h (fun j5 h => ?_)
  refine zo_aload_n hY dL_law_1088 rfl 0 rfl ?_
  refine zo_iload hY dL_law_1089 4 rfl ?_
  refine zo_bipush hY 6 (by decide) dL_law_1091 ?_
  refine zo_iadd hY dL_law_1093 ?_
  refine zo_scdL hY hS dL_law_1094 h (fun j6 h => ?_)
  refine zo_callV hY (fun q hq => mt_X1_size hJ hCon N (xs j1) (xs j2) (xs j3) (xs j4) (xs j5) (xs j6) Ω q hq) (by decide) (by decide) (by decide) ⟨rfl, cn_X1_size⟩ rfl q1049 q1050 q1051 q78 q1052 (Nat.le_of_ble_eq_true rfl) dL_law_1095 rfl h (ci_k (fun r8 Ω7 res h => ?_))
  refine zo_aload_n hY dL_law_1098 rfl 2 rfl ?_
  refine zo_aload_n hY dL_law_1099 rfl 0 rfl ?_
  refine zo_iload hY dL_law_1100 4 rfl ?_
  refine zo_iconst hY 1 (by decide) dL_law_1102 ?_
  refine zo_iadd hY dL_law_1103 ?_
  refine zo_scdL hY hS dL_law_1104 h (fun j9 h => ?_)
  refine zo_aload_n hY dL_law_1105 rfl 0 rfl ?_
  refine zo_iload hY dL_law_1106 4 rfl ?_
  refine zo_iconst hY 2 (by decide) dL_law_1108 ?_
  refine zo_iadd hY dL_law_1109 ?_
  refine zo_scdL hY hS dL_law_1110 h (fun j10 h => ?_)
  refine zo_aload_n hY dL_law_1111 rfl 0 rfl ?_
  refine zo_iload hY dL_law_1112 4 rfl ?_
  refine zo_iconst hY 3 (by decide) dL_law_1114 ?_
  refine zo_iadd hY dL_law_1115 ?_
  refine zo_scdL hY hS dL_law_1116 h (fun j11 h => ?_)
  refine zo_aload_n hY dL_law_1117 rfl 0 rfl ?_
  refine zo_iload hY dL_law_1118 4 rfl ?_
  refine zo_iconst hY 4 (by decide) dL_law_1120 ?_
  refine zo_iadd hY dL_law_1121 ?_
  refine zo_scdL hY hS dL_law_1122 h (fun j12 h => ?_)
  refine zo_aload_n hY dL_law_1123 rfl 0 rfl ?_
  refine zo_iload hY dL_law_1124 4 rfl ?_
  refine zo_iconst hY 5 (by decide) dL_law_1126 ?_
  refine zo_iadd hY dL_law_1127 ?_
  refine zo_scdL hY hS dL_law_1128 h (fun j13 h => ?_)
  refine zo_aload_n hY dL_law_1129 rfl 0 rfl ?_
  refine zo_iload hY dL_law_1130 4 rfl ?_
  refine zo_bipush hY 6 (by decide) dL_law_1132 ?_
  refine zo_iadd hY dL_law_1134 ?_
  refine zo_scdL hY hS dL_law_1135 h (fun j14 h => ?_)
  refine zo_callV hY (fun q hq => mt_X2_size hJ hCon N (xs j9) (xs j10) (xs j11) (xs j12) (xs j13) (xs j14) Ω7 q hq) (by decide) (by decide) (by decide) ⟨rfl, cn_X2_size⟩ rfl q1734 q1735 q1736 q82 q1737 (Nat.le_of_ble_eq_true rfl) dL_law_1136 rfl h (ci_k (fun r16 Ω15 res h => ?_))
  refine zo_icmp_eq hY 1662 dL_law_1139 (by decide) h (fun c17 h => ?_) (fun c17 h => ?_)
  · exact ct_L_law_1662 hY hJ hCon hr hS N K23 hK23 x4 Ω15 _ h
  · refine zo_iconst hY 0 (by decide) dL_law_1142 ?_
    exact zo_lret hY hr dL_law_1143 h
def fn_L_law_1144 (N L : Nat) (xs : Nat → Int32) (K23 : Int32 → zo_O → Option zo_R) (x4 : Int32) (Ω : zo_O) : Option zo_R :=
  ix (x4 + 1) L fun j1 =>
  ix (x4 + 2) L fun j2 =>
  ix (x4 + 3) L fun j3 =>
  ci (fn_X1_span N (xs j1) (xs j2) (xs j3) Ω) fun r5 Ω4 =>
  ix (x4 + 1) L fun j6 =>
  ix (x4 + 2) L fun j7 =>
  ix (x4 + 3) L fun j8 =>
  ci (fn_X2_span N (xs j6) (xs j7) (xs j8) Ω4) fun r10 Ω9 =>
  if r5 = r10 then (
    fn_L_law_1662 N L xs K23 x4 Ω9
    ) else
  rI 0 Ω9
theorem ct_L_law_1144 {Y : zo_Y} {L : Nat} {xs : Nat → Int32} (hY : zo_Gd Y cL_law 7 RX0 13) (hJ : zo_JC (zo_J Y)) (hCon : ∀ Ω, zo_J Y Ω → zo_Con Ω) (hr : zo_rtL Y) (hS : zo_scr Y L xs) (N : Nat) (K23 : Int32 → zo_O → Option zo_R) (hK23 : ∀ (x4 : Int32) (Ω : zo_O) (res : zo_R), K23 x4 Ω = some res → TW Y res Ω 23 [(0, vr 22 0), (1, vr 0 0), (2, vr 1 0), (3, vr 42 0), (4, vi x4)] []) (x4 : Int32) (Ω : zo_O) (res : zo_R) (h : fn_L_law_1144 N L xs K23 x4 Ω = some res) : TW Y res Ω 1144 [(0, vr 22 0), (1, vr 0 0), (2, vr 1 0), (3, vr 42 0), (4, vi x4)] [] := by
  unfold fn_L_law_1144 at h
  refine zo_aload_n hY dL_law_1144 rfl 1 rfl ?_
  refine zo_aload_n hY dL_law_1145 rfl 0 rfl ?_
  refine zo_iload hY dL_law_1146 4 rfl ?_
  refine zo_iconst hY 1 (by decide) dL_law_1148 ?_
  refine zo_iadd hY dL_law_1149 ?_
  refine zo_scdL hY hS dL_law_1150 h (fun j1 h => ?_)
  refine zo_aload_n hY dL_law_1151 rfl 0 rfl ?_
  refine zo_iload hY dL_law_1152 4 rfl ?_
  refine zo_iconst hY 2 (by decide) dL_law_1154 ?_
  refine zo_iadd hY dL_law_1155 ?_
  refine zo_scdL hY hS dL_law_1156 h (fun j2 h => ?_)
  refine zo_aload_n hY dL_law_1157 rfl 0 rfl ?_
  refine zo_iload hY dL_law_1158 4 rfl ?_
  refine zo_iconst hY 3 (by decide) dL_law_1160 ?_
  refine zo_iadd hY dL_law_1161 ?_
  refine zo_scdL hY hS dL_law_1162 h (fun j3 h => ?_)
  refine zo_callV hY (fun q hq => mt_X1_span hJ hCon N (xs j1) (xs j2) (xs j3) Ω q hq) (by decide) (by decide) (by decide) ⟨rfl, cn_X1_span⟩ rfl q1072 q1073 q1074 q78 q1075 (Nat.le_of_ble_eq_true rfl) dL_law_1163 rfl h (ci_k (fun r5 Ω4 res h => ?_))
  refine zo_aload_n hY dL_law_1166 rfl 2 rfl ?_
  refine zo_aload_n hY dL_law_1167 rfl 0 rfl ?_
  refine zo_iload hY dL_law_1168 4 rfl ?_
  refine zo_iconst hY 1 (by decide) dL_law_1170 ?_
  refine zo_iadd hY dL_law_1171 ?_
  refine zo_scdL hY hS dL_law_1172 h (fun j6 h => ?_)
  refine zo_aload_n hY dL_law_1173 rfl 0 rfl ?_
  refine zo_iload hY dL_law_1174 4 rfl ?_
  refine zo_iconst hY 2 (by decide) dL_law_1176 ?_
  refine zo_iadd hY dL_law_1177 ?_
  refine zo_scdL hY hS dL_law_1178 h (fun j7 h => ?_)
  refine zo_aload_n hY dL_law_1179 rfl 0 rfl ?_
  refine zo_iload hY dL_law_1180 4 rfl ?_
  refine zo_iconst hY 3 (by decide) dL_law_1182 ?_
  refine zo_iadd hY dL_law_1183 ?_
  refine zo_scdL hY hS dL_law_1184 h (fun j8 h => ?_)
  refine zo_callV hY (fun q hq => mt_X2_span hJ hCon N (xs j6) (xs j7) (xs j8) Ω4 q hq) (by decide) (by decide) (by decide) ⟨rfl, cn_X2_span⟩ rfl q1738 q1739 q1740 q82 q1741 (Nat.le_of_ble_eq_true rfl) dL_law_1185 rfl h (ci_k (fun r10 Ω9 res h => ?_))
  refine zo_icmp_eq hY 1662 dL_law_1188 (by decide) h (fun c11 h => ?_) (fun c11 h => ?_)
  · exact ct_L_law_1662 hY hJ hCon hr hS N K23 hK23 x4 Ω9 _ h
  · refine zo_iconst hY 0 (by decide) dL_law_1191 ?_
    exact zo_lret hY hr dL_law_1192 h
def fn_L_law_1193 (N L : Nat) (xs : Nat → Int32) (K23 : Int32 → zo_O → Option zo_R) (x4 : Int32) (Ω : zo_O) : Option zo_R :=
  ix (x4 + 1) L fun j1 =>
  ix (x4 + 2) L fun j2 =>
  ix (x4 + 3) L fun j3 =>
  ci (fn_X1_bound N (xs j1) (xs j2) (xs j3) Ω) fun r5 Ω4 =>
  ix (x4 + 1) L fun j6 =>
  ix (x4 + 2) L fun j7 =>
  ix (x4 + 3) L fun j8 =>
  ci (fn_X2_bound N (xs j6) (xs j7) (xs j8) Ω4) fun r10 Ω9 =>
  if r5 = r10 then (
    fn_L_law_1662 N L xs K23 x4 Ω9
    ) else
  rI 0 Ω9
theorem ct_L_law_1193 {Y : zo_Y} {L : Nat} {xs : Nat → Int32} (hY : zo_Gd Y cL_law 7 RX0 13) (hJ : zo_JC (zo_J Y)) (hCon : ∀ Ω, zo_J Y Ω → zo_Con Ω) (hr : zo_rtL Y) (hS : zo_scr Y L xs) (N : Nat) (K23 : Int32 → zo_O → Option zo_R) (hK23 : ∀ (x4 : Int32) (Ω : zo_O) (res : zo_R), K23 x4 Ω = some res → TW Y res Ω 23 [(0, vr 22 0), (1, vr 0 0), (2, vr 1 0), (3, vr 42 0), (4, vi x4)] []) (x4 : Int32) (Ω : zo_O) (res : zo_R) (h : fn_L_law_1193 N L xs K23 x4 Ω = some res) : TW Y res Ω 1193 [(0, vr 22 0), (1, vr 0 0), (2, vr 1 0), (3, vr 42 0), (4, vi x4)] [] := by
  unfold fn_L_law_1193 at h
  refine zo_aload_n hY dL_law_1193 rfl 1 rfl ?_
  refine zo_aload_n hY dL_law_1194 rfl 0 rfl ?_
  refine zo_iload hY dL_law_1195 4 rfl ?_
  refine zo_iconst hY 1 (by decide) dL_law_1197 ?_
  refine zo_iadd hY dL_law_1198 ?_
  refine zo_scdL hY hS dL_law_1199 h (fun j1 h => ?_)
  refine zo_aload_n hY dL_law_1200 rfl 0 rfl ?_
  refine zo_iload hY dL_law_1201 4 rfl ?_
  refine zo_iconst hY 2 (by decide) dL_law_1203 ?_
  refine zo_iadd hY dL_law_1204 ?_
  refine zo_scdL hY hS dL_law_1205 h (fun j2 h => ?_)
  refine zo_aload_n hY dL_law_1206 rfl 0 rfl ?_
  refine zo_iload hY dL_law_1207 4 rfl ?_
  refine zo_iconst hY 3 (by decide) dL_law_1209 ?_
  refine zo_iadd hY dL_law_1210 ?_
  refine zo_scdL hY hS dL_law_1211 h (fun j3 h => ?_)
  refine zo_callV hY (fun q hq => mt_X1_bound hJ hCon N (xs j1) (xs j2) (xs j3) Ω q hq) (by decide) (by decide) (by decide) ⟨rfl, cn_X1_bound⟩ rfl q1126 q1127 q1128 q78 q1129 (Nat.le_of_ble_eq_true rfl) dL_law_1212 rfl h (ci_k (fun r5 Ω4 res h => ?_))
  refine zo_aload_n hY dL_law_1215 rfl 2 rfl ?_
  refine zo_aload_n hY dL_law_1216 rfl 0 rfl ?_
  refine zo_iload hY dL_law_1217 4 rfl ?_
  refine zo_iconst hY 1 (by decide) dL_law_1219 ?_
  refine zo_iadd hY dL_law_1220 ?_
  refine zo_scdL hY hS dL_law_1221 h (fun j6 h => ?_)
  refine zo_aload_n hY dL_law_1222 rfl 0 rfl ?_
  refine zo_iload hY dL_law_1223 4 rfl ?_
  refine zo_iconst hY 2 (by decide) dL_law_1225 ?_
  refine zo_iadd hY dL_law_1226 ?_
  refine zo_scdL hY hS dL_law_1227 h (fun j7 h => ?_)
  refine zo_aload_n hY dL_law_1228 rfl 0 rfl ?_
  refine zo_iload hY dL_law_1229 4 rfl ?_
  refine zo_iconst hY 3 (by decide) dL_law_1231 ?_
  refine zo_iadd hY dL_law_1232 ?_
  refine zo_scdL hY hS dL_law_1233 h (fun j8 h => ?_)
  refine zo_callV hY (fun q hq => mt_X2_bound hJ hCon N (xs j6) (xs j7) (xs j8) Ω4 q hq) (by decide) (by decide) (by decide) ⟨rfl, cn_X2_bound⟩ rfl q1762 q1763 q1764 q82 q1765 (Nat.le_of_ble_eq_true rfl) dL_law_1234 rfl h (ci_k (fun r10 Ω9 res h => ?_))
  refine zo_icmp_eq hY 1662 dL_law_1237 (by decide) h (fun c11 h => ?_) (fun c11 h => ?_)
  · exact ct_L_law_1662 hY hJ hCon hr hS N K23 hK23 x4 Ω9 _ h
  · refine zo_iconst hY 0 (by decide) dL_law_1240 ?_
    exact zo_lret hY hr dL_law_1241 h
def fn_L_law_1242 (N L : Nat) (xs : Nat → Int32) (K23 : Int32 → zo_O → Option zo_R) (x4 : Int32) (Ω : zo_O) : Option zo_R :=
  ix (x4 + 1) L fun j1 =>
  ix (x4 + 2) L fun j2 =>
  ix (x4 + 3) L fun j3 =>
  ci (fn_X1_same N (xs j1) (xs j2) (xs j3) Ω) fun r5 Ω4 =>
  ix (x4 + 1) L fun j6 =>
  ix (x4 + 2) L fun j7 =>
  ix (x4 + 3) L fun j8 =>
  ci (fn_X2_same N (xs j6) (xs j7) (xs j8) Ω4) fun r10 Ω9 =>
  if r5 = r10 then (
    fn_L_law_1662 N L xs K23 x4 Ω9
    ) else
  rI 0 Ω9
theorem ct_L_law_1242 {Y : zo_Y} {L : Nat} {xs : Nat → Int32} (hY : zo_Gd Y cL_law 7 RX0 13) (hJ : zo_JC (zo_J Y)) (hCon : ∀ Ω, zo_J Y Ω → zo_Con Ω) (hr : zo_rtL Y) (hS : zo_scr Y L xs) (N : Nat) (K23 : Int32 → zo_O → Option zo_R) (hK23 : ∀ (x4 : Int32) (Ω : zo_O) (res : zo_R), K23 x4 Ω = some res → TW Y res Ω 23 [(0, vr 22 0), (1, vr 0 0), (2, vr 1 0), (3, vr 42 0), (4, vi x4)] []) (x4 : Int32) (Ω : zo_O) (res : zo_R) (h : fn_L_law_1242 N L xs K23 x4 Ω = some res) : TW Y res Ω 1242 [(0, vr 22 0), (1, vr 0 0), (2, vr 1 0), (3, vr 42 0), (4, vi x4)] [] := by
  unfold fn_L_law_1242 at h
  refine zo_aload_n hY dL_law_1242 rfl 1 rfl ?_
  refine zo_aload_n hY dL_law_1243 rfl 0 rfl ?_
  refine zo_iload hY dL_law_1244 4 rfl ?_
  refine zo_iconst hY 1 (by decide) dL_law_1246 ?_
  refine zo_iadd hY dL_law_1247 ?_
  refine zo_scdL hY hS dL_law_1248 h (fun j1 h => ?_)
  refine zo_aload_n hY dL_law_1249 rfl 0 rfl ?_
  refine zo_iload hY dL_law_1250 4 rfl ?_
  refine zo_iconst hY 2 (by decide) dL_law_1252 ?_
  refine zo_iadd hY dL_law_1253 ?_
  refine zo_scdL hY hS dL_law_1254 h (fun j2 h => ?_)
  refine zo_aload_n hY dL_law_1255 rfl 0 rfl ?_
  refine zo_iload hY dL_law_1256 4 rfl ?_
  refine zo_iconst hY 3 (by decide) dL_law_1258 ?_
  refine zo_iadd hY dL_law_1259 ?_
  refine zo_scdL hY hS dL_law_1260 h (fun j3 h => ?_)
  refine zo_callV hY (fun q hq => mt_X1_same hJ hCon N (xs j1) (xs j2) (xs j3) Ω q hq) (by decide) (by decide) (by decide) ⟨rfl, cn_X1_same⟩ rfl q1145 q1146 q1147 q78 q1148 (Nat.le_of_ble_eq_true rfl) dL_law_1261 rfl h (ci_k (fun r5 Ω4 res h => ?_))
  refine zo_aload_n hY dL_law_1264 rfl 2 rfl ?_
  refine zo_aload_n hY dL_law_1265 rfl 0 rfl ?_
  refine zo_iload hY dL_law_1266 4 rfl ?_
  refine zo_iconst hY 1 (by decide) dL_law_1268 ?_
  refine zo_iadd hY dL_law_1269 ?_
  refine zo_scdL hY hS dL_law_1270 h (fun j6 h => ?_)
  refine zo_aload_n hY dL_law_1271 rfl 0 rfl ?_
  refine zo_iload hY dL_law_1272 4 rfl ?_
  refine zo_iconst hY 2 (by decide) dL_law_1274 ?_
  refine zo_iadd hY dL_law_1275 ?_
  refine zo_scdL hY hS dL_law_1276 h (fun j7 h => ?_)
  refine zo_aload_n hY dL_law_1277 rfl 0 rfl ?_
  refine zo_iload hY dL_law_1278 4 rfl ?_
  refine zo_iconst hY 3 (by decide) dL_law_1280 ?_
  refine zo_iadd hY dL_law_1281 ?_
  refine zo_scdL hY hS dL_law_1282 h (fun j8 h => ?_)
  refine zo_callV hY (fun q hq => mt_X2_same hJ hCon N (xs j6) (xs j7) (xs j8) Ω4 q hq) (by decide) (by decide) (by decide) ⟨rfl, cn_X2_same⟩ rfl q1782 q1783 q1784 q82 q1785 (Nat.le_of_ble_eq_true rfl) dL_law_1283 rfl h (ci_k (fun r10 Ω9 res h => ?_))
  refine zo_icmp_eq hY 1662 dL_law_1286 (by decide) h (fun c11 h => ?_) (fun c11 h => ?_)
  · exact ct_L_law_1662 hY hJ hCon hr hS N K23 hK23 x4 Ω9 _ h
  · refine zo_iconst hY 0 (by decide) dL_law_1289 ?_
    exact zo_lret hY hr dL_law_1290 h
def fn_L_law_1291 (N L : Nat) (xs : Nat → Int32) (K23 : Int32 → zo_O → Option zo_R) (x4 : Int32) (Ω : zo_O) : Option zo_R :=
  ix (x4 + 1) L fun j1 =>
  ix (x4 + 2) L fun j2 =>
  ix (x4 + 3) L fun j3 =>
  ci (fn_X1_claim N (xs j1) (xs j2) (xs j3) Ω) fun r5 Ω4 =>
  ix (x4 + 1) L fun j6 =>
  ix (x4 + 2) L fun j7 =>
  ix (x4 + 3) L fun j8 =>
  ci (fn_X2_claim N (xs j6) (xs j7) (xs j8) Ω4) fun r10 Ω9 =>
  if r5 = r10 then (
    fn_L_law_1662 N L xs K23 x4 Ω9
    ) else
  rI 0 Ω9
theorem ct_L_law_1291 {Y : zo_Y} {L : Nat} {xs : Nat → Int32} (hY : zo_Gd Y cL_law 7 RX0 13) (hJ : zo_JC (zo_J Y)) (hCon : ∀ Ω, zo_J Y Ω → zo_Con Ω) (hr : zo_rtL Y) (hS : zo_scr Y L xs) (N : Nat) (K23 : Int32 → zo_O → Option zo_R) (hK23 : ∀ (x4 : Int32) (Ω : zo_O) (res : zo_R), K23 x4 Ω = some res → TW Y res Ω 23 [(0, vr 22 0), (1, vr 0 0), (2, vr 1 0), (3, vr 42 0), (4, vi x4)] []) (x4 : Int32) (Ω : zo_O) (res : zo_R) (h : fn_L_law_1291 N L xs K23 x4 Ω = some res) : TW Y res Ω 1291 [(0, vr 22 0), (1, vr 0 0), (2, vr 1 0), (3, vr 42 0), (4, vi x4)] [] := by
  unfold fn_L_law_1291 at h
  refine zo_aload_n hY dL_law_1291 rfl 1 rfl ?_
  refine zo_aload_n hY dL_law_1292 rfl 0 rfl ?_
  refine zo_iload hY dL_law_1293 4 rfl ?_
  refine zo_iconst hY 1 (by decide) dL_law_1295 ?_
  refine zo_iadd hY dL_law_1296 ?_
  refine zo_scdL hY hS dL_law_1297 h (fun j1 h => ?_)
  refine zo_aload_n hY dL_law_1298 rfl 0 rfl ?_
  refine zo_iload hY dL_law_1299 4 rfl ?_
  refine zo_iconst hY 2 (by decide) dL_law_1301 ?_
  refine zo_iadd hY dL_law_1302 ?_
  refine zo_scdL hY hS dL_law_1303 h (fun j2 h => ?_)
  refine zo_aload_n hY dL_law_1304 rfl 0 rfl ?_
  refine zo_iload hY dL_law_1305 4 rfl ?_
  refine zo_iconst hY 3 (by decide) dL_law_1307 ?_
  refine zo_iadd hY dL_law_1308 ?_
  refine zo_scdL hY hS dL_law_1309 h (fun j3 h => ?_)
  refine zo_callV hY (fun q hq => mt_X1_claim hJ hCon N (xs j1) (xs j2) (xs j3) Ω q hq) (by decide) (by decide) (by decide) ⟨rfl, cn_X1_claim⟩ rfl q1149 q1150 q1151 q78 q1152 (Nat.le_of_ble_eq_true rfl) dL_law_1310 rfl h (ci_k (fun r5 Ω4 res h => ?_))
  refine zo_aload_n hY dL_law_1313 rfl 2 rfl ?_
  refine zo_aload_n hY dL_law_1314 rfl 0 rfl ?_
  refine zo_iload hY dL_law_1315 4 rfl ?_
  refine zo_iconst hY 1 (by decide) dL_law_1317 ?_
  refine zo_iadd hY dL_law_1318 ?_
  refine zo_scdL hY hS dL_law_1319 h (fun j6 h => ?_)
  refine zo_aload_n hY dL_law_1320 rfl 0 rfl ?_
  refine zo_iload hY dL_law_1321 4 rfl ?_
  refine zo_iconst hY 2 (by decide) dL_law_1323 ?_
  refine zo_iadd hY dL_law_1324 ?_
  refine zo_scdL hY hS dL_law_1325 h (fun j7 h => ?_)
  refine zo_aload_n hY dL_law_1326 rfl 0 rfl ?_
  refine zo_iload hY dL_law_1327 4 rfl ?_
  refine zo_iconst hY 3 (by decide) dL_law_1329 ?_
  refine zo_iadd hY dL_law_1330 ?_
  refine zo_scdL hY hS dL_law_1331 h (fun j8 h => ?_)
  refine zo_callV hY (fun q hq => mt_X2_claim hJ hCon N (xs j6) (xs j7) (xs j8) Ω4 q hq) (by decide) (by decide) (by decide) ⟨rfl, cn_X2_claim⟩ rfl q1786 q1787 q1788 q82 q1789 (Nat.le_of_ble_eq_true rfl) dL_law_1332 rfl h (ci_k (fun r10 Ω9 res h => ?_))
  refine zo_icmp_eq hY 1662 dL_law_1335 (by decide) h (fun c11 h => ?_) (fun c11 h => ?_)
  · exact ct_L_law_1662 hY hJ hCon hr hS N K23 hK23 x4 Ω9 _ h
  · refine zo_iconst hY 0 (by decide) dL_law_1338 ?_
    exact zo_lret hY hr dL_law_1339 h
def fn_L_law_1340 (N L : Nat) (xs : Nat → Int32) (K23 : Int32 → zo_O → Option zo_R) (x4 : Int32) (Ω : zo_O) : Option zo_R :=
  ix (x4 + 1) L fun j1 =>
  ix (x4 + 2) L fun j2 =>
  ix (x4 + 3) L fun j3 =>
  ix (x4 + 4) L fun j4 =>
  ix (x4 + 5) L fun j5 =>
  ci (fn_X1_gaps N (xs j1) (xs j2) (xs j3) (xs j4) (xs j5) Ω) fun r7 Ω6 =>
  ix (x4 + 1) L fun j8 =>
  ix (x4 + 2) L fun j9 =>
  ix (x4 + 3) L fun j10 =>
  ix (x4 + 4) L fun j11 =>
  ix (x4 + 5) L fun j12 =>
  ci (fn_X2_gaps N (xs j8) (xs j9) (xs j10) (xs j11) (xs j12) Ω6) fun r14 Ω13 =>
  if r7 = r14 then (
    fn_L_law_1662 N L xs K23 x4 Ω13
    ) else
  rI 0 Ω13
theorem ct_L_law_1340 {Y : zo_Y} {L : Nat} {xs : Nat → Int32} (hY : zo_Gd Y cL_law 7 RX0 13) (hJ : zo_JC (zo_J Y)) (hCon : ∀ Ω, zo_J Y Ω → zo_Con Ω) (hr : zo_rtL Y) (hS : zo_scr Y L xs) (N : Nat) (K23 : Int32 → zo_O → Option zo_R) (hK23 : ∀ (x4 : Int32) (Ω : zo_O) (res : zo_R), K23 x4 Ω = some res → TW Y res Ω 23 [(0, vr 22 0), (1, vr 0 0), (2, vr 1 0), (3, vr 42 0), (4, vi x4)] []) (x4 : Int32) (Ω : zo_O) (res : zo_R) (h : fn_L_law_1340 N L xs K23 x4 Ω = some res) : TW Y res Ω 1340 [(0, vr 22 0), (1, vr 0 0), (2, vr 1 0), (3, vr 42 0), (4, vi x4)] [] := by
  unfold fn_L_law_1340 at h
  refine zo_aload_n hY dL_law_1340 rfl 1 rfl ?_
  refine zo_aload_n hY dL_law_1341 rfl 0 rfl ?_
  refine zo_iload hY dL_law_1342 4 rfl ?_
  refine zo_iconst hY 1 (by decide) dL_law_1344 ?_
  refine zo_iadd hY dL_law_1345 ?_
  refine zo_scdL hY hS dL_law_1346 h (fun j1 h => ?_)
  refine zo_aload_n hY dL_law_1347 rfl 0 rfl ?_
  refine zo_iload hY dL_law_1348 4 rfl ?_
  refine zo_iconst hY 2 (by decide) dL_law_1350 ?_
  refine zo_iadd hY dL_law_1351 ?_
  refine zo_scdL hY hS dL_law_1352 h (fun j2 h => ?_)
  refine zo_aload_n hY dL_law_1353 rfl 0 rfl ?_
  refine zo_iload hY dL_law_1354 4 rfl ?_
  refine zo_iconst hY 3 (by decide) dL_law_1356 ?_
  refine zo_iadd hY dL_law_1357 ?_
  refine zo_scdL hY hS dL_law_1358 h (fun j3 h => ?_)
  refine zo_aload_n hY dL_law_1359 rfl 0 rfl ?_
  refine zo_iload hY dL_law_1360 4 rfl ?_
  refine zo_iconst hY 4 (by decide) dL_law_1362 ?_
  refine zo_iadd hY dL_law_1363 ?_
  refine zo_scdL hY hS dL_law_1364 h (fun j4 h => ?_)
  refine zo_aload_n hY dL_law_1365 rfl 0 rfl ?_
  refine zo_iload hY dL_law_1366 4 rfl ?_
  refine zo_iconst hY 5 (by decide) dL_law_1368 ?_
  refine zo_iadd hY dL_law_1369 ?_
  refine zo_scdL hY hS dL_law_1370 h (fun j5 h => ?_)
  refine zo_callV hY (fun q hq => mt_X1_gaps hJ hCon N (xs j1) (xs j2) (xs j3) (xs j4) (xs j5) Ω q hq) (by decide) (by decide) (by decide) ⟨rfl, cn_X1_gaps⟩ rfl q1153 q1154 q1155 q78 q1156 (Nat.le_of_ble_eq_true rfl) dL_law_1371 rfl h (ci_k (fun r7 Ω6 res h => ?_))
  refine zo_aload_n hY dL_law_1374 rfl 2 rfl ?_
  refine zo_aload_n hY dL_law_1375 rfl 0 rfl ?_
  refine zo_iload hY dL_law_1376 4 rfl ?_
  refine zo_iconst hY 1 (by decide) dL_law_1378 ?_
  refine zo_iadd hY dL_law_1379 ?_
  refine zo_scdL hY hS dL_law_1380 h (fun j8 h => ?_)
  refine zo_aload_n hY dL_law_1381 rfl 0 rfl ?_
  refine zo_iload hY dL_law_1382 4 rfl ?_
  refine zo_iconst hY 2 (by decide) dL_law_1384 ?_
  refine zo_iadd hY dL_law_1385 ?_
  refine zo_scdL hY hS dL_law_1386 h (fun j9 h => ?_)
  refine zo_aload_n hY dL_law_1387 rfl 0 rfl ?_
  refine zo_iload hY dL_law_1388 4 rfl ?_
  refine zo_iconst hY 3 (by decide) dL_law_1390 ?_
  refine zo_iadd hY dL_law_1391 ?_
  refine zo_scdL hY hS dL_law_1392 h (fun j10 h => ?_)
  refine zo_aload_n hY dL_law_1393 rfl 0 rfl ?_
  refine zo_iload hY dL_law_1394 4 rfl ?_
  refine zo_iconst hY 4 (by decide) dL_law_1396 ?_
  refine zo_iadd hY dL_law_1397 ?_
  refine zo_scdL hY hS dL_law_1398 h (fun j11 h => ?_)
  refine zo_aload_n hY dL_law_1399 rfl 0 rfl ?_
  refine zo_iload hY dL_law_1400 4 rfl ?_
  refine zo_iconst hY 5 (by decide) dL_law_1402 ?_
  refine zo_iadd hY dL_law_1403 ?_
  refine zo_scdL hY hS dL_law_1404 h (fun j12 h => ?_)
  refine zo_callV hY (fun q hq => mt_X2_gaps hJ hCon N (xs j8) (xs j9) (xs j10) (xs j11) (xs j12) Ω6 q hq) (by decide) (by decide) (by decide) ⟨rfl, cn_X2_gaps⟩ rfl q1798 q1799 q1800 q82 q1801 (Nat.le_of_ble_eq_true rfl) dL_law_1405 rfl h (ci_k (fun r14 Ω13 res h => ?_))
  refine zo_icmp_eq hY 1662 dL_law_1408 (by decide) h (fun c15 h => ?_) (fun c15 h => ?_)
  · exact ct_L_law_1662 hY hJ hCon hr hS N K23 hK23 x4 Ω13 _ h
  · refine zo_iconst hY 0 (by decide) dL_law_1411 ?_
    exact zo_lret hY hr dL_law_1412 h
def fn_L_law_1413 (N L : Nat) (xs : Nat → Int32) (K23 : Int32 → zo_O → Option zo_R) (x4 : Int32) (Ω : zo_O) : Option zo_R :=
  ix (x4 + 1) L fun j1 =>
  ix (x4 + 2) L fun j2 =>
  ix (x4 + 3) L fun j3 =>
  ix (x4 + 4) L fun j4 =>
  ix (x4 + 5) L fun j5 =>
  ix (x4 + 6) L fun j6 =>
  ix (x4 + 7) L fun j7 =>
  ci (fn_X1_gap N (xs j1) (xs j2) (xs j3) (xs j4) (xs j5) (xs j6) (xs j7) Ω) fun r9 Ω8 =>
  ix (x4 + 1) L fun j10 =>
  ix (x4 + 2) L fun j11 =>
  ix (x4 + 3) L fun j12 =>
  ix (x4 + 4) L fun j13 =>
  ix (x4 + 5) L fun j14 =>
  ix (x4 + 6) L fun j15 =>
  ix (x4 + 7) L fun j16 =>
  ci (fn_X2_gap N (xs j10) (xs j11) (xs j12) (xs j13) (xs j14) (xs j15) (xs j16) Ω8) fun r18 Ω17 =>
  if r9 = r18 then (
    fn_L_law_1662 N L xs K23 x4 Ω17
    ) else
  rI 0 Ω17
theorem ct_L_law_1413 {Y : zo_Y} {L : Nat} {xs : Nat → Int32} (hY : zo_Gd Y cL_law 7 RX0 13) (hJ : zo_JC (zo_J Y)) (hCon : ∀ Ω, zo_J Y Ω → zo_Con Ω) (hr : zo_rtL Y) (hS : zo_scr Y L xs) (N : Nat) (K23 : Int32 → zo_O → Option zo_R) (hK23 : ∀ (x4 : Int32) (Ω : zo_O) (res : zo_R), K23 x4 Ω = some res → TW Y res Ω 23 [(0, vr 22 0), (1, vr 0 0), (2, vr 1 0), (3, vr 42 0), (4, vi x4)] []) (x4 : Int32) (Ω : zo_O) (res : zo_R) (h : fn_L_law_1413 N L xs K23 x4 Ω = some res) : TW Y res Ω 1413 [(0, vr 22 0), (1, vr 0 0), (2, vr 1 0), (3, vr 42 0), (4, vi x4)] [] := by
  unfold fn_L_law_1413 at h
  refine zo_aload_n hY dL_law_1413 rfl 1 rfl ?_
  refine zo_aload_n hY dL_law_1414 rfl 0 rfl ?_
  refine zo_iload hY dL_law_1415 4 rfl ?_
  refine zo_iconst hY 1 (by decide) dL_law_1417 ?_
  refine zo_iadd hY dL_law_1418 ?_
  refine zo_scdL hY hS dL_law_1419 h (fun j1 h => ?_)
  refine zo_aload_n hY dL_law_1420 rfl 0 rfl ?_
  refine zo_iload hY dL_law_1421 4 rfl ?_
  refine zo_iconst hY 2 (by decide) dL_law_1423 ?_
  refine zo_iadd hY dL_law_1424 ?_
  refine zo_scdL hY hS dL_law_1425 h (fun j2 h => ?_)
  refine zo_aload_n hY dL_law_1426 rfl 0 rfl ?_
  refine zo_iload hY dL_law_1427 4 rfl ?_
  refine zo_iconst hY 3 (by decide) dL_law_1429 ?_
  refine zo_iadd hY dL_law_1430 ?_
  refine zo_scdL hY hS dL_law_1431 h (fun j3 h => ?_)
  refine zo_aload_n hY dL_law_1432 rfl 0 rfl ?_
  refine zo_iload hY dL_law_1433 4 rfl ?_
  refine zo_iconst hY 4 (by decide) dL_law_1435 ?_
  refine zo_iadd hY dL_law_1436 ?_
  refine zo_scdL hY hS dL_law_1437 h (fun j4 h => ?_)
  refine zo_aload_n hY dL_law_1438 rfl 0 rfl ?_
  refine zo_iload hY dL_law_1439 4 rfl ?_
  refine zo_iconst hY 5 (by decide) dL_law_1441 ?_
  refine zo_iadd hY dL_law_1442 ?_
  refine zo_scdL hY hS dL_law_1443 h (fun j5 h => ?_)
  refine zo_aload_n hY dL_law_1444 rfl 0 rfl ?_
  refine zo_iload hY dL_law_1445 4 rfl ?_
  refine zo_bipush hY 6 (by decide) dL_law_1447 ?_
  refine zo_iadd hY dL_law_1449 ?_
  refine zo_scdL hY hS dL_law_1450 h (fun j6 h => ?_)
  refine zo_aload_n hY dL_law_1451 rfl 0 rfl ?_
  refine zo_iload hY dL_law_1452 4 rfl ?_
  refine zo_bipush hY 7 (by decide) dL_law_1454 ?_
  refine zo_iadd hY dL_law_1456 ?_
  refine zo_scdL hY hS dL_law_1457 h (fun j7 h => ?_)
  refine zo_callV hY (fun q hq => mt_X1_gap hJ hCon N (xs j1) (xs j2) (xs j3) (xs j4) (xs j5) (xs j6) (xs j7) Ω q hq) (by decide) (by decide) (by decide) ⟨rfl, cn_X1_gap⟩ rfl q1207 q1208 q1209 q78 q1210 (Nat.le_of_ble_eq_true rfl) dL_law_1458 rfl h (ci_k (fun r9 Ω8 res h => ?_))
  refine zo_aload_n hY dL_law_1461 rfl 2 rfl ?_
  refine zo_aload_n hY dL_law_1462 rfl 0 rfl ?_
  refine zo_iload hY dL_law_1463 4 rfl ?_
  refine zo_iconst hY 1 (by decide) dL_law_1465 ?_
  refine zo_iadd hY dL_law_1466 ?_
  refine zo_scdL hY hS dL_law_1467 h (fun j10 h => ?_)
  refine zo_aload_n hY dL_law_1468 rfl 0 rfl ?_
  refine zo_iload hY dL_law_1469 4 rfl ?_
  refine zo_iconst hY 2 (by decide) dL_law_1471 ?_
  refine zo_iadd hY dL_law_1472 ?_
  refine zo_scdL hY hS dL_law_1473 h (fun j11 h => ?_)
  refine zo_aload_n hY dL_law_1474 rfl 0 rfl ?_
  refine zo_iload hY dL_law_1475 4 rfl ?_
  refine zo_iconst hY 3 (by decide) dL_law_1477 ?_
  refine zo_iadd hY dL_law_1478 ?_
  refine zo_scdL hY hS dL_law_1479 h (fun j12 h => ?_)
  refine zo_aload_n hY dL_law_1480 rfl 0 rfl ?_
  refine zo_iload hY dL_law_1481 4 rfl ?_
  refine zo_iconst hY 4 (by decide) dL_law_1483 ?_
  refine zo_iadd hY dL_law_1484 ?_
  refine zo_scdL hY hS dL_law_1485 h (fun j13 h => ?_)
  refine zo_aload_n hY dL_law_1486 rfl 0 rfl ?_
  refine zo_iload hY dL_law_1487 4 rfl ?_
  refine zo_iconst hY 5 (by decide) dL_law_1489 ?_
  refine zo_iadd hY dL_law_1490 ?_
  refine zo_scdL hY hS dL_law_1491 h (fun j14 h => ?_)
  refine zo_aload_n hY dL_law_1492 rfl 0 rfl ?_
  refine zo_iload hY dL_law_1493 4 rfl ?_
  refine zo_bipush hY 6 (by decide) dL_law_1495 ?_
  refine zo_iadd hY dL_law_1497 ?_
  refine zo_scdL hY hS dL_law_1498 h (fun j15 h => ?_)
  refine zo_aload_n hY dL_law_1499 rfl 0 rfl ?_
  refine zo_iload hY dL_law_1500 4 rfl ?_
  refine zo_bipush hY 7 (by decide) dL_law_1502 ?_
  refine zo_iadd hY dL_law_1504 ?_
  refine zo_scdL hY hS dL_law_1505 h (fun j16 h => ?_)
  refine zo_callV hY (fun q hq => mt_X2_gap hJ hCon N (xs j10) (xs j11) (xs j12) (xs j13) (xs j14) (xs j15) (xs j16) Ω8 q hq) (by decide) (by decide) (by decide) ⟨rfl, cn_X2_gap⟩ rfl q1810 q1811 q1812 q82 q1813 (Nat.le_of_ble_eq_true rfl) dL_law_1506 rfl h (ci_k (fun r18 Ω17 res h => ?_))
  refine zo_icmp_eq hY 1662 dL_law_1509 (by decide) h (fun c19 h => ?_) (fun c19 h => ?_)
  · exact ct_L_law_1662 hY hJ hCon hr hS N K23 hK23 x4 Ω17 _ h
  · refine zo_iconst hY 0 (by decide) dL_law_1512 ?_
    exact zo_lret hY hr dL_law_1513 h
def fn_L_law_1514 (N L : Nat) (xs : Nat → Int32) (K23 : Int32 → zo_O → Option zo_R) (x4 : Int32) (Ω : zo_O) : Option zo_R :=
  ix (x4 + 1) L fun j1 =>
  ix (x4 + 2) L fun j2 =>
  ci (fn_X1_grown N (xs j1) (xs j2) Ω) fun r4 Ω3 =>
  ix (x4 + 1) L fun j5 =>
  ix (x4 + 2) L fun j6 =>
  ci (fn_X2_grown N (xs j5) (xs j6) Ω3) fun r8 Ω7 =>
  if r4 = r8 then (
    fn_L_law_1662 N L xs K23 x4 Ω7
    ) else
  rI 0 Ω7
theorem ct_L_law_1514 {Y : zo_Y} {L : Nat} {xs : Nat → Int32} (hY : zo_Gd Y cL_law 7 RX0 13) (hJ : zo_JC (zo_J Y)) (hCon : ∀ Ω, zo_J Y Ω → zo_Con Ω) (hr : zo_rtL Y) (hS : zo_scr Y L xs) (N : Nat) (K23 : Int32 → zo_O → Option zo_R) (hK23 : ∀ (x4 : Int32) (Ω : zo_O) (res : zo_R), K23 x4 Ω = some res → TW Y res Ω 23 [(0, vr 22 0), (1, vr 0 0), (2, vr 1 0), (3, vr 42 0), (4, vi x4)] []) (x4 : Int32) (Ω : zo_O) (res : zo_R) (h : fn_L_law_1514 N L xs K23 x4 Ω = some res) : TW Y res Ω 1514 [(0, vr 22 0), (1, vr 0 0), (2, vr 1 0), (3, vr 42 0), (4, vi x4)] [] := by
  unfold fn_L_law_1514 at h
  refine zo_aload_n hY dL_law_1514 rfl 1 rfl ?_
  refine zo_aload_n hY dL_law_1515 rfl 0 rfl ?_
  refine zo_iload hY dL_law_1516 4 rfl ?_
  refine zo_iconst hY 1 (by decide) dL_law_1518 ?_
  refine zo_iadd hY dL_law_1519 ?_
  refine zo_scdL hY hS dL_law_1520 h (fun j1 h => ?_)
  refine zo_aload_n hY dL_law_1521 rfl 0 rfl ?_
  refine zo_iload hY dL_law_1522 4 rfl ?_
  refine zo_iconst hY 2 (by decide) dL_law_1524 ?_
  refine zo_iadd hY dL_law_1525 ?_
  refine zo_scdL hY hS dL_law_1526 h (fun j2 h => ?_)
  refine zo_callV hY (fun q hq => mt_X1_grown hJ hCon N (xs j1) (xs j2) Ω q hq) (by decide) (by decide) (by decide) ⟨rfl, cn_X1_grown⟩ rfl q1211 q1212 q1213 q78 q1214 (Nat.le_of_ble_eq_true rfl) dL_law_1527 rfl h (ci_k (fun r4 Ω3 res h => ?_))
  refine zo_aload_n hY dL_law_1530 rfl 2 rfl ?_
  refine zo_aload_n hY dL_law_1531 rfl 0 rfl ?_
  refine zo_iload hY dL_law_1532 4 rfl ?_
  refine zo_iconst hY 1 (by decide) dL_law_1534 ?_
  refine zo_iadd hY dL_law_1535 ?_
  refine zo_scdL hY hS dL_law_1536 h (fun j5 h => ?_)
  refine zo_aload_n hY dL_law_1537 rfl 0 rfl ?_
  refine zo_iload hY dL_law_1538 4 rfl ?_
  refine zo_iconst hY 2 (by decide) dL_law_1540 ?_
  refine zo_iadd hY dL_law_1541 ?_
  refine zo_scdL hY hS dL_law_1542 h (fun j6 h => ?_)
  refine zo_callV hY (fun q hq => mt_X2_grown hJ hCon N (xs j5) (xs j6) Ω3 q hq) (by decide) (by decide) (by decide) ⟨rfl, cn_X2_grown⟩ rfl q1814 q1815 q1816 q82 q1817 (Nat.le_of_ble_eq_true rfl) dL_law_1543 rfl h (ci_k (fun r8 Ω7 res h => ?_))
  refine zo_icmp_eq hY 1662 dL_law_1546 (by decide) h (fun c9 h => ?_) (fun c9 h => ?_)
  · exact ct_L_law_1662 hY hJ hCon hr hS N K23 hK23 x4 Ω7 _ h
  · refine zo_iconst hY 0 (by decide) dL_law_1549 ?_
    exact zo_lret hY hr dL_law_1550 h
def fn_L_law_1551 (N L : Nat) (xs : Nat → Int32) (K23 : Int32 → zo_O → Option zo_R) (x4 : Int32) (Ω : zo_O) : Option zo_R :=
  ix (x4 + 1) L fun j1 =>
  ix (x4 + 2) L fun j2 =>
  ix (x4 + 3) L fun j3 =>
  ci (fn_X1_front N (xs j1) (xs j2) (xs j3) Ω) fun r5 Ω4 =>
  ix (x4 + 1) L fun j6 =>
  ix (x4 + 2) L fun j7 =>
  ix (x4 + 3) L fun j8 =>
  ci (fn_X2_front N (xs j6) (xs j7) (xs j8) Ω4) fun r10 Ω9 =>
  if r5 = r10 then (
    fn_L_law_1662 N L xs K23 x4 Ω9
    ) else
  rI 0 Ω9
theorem ct_L_law_1551 {Y : zo_Y} {L : Nat} {xs : Nat → Int32} (hY : zo_Gd Y cL_law 7 RX0 13) (hJ : zo_JC (zo_J Y)) (hCon : ∀ Ω, zo_J Y Ω → zo_Con Ω) (hr : zo_rtL Y) (hS : zo_scr Y L xs) (N : Nat) (K23 : Int32 → zo_O → Option zo_R) (hK23 : ∀ (x4 : Int32) (Ω : zo_O) (res : zo_R), K23 x4 Ω = some res → TW Y res Ω 23 [(0, vr 22 0), (1, vr 0 0), (2, vr 1 0), (3, vr 42 0), (4, vi x4)] []) (x4 : Int32) (Ω : zo_O) (res : zo_R) (h : fn_L_law_1551 N L xs K23 x4 Ω = some res) : TW Y res Ω 1551 [(0, vr 22 0), (1, vr 0 0), (2, vr 1 0), (3, vr 42 0), (4, vi x4)] [] := by
  unfold fn_L_law_1551 at h
  refine zo_aload_n hY dL_law_1551 rfl 1 rfl ?_
  refine zo_aload_n hY dL_law_1552 rfl 0 rfl ?_
  refine zo_iload hY dL_law_1553 4 rfl ?_
  refine zo_iconst hY 1 (by decide) dL_law_1555 ?_
  refine zo_iadd hY dL_law_1556 ?_
  refine zo_scdL hY hS dL_law_1557 h (fun j1 h => ?_)
  refine zo_aload_n hY dL_law_1558 rfl 0 rfl ?_
  refine zo_iload hY dL_law_1559 4 rfl ?_
  refine zo_iconst hY 2 (by decide) dL_law_1561 ?_
  refine zo_iadd hY dL_law_1562 ?_
  refine zo_scdL hY hS dL_law_1563 h (fun j2 h => ?_)
  refine zo_aload_n hY dL_law_1564 rfl 0 rfl ?_
  refine zo_iload hY dL_law_1565 4 rfl ?_
  refine zo_iconst hY 3 (by decide) dL_law_1567 ?_
  refine zo_iadd hY dL_law_1568 ?_
  refine zo_scdL hY hS dL_law_1569 h (fun j3 h => ?_)
  refine zo_callV hY (fun q hq => mt_X1_front hJ hCon N (xs j1) (xs j2) (xs j3) Ω q hq) (by decide) (by decide) (by decide) ⟨rfl, cn_X1_front⟩ rfl q1218 q1219 q1220 q78 q1221 (Nat.le_of_ble_eq_true rfl) dL_law_1570 rfl h (ci_k (fun r5 Ω4 res h => ?_))
  refine zo_aload_n hY dL_law_1573 rfl 2 rfl ?_
  refine zo_aload_n hY dL_law_1574 rfl 0 rfl ?_
  refine zo_iload hY dL_law_1575 4 rfl ?_
  refine zo_iconst hY 1 (by decide) dL_law_1577 ?_
  refine zo_iadd hY dL_law_1578 ?_
  refine zo_scdL hY hS dL_law_1579 h (fun j6 h => ?_)
  refine zo_aload_n hY dL_law_1580 rfl 0 rfl ?_
  refine zo_iload hY dL_law_1581 4 rfl ?_
  refine zo_iconst hY 2 (by decide) dL_law_1583 ?_
  refine zo_iadd hY dL_law_1584 ?_
  refine zo_scdL hY hS dL_law_1585 h (fun j7 h => ?_)
  refine zo_aload_n hY dL_law_1586 rfl 0 rfl ?_
  refine zo_iload hY dL_law_1587 4 rfl ?_
  refine zo_iconst hY 3 (by decide) dL_law_1589 ?_
  refine zo_iadd hY dL_law_1590 ?_
  refine zo_scdL hY hS dL_law_1591 h (fun j8 h => ?_)
  refine zo_callV hY (fun q hq => mt_X2_front hJ hCon N (xs j6) (xs j7) (xs j8) Ω4 q hq) (by decide) (by decide) (by decide) ⟨rfl, cn_X2_front⟩ rfl q1790 q1791 q1792 q82 q1793 (Nat.le_of_ble_eq_true rfl) dL_law_1592 rfl h (ci_k (fun r10 Ω9 res h => ?_))
  refine zo_icmp_eq hY 1662 dL_law_1595 (by decide) h (fun c11 h => ?_) (fun c11 h => ?_)
  · exact ct_L_law_1662 hY hJ hCon hr hS N K23 hK23 x4 Ω9 _ h
  · refine zo_iconst hY 0 (by decide) dL_law_1598 ?_
    exact zo_lret hY hr dL_law_1599 h
def fn_L_law_1600 (N L : Nat) (xs : Nat → Int32) (K23 : Int32 → zo_O → Option zo_R) (x4 : Int32) (Ω : zo_O) : Option zo_R :=
  ix (x4 + 1) L fun j1 =>
  ix (x4 + 2) L fun j2 =>
  ci (fn_X1_out N (xs j1) (xs j2) Ω) fun r4 Ω3 =>
  ix (x4 + 1) L fun j5 =>
  ix (x4 + 2) L fun j6 =>
  ci (fn_X2_out N (xs j5) (xs j6) Ω3) fun r8 Ω7 =>
  if r4 = r8 then (
    fn_L_law_1662 N L xs K23 x4 Ω7
    ) else
  rI 0 Ω7
theorem ct_L_law_1600 {Y : zo_Y} {L : Nat} {xs : Nat → Int32} (hY : zo_Gd Y cL_law 7 RX0 13) (hJ : zo_JC (zo_J Y)) (hCon : ∀ Ω, zo_J Y Ω → zo_Con Ω) (hr : zo_rtL Y) (hS : zo_scr Y L xs) (N : Nat) (K23 : Int32 → zo_O → Option zo_R) (hK23 : ∀ (x4 : Int32) (Ω : zo_O) (res : zo_R), K23 x4 Ω = some res → TW Y res Ω 23 [(0, vr 22 0), (1, vr 0 0), (2, vr 1 0), (3, vr 42 0), (4, vi x4)] []) (x4 : Int32) (Ω : zo_O) (res : zo_R) (h : fn_L_law_1600 N L xs K23 x4 Ω = some res) : TW Y res Ω 1600 [(0, vr 22 0), (1, vr 0 0), (2, vr 1 0), (3, vr 42 0), (4, vi x4)] [] := by
  unfold fn_L_law_1600 at h
  refine zo_aload_n hY dL_law_1600 rfl 1 rfl ?_
  refine zo_aload_n hY dL_law_1601 rfl 0 rfl ?_
  refine zo_iload hY dL_law_1602 4 rfl ?_
  refine zo_iconst hY 1 (by decide) dL_law_1604 ?_
  refine zo_iadd hY dL_law_1605 ?_
  refine zo_scdL hY hS dL_law_1606 h (fun j1 h => ?_)
  refine zo_aload_n hY dL_law_1607 rfl 0 rfl ?_
  refine zo_iload hY dL_law_1608 4 rfl ?_
  refine zo_iconst hY 2 (by decide) dL_law_1610 ?_
  refine zo_iadd hY dL_law_1611 ?_
  refine zo_scdL hY hS dL_law_1612 h (fun j2 h => ?_)
  refine zo_callV hY (fun q hq => mt_X1_out hJ hCon N (xs j1) (xs j2) Ω q hq) (by decide) (by decide) (by decide) ⟨rfl, cn_X1_out⟩ rfl q1222 q1223 q1224 q78 q1225 (Nat.le_of_ble_eq_true rfl) dL_law_1613 rfl h (ci_k (fun r4 Ω3 res h => ?_))
  refine zo_aload_n hY dL_law_1616 rfl 2 rfl ?_
  refine zo_aload_n hY dL_law_1617 rfl 0 rfl ?_
  refine zo_iload hY dL_law_1618 4 rfl ?_
  refine zo_iconst hY 1 (by decide) dL_law_1620 ?_
  refine zo_iadd hY dL_law_1621 ?_
  refine zo_scdL hY hS dL_law_1622 h (fun j5 h => ?_)
  refine zo_aload_n hY dL_law_1623 rfl 0 rfl ?_
  refine zo_iload hY dL_law_1624 4 rfl ?_
  refine zo_iconst hY 2 (by decide) dL_law_1626 ?_
  refine zo_iadd hY dL_law_1627 ?_
  refine zo_scdL hY hS dL_law_1628 h (fun j6 h => ?_)
  refine zo_callV hY (fun q hq => mt_X2_out hJ hCon N (xs j5) (xs j6) Ω3 q hq) (by decide) (by decide) (by decide) ⟨rfl, cn_X2_out⟩ rfl q1794 q1795 q1796 q82 q1797 (Nat.le_of_ble_eq_true rfl) dL_law_1629 rfl h (ci_k (fun r8 Ω7 res h => ?_))
  refine zo_icmp_eq hY 1662 dL_law_1632 (by decide) h (fun c9 h => ?_) (fun c9 h => ?_)
  · exact ct_L_law_1662 hY hJ hCon hr hS N K23 hK23 x4 Ω7 _ h
  · refine zo_iconst hY 0 (by decide) dL_law_1635 ?_
    exact zo_lret hY hr dL_law_1636 h
def fn_L_law_1637 (N L : Nat) (xs : Nat → Int32) (K23 : Int32 → zo_O → Option zo_R) (x4 : Int32) (Ω : zo_O) : Option zo_R :=
  ix (x4 + 1) L fun j1 =>
  ci (fn_X1_count N (xs j1) Ω) fun r3 Ω2 =>
  ix (x4 + 1) L fun j4 =>
  ci (fn_X2_count N (xs j4) Ω2) fun r6 Ω5 =>
  if r3 = r6 then (
    fn_L_law_1662 N L xs K23 x4 Ω5
    ) else
  rI 0 Ω5
theorem ct_L_law_1637 {Y : zo_Y} {L : Nat} {xs : Nat → Int32} (hY : zo_Gd Y cL_law 7 RX0 13) (hJ : zo_JC (zo_J Y)) (hCon : ∀ Ω, zo_J Y Ω → zo_Con Ω) (hr : zo_rtL Y) (hS : zo_scr Y L xs) (N : Nat) (K23 : Int32 → zo_O → Option zo_R) (hK23 : ∀ (x4 : Int32) (Ω : zo_O) (res : zo_R), K23 x4 Ω = some res → TW Y res Ω 23 [(0, vr 22 0), (1, vr 0 0), (2, vr 1 0), (3, vr 42 0), (4, vi x4)] []) (x4 : Int32) (Ω : zo_O) (res : zo_R) (h : fn_L_law_1637 N L xs K23 x4 Ω = some res) : TW Y res Ω 1637 [(0, vr 22 0), (1, vr 0 0), (2, vr 1 0), (3, vr 42 0), (4, vi x4)] [] := by
  unfold fn_L_law_1637 at h
  refine zo_aload_n hY dL_law_1637 rfl 1 rfl ?_
  refine zo_aload_n hY dL_law_1638 rfl 0 rfl ?_
  refine zo_iload hY dL_law_1639 4 rfl ?_
  refine zo_iconst hY 1 (by decide) dL_law_1641 ?_
  refine zo_iadd hY dL_law_1642 ?_
  refine zo_scdL hY hS dL_law_1643 h (fun j1 h => ?_)
  refine zo_callV hY (fun q hq => mt_X1_count hJ hCon N (xs j1) Ω q hq) (by decide) (by decide) (by decide) ⟨rfl, cn_X1_count⟩ rfl q1230 q1231 q1232 q78 q1233 (Nat.le_of_ble_eq_true rfl) dL_law_1644 rfl h (ci_k (fun r3 Ω2 res h => ?_))
  refine zo_aload_n hY dL_law_1647 rfl 2 rfl ?_
  refine zo_aload_n hY dL_law_1648 rfl 0 rfl ?_
  refine zo_iload hY dL_law_1649 4 rfl ?_
  refine zo_iconst hY 1 (by decide) dL_law_1651 ?_
  refine zo_iadd hY dL_law_1652 ?_
  refine zo_scdL hY hS dL_law_1653 h (fun j4 h => ?_)
  refine zo_callV hY (fun q hq => mt_X2_count hJ hCon N (xs j4) Ω2 q hq) (by decide) (by decide) (by decide) ⟨rfl, cn_X2_count⟩ rfl q1818 q1819 q1820 q82 q1821 (Nat.le_of_ble_eq_true rfl) dL_law_1654 rfl h (ci_k (fun r6 Ω5 res h => ?_))
  refine zo_icmp_eq hY 1662 dL_law_1657 (by decide) h (fun c7 h => ?_) (fun c7 h => ?_)
  · exact ct_L_law_1662 hY hJ hCon hr hS N K23 hK23 x4 Ω5 _ h
  · refine zo_iconst hY 0 (by decide) dL_law_1660 ?_
    exact zo_lret hY hr dL_law_1661 h
def bd_L_law_23 (N L : Nat) (xs : Nat → Int32)  (K23 : Int32 → zo_O → Option zo_R) (x4 : Int32) (Ω : zo_O) : Option zo_R :=
  if (nI L) - 8 < x4 then (
    rI 1 Ω
    ) else
  ix x4 L fun j2 =>
  li ((xs j2) &&& 31) fun y3 =>
  if y3 = 0 then (
    fn_L_law_172 N L xs K23 x4 Ω
    ) else
  if y3 = 1 then (
    fn_L_law_233 N L xs K23 x4 Ω
    ) else
  if y3 = 2 then (
    fn_L_law_350 N L xs K23 x4 Ω
    ) else
  if y3 = 3 then (
    fn_L_law_399 N L xs K23 x4 Ω
    ) else
  if y3 = 4 then (
    fn_L_law_460 N L xs K23 x4 Ω
    ) else
  if y3 = 5 then (
    fn_L_law_509 N L xs K23 x4 Ω
    ) else
  if y3 = 6 then (
    fn_L_law_558 N L xs K23 x4 Ω
    ) else
  if y3 = 7 then (
    fn_L_law_595 N L xs K23 x4 Ω
    ) else
  if y3 = 8 then (
    fn_L_law_644 N L xs K23 x4 Ω
    ) else
  if y3 = 9 then (
    fn_L_law_681 N L xs K23 x4 Ω
    ) else
  if y3 = 10 then (
    fn_L_law_754 N L xs K23 x4 Ω
    ) else
  if y3 = 11 then (
    fn_L_law_779 N L xs K23 x4 Ω
    ) else
  if y3 = 12 then (
    fn_L_law_792 N L xs K23 x4 Ω
    ) else
  if y3 = 13 then (
    fn_L_law_805 N L xs K23 x4 Ω
    ) else
  if y3 = 14 then (
    fn_L_law_830 N L xs K23 x4 Ω
    ) else
  if y3 = 15 then (
    fn_L_law_910 N L xs K23 x4 Ω
    ) else
  if y3 = 16 then (
    fn_L_law_947 N L xs K23 x4 Ω
    ) else
  if y3 = 17 then (
    fn_L_law_996 N L xs K23 x4 Ω
    ) else
  if y3 = 18 then (
    fn_L_law_1057 N L xs K23 x4 Ω
    ) else
  if y3 = 19 then (
    fn_L_law_1144 N L xs K23 x4 Ω
    ) else
  if y3 = 20 then (
    fn_L_law_1193 N L xs K23 x4 Ω
    ) else
  if y3 = 21 then (
    fn_L_law_1242 N L xs K23 x4 Ω
    ) else
  if y3 = 22 then (
    fn_L_law_1291 N L xs K23 x4 Ω
    ) else
  if y3 = 23 then (
    fn_L_law_1340 N L xs K23 x4 Ω
    ) else
  if y3 = 24 then (
    fn_L_law_1413 N L xs K23 x4 Ω
    ) else
  if y3 = 25 then (
    fn_L_law_1514 N L xs K23 x4 Ω
    ) else
  if y3 = 26 then (
    fn_L_law_1551 N L xs K23 x4 Ω
    ) else
  if y3 = 27 then (
    fn_L_law_1600 N L xs K23 x4 Ω
    ) else
  if y3 = 28 then (
    fn_L_law_1637 N L xs K23 x4 Ω
    ) else
  fn_L_law_1662 N L xs K23 x4 Ω
theorem cb_L_law_23 {Y : zo_Y} {L : Nat} {xs : Nat → Int32} (hY : zo_Gd Y cL_law 7 RX0 13) (hJ : zo_JC (zo_J Y)) (hCon : ∀ Ω, zo_J Y Ω → zo_Con Ω) (hr : zo_rtL Y) (hS : zo_scr Y L xs) (N : Nat)  (K23 : Int32 → zo_O → Option zo_R)  (hK23 : ∀ (x4 : Int32) (Ω : zo_O) (res : zo_R), K23 x4 Ω = some res → TW Y res Ω 23 [(0, vr 22 0), (1, vr 0 0), (2, vr 1 0), (3, vr 42 0), (4, vi x4)] []) (x4 : Int32) (Ω : zo_O) (res : zo_R) (h : bd_L_law_23 N L xs  K23 x4 Ω = some res) : TW Y res Ω 23 [(0, vr 22 0), (1, vr 0 0), (2, vr 1 0), (3, vr 42 0), (4, vi x4)] [] := by
  unfold bd_L_law_23 at h
  refine zo_iload hY dL_law_23 4 rfl ?_
  refine zo_aload_n hY dL_law_25 rfl 0 rfl ?_
  refine zo_sclL hY hS dL_law_26 ?_
  refine zo_bipush hY 8 (by decide) dL_law_27 ?_
  refine zo_isub hY dL_law_29 ?_
  refine zo_icmp_gt hY 1668 dL_law_30 (by decide) h (fun c1 h => ?_) (fun c1 h => ?_)
  · refine zo_iconst hY 1 (by decide) dL_law_1668 ?_
    exact zo_lret hY hr dL_law_1669 h
  · refine zo_aload_n hY dL_law_33 rfl 0 rfl ?_
    refine zo_iload hY dL_law_34 4 rfl ?_
    refine zo_scdL hY hS dL_law_36 h (fun j2 h => ?_)
    refine zo_bipush hY 31 (by decide) dL_law_37 ?_
    refine zo_iand hY dL_law_39 ?_
    refine zo_nmi h (fun y3 h => ?_)
    by_cases c4 : y3 = 0
    · rw [if_pos c4] at h
      refine zo_tsIn hY (off := 132) 0 172 c4 dL_law_40 (by decide) (by decide) (by decide) (by decide) ?_
      exact ct_L_law_172 hY hJ hCon hr hS N K23 hK23 x4 Ω _ h
    · rw [if_neg c4] at h
      by_cases c5 : y3 = 1
      · rw [if_pos c5] at h
        refine zo_tsIn hY (off := 193) 1 233 c5 dL_law_40 (by decide) (by decide) (by decide) (by decide) ?_
        exact ct_L_law_233 hY hJ hCon hr hS N K23 hK23 x4 Ω _ h
      · rw [if_neg c5] at h
        by_cases c6 : y3 = 2
        · rw [if_pos c6] at h
          refine zo_tsIn hY (off := 310) 2 350 c6 dL_law_40 (by decide) (by decide) (by decide) (by decide) ?_
          exact ct_L_law_350 hY hJ hCon hr hS N K23 hK23 x4 Ω _ h
        · rw [if_neg c6] at h
          by_cases c7 : y3 = 3
          · rw [if_pos c7] at h
            refine zo_tsIn hY (off := 359) 3 399 c7 dL_law_40 (by decide) (by decide) (by decide) (by decide) ?_
            exact ct_L_law_399 hY hJ hCon hr hS N K23 hK23 x4 Ω _ h
          · rw [if_neg c7] at h
            by_cases c8 : y3 = 4
            · rw [if_pos c8] at h
              refine zo_tsIn hY (off := 420) 4 460 c8 dL_law_40 (by decide) (by decide) (by decide) (by decide) ?_
              exact ct_L_law_460 hY hJ hCon hr hS N K23 hK23 x4 Ω _ h
            · rw [if_neg c8] at h
              by_cases c9 : y3 = 5
              · rw [if_pos c9] at h
                refine zo_tsIn hY (off := 469) 5 509 c9 dL_law_40 (by decide) (by decide) (by decide) (by decide) ?_
                exact ct_L_law_509 hY hJ hCon hr hS N K23 hK23 x4 Ω _ h
              · rw [if_neg c9] at h
                by_cases c10 : y3 = 6
                · rw [if_pos c10] at h
                  refine zo_tsIn hY (off := 518) 6 558 c10 dL_law_40 (by decide) (by decide) (by decide) (by decide) ?_
                  exact ct_L_law_558 hY hJ hCon hr hS N K23 hK23 x4 Ω _ h
                · rw [if_neg c10] at h
                  by_cases c11 : y3 = 7
                  · rw [if_pos c11] at h
                    refine zo_tsIn hY (off := 555) 7 595 c11 dL_law_40 (by decide) (by decide) (by decide) (by decide) ?_
                    exact ct_L_law_595 hY hJ hCon hr hS N K23 hK23 x4 Ω _ h
                  · rw [if_neg c11] at h
                    by_cases c12 : y3 = 8
                    · rw [if_pos c12] at h
                      refine zo_tsIn hY (off := 604) 8 644 c12 dL_law_40 (by decide) (by decide) (by decide) (by decide) ?_
                      exact ct_L_law_644 hY hJ hCon hr hS N K23 hK23 x4 Ω _ h
                    · rw [if_neg c12] at h
                      by_cases c13 : y3 = 9
                      · rw [if_pos c13] at h
                        refine zo_tsIn hY (off := 641) 9 681 c13 dL_law_40 (by decide) (by decide) (by decide) (by decide) ?_
                        exact ct_L_law_681 hY hJ hCon hr hS N K23 hK23 x4 Ω _ h
                      · rw [if_neg c13] at h
                        by_cases c14 : y3 = 10
                        · rw [if_pos c14] at h
                          refine zo_tsIn hY (off := 714) 10 754 c14 dL_law_40 (by decide) (by decide) (by decide) (by decide) ?_
                          exact ct_L_law_754 hY hJ hCon hr hS N K23 hK23 x4 Ω _ h
                        · rw [if_neg c14] at h
                          by_cases c15 : y3 = 11
                          · rw [if_pos c15] at h
                            refine zo_tsIn hY (off := 739) 11 779 c15 dL_law_40 (by decide) (by decide) (by decide) (by decide) ?_
                            exact ct_L_law_779 hY hJ hCon hr hS N K23 hK23 x4 Ω _ h
                          · rw [if_neg c15] at h
                            by_cases c16 : y3 = 12
                            · rw [if_pos c16] at h
                              refine zo_tsIn hY (off := 752) 12 792 c16 dL_law_40 (by decide) (by decide) (by decide) (by decide) ?_
                              exact ct_L_law_792 hY hJ hCon hr hS N K23 hK23 x4 Ω _ h
                            · rw [if_neg c16] at h
                              by_cases c17 : y3 = 13
                              · rw [if_pos c17] at h
                                refine zo_tsIn hY (off := 765) 13 805 c17 dL_law_40 (by decide) (by decide) (by decide) (by decide) ?_
                                exact ct_L_law_805 hY hJ hCon hr hS N K23 hK23 x4 Ω _ h
                              · rw [if_neg c17] at h
                                by_cases c18 : y3 = 14
                                · rw [if_pos c18] at h
                                  refine zo_tsIn hY (off := 790) 14 830 c18 dL_law_40 (by decide) (by decide) (by decide) (by decide) ?_
                                  exact ct_L_law_830 hY hJ hCon hr hS N K23 hK23 x4 Ω _ h
                                · rw [if_neg c18] at h
                                  by_cases c19 : y3 = 15
                                  · rw [if_pos c19] at h
                                    refine zo_tsIn hY (off := 870) 15 910 c19 dL_law_40 (by decide) (by decide) (by decide) (by decide) ?_
                                    exact ct_L_law_910 hY hJ hCon hr hS N K23 hK23 x4 Ω _ h
                                  · rw [if_neg c19] at h
                                    by_cases c20 : y3 = 16
                                    · rw [if_pos c20] at h
                                      refine zo_tsIn hY (off := 907) 16 947 c20 dL_law_40 (by decide) (by decide) (by decide) (by decide) ?_
                                      exact ct_L_law_947 hY hJ hCon hr hS N K23 hK23 x4 Ω _ h
                                    · rw [if_neg c20] at h
                                      by_cases c21 : y3 = 17
                                      · rw [if_pos c21] at h
                                        refine zo_tsIn hY (off := 956) 17 996 c21 dL_law_40 (by decide) (by decide) (by decide) (by decide) ?_
                                        exact ct_L_law_996 hY hJ hCon hr hS N K23 hK23 x4 Ω _ h
                                      · rw [if_neg c21] at h
                                        by_cases c22 : y3 = 18
                                        · rw [if_pos c22] at h
                                          refine zo_tsIn hY (off := 1017) 18 1057 c22 dL_law_40 (by decide) (by decide) (by decide) (by decide) ?_
                                          exact ct_L_law_1057 hY hJ hCon hr hS N K23 hK23 x4 Ω _ h
                                        · rw [if_neg c22] at h
                                          by_cases c23 : y3 = 19
                                          · rw [if_pos c23] at h
                                            refine zo_tsIn hY (off := 1104) 19 1144 c23 dL_law_40 (by decide) (by decide) (by decide) (by decide) ?_
                                            exact ct_L_law_1144 hY hJ hCon hr hS N K23 hK23 x4 Ω _ h
                                          · rw [if_neg c23] at h
                                            by_cases c24 : y3 = 20
                                            · rw [if_pos c24] at h
                                              refine zo_tsIn hY (off := 1153) 20 1193 c24 dL_law_40 (by decide) (by decide) (by decide) (by decide) ?_
                                              exact ct_L_law_1193 hY hJ hCon hr hS N K23 hK23 x4 Ω _ h
                                            · rw [if_neg c24] at h
                                              by_cases c25 : y3 = 21
                                              · rw [if_pos c25] at h
                                                refine zo_tsIn hY (off := 1202) 21 1242 c25 dL_law_40 (by decide) (by decide) (by decide) (by decide) ?_
                                                exact ct_L_law_1242 hY hJ hCon hr hS N K23 hK23 x4 Ω _ h
                                              · rw [if_neg c25] at h
                                                by_cases c26 : y3 = 22
                                                · rw [if_pos c26] at h
                                                  refine zo_tsIn hY (off := 1251) 22 1291 c26 dL_law_40 (by decide) (by decide) (by decide) (by decide) ?_
                                                  exact ct_L_law_1291 hY hJ hCon hr hS N K23 hK23 x4 Ω _ h
                                                · rw [if_neg c26] at h
                                                  by_cases c27 : y3 = 23
                                                  · rw [if_pos c27] at h
                                                    refine zo_tsIn hY (off := 1300) 23 1340 c27 dL_law_40 (by decide) (by decide) (by decide) (by decide) ?_
                                                    exact ct_L_law_1340 hY hJ hCon hr hS N K23 hK23 x4 Ω _ h
                                                  · rw [if_neg c27] at h
                                                    by_cases c28 : y3 = 24
                                                    · rw [if_pos c28] at h
                                                      refine zo_tsIn hY (off := 1373) 24 1413 c28 dL_law_40 (by decide) (by decide) (by decide) (by decide) ?_
                                                      exact ct_L_law_1413 hY hJ hCon hr hS N K23 hK23 x4 Ω _ h
                                                    · rw [if_neg c28] at h
                                                      by_cases c29 : y3 = 25
                                                      · rw [if_pos c29] at h
                                                        refine zo_tsIn hY (off := 1474) 25 1514 c29 dL_law_40 (by decide) (by decide) (by decide) (by decide) ?_
                                                        exact ct_L_law_1514 hY hJ hCon hr hS N K23 hK23 x4 Ω _ h
                                                      · rw [if_neg c29] at h
                                                        by_cases c30 : y3 = 26
                                                        · rw [if_pos c30] at h
                                                          refine zo_tsIn hY (off := 1511) 26 1551 c30 dL_law_40 (by decide) (by decide) (by decide) (by decide) ?_
                                                          exact ct_L_law_1551 hY hJ hCon hr hS N K23 hK23 x4 Ω _ h
                                                        · rw [if_neg c30] at h
                                                          by_cases c31 : y3 = 27
                                                          · rw [if_pos c31] at h
                                                            refine zo_tsIn hY (off := 1560) 27 1600 c31 dL_law_40 (by decide) (by decide) (by decide) (by decide) ?_
                                                            exact ct_L_law_1600 hY hJ hCon hr hS N K23 hK23 x4 Ω _ h
                                                          · rw [if_neg c31] at h
                                                            by_cases c32 : y3 = 28
                                                            · rw [if_pos c32] at h
                                                              refine zo_tsIn hY (off := 1597) 28 1637 c32 dL_law_40 (by decide) (by decide) (by decide) (by decide) ?_
                                                              exact ct_L_law_1637 hY hJ hCon hr hS N K23 hK23 x4 Ω _ h
                                                            · rw [if_neg c32] at h
                                                              refine zo_tsOut hY 1662 dL_law_40 (by have z0 := lv_neT (a := 0) c4 (by decide); have z1 := lv_neT (a := 1) c5 (by decide); have z2 := lv_neT (a := 2) c6 (by decide); have z3 := lv_neT (a := 3) c7 (by decide); have z4 := lv_neT (a := 4) c8 (by decide); have z5 := lv_neT (a := 5) c9 (by decide); have z6 := lv_neT (a := 6) c10 (by decide); have z7 := lv_neT (a := 7) c11 (by decide); have z8 := lv_neT (a := 8) c12 (by decide); have z9 := lv_neT (a := 9) c13 (by decide); have z10 := lv_neT (a := 10) c14 (by decide); have z11 := lv_neT (a := 11) c15 (by decide); have z12 := lv_neT (a := 12) c16 (by decide); have z13 := lv_neT (a := 13) c17 (by decide); have z14 := lv_neT (a := 14) c18 (by decide); have z15 := lv_neT (a := 15) c19 (by decide); have z16 := lv_neT (a := 16) c20 (by decide); have z17 := lv_neT (a := 17) c21 (by decide); have z18 := lv_neT (a := 18) c22 (by decide); have z19 := lv_neT (a := 19) c23 (by decide); have z20 := lv_neT (a := 20) c24 (by decide); have z21 := lv_neT (a := 21) c25 (by decide); have z22 := lv_neT (a := 22) c26 (by decide); have z23 := lv_neT (a := 23) c27 (by decide); have z24 := lv_neT (a := 24) c28 (by decide); have z25 := lv_neT (a := 25) c29 (by decide); have z26 := lv_neT (a := 26) c30 (by decide); have z27 := lv_neT (a := 27) c31 (by decide); have z28 := lv_neT (a := 28) c32 (by decide); omega) (by decide) ?_
                                                              exact ct_L_law_1662 hY hJ hCon hr hS N K23 hK23 x4 Ω _ h
def fn_L_law_23 (N L : Nat) (xs : Nat → Int32)  : Nat → Int32 → zo_O → Option zo_R
  | 0, _, _ => none
  | n + 1, x4, Ω => bd_L_law_23 N L xs  (fn_L_law_23 N L xs  n) x4 Ω
theorem ct_L_law_23 {Y : zo_Y} {L : Nat} {xs : Nat → Int32} (hY : zo_Gd Y cL_law 7 RX0 13) (hJ : zo_JC (zo_J Y)) (hCon : ∀ Ω, zo_J Y Ω → zo_Con Ω) (hr : zo_rtL Y) (hS : zo_scr Y L xs) (N : Nat)   : ∀ (n : Nat) (x4 : Int32) (Ω : zo_O) (res : zo_R), fn_L_law_23 N L xs  n x4 Ω = some res → TW Y res Ω 23 [(0, vr 22 0), (1, vr 0 0), (2, vr 1 0), (3, vr 42 0), (4, vi x4)] [] := by
  intro n
  induction n with
  | zero => intro x4 Ω res h; exact nomatch (show (none : Option zo_R) = some res from h)
  | succ n ih => intro x4 Ω res h; exact cb_L_law_23 hY hJ hCon hr hS N  (fn_L_law_23 N L xs  n)  ih x4 Ω res h
def fn_L_law (N L : Nat) (xs : Nat → Int32)  (Ω : zo_O) : Option zo_R :=
  fn_L_law_23 N L xs N 0 Ω
theorem ct_L_law {Y : zo_Y} {L : Nat} {xs : Nat → Int32} (hY : zo_Gd Y cL_law 7 RX0 13) (hJ : zo_JC (zo_J Y)) (hCon : ∀ Ω, zo_J Y Ω → zo_Con Ω) (hr : zo_rtL Y) (hS : zo_scr Y L xs) (N : Nat) (Ω : zo_O) (res : zo_R) (h : fn_L_law N L xs Ω = some res) : TW Y res Ω 20 [(0, vr 22 0), (1, vr 0 0), (2, vr 1 0), (3, vr 42 0)] [] := by
  unfold fn_L_law at h
  refine zo_iconst hY 0 (by decide) dL_law_20 ?_
  refine zo_istore hY dL_law_21 (by decide) rfl (ls' := [(4, vi 0), (0, vr 22 0), (1, vr 0 0), (2, vr 1 0), (3, vr 42 0)]) rfl ?_
  refine zo_sub [1, 2, 3, 4, 0] rfl ?_
  exact ct_L_law_23 hY hJ hCon hr hS N N 0 Ω _ h
