def it_M : List cit := [(4800, 1, 0, 9), (4800, 1, 1, 13), (16, 0, 2, 16), (40, 0, 3, 20), (40, 1, 4, 23), (960, 0, 6, 26), (960, 1, 7, 29), (24, 0, 8, 32), (8, 2, 9, 35), (8, 0, 10, 39), (8, 0, 11, 42), (8, 0, 12, 45), (8, 0, 13, 48), (12, 1, 15, 51), (4, 1, 17, 54), (4, 1, 18, 57), (4, 1, 19, 60), (8, 0, 29, 63), (38, 0, 33, 66), (38, 0, 34, 69), (6, 2, 35, 72), (44, 0, 37, 75), (44, 0, 38, 78), (6, 0, 40, 81), (6, 0, 41, 84), (1800, 1, 42, 87), (1800, 1, 43, 90), (96, 0, 44, 93), (576, 0, 45, 96), (768, 1, 46, 99), (768, 1, 47, 102), (6, 0, 51, 105), (8, 1, 52, 108), (8, 1, 53, 111), (6, 0, 54, 114), (6, 0, 55, 117), (228, 0, 56, 120), (228, 0, 57, 123), (228, 1, 58, 126), (6000, 1, 59, 129), (6000, 1, 60, 132), (6, 2, 61, 135), (6, 0, 62, 138), (6, 0, 63, 141), (6, 0, 64, 144), (6, 0, 65, 147), (6, 0, 66, 150), (6, 0, 67, 153), (48, 1, 68, 156), (48, 1, 69, 159), (6, 0, 70, 162), (384, 1, 71, 165), (384, 1, 72, 168), (6, 0, 73, 171), (390, 0, 74, 174), (6, 0, 75, 177), (234, 0, 76, 180), (6000, 1, 77, 183), (6000, 1, 78, 186), (1000, 1, 79, 189), (1000, 1, 80, 192), (65, 0, 81, 195)]
set_option maxRecDepth 20000 in
theorem cp_M : cprog b_M_init 4 it_M 519 :=
  cprog_c 3 5 8 10 13 rfl rfl rfl rfl d_M_init_4 (Or.inr (Or.inr ⟨rfl, d_M_init_5, by decide⟩)) d_M_init_8 d_M_init_10 <|
  cprog_c 3 14 17 19 22 rfl rfl rfl rfl d_M_init_13 (Or.inr (Or.inr ⟨rfl, d_M_init_14, by decide⟩)) d_M_init_17 d_M_init_19 <|
  cprog_c 2 23 25 27 30 rfl rfl rfl rfl d_M_init_22 (Or.inr (Or.inl ⟨rfl, d_M_init_23, by decide⟩)) d_M_init_25 d_M_init_27 <|
  cprog_c 2 31 33 35 38 rfl rfl rfl rfl d_M_init_30 (Or.inr (Or.inl ⟨rfl, d_M_init_31, by decide⟩)) d_M_init_33 d_M_init_35 <|
  cprog_c 2 39 41 43 46 rfl rfl rfl rfl d_M_init_38 (Or.inr (Or.inl ⟨rfl, d_M_init_39, by decide⟩)) d_M_init_41 d_M_init_43 <|
  cprog_c 3 47 50 52 55 rfl rfl rfl rfl d_M_init_46 (Or.inr (Or.inr ⟨rfl, d_M_init_47, by decide⟩)) d_M_init_50 d_M_init_52 <|
  cprog_c 3 56 59 61 64 rfl rfl rfl rfl d_M_init_55 (Or.inr (Or.inr ⟨rfl, d_M_init_56, by decide⟩)) d_M_init_59 d_M_init_61 <|
  cprog_c 2 65 67 69 72 rfl rfl rfl rfl d_M_init_64 (Or.inr (Or.inl ⟨rfl, d_M_init_65, by decide⟩)) d_M_init_67 d_M_init_69 <|
  cprog_c 2 73 75 77 80 rfl rfl rfl rfl d_M_init_72 (Or.inr (Or.inl ⟨rfl, d_M_init_73, by decide⟩)) d_M_init_75 d_M_init_77 <|
  cprog_c 2 81 83 85 88 rfl rfl rfl rfl d_M_init_80 (Or.inr (Or.inl ⟨rfl, d_M_init_81, by decide⟩)) d_M_init_83 d_M_init_85 <|
  cprog_c 2 89 91 93 96 rfl rfl rfl rfl d_M_init_88 (Or.inr (Or.inl ⟨rfl, d_M_init_89, by decide⟩)) d_M_init_91 d_M_init_93 <|
  cprog_c 2 97 99 101 104 rfl rfl rfl rfl d_M_init_96 (Or.inr (Or.inl ⟨rfl, d_M_init_97, by decide⟩)) d_M_init_99 d_M_init_101 <|
  cprog_c 2 105 107 109 112 rfl rfl rfl rfl d_M_init_104 (Or.inr (Or.inl ⟨rfl, d_M_init_105, by decide⟩)) d_M_init_107 d_M_init_109 <|
  cprog_c 2 113 115 117 120 rfl rfl rfl rfl d_M_init_112 (Or.inr (Or.inl ⟨rfl, d_M_init_113, by decide⟩)) d_M_init_115 d_M_init_117 <|
  cprog_c 1 121 122 124 127 rfl rfl rfl rfl d_M_init_120 (Or.inl ⟨rfl, d_M_init_121⟩) d_M_init_122 d_M_init_124 <|
  cprog_c 1 128 129 131 134 rfl rfl rfl rfl d_M_init_127 (Or.inl ⟨rfl, d_M_init_128⟩) d_M_init_129 d_M_init_131 <|
  cprog_c 1 135 136 138 141 rfl rfl rfl rfl d_M_init_134 (Or.inl ⟨rfl, d_M_init_135⟩) d_M_init_136 d_M_init_138 <|
  cprog_c 2 142 144 146 149 rfl rfl rfl rfl d_M_init_141 (Or.inr (Or.inl ⟨rfl, d_M_init_142, by decide⟩)) d_M_init_144 d_M_init_146 <|
  cprog_c 2 150 152 154 157 rfl rfl rfl rfl d_M_init_149 (Or.inr (Or.inl ⟨rfl, d_M_init_150, by decide⟩)) d_M_init_152 d_M_init_154 <|
  cprog_c 2 158 160 162 165 rfl rfl rfl rfl d_M_init_157 (Or.inr (Or.inl ⟨rfl, d_M_init_158, by decide⟩)) d_M_init_160 d_M_init_162 <|
  cprog_c 2 166 168 170 173 rfl rfl rfl rfl d_M_init_165 (Or.inr (Or.inl ⟨rfl, d_M_init_166, by decide⟩)) d_M_init_168 d_M_init_170 <|
  cprog_c 2 174 176 178 181 rfl rfl rfl rfl d_M_init_173 (Or.inr (Or.inl ⟨rfl, d_M_init_174, by decide⟩)) d_M_init_176 d_M_init_178 <|
  cprog_c 2 182 184 186 189 rfl rfl rfl rfl d_M_init_181 (Or.inr (Or.inl ⟨rfl, d_M_init_182, by decide⟩)) d_M_init_184 d_M_init_186 <|
  cprog_c 2 190 192 194 197 rfl rfl rfl rfl d_M_init_189 (Or.inr (Or.inl ⟨rfl, d_M_init_190, by decide⟩)) d_M_init_192 d_M_init_194 <|
  cprog_c 2 198 200 202 205 rfl rfl rfl rfl d_M_init_197 (Or.inr (Or.inl ⟨rfl, d_M_init_198, by decide⟩)) d_M_init_200 d_M_init_202 <|
  cprog_c 3 206 209 211 214 rfl rfl rfl rfl d_M_init_205 (Or.inr (Or.inr ⟨rfl, d_M_init_206, by decide⟩)) d_M_init_209 d_M_init_211 <|
  cprog_c 3 215 218 220 223 rfl rfl rfl rfl d_M_init_214 (Or.inr (Or.inr ⟨rfl, d_M_init_215, by decide⟩)) d_M_init_218 d_M_init_220 <|
  cprog_c 2 224 226 228 231 rfl rfl rfl rfl d_M_init_223 (Or.inr (Or.inl ⟨rfl, d_M_init_224, by decide⟩)) d_M_init_226 d_M_init_228 <|
  cprog_c 3 232 235 237 240 rfl rfl rfl rfl d_M_init_231 (Or.inr (Or.inr ⟨rfl, d_M_init_232, by decide⟩)) d_M_init_235 d_M_init_237 <|
  cprog_c 3 241 244 246 249 rfl rfl rfl rfl d_M_init_240 (Or.inr (Or.inr ⟨rfl, d_M_init_241, by decide⟩)) d_M_init_244 d_M_init_246 <|
  cprog_c 3 250 253 255 258 rfl rfl rfl rfl d_M_init_249 (Or.inr (Or.inr ⟨rfl, d_M_init_250, by decide⟩)) d_M_init_253 d_M_init_255 <|
  cprog_c 2 259 261 263 266 rfl rfl rfl rfl d_M_init_258 (Or.inr (Or.inl ⟨rfl, d_M_init_259, by decide⟩)) d_M_init_261 d_M_init_263 <|
  cprog_c 2 267 269 271 274 rfl rfl rfl rfl d_M_init_266 (Or.inr (Or.inl ⟨rfl, d_M_init_267, by decide⟩)) d_M_init_269 d_M_init_271 <|
  cprog_c 2 275 277 279 282 rfl rfl rfl rfl d_M_init_274 (Or.inr (Or.inl ⟨rfl, d_M_init_275, by decide⟩)) d_M_init_277 d_M_init_279 <|
  cprog_c 2 283 285 287 290 rfl rfl rfl rfl d_M_init_282 (Or.inr (Or.inl ⟨rfl, d_M_init_283, by decide⟩)) d_M_init_285 d_M_init_287 <|
  cprog_c 2 291 293 295 298 rfl rfl rfl rfl d_M_init_290 (Or.inr (Or.inl ⟨rfl, d_M_init_291, by decide⟩)) d_M_init_293 d_M_init_295 <|
  cprog_c 3 299 302 304 307 rfl rfl rfl rfl d_M_init_298 (Or.inr (Or.inr ⟨rfl, d_M_init_299, by decide⟩)) d_M_init_302 d_M_init_304 <|
  cprog_c 3 308 311 313 316 rfl rfl rfl rfl d_M_init_307 (Or.inr (Or.inr ⟨rfl, d_M_init_308, by decide⟩)) d_M_init_311 d_M_init_313 <|
  cprog_c 3 317 320 322 325 rfl rfl rfl rfl d_M_init_316 (Or.inr (Or.inr ⟨rfl, d_M_init_317, by decide⟩)) d_M_init_320 d_M_init_322 <|
  cprog_c 3 326 329 331 334 rfl rfl rfl rfl d_M_init_325 (Or.inr (Or.inr ⟨rfl, d_M_init_326, by decide⟩)) d_M_init_329 d_M_init_331 <|
  cprog_c 3 335 338 340 343 rfl rfl rfl rfl d_M_init_334 (Or.inr (Or.inr ⟨rfl, d_M_init_335, by decide⟩)) d_M_init_338 d_M_init_340 <|
  cprog_c 2 344 346 348 351 rfl rfl rfl rfl d_M_init_343 (Or.inr (Or.inl ⟨rfl, d_M_init_344, by decide⟩)) d_M_init_346 d_M_init_348 <|
  cprog_c 2 352 354 356 359 rfl rfl rfl rfl d_M_init_351 (Or.inr (Or.inl ⟨rfl, d_M_init_352, by decide⟩)) d_M_init_354 d_M_init_356 <|
  cprog_c 2 360 362 364 367 rfl rfl rfl rfl d_M_init_359 (Or.inr (Or.inl ⟨rfl, d_M_init_360, by decide⟩)) d_M_init_362 d_M_init_364 <|
  cprog_c 2 368 370 372 375 rfl rfl rfl rfl d_M_init_367 (Or.inr (Or.inl ⟨rfl, d_M_init_368, by decide⟩)) d_M_init_370 d_M_init_372 <|
  cprog_c 2 376 378 380 383 rfl rfl rfl rfl d_M_init_375 (Or.inr (Or.inl ⟨rfl, d_M_init_376, by decide⟩)) d_M_init_378 d_M_init_380 <|
  cprog_c 2 384 386 388 391 rfl rfl rfl rfl d_M_init_383 (Or.inr (Or.inl ⟨rfl, d_M_init_384, by decide⟩)) d_M_init_386 d_M_init_388 <|
  cprog_c 2 392 394 396 399 rfl rfl rfl rfl d_M_init_391 (Or.inr (Or.inl ⟨rfl, d_M_init_392, by decide⟩)) d_M_init_394 d_M_init_396 <|
  cprog_c 2 400 402 404 407 rfl rfl rfl rfl d_M_init_399 (Or.inr (Or.inl ⟨rfl, d_M_init_400, by decide⟩)) d_M_init_402 d_M_init_404 <|
  cprog_c 2 408 410 412 415 rfl rfl rfl rfl d_M_init_407 (Or.inr (Or.inl ⟨rfl, d_M_init_408, by decide⟩)) d_M_init_410 d_M_init_412 <|
  cprog_c 2 416 418 420 423 rfl rfl rfl rfl d_M_init_415 (Or.inr (Or.inl ⟨rfl, d_M_init_416, by decide⟩)) d_M_init_418 d_M_init_420 <|
  cprog_c 3 424 427 429 432 rfl rfl rfl rfl d_M_init_423 (Or.inr (Or.inr ⟨rfl, d_M_init_424, by decide⟩)) d_M_init_427 d_M_init_429 <|
  cprog_c 3 433 436 438 441 rfl rfl rfl rfl d_M_init_432 (Or.inr (Or.inr ⟨rfl, d_M_init_433, by decide⟩)) d_M_init_436 d_M_init_438 <|
  cprog_c 2 442 444 446 449 rfl rfl rfl rfl d_M_init_441 (Or.inr (Or.inl ⟨rfl, d_M_init_442, by decide⟩)) d_M_init_444 d_M_init_446 <|
  cprog_c 3 450 453 455 458 rfl rfl rfl rfl d_M_init_449 (Or.inr (Or.inr ⟨rfl, d_M_init_450, by decide⟩)) d_M_init_453 d_M_init_455 <|
  cprog_c 2 459 461 463 466 rfl rfl rfl rfl d_M_init_458 (Or.inr (Or.inl ⟨rfl, d_M_init_459, by decide⟩)) d_M_init_461 d_M_init_463 <|
  cprog_c 3 467 470 472 475 rfl rfl rfl rfl d_M_init_466 (Or.inr (Or.inr ⟨rfl, d_M_init_467, by decide⟩)) d_M_init_470 d_M_init_472 <|
  cprog_c 3 476 479 481 484 rfl rfl rfl rfl d_M_init_475 (Or.inr (Or.inr ⟨rfl, d_M_init_476, by decide⟩)) d_M_init_479 d_M_init_481 <|
  cprog_c 3 485 488 490 493 rfl rfl rfl rfl d_M_init_484 (Or.inr (Or.inr ⟨rfl, d_M_init_485, by decide⟩)) d_M_init_488 d_M_init_490 <|
  cprog_c 3 494 497 499 502 rfl rfl rfl rfl d_M_init_493 (Or.inr (Or.inr ⟨rfl, d_M_init_494, by decide⟩)) d_M_init_497 d_M_init_499 <|
  cprog_c 3 503 506 508 511 rfl rfl rfl rfl d_M_init_502 (Or.inr (Or.inr ⟨rfl, d_M_init_503, by decide⟩)) d_M_init_506 d_M_init_508 <|
  cprog_c 2 512 514 516 519 rfl rfl rfl rfl d_M_init_511 (Or.inr (Or.inl ⟨rfl, d_M_init_512, by decide⟩)) d_M_init_514 d_M_init_516 <|
  rfl
set_option maxRecDepth 20000 in
theorem co_M : ∀ x ∈ it_M, cok1 R_M F_M 82 t_M x :=
  (fun h => List.forall_mem_cons.mpr ⟨⟨by decide, by decide, by decide, lw_at 78 (by decide +kernel) rfl, rfl, rfl, fun q => ⟨rfl, rfl⟩⟩, h⟩) <|
  (fun h => List.forall_mem_cons.mpr ⟨⟨by decide, by decide, by decide, lw_at 79 (by decide +kernel) rfl, rfl, rfl, fun q => ⟨rfl, rfl⟩⟩, h⟩) <|
  (fun h => List.forall_mem_cons.mpr ⟨⟨by decide, by decide, by decide, lw_at 80 (by decide +kernel) rfl, rfl, rfl, fun q => ⟨rfl, rfl⟩⟩, h⟩) <|
  (fun h => List.forall_mem_cons.mpr ⟨⟨by decide, by decide, by decide, lw_at 81 (by decide +kernel) rfl, rfl, rfl, fun q => ⟨rfl, rfl⟩⟩, h⟩) <|
  (fun h => List.forall_mem_cons.mpr ⟨⟨by decide, by decide, by decide, lw_at 82 (by decide +kernel) rfl, rfl, rfl, fun q => ⟨rfl, rfl⟩⟩, h⟩) <|
  (fun h => List.forall_mem_cons.mpr ⟨⟨by decide, by decide, by decide, lw_at 84 (by decide +kernel) rfl, rfl, rfl, fun q => ⟨rfl, rfl⟩⟩, h⟩) <|
  (fun h => List.forall_mem_cons.mpr ⟨⟨by decide, by decide, by decide, lw_at 85 (by decide +kernel) rfl, rfl, rfl, fun q => ⟨rfl, rfl⟩⟩, h⟩) <|
  (fun h => List.forall_mem_cons.mpr ⟨⟨by decide, by decide, by decide, lw_at 86 (by decide +kernel) rfl, rfl, rfl, fun q => ⟨rfl, rfl⟩⟩, h⟩) <|
  (fun h => List.forall_mem_cons.mpr ⟨⟨by decide, by decide, by decide, lw_at 87 (by decide +kernel) rfl, rfl, rfl, fun q => ⟨rfl, rfl⟩⟩, h⟩) <|
  (fun h => List.forall_mem_cons.mpr ⟨⟨by decide, by decide, by decide, lw_at 88 (by decide +kernel) rfl, rfl, rfl, fun q => ⟨rfl, rfl⟩⟩, h⟩) <|
  (fun h => List.forall_mem_cons.mpr ⟨⟨by decide, by decide, by decide, lw_at 89 (by decide +kernel) rfl, rfl, rfl, fun q => ⟨rfl, rfl⟩⟩, h⟩) <|
  (fun h => List.forall_mem_cons.mpr ⟨⟨by decide, by decide, by decide, lw_at 90 (by decide +kernel) rfl, rfl, rfl, fun q => ⟨rfl, rfl⟩⟩, h⟩) <|
  (fun h => List.forall_mem_cons.mpr ⟨⟨by decide, by decide, by decide, lw_at 91 (by decide +kernel) rfl, rfl, rfl, fun q => ⟨rfl, rfl⟩⟩, h⟩) <|
  (fun h => List.forall_mem_cons.mpr ⟨⟨by decide, by decide, by decide, lw_at 93 (by decide +kernel) rfl, rfl, rfl, fun q => ⟨rfl, rfl⟩⟩, h⟩) <|
  (fun h => List.forall_mem_cons.mpr ⟨⟨by decide, by decide, by decide, lw_at 95 (by decide +kernel) rfl, rfl, rfl, fun q => ⟨rfl, rfl⟩⟩, h⟩) <|
  (fun h => List.forall_mem_cons.mpr ⟨⟨by decide, by decide, by decide, lw_at 96 (by decide +kernel) rfl, rfl, rfl, fun q => ⟨rfl, rfl⟩⟩, h⟩) <|
  (fun h => List.forall_mem_cons.mpr ⟨⟨by decide, by decide, by decide, lw_at 97 (by decide +kernel) rfl, rfl, rfl, fun q => ⟨rfl, rfl⟩⟩, h⟩) <|
  (fun h => List.forall_mem_cons.mpr ⟨⟨by decide, by decide, by decide, lw_at 107 (by decide +kernel) rfl, rfl, rfl, fun q => ⟨rfl, rfl⟩⟩, h⟩) <|
  (fun h => List.forall_mem_cons.mpr ⟨⟨by decide, by decide, by decide, lw_at 111 (by decide +kernel) rfl, rfl, rfl, fun q => ⟨rfl, rfl⟩⟩, h⟩) <|
  (fun h => List.forall_mem_cons.mpr ⟨⟨by decide, by decide, by decide, lw_at 112 (by decide +kernel) rfl, rfl, rfl, fun q => ⟨rfl, rfl⟩⟩, h⟩) <|
  (fun h => List.forall_mem_cons.mpr ⟨⟨by decide, by decide, by decide, lw_at 113 (by decide +kernel) rfl, rfl, rfl, fun q => ⟨rfl, rfl⟩⟩, h⟩) <|
  (fun h => List.forall_mem_cons.mpr ⟨⟨by decide, by decide, by decide, lw_at 115 (by decide +kernel) rfl, rfl, rfl, fun q => ⟨rfl, rfl⟩⟩, h⟩) <|
  (fun h => List.forall_mem_cons.mpr ⟨⟨by decide, by decide, by decide, lw_at 116 (by decide +kernel) rfl, rfl, rfl, fun q => ⟨rfl, rfl⟩⟩, h⟩) <|
  (fun h => List.forall_mem_cons.mpr ⟨⟨by decide, by decide, by decide, lw_at 118 (by decide +kernel) rfl, rfl, rfl, fun q => ⟨rfl, rfl⟩⟩, h⟩) <|
  (fun h => List.forall_mem_cons.mpr ⟨⟨by decide, by decide, by decide, lw_at 119 (by decide +kernel) rfl, rfl, rfl, fun q => ⟨rfl, rfl⟩⟩, h⟩) <|
  (fun h => List.forall_mem_cons.mpr ⟨⟨by decide, by decide, by decide, lw_at 120 (by decide +kernel) rfl, rfl, rfl, fun q => ⟨rfl, rfl⟩⟩, h⟩) <|
  (fun h => List.forall_mem_cons.mpr ⟨⟨by decide, by decide, by decide, lw_at 121 (by decide +kernel) rfl, rfl, rfl, fun q => ⟨rfl, rfl⟩⟩, h⟩) <|
  (fun h => List.forall_mem_cons.mpr ⟨⟨by decide, by decide, by decide, lw_at 122 (by decide +kernel) rfl, rfl, rfl, fun q => ⟨rfl, rfl⟩⟩, h⟩) <|
  (fun h => List.forall_mem_cons.mpr ⟨⟨by decide, by decide, by decide, lw_at 123 (by decide +kernel) rfl, rfl, rfl, fun q => ⟨rfl, rfl⟩⟩, h⟩) <|
  (fun h => List.forall_mem_cons.mpr ⟨⟨by decide, by decide, by decide, lw_at 124 (by decide +kernel) rfl, rfl, rfl, fun q => ⟨rfl, rfl⟩⟩, h⟩) <|
  (fun h => List.forall_mem_cons.mpr ⟨⟨by decide, by decide, by decide, lw_at 125 (by decide +kernel) rfl, rfl, rfl, fun q => ⟨rfl, rfl⟩⟩, h⟩) <|
  (fun h => List.forall_mem_cons.mpr ⟨⟨by decide, by decide, by decide, lw_at 129 (by decide +kernel) rfl, rfl, rfl, fun q => ⟨rfl, rfl⟩⟩, h⟩) <|
  (fun h => List.forall_mem_cons.mpr ⟨⟨by decide, by decide, by decide, lw_at 130 (by decide +kernel) rfl, rfl, rfl, fun q => ⟨rfl, rfl⟩⟩, h⟩) <|
  (fun h => List.forall_mem_cons.mpr ⟨⟨by decide, by decide, by decide, lw_at 131 (by decide +kernel) rfl, rfl, rfl, fun q => ⟨rfl, rfl⟩⟩, h⟩) <|
  (fun h => List.forall_mem_cons.mpr ⟨⟨by decide, by decide, by decide, lw_at 132 (by decide +kernel) rfl, rfl, rfl, fun q => ⟨rfl, rfl⟩⟩, h⟩) <|
  (fun h => List.forall_mem_cons.mpr ⟨⟨by decide, by decide, by decide, lw_at 133 (by decide +kernel) rfl, rfl, rfl, fun q => ⟨rfl, rfl⟩⟩, h⟩) <|
  (fun h => List.forall_mem_cons.mpr ⟨⟨by decide, by decide, by decide, lw_at 134 (by decide +kernel) rfl, rfl, rfl, fun q => ⟨rfl, rfl⟩⟩, h⟩) <|
  (fun h => List.forall_mem_cons.mpr ⟨⟨by decide, by decide, by decide, lw_at 135 (by decide +kernel) rfl, rfl, rfl, fun q => ⟨rfl, rfl⟩⟩, h⟩) <|
  (fun h => List.forall_mem_cons.mpr ⟨⟨by decide, by decide, by decide, lw_at 136 (by decide +kernel) rfl, rfl, rfl, fun q => ⟨rfl, rfl⟩⟩, h⟩) <|
  (fun h => List.forall_mem_cons.mpr ⟨⟨by decide, by decide, by decide, lw_at 137 (by decide +kernel) rfl, rfl, rfl, fun q => ⟨rfl, rfl⟩⟩, h⟩) <|
  (fun h => List.forall_mem_cons.mpr ⟨⟨by decide, by decide, by decide, lw_at 138 (by decide +kernel) rfl, rfl, rfl, fun q => ⟨rfl, rfl⟩⟩, h⟩) <|
  (fun h => List.forall_mem_cons.mpr ⟨⟨by decide, by decide, by decide, lw_at 139 (by decide +kernel) rfl, rfl, rfl, fun q => ⟨rfl, rfl⟩⟩, h⟩) <|
  (fun h => List.forall_mem_cons.mpr ⟨⟨by decide, by decide, by decide, lw_at 140 (by decide +kernel) rfl, rfl, rfl, fun q => ⟨rfl, rfl⟩⟩, h⟩) <|
  (fun h => List.forall_mem_cons.mpr ⟨⟨by decide, by decide, by decide, lw_at 141 (by decide +kernel) rfl, rfl, rfl, fun q => ⟨rfl, rfl⟩⟩, h⟩) <|
  (fun h => List.forall_mem_cons.mpr ⟨⟨by decide, by decide, by decide, lw_at 142 (by decide +kernel) rfl, rfl, rfl, fun q => ⟨rfl, rfl⟩⟩, h⟩) <|
  (fun h => List.forall_mem_cons.mpr ⟨⟨by decide, by decide, by decide, lw_at 143 (by decide +kernel) rfl, rfl, rfl, fun q => ⟨rfl, rfl⟩⟩, h⟩) <|
  (fun h => List.forall_mem_cons.mpr ⟨⟨by decide, by decide, by decide, lw_at 144 (by decide +kernel) rfl, rfl, rfl, fun q => ⟨rfl, rfl⟩⟩, h⟩) <|
  (fun h => List.forall_mem_cons.mpr ⟨⟨by decide, by decide, by decide, lw_at 145 (by decide +kernel) rfl, rfl, rfl, fun q => ⟨rfl, rfl⟩⟩, h⟩) <|
  (fun h => List.forall_mem_cons.mpr ⟨⟨by decide, by decide, by decide, lw_at 146 (by decide +kernel) rfl, rfl, rfl, fun q => ⟨rfl, rfl⟩⟩, h⟩) <|
  (fun h => List.forall_mem_cons.mpr ⟨⟨by decide, by decide, by decide, lw_at 147 (by decide +kernel) rfl, rfl, rfl, fun q => ⟨rfl, rfl⟩⟩, h⟩) <|
  (fun h => List.forall_mem_cons.mpr ⟨⟨by decide, by decide, by decide, lw_at 148 (by decide +kernel) rfl, rfl, rfl, fun q => ⟨rfl, rfl⟩⟩, h⟩) <|
  (fun h => List.forall_mem_cons.mpr ⟨⟨by decide, by decide, by decide, lw_at 149 (by decide +kernel) rfl, rfl, rfl, fun q => ⟨rfl, rfl⟩⟩, h⟩) <|
  (fun h => List.forall_mem_cons.mpr ⟨⟨by decide, by decide, by decide, lw_at 150 (by decide +kernel) rfl, rfl, rfl, fun q => ⟨rfl, rfl⟩⟩, h⟩) <|
  (fun h => List.forall_mem_cons.mpr ⟨⟨by decide, by decide, by decide, lw_at 151 (by decide +kernel) rfl, rfl, rfl, fun q => ⟨rfl, rfl⟩⟩, h⟩) <|
  (fun h => List.forall_mem_cons.mpr ⟨⟨by decide, by decide, by decide, lw_at 152 (by decide +kernel) rfl, rfl, rfl, fun q => ⟨rfl, rfl⟩⟩, h⟩) <|
  (fun h => List.forall_mem_cons.mpr ⟨⟨by decide, by decide, by decide, lw_at 153 (by decide +kernel) rfl, rfl, rfl, fun q => ⟨rfl, rfl⟩⟩, h⟩) <|
  (fun h => List.forall_mem_cons.mpr ⟨⟨by decide, by decide, by decide, lw_at 154 (by decide +kernel) rfl, rfl, rfl, fun q => ⟨rfl, rfl⟩⟩, h⟩) <|
  (fun h => List.forall_mem_cons.mpr ⟨⟨by decide, by decide, by decide, lw_at 155 (by decide +kernel) rfl, rfl, rfl, fun q => ⟨rfl, rfl⟩⟩, h⟩) <|
  (fun h => List.forall_mem_cons.mpr ⟨⟨by decide, by decide, by decide, lw_at 156 (by decide +kernel) rfl, rfl, rfl, fun q => ⟨rfl, rfl⟩⟩, h⟩) <|
  (fun h => List.forall_mem_cons.mpr ⟨⟨by decide, by decide, by decide, lw_at 157 (by decide +kernel) rfl, rfl, rfl, fun q => ⟨rfl, rfl⟩⟩, h⟩) <|
  (fun h => List.forall_mem_cons.mpr ⟨⟨by decide, by decide, by decide, lw_at 158 (by decide +kernel) rfl, rfl, rfl, fun q => ⟨rfl, rfl⟩⟩, h⟩) <|
  (fun h => List.forall_mem_cons.mpr ⟨⟨by decide, by decide, by decide, lw_at 159 (by decide +kernel) rfl, rfl, rfl, fun q => ⟨rfl, rfl⟩⟩, h⟩) <|
  fun x hx => by cases hx
def rm_M_init : Room := { frames := 1, cells := 62, slots := 46033, locals := 12 }
theorem c_M_init (l : Launch) (D : va_G) (cA : Nat → ClassId) (a sz : Nat) (fs : List Value) (hfs : fs.length = 82) : Met l y_M_init (Cond.code y_M_init b_M_init 1 none :: lw_g) rm_M_init (inP D cA 0 fs a sz) (inQ D cA 0 fs it_M a sz) it_M.length (csl it_M) (inA a sz) :=
  init_met l D cA a sz fs (own := R_M) (C := R_M) (T := F_M) (N := 82) (ci := 0) (pcE := 519) (io := 3) (ty0 := t_M) (cc := b_M_init) (rm := rm_M_init) (items := it_M) (by decide) rfl rfl ⟨rfl, rfl, by decide, by decide⟩ rfl hg_M t_M_ok n_M (fun t ht => by
    have h3 : t = 0 ∨ t = 1 ∨ t = 2 := by omega
    rcases h3 with rfl | rfl | rfl
    · exact lw_at 326 (by decide +kernel) rfl
    · exact lw_at 325 (by decide +kernel) rfl
    · exact lw_at 327 (by decide +kernel) rfl) (lw_at 75 (by decide +kernel) rfl) (lw_at 76 (by decide +kernel) rfl) (lw_at 77 (by decide +kernel) rfl) d_M_init_0 d_M_init_1 cp_M d_M_init_519 co_M hfs
def it_D : List cit := [(4800, 1, 0, 9), (4800, 1, 1, 13), (16, 0, 2, 16), (960, 0, 3, 20), (24, 0, 4, 23), (40, 0, 5, 26), (960, 1, 6, 29), (40, 1, 7, 32), (8, 0, 8, 35), (8, 0, 9, 38), (8, 0, 10, 41), (8, 0, 11, 44), (8, 0, 12, 47), (8, 2, 13, 50), (8, 2, 14, 54), (200, 1, 20, 57), (200, 1, 21, 60), (4000, 1, 22, 63), (4000, 1, 23, 66), (4000, 1, 24, 69), (4000, 1, 25, 72), (12, 1, 26, 75), (4, 1, 27, 78), (4, 1, 28, 81), (4, 1, 29, 84)]
set_option maxRecDepth 20000 in
theorem cp_D : cprog b_D_init 4 it_D 211 :=
  cprog_c 3 5 8 10 13 rfl rfl rfl rfl d_D_init_4 (Or.inr (Or.inr ⟨rfl, d_D_init_5, by decide⟩)) d_D_init_8 d_D_init_10 <|
  cprog_c 3 14 17 19 22 rfl rfl rfl rfl d_D_init_13 (Or.inr (Or.inr ⟨rfl, d_D_init_14, by decide⟩)) d_D_init_17 d_D_init_19 <|
  cprog_c 2 23 25 27 30 rfl rfl rfl rfl d_D_init_22 (Or.inr (Or.inl ⟨rfl, d_D_init_23, by decide⟩)) d_D_init_25 d_D_init_27 <|
  cprog_c 3 31 34 36 39 rfl rfl rfl rfl d_D_init_30 (Or.inr (Or.inr ⟨rfl, d_D_init_31, by decide⟩)) d_D_init_34 d_D_init_36 <|
  cprog_c 2 40 42 44 47 rfl rfl rfl rfl d_D_init_39 (Or.inr (Or.inl ⟨rfl, d_D_init_40, by decide⟩)) d_D_init_42 d_D_init_44 <|
  cprog_c 2 48 50 52 55 rfl rfl rfl rfl d_D_init_47 (Or.inr (Or.inl ⟨rfl, d_D_init_48, by decide⟩)) d_D_init_50 d_D_init_52 <|
  cprog_c 3 56 59 61 64 rfl rfl rfl rfl d_D_init_55 (Or.inr (Or.inr ⟨rfl, d_D_init_56, by decide⟩)) d_D_init_59 d_D_init_61 <|
  cprog_c 2 65 67 69 72 rfl rfl rfl rfl d_D_init_64 (Or.inr (Or.inl ⟨rfl, d_D_init_65, by decide⟩)) d_D_init_67 d_D_init_69 <|
  cprog_c 2 73 75 77 80 rfl rfl rfl rfl d_D_init_72 (Or.inr (Or.inl ⟨rfl, d_D_init_73, by decide⟩)) d_D_init_75 d_D_init_77 <|
  cprog_c 2 81 83 85 88 rfl rfl rfl rfl d_D_init_80 (Or.inr (Or.inl ⟨rfl, d_D_init_81, by decide⟩)) d_D_init_83 d_D_init_85 <|
  cprog_c 2 89 91 93 96 rfl rfl rfl rfl d_D_init_88 (Or.inr (Or.inl ⟨rfl, d_D_init_89, by decide⟩)) d_D_init_91 d_D_init_93 <|
  cprog_c 2 97 99 101 104 rfl rfl rfl rfl d_D_init_96 (Or.inr (Or.inl ⟨rfl, d_D_init_97, by decide⟩)) d_D_init_99 d_D_init_101 <|
  cprog_c 2 105 107 109 112 rfl rfl rfl rfl d_D_init_104 (Or.inr (Or.inl ⟨rfl, d_D_init_105, by decide⟩)) d_D_init_107 d_D_init_109 <|
  cprog_c 2 113 115 117 120 rfl rfl rfl rfl d_D_init_112 (Or.inr (Or.inl ⟨rfl, d_D_init_113, by decide⟩)) d_D_init_115 d_D_init_117 <|
  cprog_c 2 121 123 125 128 rfl rfl rfl rfl d_D_init_120 (Or.inr (Or.inl ⟨rfl, d_D_init_121, by decide⟩)) d_D_init_123 d_D_init_125 <|
  cprog_c 3 129 132 134 137 rfl rfl rfl rfl d_D_init_128 (Or.inr (Or.inr ⟨rfl, d_D_init_129, by decide⟩)) d_D_init_132 d_D_init_134 <|
  cprog_c 3 138 141 143 146 rfl rfl rfl rfl d_D_init_137 (Or.inr (Or.inr ⟨rfl, d_D_init_138, by decide⟩)) d_D_init_141 d_D_init_143 <|
  cprog_c 3 147 150 152 155 rfl rfl rfl rfl d_D_init_146 (Or.inr (Or.inr ⟨rfl, d_D_init_147, by decide⟩)) d_D_init_150 d_D_init_152 <|
  cprog_c 3 156 159 161 164 rfl rfl rfl rfl d_D_init_155 (Or.inr (Or.inr ⟨rfl, d_D_init_156, by decide⟩)) d_D_init_159 d_D_init_161 <|
  cprog_c 3 165 168 170 173 rfl rfl rfl rfl d_D_init_164 (Or.inr (Or.inr ⟨rfl, d_D_init_165, by decide⟩)) d_D_init_168 d_D_init_170 <|
  cprog_c 3 174 177 179 182 rfl rfl rfl rfl d_D_init_173 (Or.inr (Or.inr ⟨rfl, d_D_init_174, by decide⟩)) d_D_init_177 d_D_init_179 <|
  cprog_c 2 183 185 187 190 rfl rfl rfl rfl d_D_init_182 (Or.inr (Or.inl ⟨rfl, d_D_init_183, by decide⟩)) d_D_init_185 d_D_init_187 <|
  cprog_c 1 191 192 194 197 rfl rfl rfl rfl d_D_init_190 (Or.inl ⟨rfl, d_D_init_191⟩) d_D_init_192 d_D_init_194 <|
  cprog_c 1 198 199 201 204 rfl rfl rfl rfl d_D_init_197 (Or.inl ⟨rfl, d_D_init_198⟩) d_D_init_199 d_D_init_201 <|
  cprog_c 1 205 206 208 211 rfl rfl rfl rfl d_D_init_204 (Or.inl ⟨rfl, d_D_init_205⟩) d_D_init_206 d_D_init_208 <|
  rfl
set_option maxRecDepth 20000 in
theorem co_D : ∀ x ∈ it_D, cok1 R_D F_D 32 t_D x :=
  (fun h => List.forall_mem_cons.mpr ⟨⟨by decide, by decide, by decide, lw_at 789 (by decide +kernel) rfl, rfl, rfl, fun q => ⟨rfl, rfl⟩⟩, h⟩) <|
  (fun h => List.forall_mem_cons.mpr ⟨⟨by decide, by decide, by decide, lw_at 790 (by decide +kernel) rfl, rfl, rfl, fun q => ⟨rfl, rfl⟩⟩, h⟩) <|
  (fun h => List.forall_mem_cons.mpr ⟨⟨by decide, by decide, by decide, lw_at 791 (by decide +kernel) rfl, rfl, rfl, fun q => ⟨rfl, rfl⟩⟩, h⟩) <|
  (fun h => List.forall_mem_cons.mpr ⟨⟨by decide, by decide, by decide, lw_at 792 (by decide +kernel) rfl, rfl, rfl, fun q => ⟨rfl, rfl⟩⟩, h⟩) <|
  (fun h => List.forall_mem_cons.mpr ⟨⟨by decide, by decide, by decide, lw_at 793 (by decide +kernel) rfl, rfl, rfl, fun q => ⟨rfl, rfl⟩⟩, h⟩) <|
  (fun h => List.forall_mem_cons.mpr ⟨⟨by decide, by decide, by decide, lw_at 794 (by decide +kernel) rfl, rfl, rfl, fun q => ⟨rfl, rfl⟩⟩, h⟩) <|
  (fun h => List.forall_mem_cons.mpr ⟨⟨by decide, by decide, by decide, lw_at 795 (by decide +kernel) rfl, rfl, rfl, fun q => ⟨rfl, rfl⟩⟩, h⟩) <|
  (fun h => List.forall_mem_cons.mpr ⟨⟨by decide, by decide, by decide, lw_at 796 (by decide +kernel) rfl, rfl, rfl, fun q => ⟨rfl, rfl⟩⟩, h⟩) <|
  (fun h => List.forall_mem_cons.mpr ⟨⟨by decide, by decide, by decide, lw_at 797 (by decide +kernel) rfl, rfl, rfl, fun q => ⟨rfl, rfl⟩⟩, h⟩) <|
  (fun h => List.forall_mem_cons.mpr ⟨⟨by decide, by decide, by decide, lw_at 798 (by decide +kernel) rfl, rfl, rfl, fun q => ⟨rfl, rfl⟩⟩, h⟩) <|
  (fun h => List.forall_mem_cons.mpr ⟨⟨by decide, by decide, by decide, lw_at 799 (by decide +kernel) rfl, rfl, rfl, fun q => ⟨rfl, rfl⟩⟩, h⟩) <|
  (fun h => List.forall_mem_cons.mpr ⟨⟨by decide, by decide, by decide, lw_at 800 (by decide +kernel) rfl, rfl, rfl, fun q => ⟨rfl, rfl⟩⟩, h⟩) <|
  (fun h => List.forall_mem_cons.mpr ⟨⟨by decide, by decide, by decide, lw_at 801 (by decide +kernel) rfl, rfl, rfl, fun q => ⟨rfl, rfl⟩⟩, h⟩) <|
  (fun h => List.forall_mem_cons.mpr ⟨⟨by decide, by decide, by decide, lw_at 802 (by decide +kernel) rfl, rfl, rfl, fun q => ⟨rfl, rfl⟩⟩, h⟩) <|
  (fun h => List.forall_mem_cons.mpr ⟨⟨by decide, by decide, by decide, lw_at 803 (by decide +kernel) rfl, rfl, rfl, fun q => ⟨rfl, rfl⟩⟩, h⟩) <|
  (fun h => List.forall_mem_cons.mpr ⟨⟨by decide, by decide, by decide, lw_at 809 (by decide +kernel) rfl, rfl, rfl, fun q => ⟨rfl, rfl⟩⟩, h⟩) <|
  (fun h => List.forall_mem_cons.mpr ⟨⟨by decide, by decide, by decide, lw_at 810 (by decide +kernel) rfl, rfl, rfl, fun q => ⟨rfl, rfl⟩⟩, h⟩) <|
  (fun h => List.forall_mem_cons.mpr ⟨⟨by decide, by decide, by decide, lw_at 811 (by decide +kernel) rfl, rfl, rfl, fun q => ⟨rfl, rfl⟩⟩, h⟩) <|
  (fun h => List.forall_mem_cons.mpr ⟨⟨by decide, by decide, by decide, lw_at 812 (by decide +kernel) rfl, rfl, rfl, fun q => ⟨rfl, rfl⟩⟩, h⟩) <|
  (fun h => List.forall_mem_cons.mpr ⟨⟨by decide, by decide, by decide, lw_at 813 (by decide +kernel) rfl, rfl, rfl, fun q => ⟨rfl, rfl⟩⟩, h⟩) <|
  (fun h => List.forall_mem_cons.mpr ⟨⟨by decide, by decide, by decide, lw_at 814 (by decide +kernel) rfl, rfl, rfl, fun q => ⟨rfl, rfl⟩⟩, h⟩) <|
  (fun h => List.forall_mem_cons.mpr ⟨⟨by decide, by decide, by decide, lw_at 815 (by decide +kernel) rfl, rfl, rfl, fun q => ⟨rfl, rfl⟩⟩, h⟩) <|
  (fun h => List.forall_mem_cons.mpr ⟨⟨by decide, by decide, by decide, lw_at 816 (by decide +kernel) rfl, rfl, rfl, fun q => ⟨rfl, rfl⟩⟩, h⟩) <|
  (fun h => List.forall_mem_cons.mpr ⟨⟨by decide, by decide, by decide, lw_at 817 (by decide +kernel) rfl, rfl, rfl, fun q => ⟨rfl, rfl⟩⟩, h⟩) <|
  (fun h => List.forall_mem_cons.mpr ⟨⟨by decide, by decide, by decide, lw_at 818 (by decide +kernel) rfl, rfl, rfl, fun q => ⟨rfl, rfl⟩⟩, h⟩) <|
  fun x hx => by cases hx
def rm_D_init : Room := { frames := 1, cells := 25, slots := 28120, locals := 12 }
theorem c_D_init (l : Launch) (D : va_G) (cA : Nat → ClassId) (a sz : Nat) (fs : List Value) (hfs : fs.length = 32) : Met l y_D_init (Cond.code y_D_init b_D_init 1 none :: lw_g) rm_D_init (inP D cA 1 fs a sz) (inQ D cA 1 fs it_D a sz) it_D.length (csl it_D) (inA a sz) :=
  init_met l D cA a sz fs (own := R_D) (C := R_D) (T := F_D) (N := 32) (ci := 1) (pcE := 211) (io := 1) (ty0 := t_D) (cc := b_D_init) (rm := rm_D_init) (items := it_D) (by decide) rfl rfl ⟨rfl, rfl, by decide, by decide⟩ rfl hg_D t_D_ok n_D (fun t ht => by
    have h3 : t = 0 ∨ t = 1 ∨ t = 2 := by omega
    rcases h3 with rfl | rfl | rfl
    · exact lw_at 326 (by decide +kernel) rfl
    · exact lw_at 325 (by decide +kernel) rfl
    · exact lw_at 327 (by decide +kernel) rfl) (lw_at 788 (by decide +kernel) rfl) (lw_at 76 (by decide +kernel) rfl) (lw_at 77 (by decide +kernel) rfl) d_D_init_0 d_D_init_1 cp_D d_D_init_211 co_D hfs

