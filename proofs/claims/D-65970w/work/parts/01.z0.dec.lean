abbrev b_M_init : ByteArray := prog_1_method_1_code
def y_M_init : MethodName := ⟨"ShuffleMill", "<init>", "()V"⟩
theorem d_M_init_0 : decode b_M_init 0 = .ok (.aload_n 0, 1) := by decide +kernel
theorem d_M_init_1 : decode b_M_init 1 = .ok (.invokespecial 3, 3) := by decide +kernel
theorem d_M_init_4 : decode b_M_init 4 = .ok (.aload_n 0, 1) := by decide +kernel
theorem d_M_init_5 : decode b_M_init 5 = .ok (.sipush 4800, 3) := by decide +kernel
theorem d_M_init_8 : decode b_M_init 8 = .ok (.newarray .long, 2) := by decide +kernel
theorem d_M_init_10 : decode b_M_init 10 = .ok (.putfield 9, 3) := by decide +kernel
theorem d_M_init_13 : decode b_M_init 13 = .ok (.aload_n 0, 1) := by decide +kernel
theorem d_M_init_14 : decode b_M_init 14 = .ok (.sipush 4800, 3) := by decide +kernel
theorem d_M_init_17 : decode b_M_init 17 = .ok (.newarray .long, 2) := by decide +kernel
theorem d_M_init_19 : decode b_M_init 19 = .ok (.putfield 13, 3) := by decide +kernel
theorem d_M_init_22 : decode b_M_init 22 = .ok (.aload_n 0, 1) := by decide +kernel
theorem d_M_init_23 : decode b_M_init 23 = .ok (.bipush 16, 2) := by decide +kernel
theorem d_M_init_25 : decode b_M_init 25 = .ok (.newarray .int, 2) := by decide +kernel
theorem d_M_init_27 : decode b_M_init 27 = .ok (.putfield 16, 3) := by decide +kernel
theorem d_M_init_30 : decode b_M_init 30 = .ok (.aload_n 0, 1) := by decide +kernel
theorem d_M_init_31 : decode b_M_init 31 = .ok (.bipush 40, 2) := by decide +kernel
theorem d_M_init_33 : decode b_M_init 33 = .ok (.newarray .int, 2) := by decide +kernel
theorem d_M_init_35 : decode b_M_init 35 = .ok (.putfield 20, 3) := by decide +kernel
theorem d_M_init_38 : decode b_M_init 38 = .ok (.aload_n 0, 1) := by decide +kernel
theorem d_M_init_39 : decode b_M_init 39 = .ok (.bipush 40, 2) := by decide +kernel
theorem d_M_init_41 : decode b_M_init 41 = .ok (.newarray .long, 2) := by decide +kernel
theorem d_M_init_43 : decode b_M_init 43 = .ok (.putfield 23, 3) := by decide +kernel
theorem d_M_init_46 : decode b_M_init 46 = .ok (.aload_n 0, 1) := by decide +kernel
theorem d_M_init_47 : decode b_M_init 47 = .ok (.sipush 960, 3) := by decide +kernel
theorem d_M_init_50 : decode b_M_init 50 = .ok (.newarray .int, 2) := by decide +kernel
theorem d_M_init_52 : decode b_M_init 52 = .ok (.putfield 26, 3) := by decide +kernel
theorem d_M_init_55 : decode b_M_init 55 = .ok (.aload_n 0, 1) := by decide +kernel
theorem d_M_init_56 : decode b_M_init 56 = .ok (.sipush 960, 3) := by decide +kernel
theorem d_M_init_59 : decode b_M_init 59 = .ok (.newarray .long, 2) := by decide +kernel
theorem d_M_init_61 : decode b_M_init 61 = .ok (.putfield 29, 3) := by decide +kernel
theorem d_M_init_64 : decode b_M_init 64 = .ok (.aload_n 0, 1) := by decide +kernel
theorem d_M_init_65 : decode b_M_init 65 = .ok (.bipush 24, 2) := by decide +kernel
theorem d_M_init_67 : decode b_M_init 67 = .ok (.newarray .int, 2) := by decide +kernel
theorem d_M_init_69 : decode b_M_init 69 = .ok (.putfield 32, 3) := by decide +kernel
theorem d_M_init_72 : decode b_M_init 72 = .ok (.aload_n 0, 1) := by decide +kernel
theorem d_M_init_73 : decode b_M_init 73 = .ok (.bipush 8, 2) := by decide +kernel
theorem d_M_init_75 : decode b_M_init 75 = .ok (.newarray .boolean, 2) := by decide +kernel
theorem d_M_init_77 : decode b_M_init 77 = .ok (.putfield 35, 3) := by decide +kernel
theorem d_M_init_80 : decode b_M_init 80 = .ok (.aload_n 0, 1) := by decide +kernel
theorem d_M_init_81 : decode b_M_init 81 = .ok (.bipush 8, 2) := by decide +kernel
theorem d_M_init_83 : decode b_M_init 83 = .ok (.newarray .int, 2) := by decide +kernel
theorem d_M_init_85 : decode b_M_init 85 = .ok (.putfield 39, 3) := by decide +kernel
theorem d_M_init_88 : decode b_M_init 88 = .ok (.aload_n 0, 1) := by decide +kernel
theorem d_M_init_89 : decode b_M_init 89 = .ok (.bipush 8, 2) := by decide +kernel
theorem d_M_init_91 : decode b_M_init 91 = .ok (.newarray .int, 2) := by decide +kernel
theorem d_M_init_93 : decode b_M_init 93 = .ok (.putfield 42, 3) := by decide +kernel
theorem d_M_init_96 : decode b_M_init 96 = .ok (.aload_n 0, 1) := by decide +kernel
theorem d_M_init_97 : decode b_M_init 97 = .ok (.bipush 8, 2) := by decide +kernel
theorem d_M_init_99 : decode b_M_init 99 = .ok (.newarray .int, 2) := by decide +kernel
theorem d_M_init_101 : decode b_M_init 101 = .ok (.putfield 45, 3) := by decide +kernel
theorem d_M_init_104 : decode b_M_init 104 = .ok (.aload_n 0, 1) := by decide +kernel
theorem d_M_init_105 : decode b_M_init 105 = .ok (.bipush 8, 2) := by decide +kernel
theorem d_M_init_107 : decode b_M_init 107 = .ok (.newarray .int, 2) := by decide +kernel
theorem d_M_init_109 : decode b_M_init 109 = .ok (.putfield 48, 3) := by decide +kernel
theorem d_M_init_112 : decode b_M_init 112 = .ok (.aload_n 0, 1) := by decide +kernel
theorem d_M_init_113 : decode b_M_init 113 = .ok (.bipush 12, 2) := by decide +kernel
theorem d_M_init_115 : decode b_M_init 115 = .ok (.newarray .long, 2) := by decide +kernel
theorem d_M_init_117 : decode b_M_init 117 = .ok (.putfield 51, 3) := by decide +kernel
theorem d_M_init_120 : decode b_M_init 120 = .ok (.aload_n 0, 1) := by decide +kernel
theorem d_M_init_121 : decode b_M_init 121 = .ok (.iconst 4, 1) := by decide +kernel
theorem d_M_init_122 : decode b_M_init 122 = .ok (.newarray .long, 2) := by decide +kernel
theorem d_M_init_124 : decode b_M_init 124 = .ok (.putfield 54, 3) := by decide +kernel
theorem d_M_init_127 : decode b_M_init 127 = .ok (.aload_n 0, 1) := by decide +kernel
theorem d_M_init_128 : decode b_M_init 128 = .ok (.iconst 4, 1) := by decide +kernel
theorem d_M_init_129 : decode b_M_init 129 = .ok (.newarray .long, 2) := by decide +kernel
theorem d_M_init_131 : decode b_M_init 131 = .ok (.putfield 57, 3) := by decide +kernel
theorem d_M_init_134 : decode b_M_init 134 = .ok (.aload_n 0, 1) := by decide +kernel
theorem d_M_init_135 : decode b_M_init 135 = .ok (.iconst 4, 1) := by decide +kernel
theorem d_M_init_136 : decode b_M_init 136 = .ok (.newarray .long, 2) := by decide +kernel
theorem d_M_init_138 : decode b_M_init 138 = .ok (.putfield 60, 3) := by decide +kernel
theorem d_M_init_141 : decode b_M_init 141 = .ok (.aload_n 0, 1) := by decide +kernel
theorem d_M_init_142 : decode b_M_init 142 = .ok (.bipush 8, 2) := by decide +kernel
theorem d_M_init_144 : decode b_M_init 144 = .ok (.newarray .int, 2) := by decide +kernel
theorem d_M_init_146 : decode b_M_init 146 = .ok (.putfield 63, 3) := by decide +kernel
theorem d_M_init_149 : decode b_M_init 149 = .ok (.aload_n 0, 1) := by decide +kernel
theorem d_M_init_150 : decode b_M_init 150 = .ok (.bipush 38, 2) := by decide +kernel
theorem d_M_init_152 : decode b_M_init 152 = .ok (.newarray .int, 2) := by decide +kernel
theorem d_M_init_154 : decode b_M_init 154 = .ok (.putfield 66, 3) := by decide +kernel
theorem d_M_init_157 : decode b_M_init 157 = .ok (.aload_n 0, 1) := by decide +kernel
theorem d_M_init_158 : decode b_M_init 158 = .ok (.bipush 38, 2) := by decide +kernel
theorem d_M_init_160 : decode b_M_init 160 = .ok (.newarray .int, 2) := by decide +kernel
theorem d_M_init_162 : decode b_M_init 162 = .ok (.putfield 69, 3) := by decide +kernel
theorem d_M_init_165 : decode b_M_init 165 = .ok (.aload_n 0, 1) := by decide +kernel
theorem d_M_init_166 : decode b_M_init 166 = .ok (.bipush 6, 2) := by decide +kernel
theorem d_M_init_168 : decode b_M_init 168 = .ok (.newarray .boolean, 2) := by decide +kernel
theorem d_M_init_170 : decode b_M_init 170 = .ok (.putfield 72, 3) := by decide +kernel
theorem d_M_init_173 : decode b_M_init 173 = .ok (.aload_n 0, 1) := by decide +kernel
theorem d_M_init_174 : decode b_M_init 174 = .ok (.bipush 44, 2) := by decide +kernel
theorem d_M_init_176 : decode b_M_init 176 = .ok (.newarray .int, 2) := by decide +kernel
theorem d_M_init_178 : decode b_M_init 178 = .ok (.putfield 75, 3) := by decide +kernel
theorem d_M_init_181 : decode b_M_init 181 = .ok (.aload_n 0, 1) := by decide +kernel
theorem d_M_init_182 : decode b_M_init 182 = .ok (.bipush 44, 2) := by decide +kernel
theorem d_M_init_184 : decode b_M_init 184 = .ok (.newarray .int, 2) := by decide +kernel
theorem d_M_init_186 : decode b_M_init 186 = .ok (.putfield 78, 3) := by decide +kernel
theorem d_M_init_189 : decode b_M_init 189 = .ok (.aload_n 0, 1) := by decide +kernel
theorem d_M_init_190 : decode b_M_init 190 = .ok (.bipush 6, 2) := by decide +kernel
theorem d_M_init_192 : decode b_M_init 192 = .ok (.newarray .int, 2) := by decide +kernel
theorem d_M_init_194 : decode b_M_init 194 = .ok (.putfield 81, 3) := by decide +kernel
theorem d_M_init_197 : decode b_M_init 197 = .ok (.aload_n 0, 1) := by decide +kernel
theorem d_M_init_198 : decode b_M_init 198 = .ok (.bipush 6, 2) := by decide +kernel
theorem d_M_init_200 : decode b_M_init 200 = .ok (.newarray .int, 2) := by decide +kernel
theorem d_M_init_202 : decode b_M_init 202 = .ok (.putfield 84, 3) := by decide +kernel
theorem d_M_init_205 : decode b_M_init 205 = .ok (.aload_n 0, 1) := by decide +kernel
theorem d_M_init_206 : decode b_M_init 206 = .ok (.sipush 1800, 3) := by decide +kernel
theorem d_M_init_209 : decode b_M_init 209 = .ok (.newarray .long, 2) := by decide +kernel
theorem d_M_init_211 : decode b_M_init 211 = .ok (.putfield 87, 3) := by decide +kernel
theorem d_M_init_214 : decode b_M_init 214 = .ok (.aload_n 0, 1) := by decide +kernel
theorem d_M_init_215 : decode b_M_init 215 = .ok (.sipush 1800, 3) := by decide +kernel
theorem d_M_init_218 : decode b_M_init 218 = .ok (.newarray .long, 2) := by decide +kernel
theorem d_M_init_220 : decode b_M_init 220 = .ok (.putfield 90, 3) := by decide +kernel
theorem d_M_init_223 : decode b_M_init 223 = .ok (.aload_n 0, 1) := by decide +kernel
theorem d_M_init_224 : decode b_M_init 224 = .ok (.bipush 96, 2) := by decide +kernel
theorem d_M_init_226 : decode b_M_init 226 = .ok (.newarray .int, 2) := by decide +kernel
theorem d_M_init_228 : decode b_M_init 228 = .ok (.putfield 93, 3) := by decide +kernel
theorem d_M_init_231 : decode b_M_init 231 = .ok (.aload_n 0, 1) := by decide +kernel
theorem d_M_init_232 : decode b_M_init 232 = .ok (.sipush 576, 3) := by decide +kernel
theorem d_M_init_235 : decode b_M_init 235 = .ok (.newarray .int, 2) := by decide +kernel
theorem d_M_init_237 : decode b_M_init 237 = .ok (.putfield 96, 3) := by decide +kernel
theorem d_M_init_240 : decode b_M_init 240 = .ok (.aload_n 0, 1) := by decide +kernel
theorem d_M_init_241 : decode b_M_init 241 = .ok (.sipush 768, 3) := by decide +kernel
theorem d_M_init_244 : decode b_M_init 244 = .ok (.newarray .long, 2) := by decide +kernel
theorem d_M_init_246 : decode b_M_init 246 = .ok (.putfield 99, 3) := by decide +kernel
theorem d_M_init_249 : decode b_M_init 249 = .ok (.aload_n 0, 1) := by decide +kernel
theorem d_M_init_250 : decode b_M_init 250 = .ok (.sipush 768, 3) := by decide +kernel
theorem d_M_init_253 : decode b_M_init 253 = .ok (.newarray .long, 2) := by decide +kernel
theorem d_M_init_255 : decode b_M_init 255 = .ok (.putfield 102, 3) := by decide +kernel
theorem d_M_init_258 : decode b_M_init 258 = .ok (.aload_n 0, 1) := by decide +kernel
theorem d_M_init_259 : decode b_M_init 259 = .ok (.bipush 6, 2) := by decide +kernel
theorem d_M_init_261 : decode b_M_init 261 = .ok (.newarray .int, 2) := by decide +kernel
theorem d_M_init_263 : decode b_M_init 263 = .ok (.putfield 105, 3) := by decide +kernel
theorem d_M_init_266 : decode b_M_init 266 = .ok (.aload_n 0, 1) := by decide +kernel
theorem d_M_init_267 : decode b_M_init 267 = .ok (.bipush 8, 2) := by decide +kernel
theorem d_M_init_269 : decode b_M_init 269 = .ok (.newarray .long, 2) := by decide +kernel
theorem d_M_init_271 : decode b_M_init 271 = .ok (.putfield 108, 3) := by decide +kernel
theorem d_M_init_274 : decode b_M_init 274 = .ok (.aload_n 0, 1) := by decide +kernel
theorem d_M_init_275 : decode b_M_init 275 = .ok (.bipush 8, 2) := by decide +kernel
theorem d_M_init_277 : decode b_M_init 277 = .ok (.newarray .long, 2) := by decide +kernel
theorem d_M_init_279 : decode b_M_init 279 = .ok (.putfield 111, 3) := by decide +kernel
theorem d_M_init_282 : decode b_M_init 282 = .ok (.aload_n 0, 1) := by decide +kernel
theorem d_M_init_283 : decode b_M_init 283 = .ok (.bipush 6, 2) := by decide +kernel
theorem d_M_init_285 : decode b_M_init 285 = .ok (.newarray .int, 2) := by decide +kernel
theorem d_M_init_287 : decode b_M_init 287 = .ok (.putfield 114, 3) := by decide +kernel
theorem d_M_init_290 : decode b_M_init 290 = .ok (.aload_n 0, 1) := by decide +kernel
theorem d_M_init_291 : decode b_M_init 291 = .ok (.bipush 6, 2) := by decide +kernel
theorem d_M_init_293 : decode b_M_init 293 = .ok (.newarray .int, 2) := by decide +kernel
theorem d_M_init_295 : decode b_M_init 295 = .ok (.putfield 117, 3) := by decide +kernel
theorem d_M_init_298 : decode b_M_init 298 = .ok (.aload_n 0, 1) := by decide +kernel
theorem d_M_init_299 : decode b_M_init 299 = .ok (.sipush 228, 3) := by decide +kernel
theorem d_M_init_302 : decode b_M_init 302 = .ok (.newarray .int, 2) := by decide +kernel
theorem d_M_init_304 : decode b_M_init 304 = .ok (.putfield 120, 3) := by decide +kernel
theorem d_M_init_307 : decode b_M_init 307 = .ok (.aload_n 0, 1) := by decide +kernel
theorem d_M_init_308 : decode b_M_init 308 = .ok (.sipush 228, 3) := by decide +kernel
theorem d_M_init_311 : decode b_M_init 311 = .ok (.newarray .int, 2) := by decide +kernel
theorem d_M_init_313 : decode b_M_init 313 = .ok (.putfield 123, 3) := by decide +kernel
theorem d_M_init_316 : decode b_M_init 316 = .ok (.aload_n 0, 1) := by decide +kernel
theorem d_M_init_317 : decode b_M_init 317 = .ok (.sipush 228, 3) := by decide +kernel
theorem d_M_init_320 : decode b_M_init 320 = .ok (.newarray .long, 2) := by decide +kernel
theorem d_M_init_322 : decode b_M_init 322 = .ok (.putfield 126, 3) := by decide +kernel
theorem d_M_init_325 : decode b_M_init 325 = .ok (.aload_n 0, 1) := by decide +kernel
theorem d_M_init_326 : decode b_M_init 326 = .ok (.sipush 6000, 3) := by decide +kernel
theorem d_M_init_329 : decode b_M_init 329 = .ok (.newarray .long, 2) := by decide +kernel
theorem d_M_init_331 : decode b_M_init 331 = .ok (.putfield 129, 3) := by decide +kernel
theorem d_M_init_334 : decode b_M_init 334 = .ok (.aload_n 0, 1) := by decide +kernel
theorem d_M_init_335 : decode b_M_init 335 = .ok (.sipush 6000, 3) := by decide +kernel
theorem d_M_init_338 : decode b_M_init 338 = .ok (.newarray .long, 2) := by decide +kernel
theorem d_M_init_340 : decode b_M_init 340 = .ok (.putfield 132, 3) := by decide +kernel
theorem d_M_init_343 : decode b_M_init 343 = .ok (.aload_n 0, 1) := by decide +kernel
theorem d_M_init_344 : decode b_M_init 344 = .ok (.bipush 6, 2) := by decide +kernel
theorem d_M_init_346 : decode b_M_init 346 = .ok (.newarray .boolean, 2) := by decide +kernel
theorem d_M_init_348 : decode b_M_init 348 = .ok (.putfield 135, 3) := by decide +kernel
theorem d_M_init_351 : decode b_M_init 351 = .ok (.aload_n 0, 1) := by decide +kernel
theorem d_M_init_352 : decode b_M_init 352 = .ok (.bipush 6, 2) := by decide +kernel
theorem d_M_init_354 : decode b_M_init 354 = .ok (.newarray .int, 2) := by decide +kernel
theorem d_M_init_356 : decode b_M_init 356 = .ok (.putfield 138, 3) := by decide +kernel
theorem d_M_init_359 : decode b_M_init 359 = .ok (.aload_n 0, 1) := by decide +kernel
theorem d_M_init_360 : decode b_M_init 360 = .ok (.bipush 6, 2) := by decide +kernel
theorem d_M_init_362 : decode b_M_init 362 = .ok (.newarray .int, 2) := by decide +kernel
theorem d_M_init_364 : decode b_M_init 364 = .ok (.putfield 141, 3) := by decide +kernel
theorem d_M_init_367 : decode b_M_init 367 = .ok (.aload_n 0, 1) := by decide +kernel
theorem d_M_init_368 : decode b_M_init 368 = .ok (.bipush 6, 2) := by decide +kernel
theorem d_M_init_370 : decode b_M_init 370 = .ok (.newarray .int, 2) := by decide +kernel
theorem d_M_init_372 : decode b_M_init 372 = .ok (.putfield 144, 3) := by decide +kernel
theorem d_M_init_375 : decode b_M_init 375 = .ok (.aload_n 0, 1) := by decide +kernel
theorem d_M_init_376 : decode b_M_init 376 = .ok (.bipush 6, 2) := by decide +kernel
theorem d_M_init_378 : decode b_M_init 378 = .ok (.newarray .int, 2) := by decide +kernel
theorem d_M_init_380 : decode b_M_init 380 = .ok (.putfield 147, 3) := by decide +kernel
theorem d_M_init_383 : decode b_M_init 383 = .ok (.aload_n 0, 1) := by decide +kernel
theorem d_M_init_384 : decode b_M_init 384 = .ok (.bipush 6, 2) := by decide +kernel
theorem d_M_init_386 : decode b_M_init 386 = .ok (.newarray .int, 2) := by decide +kernel
theorem d_M_init_388 : decode b_M_init 388 = .ok (.putfield 150, 3) := by decide +kernel
theorem d_M_init_391 : decode b_M_init 391 = .ok (.aload_n 0, 1) := by decide +kernel
theorem d_M_init_392 : decode b_M_init 392 = .ok (.bipush 6, 2) := by decide +kernel
theorem d_M_init_394 : decode b_M_init 394 = .ok (.newarray .int, 2) := by decide +kernel
theorem d_M_init_396 : decode b_M_init 396 = .ok (.putfield 153, 3) := by decide +kernel
theorem d_M_init_399 : decode b_M_init 399 = .ok (.aload_n 0, 1) := by decide +kernel
theorem d_M_init_400 : decode b_M_init 400 = .ok (.bipush 48, 2) := by decide +kernel
theorem d_M_init_402 : decode b_M_init 402 = .ok (.newarray .long, 2) := by decide +kernel
theorem d_M_init_404 : decode b_M_init 404 = .ok (.putfield 156, 3) := by decide +kernel
theorem d_M_init_407 : decode b_M_init 407 = .ok (.aload_n 0, 1) := by decide +kernel
theorem d_M_init_408 : decode b_M_init 408 = .ok (.bipush 48, 2) := by decide +kernel
theorem d_M_init_410 : decode b_M_init 410 = .ok (.newarray .long, 2) := by decide +kernel
theorem d_M_init_412 : decode b_M_init 412 = .ok (.putfield 159, 3) := by decide +kernel
theorem d_M_init_415 : decode b_M_init 415 = .ok (.aload_n 0, 1) := by decide +kernel
theorem d_M_init_416 : decode b_M_init 416 = .ok (.bipush 6, 2) := by decide +kernel
theorem d_M_init_418 : decode b_M_init 418 = .ok (.newarray .int, 2) := by decide +kernel
theorem d_M_init_420 : decode b_M_init 420 = .ok (.putfield 162, 3) := by decide +kernel
theorem d_M_init_423 : decode b_M_init 423 = .ok (.aload_n 0, 1) := by decide +kernel
theorem d_M_init_424 : decode b_M_init 424 = .ok (.sipush 384, 3) := by decide +kernel
theorem d_M_init_427 : decode b_M_init 427 = .ok (.newarray .long, 2) := by decide +kernel
theorem d_M_init_429 : decode b_M_init 429 = .ok (.putfield 165, 3) := by decide +kernel
theorem d_M_init_432 : decode b_M_init 432 = .ok (.aload_n 0, 1) := by decide +kernel
theorem d_M_init_433 : decode b_M_init 433 = .ok (.sipush 384, 3) := by decide +kernel
theorem d_M_init_436 : decode b_M_init 436 = .ok (.newarray .long, 2) := by decide +kernel
theorem d_M_init_438 : decode b_M_init 438 = .ok (.putfield 168, 3) := by decide +kernel
theorem d_M_init_441 : decode b_M_init 441 = .ok (.aload_n 0, 1) := by decide +kernel
theorem d_M_init_442 : decode b_M_init 442 = .ok (.bipush 6, 2) := by decide +kernel
theorem d_M_init_444 : decode b_M_init 444 = .ok (.newarray .int, 2) := by decide +kernel
theorem d_M_init_446 : decode b_M_init 446 = .ok (.putfield 171, 3) := by decide +kernel
theorem d_M_init_449 : decode b_M_init 449 = .ok (.aload_n 0, 1) := by decide +kernel
theorem d_M_init_450 : decode b_M_init 450 = .ok (.sipush 390, 3) := by decide +kernel
theorem d_M_init_453 : decode b_M_init 453 = .ok (.newarray .int, 2) := by decide +kernel
theorem d_M_init_455 : decode b_M_init 455 = .ok (.putfield 174, 3) := by decide +kernel
theorem d_M_init_458 : decode b_M_init 458 = .ok (.aload_n 0, 1) := by decide +kernel
theorem d_M_init_459 : decode b_M_init 459 = .ok (.bipush 6, 2) := by decide +kernel
theorem d_M_init_461 : decode b_M_init 461 = .ok (.newarray .int, 2) := by decide +kernel
theorem d_M_init_463 : decode b_M_init 463 = .ok (.putfield 177, 3) := by decide +kernel
theorem d_M_init_466 : decode b_M_init 466 = .ok (.aload_n 0, 1) := by decide +kernel
theorem d_M_init_467 : decode b_M_init 467 = .ok (.sipush 234, 3) := by decide +kernel
theorem d_M_init_470 : decode b_M_init 470 = .ok (.newarray .int, 2) := by decide +kernel
theorem d_M_init_472 : decode b_M_init 472 = .ok (.putfield 180, 3) := by decide +kernel
theorem d_M_init_475 : decode b_M_init 475 = .ok (.aload_n 0, 1) := by decide +kernel
theorem d_M_init_476 : decode b_M_init 476 = .ok (.sipush 6000, 3) := by decide +kernel
theorem d_M_init_479 : decode b_M_init 479 = .ok (.newarray .long, 2) := by decide +kernel
theorem d_M_init_481 : decode b_M_init 481 = .ok (.putfield 183, 3) := by decide +kernel
theorem d_M_init_484 : decode b_M_init 484 = .ok (.aload_n 0, 1) := by decide +kernel
theorem d_M_init_485 : decode b_M_init 485 = .ok (.sipush 6000, 3) := by decide +kernel
theorem d_M_init_488 : decode b_M_init 488 = .ok (.newarray .long, 2) := by decide +kernel
theorem d_M_init_490 : decode b_M_init 490 = .ok (.putfield 186, 3) := by decide +kernel
theorem d_M_init_493 : decode b_M_init 493 = .ok (.aload_n 0, 1) := by decide +kernel
theorem d_M_init_494 : decode b_M_init 494 = .ok (.sipush 1000, 3) := by decide +kernel
theorem d_M_init_497 : decode b_M_init 497 = .ok (.newarray .long, 2) := by decide +kernel
theorem d_M_init_499 : decode b_M_init 499 = .ok (.putfield 189, 3) := by decide +kernel
theorem d_M_init_502 : decode b_M_init 502 = .ok (.aload_n 0, 1) := by decide +kernel
theorem d_M_init_503 : decode b_M_init 503 = .ok (.sipush 1000, 3) := by decide +kernel
theorem d_M_init_506 : decode b_M_init 506 = .ok (.newarray .long, 2) := by decide +kernel
theorem d_M_init_508 : decode b_M_init 508 = .ok (.putfield 192, 3) := by decide +kernel
theorem d_M_init_511 : decode b_M_init 511 = .ok (.aload_n 0, 1) := by decide +kernel
theorem d_M_init_512 : decode b_M_init 512 = .ok (.bipush 65, 2) := by decide +kernel
theorem d_M_init_514 : decode b_M_init 514 = .ok (.newarray .int, 2) := by decide +kernel
theorem d_M_init_516 : decode b_M_init 516 = .ok (.putfield 195, 3) := by decide +kernel
theorem d_M_init_519 : decode b_M_init 519 = .ok (.return_, 1) := by decide +kernel
abbrev b_M_right : ByteArray := prog_1_method_2_code
def y_M_right : MethodName := ⟨"ShuffleMill", "right", "(Z)V"⟩
theorem d_M_right_0 : decode b_M_right 0 = .ok (.iload_n 0, 1) := by decide +kernel
theorem d_M_right_1 : decode b_M_right 1 = .ok (.ifCond .ne 11, 3) := by decide +kernel
theorem d_M_right_4 : decode b_M_right 4 = .ok (.new 198, 3) := by decide +kernel
theorem d_M_right_7 : decode b_M_right 7 = .ok (.dup, 1) := by decide +kernel
theorem d_M_right_8 : decode b_M_right 8 = .ok (.invokespecial 200, 3) := by decide +kernel
theorem d_M_right_11 : decode b_M_right 11 = .ok (.athrow, 1) := by decide +kernel
theorem d_M_right_12 : decode b_M_right 12 = .ok (.return_, 1) := by decide +kernel
abbrev b_M_may : ByteArray := prog_1_method_3_code
def y_M_may : MethodName := ⟨"ShuffleMill", "may", "(Z)V"⟩
theorem d_M_may_0 : decode b_M_may 0 = .ok (.iload_n 0, 1) := by decide +kernel
theorem d_M_may_1 : decode b_M_may 1 = .ok (.ifCond .ne 11, 3) := by decide +kernel
theorem d_M_may_4 : decode b_M_may 4 = .ok (.new 201, 3) := by decide +kernel
theorem d_M_may_7 : decode b_M_may 7 = .ok (.dup, 1) := by decide +kernel
theorem d_M_may_8 : decode b_M_may 8 = .ok (.invokespecial 203, 3) := by decide +kernel
theorem d_M_may_11 : decode b_M_may 11 = .ok (.athrow, 1) := by decide +kernel
theorem d_M_may_12 : decode b_M_may 12 = .ok (.return_, 1) := by decide +kernel
abbrev b_M_there : ByteArray := prog_1_method_4_code
def y_M_there : MethodName := ⟨"ShuffleMill", "there", "(Z)V"⟩
theorem d_M_there_0 : decode b_M_there 0 = .ok (.iload_n 0, 1) := by decide +kernel
theorem d_M_there_1 : decode b_M_there 1 = .ok (.ifCond .ne 11, 3) := by decide +kernel
theorem d_M_there_4 : decode b_M_there 4 = .ok (.new 204, 3) := by decide +kernel
theorem d_M_there_7 : decode b_M_there 7 = .ok (.dup, 1) := by decide +kernel
theorem d_M_there_8 : decode b_M_there 8 = .ok (.invokespecial 206, 3) := by decide +kernel
theorem d_M_there_11 : decode b_M_there 11 = .ok (.athrow, 1) := by decide +kernel
theorem d_M_there_12 : decode b_M_there 12 = .ok (.return_, 1) := by decide +kernel
abbrev b_M_in : ByteArray := prog_1_method_5_code
def y_M_in : MethodName := ⟨"ShuffleMill", "in", "(JJJ)Z"⟩
theorem d_M_in_0 : decode b_M_in 0 = .ok (.lload_n 0, 1) := by decide +kernel
theorem d_M_in_1 : decode b_M_in 1 = .ok (.lload_n 2, 1) := by decide +kernel
theorem d_M_in_2 : decode b_M_in 2 = .ok (.lcmp, 1) := by decide +kernel
theorem d_M_in_3 : decode b_M_in 3 = .ok (.ifCond .lt 14, 3) := by decide +kernel
theorem d_M_in_6 : decode b_M_in 6 = .ok (.lload_n 0, 1) := by decide +kernel
theorem d_M_in_7 : decode b_M_in 7 = .ok (.lload 4, 2) := by decide +kernel
theorem d_M_in_9 : decode b_M_in 9 = .ok (.lcmp, 1) := by decide +kernel
theorem d_M_in_10 : decode b_M_in 10 = .ok (.ifCond .gt 7, 3) := by decide +kernel
theorem d_M_in_13 : decode b_M_in 13 = .ok (.iconst 1, 1) := by decide +kernel
theorem d_M_in_14 : decode b_M_in 14 = .ok (.goto 4, 3) := by decide +kernel
theorem d_M_in_17 : decode b_M_in 17 = .ok (.iconst 0, 1) := by decide +kernel
theorem d_M_in_18 : decode b_M_in 18 = .ok (.ireturn, 1) := by decide +kernel
abbrev b_M_push : ByteArray := prog_1_method_6_code
def y_M_push : MethodName := ⟨"ShuffleMill", "push", "(J)V"⟩
theorem d_M_push_0 : decode b_M_push 0 = .ok (.aload_n 0, 1) := by decide +kernel
theorem d_M_push_1 : decode b_M_push 1 = .ok (.getfield 207, 3) := by decide +kernel
theorem d_M_push_4 : decode b_M_push 4 = .ok (.bipush 12, 2) := by decide +kernel
theorem d_M_push_6 : decode b_M_push 6 = .ok (.if_icmp .ne 9, 3) := by decide +kernel
theorem d_M_push_9 : decode b_M_push 9 = .ok (.aload_n 0, 1) := by decide +kernel
theorem d_M_push_10 : decode b_M_push 10 = .ok (.iconst 1, 1) := by decide +kernel
theorem d_M_push_11 : decode b_M_push 11 = .ok (.putfield 211, 3) := by decide +kernel
theorem d_M_push_14 : decode b_M_push 14 = .ok (.return_, 1) := by decide +kernel
theorem d_M_push_15 : decode b_M_push 15 = .ok (.aload_n 0, 1) := by decide +kernel
theorem d_M_push_16 : decode b_M_push 16 = .ok (.getfield 51, 3) := by decide +kernel
theorem d_M_push_19 : decode b_M_push 19 = .ok (.aload_n 0, 1) := by decide +kernel
theorem d_M_push_20 : decode b_M_push 20 = .ok (.getfield 207, 3) := by decide +kernel
theorem d_M_push_23 : decode b_M_push 23 = .ok (.lload_n 1, 1) := by decide +kernel
theorem d_M_push_24 : decode b_M_push 24 = .ok (.lastore, 1) := by decide +kernel
theorem d_M_push_25 : decode b_M_push 25 = .ok (.aload_n 0, 1) := by decide +kernel
theorem d_M_push_26 : decode b_M_push 26 = .ok (.dup, 1) := by decide +kernel
theorem d_M_push_27 : decode b_M_push 27 = .ok (.getfield 207, 3) := by decide +kernel
theorem d_M_push_30 : decode b_M_push 30 = .ok (.iconst 1, 1) := by decide +kernel
theorem d_M_push_31 : decode b_M_push 31 = .ok (.iadd, 1) := by decide +kernel
theorem d_M_push_32 : decode b_M_push 32 = .ok (.putfield 207, 3) := by decide +kernel
theorem d_M_push_35 : decode b_M_push 35 = .ok (.return_, 1) := by decide +kernel
abbrev b_M_pop : ByteArray := prog_1_method_7_code
def y_M_pop : MethodName := ⟨"ShuffleMill", "pop", "()J"⟩
theorem d_M_pop_0 : decode b_M_pop 0 = .ok (.aload_n 0, 1) := by decide +kernel
theorem d_M_pop_1 : decode b_M_pop 1 = .ok (.getfield 207, 3) := by decide +kernel
theorem d_M_pop_4 : decode b_M_pop 4 = .ok (.ifCond .ne 10, 3) := by decide +kernel
theorem d_M_pop_7 : decode b_M_pop 7 = .ok (.aload_n 0, 1) := by decide +kernel
theorem d_M_pop_8 : decode b_M_pop 8 = .ok (.iconst 1, 1) := by decide +kernel
theorem d_M_pop_9 : decode b_M_pop 9 = .ok (.putfield 211, 3) := by decide +kernel
theorem d_M_pop_12 : decode b_M_pop 12 = .ok (.lconst 0, 1) := by decide +kernel
theorem d_M_pop_13 : decode b_M_pop 13 = .ok (.lreturn, 1) := by decide +kernel
theorem d_M_pop_14 : decode b_M_pop 14 = .ok (.aload_n 0, 1) := by decide +kernel
theorem d_M_pop_15 : decode b_M_pop 15 = .ok (.dup, 1) := by decide +kernel
theorem d_M_pop_16 : decode b_M_pop 16 = .ok (.getfield 207, 3) := by decide +kernel
theorem d_M_pop_19 : decode b_M_pop 19 = .ok (.iconst 1, 1) := by decide +kernel
theorem d_M_pop_20 : decode b_M_pop 20 = .ok (.isub, 1) := by decide +kernel
theorem d_M_pop_21 : decode b_M_pop 21 = .ok (.putfield 207, 3) := by decide +kernel
theorem d_M_pop_24 : decode b_M_pop 24 = .ok (.aload_n 0, 1) := by decide +kernel
theorem d_M_pop_25 : decode b_M_pop 25 = .ok (.getfield 51, 3) := by decide +kernel
theorem d_M_pop_28 : decode b_M_pop 28 = .ok (.aload_n 0, 1) := by decide +kernel
theorem d_M_pop_29 : decode b_M_pop 29 = .ok (.getfield 207, 3) := by decide +kernel
theorem d_M_pop_32 : decode b_M_pop 32 = .ok (.laload, 1) := by decide +kernel
theorem d_M_pop_33 : decode b_M_pop 33 = .ok (.lreturn, 1) := by decide +kernel
abbrev b_M_call : ByteArray := prog_1_method_8_code
def y_M_call : MethodName := ⟨"ShuffleMill", "call", "(I)Z"⟩
theorem d_M_call_0 : decode b_M_call 0 = .ok (.aload_n 0, 1) := by decide +kernel
theorem d_M_call_1 : decode b_M_call 1 = .ok (.iconst 0, 1) := by decide +kernel
theorem d_M_call_2 : decode b_M_call 2 = .ok (.putfield 207, 3) := by decide +kernel
theorem d_M_call_5 : decode b_M_call 5 = .ok (.aload_n 0, 1) := by decide +kernel
theorem d_M_call_6 : decode b_M_call 6 = .ok (.iconst 0, 1) := by decide +kernel
theorem d_M_call_7 : decode b_M_call 7 = .ok (.putfield 215, 3) := by decide +kernel
theorem d_M_call_10 : decode b_M_call 10 = .ok (.aload_n 0, 1) := by decide +kernel
theorem d_M_call_11 : decode b_M_call 11 = .ok (.iconst 0, 1) := by decide +kernel
theorem d_M_call_12 : decode b_M_call 12 = .ok (.putfield 211, 3) := by decide +kernel
theorem d_M_call_15 : decode b_M_call 15 = .ok (.iconst 0, 1) := by decide +kernel
theorem d_M_call_16 : decode b_M_call 16 = .ok (.istore_n 2, 1) := by decide +kernel
theorem d_M_call_17 : decode b_M_call 17 = .ok (.iload_n 2, 1) := by decide +kernel
theorem d_M_call_18 : decode b_M_call 18 = .ok (.iconst 4, 1) := by decide +kernel
theorem d_M_call_19 : decode b_M_call 19 = .ok (.if_icmp .ge 16, 3) := by decide +kernel
theorem d_M_call_22 : decode b_M_call 22 = .ok (.aload_n 0, 1) := by decide +kernel
theorem d_M_call_23 : decode b_M_call 23 = .ok (.getfield 54, 3) := by decide +kernel
theorem d_M_call_26 : decode b_M_call 26 = .ok (.iload_n 2, 1) := by decide +kernel
theorem d_M_call_27 : decode b_M_call 27 = .ok (.lconst 0, 1) := by decide +kernel
theorem d_M_call_28 : decode b_M_call 28 = .ok (.lastore, 1) := by decide +kernel
theorem d_M_call_29 : decode b_M_call 29 = .ok (.iinc 2 1, 3) := by decide +kernel
theorem d_M_call_32 : decode b_M_call 32 = .ok (.goto (-15), 3) := by decide +kernel
theorem d_M_call_35 : decode b_M_call 35 = .ok (.iconst 0, 1) := by decide +kernel
theorem d_M_call_36 : decode b_M_call 36 = .ok (.istore_n 2, 1) := by decide +kernel
theorem d_M_call_37 : decode b_M_call 37 = .ok (.sipush 400, 3) := by decide +kernel
theorem d_M_call_40 : decode b_M_call 40 = .ok (.istore_n 3, 1) := by decide +kernel
theorem d_M_call_41 : decode b_M_call 41 = .ok (.aload_n 0, 1) := by decide +kernel
theorem d_M_call_42 : decode b_M_call 42 = .ok (.getfield 211, 3) := by decide +kernel
theorem d_M_call_45 : decode b_M_call 45 = .ok (.ifCond .ne 138, 3) := by decide +kernel
theorem d_M_call_48 : decode b_M_call 48 = .ok (.iload_n 2, 1) := by decide +kernel
theorem d_M_call_49 : decode b_M_call 49 = .ok (.aload_n 0, 1) := by decide +kernel
theorem d_M_call_50 : decode b_M_call 50 = .ok (.getfield 32, 3) := by decide +kernel
theorem d_M_call_53 : decode b_M_call 53 = .ok (.iload_n 1, 1) := by decide +kernel
theorem d_M_call_54 : decode b_M_call 54 = .ok (.iaload, 1) := by decide +kernel
theorem d_M_call_55 : decode b_M_call 55 = .ok (.if_icmp .ge 128, 3) := by decide +kernel
theorem d_M_call_58 : decode b_M_call 58 = .ok (.iload_n 3, 1) := by decide +kernel
theorem d_M_call_59 : decode b_M_call 59 = .ok (.ifCond .ne 5, 3) := by decide +kernel
theorem d_M_call_62 : decode b_M_call 62 = .ok (.iconst 0, 1) := by decide +kernel
theorem d_M_call_63 : decode b_M_call 63 = .ok (.ireturn, 1) := by decide +kernel
theorem d_M_call_64 : decode b_M_call 64 = .ok (.iinc 3 (-1), 3) := by decide +kernel
theorem d_M_call_67 : decode b_M_call 67 = .ok (.aload_n 0, 1) := by decide +kernel
theorem d_M_call_68 : decode b_M_call 68 = .ok (.getfield 26, 3) := by decide +kernel
theorem d_M_call_71 : decode b_M_call 71 = .ok (.iload_n 1, 1) := by decide +kernel
theorem d_M_call_72 : decode b_M_call 72 = .ok (.bipush 40, 2) := by decide +kernel
theorem d_M_call_74 : decode b_M_call 74 = .ok (.imul, 1) := by decide +kernel
theorem d_M_call_75 : decode b_M_call 75 = .ok (.iload_n 2, 1) := by decide +kernel
theorem d_M_call_76 : decode b_M_call 76 = .ok (.iadd, 1) := by decide +kernel
theorem d_M_call_77 : decode b_M_call 77 = .ok (.iaload, 1) := by decide +kernel
theorem d_M_call_78 : decode b_M_call 78 = .ok (.istore 4, 2) := by decide +kernel
theorem d_M_call_80 : decode b_M_call 80 = .ok (.aload_n 0, 1) := by decide +kernel
theorem d_M_call_81 : decode b_M_call 81 = .ok (.getfield 29, 3) := by decide +kernel
theorem d_M_call_84 : decode b_M_call 84 = .ok (.iload_n 1, 1) := by decide +kernel
theorem d_M_call_85 : decode b_M_call 85 = .ok (.bipush 40, 2) := by decide +kernel
theorem d_M_call_87 : decode b_M_call 87 = .ok (.imul, 1) := by decide +kernel
theorem d_M_call_88 : decode b_M_call 88 = .ok (.iload_n 2, 1) := by decide +kernel
theorem d_M_call_89 : decode b_M_call 89 = .ok (.iadd, 1) := by decide +kernel
theorem d_M_call_90 : decode b_M_call 90 = .ok (.laload, 1) := by decide +kernel
theorem d_M_call_91 : decode b_M_call 91 = .ok (.lstore 5, 2) := by decide +kernel
theorem d_M_call_93 : decode b_M_call 93 = .ok (.iinc 2 1, 3) := by decide +kernel
theorem d_M_call_96 : decode b_M_call 96 = .ok (.iload 4, 2) := by decide +kernel
theorem d_M_call_98 : decode b_M_call 98 = .ok (.bipush 18, 2) := by decide +kernel
theorem d_M_call_100 : decode b_M_call 100 = .ok (.if_icmp .ne 5, 3) := by decide +kernel
theorem d_M_call_103 : decode b_M_call 103 = .ok (.iconst 1, 1) := by decide +kernel
theorem d_M_call_104 : decode b_M_call 104 = .ok (.ireturn, 1) := by decide +kernel
theorem d_M_call_105 : decode b_M_call 105 = .ok (.iload 4, 2) := by decide +kernel
theorem d_M_call_107 : decode b_M_call 107 = .ok (.bipush 15, 2) := by decide +kernel
theorem d_M_call_109 : decode b_M_call 109 = .ok (.if_icmp .ne 10, 3) := by decide +kernel
theorem d_M_call_112 : decode b_M_call 112 = .ok (.lload 5, 2) := by decide +kernel
theorem d_M_call_114 : decode b_M_call 114 = .ok (.l2i, 1) := by decide +kernel
theorem d_M_call_115 : decode b_M_call 115 = .ok (.istore_n 2, 1) := by decide +kernel
theorem d_M_call_116 : decode b_M_call 116 = .ok (.goto 64, 3) := by decide +kernel
theorem d_M_call_119 : decode b_M_call 119 = .ok (.iload 4, 2) := by decide +kernel
theorem d_M_call_121 : decode b_M_call 121 = .ok (.bipush 16, 2) := by decide +kernel
theorem d_M_call_123 : decode b_M_call 123 = .ok (.if_icmp .ne 23, 3) := by decide +kernel
theorem d_M_call_126 : decode b_M_call 126 = .ok (.aload_n 0, 1) := by decide +kernel
theorem d_M_call_127 : decode b_M_call 127 = .ok (.invokevirtual 218, 3) := by decide +kernel
theorem d_M_call_130 : decode b_M_call 130 = .ok (.lconst 0, 1) := by decide +kernel
theorem d_M_call_131 : decode b_M_call 131 = .ok (.lcmp, 1) := by decide +kernel
theorem d_M_call_132 : decode b_M_call 132 = .ok (.ifCond .ne 9, 3) := by decide +kernel
theorem d_M_call_135 : decode b_M_call 135 = .ok (.lload 5, 2) := by decide +kernel
theorem d_M_call_137 : decode b_M_call 137 = .ok (.l2i, 1) := by decide +kernel
theorem d_M_call_138 : decode b_M_call 138 = .ok (.goto 4, 3) := by decide +kernel
theorem d_M_call_141 : decode b_M_call 141 = .ok (.iload_n 2, 1) := by decide +kernel
theorem d_M_call_142 : decode b_M_call 142 = .ok (.istore_n 2, 1) := by decide +kernel
theorem d_M_call_143 : decode b_M_call 143 = .ok (.goto 37, 3) := by decide +kernel
theorem d_M_call_146 : decode b_M_call 146 = .ok (.iload 4, 2) := by decide +kernel
theorem d_M_call_148 : decode b_M_call 148 = .ok (.bipush 6, 2) := by decide +kernel
theorem d_M_call_150 : decode b_M_call 150 = .ok (.if_icmp .lt 19, 3) := by decide +kernel
theorem d_M_call_153 : decode b_M_call 153 = .ok (.iload 4, 2) := by decide +kernel
theorem d_M_call_155 : decode b_M_call 155 = .ok (.bipush 11, 2) := by decide +kernel
theorem d_M_call_157 : decode b_M_call 157 = .ok (.if_icmp .gt 12, 3) := by decide +kernel
theorem d_M_call_160 : decode b_M_call 160 = .ok (.aload_n 0, 1) := by decide +kernel
theorem d_M_call_161 : decode b_M_call 161 = .ok (.iload 4, 2) := by decide +kernel
theorem d_M_call_163 : decode b_M_call 163 = .ok (.invokevirtual 222, 3) := by decide +kernel
theorem d_M_call_166 : decode b_M_call 166 = .ok (.goto 14, 3) := by decide +kernel
theorem d_M_call_169 : decode b_M_call 169 = .ok (.aload_n 0, 1) := by decide +kernel
theorem d_M_call_170 : decode b_M_call 170 = .ok (.iload_n 1, 1) := by decide +kernel
theorem d_M_call_171 : decode b_M_call 171 = .ok (.iconst 3, 1) := by decide +kernel
theorem d_M_call_172 : decode b_M_call 172 = .ok (.irem, 1) := by decide +kernel
theorem d_M_call_173 : decode b_M_call 173 = .ok (.iload 4, 2) := by decide +kernel
theorem d_M_call_175 : decode b_M_call 175 = .ok (.lload 5, 2) := by decide +kernel
theorem d_M_call_177 : decode b_M_call 177 = .ok (.invokevirtual 226, 3) := by decide +kernel
theorem d_M_call_180 : decode b_M_call 180 = .ok (.goto (-139), 3) := by decide +kernel
theorem d_M_call_183 : decode b_M_call 183 = .ok (.aload_n 0, 1) := by decide +kernel
theorem d_M_call_184 : decode b_M_call 184 = .ok (.getfield 211, 3) := by decide +kernel
theorem d_M_call_187 : decode b_M_call 187 = .ok (.ifCond .ne 7, 3) := by decide +kernel
theorem d_M_call_190 : decode b_M_call 190 = .ok (.iconst 1, 1) := by decide +kernel
theorem d_M_call_191 : decode b_M_call 191 = .ok (.goto 4, 3) := by decide +kernel
theorem d_M_call_194 : decode b_M_call 194 = .ok (.iconst 0, 1) := by decide +kernel
theorem d_M_call_195 : decode b_M_call 195 = .ok (.ireturn, 1) := by decide +kernel
abbrev b_M_compute : ByteArray := prog_1_method_9_code
def y_M_compute : MethodName := ⟨"ShuffleMill", "compute", "(I)V"⟩
theorem d_M_compute_0 : decode b_M_compute 0 = .ok (.aload_n 0, 1) := by decide +kernel
theorem d_M_compute_1 : decode b_M_compute 1 = .ok (.invokevirtual 218, 3) := by decide +kernel
theorem d_M_compute_4 : decode b_M_compute 4 = .ok (.lstore_n 2, 1) := by decide +kernel
theorem d_M_compute_5 : decode b_M_compute 5 = .ok (.aload_n 0, 1) := by decide +kernel
theorem d_M_compute_6 : decode b_M_compute 6 = .ok (.invokevirtual 218, 3) := by decide +kernel
theorem d_M_compute_9 : decode b_M_compute 9 = .ok (.lstore 4, 2) := by decide +kernel
theorem d_M_compute_11 : decode b_M_compute 11 = .ok (.iload_n 1, 1) := by decide +kernel
theorem d_M_compute_12 : decode b_M_compute 12 = .ok (.tableswitch 113 6 10 #[36, 47, 58, 69, 94], 36) := by decide +kernel
theorem d_M_compute_48 : decode b_M_compute 48 = .ok (.aload_n 0, 1) := by decide +kernel
theorem d_M_compute_49 : decode b_M_compute 49 = .ok (.lload 4, 2) := by decide +kernel
theorem d_M_compute_51 : decode b_M_compute 51 = .ok (.lload_n 2, 1) := by decide +kernel
theorem d_M_compute_52 : decode b_M_compute 52 = .ok (.ladd, 1) := by decide +kernel
theorem d_M_compute_53 : decode b_M_compute 53 = .ok (.invokevirtual 230, 3) := by decide +kernel
theorem d_M_compute_56 : decode b_M_compute 56 = .ok (.goto 85, 3) := by decide +kernel
theorem d_M_compute_59 : decode b_M_compute 59 = .ok (.aload_n 0, 1) := by decide +kernel
theorem d_M_compute_60 : decode b_M_compute 60 = .ok (.lload 4, 2) := by decide +kernel
theorem d_M_compute_62 : decode b_M_compute 62 = .ok (.lload_n 2, 1) := by decide +kernel
theorem d_M_compute_63 : decode b_M_compute 63 = .ok (.lsub, 1) := by decide +kernel
theorem d_M_compute_64 : decode b_M_compute 64 = .ok (.invokevirtual 230, 3) := by decide +kernel
theorem d_M_compute_67 : decode b_M_compute 67 = .ok (.goto 74, 3) := by decide +kernel
theorem d_M_compute_70 : decode b_M_compute 70 = .ok (.aload_n 0, 1) := by decide +kernel
theorem d_M_compute_71 : decode b_M_compute 71 = .ok (.lload 4, 2) := by decide +kernel
theorem d_M_compute_73 : decode b_M_compute 73 = .ok (.lload_n 2, 1) := by decide +kernel
theorem d_M_compute_74 : decode b_M_compute 74 = .ok (.lmul, 1) := by decide +kernel
theorem d_M_compute_75 : decode b_M_compute 75 = .ok (.invokevirtual 230, 3) := by decide +kernel
theorem d_M_compute_78 : decode b_M_compute 78 = .ok (.goto 63, 3) := by decide +kernel
theorem d_M_compute_81 : decode b_M_compute 81 = .ok (.lload_n 2, 1) := by decide +kernel
theorem d_M_compute_82 : decode b_M_compute 82 = .ok (.lconst 0, 1) := by decide +kernel
theorem d_M_compute_83 : decode b_M_compute 83 = .ok (.lcmp, 1) := by decide +kernel
theorem d_M_compute_84 : decode b_M_compute 84 = .ok (.ifCond .ne 11, 3) := by decide +kernel
theorem d_M_compute_87 : decode b_M_compute 87 = .ok (.aload_n 0, 1) := by decide +kernel
theorem d_M_compute_88 : decode b_M_compute 88 = .ok (.iconst 1, 1) := by decide +kernel
theorem d_M_compute_89 : decode b_M_compute 89 = .ok (.putfield 211, 3) := by decide +kernel
theorem d_M_compute_92 : decode b_M_compute 92 = .ok (.goto 49, 3) := by decide +kernel
theorem d_M_compute_95 : decode b_M_compute 95 = .ok (.aload_n 0, 1) := by decide +kernel
theorem d_M_compute_96 : decode b_M_compute 96 = .ok (.lload 4, 2) := by decide +kernel
theorem d_M_compute_98 : decode b_M_compute 98 = .ok (.lload_n 2, 1) := by decide +kernel
theorem d_M_compute_99 : decode b_M_compute 99 = .ok (.ldiv, 1) := by decide +kernel
theorem d_M_compute_100 : decode b_M_compute 100 = .ok (.invokevirtual 230, 3) := by decide +kernel
theorem d_M_compute_103 : decode b_M_compute 103 = .ok (.goto 38, 3) := by decide +kernel
theorem d_M_compute_106 : decode b_M_compute 106 = .ok (.aload_n 0, 1) := by decide +kernel
theorem d_M_compute_107 : decode b_M_compute 107 = .ok (.lload 4, 2) := by decide +kernel
theorem d_M_compute_109 : decode b_M_compute 109 = .ok (.lload_n 2, 1) := by decide +kernel
theorem d_M_compute_110 : decode b_M_compute 110 = .ok (.lcmp, 1) := by decide +kernel
theorem d_M_compute_111 : decode b_M_compute 111 = .ok (.ifCond .ge 7, 3) := by decide +kernel
theorem d_M_compute_114 : decode b_M_compute 114 = .ok (.lconst 1, 1) := by decide +kernel
theorem d_M_compute_115 : decode b_M_compute 115 = .ok (.goto 4, 3) := by decide +kernel
theorem d_M_compute_118 : decode b_M_compute 118 = .ok (.lconst 0, 1) := by decide +kernel
theorem d_M_compute_119 : decode b_M_compute 119 = .ok (.invokevirtual 230, 3) := by decide +kernel
theorem d_M_compute_122 : decode b_M_compute 122 = .ok (.goto 19, 3) := by decide +kernel
theorem d_M_compute_125 : decode b_M_compute 125 = .ok (.aload_n 0, 1) := by decide +kernel
theorem d_M_compute_126 : decode b_M_compute 126 = .ok (.lload 4, 2) := by decide +kernel
theorem d_M_compute_128 : decode b_M_compute 128 = .ok (.lload_n 2, 1) := by decide +kernel
theorem d_M_compute_129 : decode b_M_compute 129 = .ok (.lcmp, 1) := by decide +kernel
theorem d_M_compute_130 : decode b_M_compute 130 = .ok (.ifCond .ne 7, 3) := by decide +kernel
theorem d_M_compute_133 : decode b_M_compute 133 = .ok (.lconst 1, 1) := by decide +kernel
theorem d_M_compute_134 : decode b_M_compute 134 = .ok (.goto 4, 3) := by decide +kernel
theorem d_M_compute_137 : decode b_M_compute 137 = .ok (.lconst 0, 1) := by decide +kernel
theorem d_M_compute_138 : decode b_M_compute 138 = .ok (.invokevirtual 230, 3) := by decide +kernel
theorem d_M_compute_141 : decode b_M_compute 141 = .ok (.return_, 1) := by decide +kernel
abbrev b_M_does : ByteArray := prog_1_method_10_code
def y_M_does : MethodName := ⟨"ShuffleMill", "does", "(IIJ)V"⟩
theorem d_M_does_0 : decode b_M_does 0 = .ok (.iload_n 2, 1) := by decide +kernel
theorem d_M_does_1 : decode b_M_does 1 = .ok (.tableswitch 213 0 14 #[75, 83, 94, 102, 129, 143, 213, 213, 213, 213, 213, 213, 157, 178, 186], 75) := by decide +kernel
theorem d_M_does_76 : decode b_M_does 76 = .ok (.aload_n 0, 1) := by decide +kernel
theorem d_M_does_77 : decode b_M_does 77 = .ok (.lload_n 3, 1) := by decide +kernel
theorem d_M_does_78 : decode b_M_does 78 = .ok (.invokevirtual 230, 3) := by decide +kernel
theorem d_M_does_81 : decode b_M_does 81 = .ok (.goto 138, 3) := by decide +kernel
theorem d_M_does_84 : decode b_M_does 84 = .ok (.aload_n 0, 1) := by decide +kernel
theorem d_M_does_85 : decode b_M_does 85 = .ok (.aload_n 0, 1) := by decide +kernel
theorem d_M_does_86 : decode b_M_does 86 = .ok (.getfield 234, 3) := by decide +kernel
theorem d_M_does_89 : decode b_M_does 89 = .ok (.invokevirtual 230, 3) := by decide +kernel
theorem d_M_does_92 : decode b_M_does 92 = .ok (.goto 127, 3) := by decide +kernel
theorem d_M_does_95 : decode b_M_does 95 = .ok (.aload_n 0, 1) := by decide +kernel
theorem d_M_does_96 : decode b_M_does 96 = .ok (.iload_n 1, 1) := by decide +kernel
theorem d_M_does_97 : decode b_M_does 97 = .ok (.invokevirtual 238, 3) := by decide +kernel
theorem d_M_does_100 : decode b_M_does 100 = .ok (.goto 119, 3) := by decide +kernel
theorem d_M_does_103 : decode b_M_does 103 = .ok (.aload_n 0, 1) := by decide +kernel
theorem d_M_does_104 : decode b_M_does 104 = .ok (.iload_n 1, 1) := by decide +kernel
theorem d_M_does_105 : decode b_M_does 105 = .ok (.ifCond .eq 18, 3) := by decide +kernel
theorem d_M_does_108 : decode b_M_does 108 = .ok (.aload_n 0, 1) := by decide +kernel
theorem d_M_does_109 : decode b_M_does 109 = .ok (.getfield 241, 3) := by decide +kernel
theorem d_M_does_112 : decode b_M_does 112 = .ok (.aload_n 0, 1) := by decide +kernel
theorem d_M_does_113 : decode b_M_does 113 = .ok (.getfield 244, 3) := by decide +kernel
theorem d_M_does_116 : decode b_M_does 116 = .ok (.if_icmp .ge 7, 3) := by decide +kernel
theorem d_M_does_119 : decode b_M_does 119 = .ok (.lconst 1, 1) := by decide +kernel
theorem d_M_does_120 : decode b_M_does 120 = .ok (.goto 4, 3) := by decide +kernel
theorem d_M_does_123 : decode b_M_does 123 = .ok (.lconst 0, 1) := by decide +kernel
theorem d_M_does_124 : decode b_M_does 124 = .ok (.invokevirtual 230, 3) := by decide +kernel
theorem d_M_does_127 : decode b_M_does 127 = .ok (.goto 92, 3) := by decide +kernel
theorem d_M_does_130 : decode b_M_does 130 = .ok (.aload_n 0, 1) := by decide +kernel
theorem d_M_does_131 : decode b_M_does 131 = .ok (.aload_n 0, 1) := by decide +kernel
theorem d_M_does_132 : decode b_M_does 132 = .ok (.getfield 54, 3) := by decide +kernel
theorem d_M_does_135 : decode b_M_does 135 = .ok (.lload_n 3, 1) := by decide +kernel
theorem d_M_does_136 : decode b_M_does 136 = .ok (.l2i, 1) := by decide +kernel
theorem d_M_does_137 : decode b_M_does 137 = .ok (.laload, 1) := by decide +kernel
theorem d_M_does_138 : decode b_M_does 138 = .ok (.invokevirtual 230, 3) := by decide +kernel
theorem d_M_does_141 : decode b_M_does 141 = .ok (.goto 78, 3) := by decide +kernel
theorem d_M_does_144 : decode b_M_does 144 = .ok (.aload_n 0, 1) := by decide +kernel
theorem d_M_does_145 : decode b_M_does 145 = .ok (.getfield 54, 3) := by decide +kernel
theorem d_M_does_148 : decode b_M_does 148 = .ok (.lload_n 3, 1) := by decide +kernel
theorem d_M_does_149 : decode b_M_does 149 = .ok (.l2i, 1) := by decide +kernel
theorem d_M_does_150 : decode b_M_does 150 = .ok (.aload_n 0, 1) := by decide +kernel
theorem d_M_does_151 : decode b_M_does 151 = .ok (.invokevirtual 218, 3) := by decide +kernel
theorem d_M_does_154 : decode b_M_does 154 = .ok (.lastore, 1) := by decide +kernel
theorem d_M_does_155 : decode b_M_does 155 = .ok (.goto 64, 3) := by decide +kernel
theorem d_M_does_158 : decode b_M_does 158 = .ok (.aload_n 0, 1) := by decide +kernel
theorem d_M_does_159 : decode b_M_does 159 = .ok (.invokevirtual 218, 3) := by decide +kernel
theorem d_M_does_162 : decode b_M_does 162 = .ok (.lstore 5, 2) := by decide +kernel
theorem d_M_does_164 : decode b_M_does 164 = .ok (.aload_n 0, 1) := by decide +kernel
theorem d_M_does_165 : decode b_M_does 165 = .ok (.lload 5, 2) := by decide +kernel
theorem d_M_does_167 : decode b_M_does 167 = .ok (.invokevirtual 230, 3) := by decide +kernel
theorem d_M_does_170 : decode b_M_does 170 = .ok (.aload_n 0, 1) := by decide +kernel
theorem d_M_does_171 : decode b_M_does 171 = .ok (.lload 5, 2) := by decide +kernel
theorem d_M_does_173 : decode b_M_does 173 = .ok (.invokevirtual 230, 3) := by decide +kernel
theorem d_M_does_176 : decode b_M_does 176 = .ok (.goto 43, 3) := by decide +kernel
theorem d_M_does_179 : decode b_M_does 179 = .ok (.aload_n 0, 1) := by decide +kernel
theorem d_M_does_180 : decode b_M_does 180 = .ok (.invokevirtual 218, 3) := by decide +kernel
theorem d_M_does_183 : decode b_M_does 183 = .ok (.pop2, 1) := by decide +kernel
theorem d_M_does_184 : decode b_M_does 184 = .ok (.goto 35, 3) := by decide +kernel
theorem d_M_does_187 : decode b_M_does 187 = .ok (.aload_n 0, 1) := by decide +kernel
theorem d_M_does_188 : decode b_M_does 188 = .ok (.invokevirtual 218, 3) := by decide +kernel
theorem d_M_does_191 : decode b_M_does 191 = .ok (.lstore 5, 2) := by decide +kernel
theorem d_M_does_193 : decode b_M_does 193 = .ok (.aload_n 0, 1) := by decide +kernel
theorem d_M_does_194 : decode b_M_does 194 = .ok (.invokevirtual 218, 3) := by decide +kernel
theorem d_M_does_197 : decode b_M_does 197 = .ok (.lstore 7, 2) := by decide +kernel
theorem d_M_does_199 : decode b_M_does 199 = .ok (.aload_n 0, 1) := by decide +kernel
theorem d_M_does_200 : decode b_M_does 200 = .ok (.lload 5, 2) := by decide +kernel
theorem d_M_does_202 : decode b_M_does 202 = .ok (.invokevirtual 230, 3) := by decide +kernel
theorem d_M_does_205 : decode b_M_does 205 = .ok (.aload_n 0, 1) := by decide +kernel
theorem d_M_does_206 : decode b_M_does 206 = .ok (.lload 7, 2) := by decide +kernel
theorem d_M_does_208 : decode b_M_does 208 = .ok (.invokevirtual 230, 3) := by decide +kernel
theorem d_M_does_211 : decode b_M_does 211 = .ok (.goto 8, 3) := by decide +kernel
theorem d_M_does_214 : decode b_M_does 214 = .ok (.aload_n 0, 1) := by decide +kernel
theorem d_M_does_215 : decode b_M_does 215 = .ok (.iload_n 1, 1) := by decide +kernel
theorem d_M_does_216 : decode b_M_does 216 = .ok (.invokevirtual 247, 3) := by decide +kernel
theorem d_M_does_219 : decode b_M_does 219 = .ok (.return_, 1) := by decide +kernel
abbrev b_M_value : ByteArray := prog_1_method_11_code
def y_M_value : MethodName := ⟨"ShuffleMill", "value", "(I)V"⟩
theorem d_M_value_0 : decode b_M_value 0 = .ok (.aload_n 0, 1) := by decide +kernel
theorem d_M_value_1 : decode b_M_value 1 = .ok (.getfield 241, 3) := by decide +kernel
theorem d_M_value_4 : decode b_M_value 4 = .ok (.aload_n 0, 1) := by decide +kernel
theorem d_M_value_5 : decode b_M_value 5 = .ok (.getfield 244, 3) := by decide +kernel
theorem d_M_value_8 : decode b_M_value 8 = .ok (.if_icmp .ne 9, 3) := by decide +kernel
theorem d_M_value_11 : decode b_M_value 11 = .ok (.aload_n 0, 1) := by decide +kernel
theorem d_M_value_12 : decode b_M_value 12 = .ok (.iconst 1, 1) := by decide +kernel
theorem d_M_value_13 : decode b_M_value 13 = .ok (.putfield 211, 3) := by decide +kernel
theorem d_M_value_16 : decode b_M_value 16 = .ok (.return_, 1) := by decide +kernel
theorem d_M_value_17 : decode b_M_value 17 = .ok (.aload_n 0, 1) := by decide +kernel
theorem d_M_value_18 : decode b_M_value 18 = .ok (.aload_n 0, 1) := by decide +kernel
theorem d_M_value_19 : decode b_M_value 19 = .ok (.getfield 250, 3) := by decide +kernel
theorem d_M_value_22 : decode b_M_value 22 = .ok (.aload_n 0, 1) := by decide +kernel
theorem d_M_value_23 : decode b_M_value 23 = .ok (.getfield 241, 3) := by decide +kernel
theorem d_M_value_26 : decode b_M_value 26 = .ok (.laload, 1) := by decide +kernel
theorem d_M_value_27 : decode b_M_value 27 = .ok (.invokevirtual 230, 3) := by decide +kernel
theorem d_M_value_30 : decode b_M_value 30 = .ok (.iload_n 1, 1) := by decide +kernel
theorem d_M_value_31 : decode b_M_value 31 = .ok (.ifCond .eq 13, 3) := by decide +kernel
theorem d_M_value_34 : decode b_M_value 34 = .ok (.aload_n 0, 1) := by decide +kernel
theorem d_M_value_35 : decode b_M_value 35 = .ok (.dup, 1) := by decide +kernel
theorem d_M_value_36 : decode b_M_value 36 = .ok (.getfield 241, 3) := by decide +kernel
theorem d_M_value_39 : decode b_M_value 39 = .ok (.iconst 1, 1) := by decide +kernel
theorem d_M_value_40 : decode b_M_value 40 = .ok (.iadd, 1) := by decide +kernel
theorem d_M_value_41 : decode b_M_value 41 = .ok (.putfield 241, 3) := by decide +kernel
theorem d_M_value_44 : decode b_M_value 44 = .ok (.return_, 1) := by decide +kernel
abbrev b_M_emit : ByteArray := prog_1_method_12_code
def y_M_emit : MethodName := ⟨"ShuffleMill", "emit", "(I)V"⟩
theorem d_M_emit_0 : decode b_M_emit 0 = .ok (.aload_n 0, 1) := by decide +kernel
theorem d_M_emit_1 : decode b_M_emit 1 = .ok (.invokevirtual 218, 3) := by decide +kernel
theorem d_M_emit_4 : decode b_M_emit 4 = .ok (.lstore_n 2, 1) := by decide +kernel
theorem d_M_emit_5 : decode b_M_emit 5 = .ok (.iload_n 1, 1) := by decide +kernel
theorem d_M_emit_6 : decode b_M_emit 6 = .ok (.iconst 1, 1) := by decide +kernel
theorem d_M_emit_7 : decode b_M_emit 7 = .ok (.if_icmp .ne 10, 3) := by decide +kernel
theorem d_M_emit_10 : decode b_M_emit 10 = .ok (.aload_n 0, 1) := by decide +kernel
theorem d_M_emit_11 : decode b_M_emit 11 = .ok (.getfield 234, 3) := by decide +kernel
theorem d_M_emit_14 : decode b_M_emit 14 = .ok (.goto 7, 3) := by decide +kernel
theorem d_M_emit_17 : decode b_M_emit 17 = .ok (.aload_n 0, 1) := by decide +kernel
theorem d_M_emit_18 : decode b_M_emit 18 = .ok (.invokevirtual 218, 3) := by decide +kernel
theorem d_M_emit_21 : decode b_M_emit 21 = .ok (.lstore 4, 2) := by decide +kernel
theorem d_M_emit_23 : decode b_M_emit 23 = .ok (.aload_n 0, 1) := by decide +kernel
theorem d_M_emit_24 : decode b_M_emit 24 = .ok (.getfield 211, 3) := by decide +kernel
theorem d_M_emit_27 : decode b_M_emit 27 = .ok (.ifCond .ne 11, 3) := by decide +kernel
theorem d_M_emit_30 : decode b_M_emit 30 = .ok (.aload_n 0, 1) := by decide +kernel
theorem d_M_emit_31 : decode b_M_emit 31 = .ok (.getfield 215, 3) := by decide +kernel
theorem d_M_emit_34 : decode b_M_emit 34 = .ok (.iconst 4, 1) := by decide +kernel
theorem d_M_emit_35 : decode b_M_emit 35 = .ok (.if_icmp .ne 9, 3) := by decide +kernel
theorem d_M_emit_38 : decode b_M_emit 38 = .ok (.aload_n 0, 1) := by decide +kernel
theorem d_M_emit_39 : decode b_M_emit 39 = .ok (.iconst 1, 1) := by decide +kernel
theorem d_M_emit_40 : decode b_M_emit 40 = .ok (.putfield 211, 3) := by decide +kernel
theorem d_M_emit_43 : decode b_M_emit 43 = .ok (.return_, 1) := by decide +kernel
theorem d_M_emit_44 : decode b_M_emit 44 = .ok (.aload_n 0, 1) := by decide +kernel
theorem d_M_emit_45 : decode b_M_emit 45 = .ok (.getfield 57, 3) := by decide +kernel
theorem d_M_emit_48 : decode b_M_emit 48 = .ok (.aload_n 0, 1) := by decide +kernel
theorem d_M_emit_49 : decode b_M_emit 49 = .ok (.getfield 215, 3) := by decide +kernel
theorem d_M_emit_52 : decode b_M_emit 52 = .ok (.lload 4, 2) := by decide +kernel
theorem d_M_emit_54 : decode b_M_emit 54 = .ok (.lastore, 1) := by decide +kernel
theorem d_M_emit_55 : decode b_M_emit 55 = .ok (.aload_n 0, 1) := by decide +kernel
theorem d_M_emit_56 : decode b_M_emit 56 = .ok (.getfield 60, 3) := by decide +kernel
theorem d_M_emit_59 : decode b_M_emit 59 = .ok (.aload_n 0, 1) := by decide +kernel
theorem d_M_emit_60 : decode b_M_emit 60 = .ok (.getfield 215, 3) := by decide +kernel
theorem d_M_emit_63 : decode b_M_emit 63 = .ok (.lload_n 2, 1) := by decide +kernel
theorem d_M_emit_64 : decode b_M_emit 64 = .ok (.lastore, 1) := by decide +kernel
theorem d_M_emit_65 : decode b_M_emit 65 = .ok (.aload_n 0, 1) := by decide +kernel
theorem d_M_emit_66 : decode b_M_emit 66 = .ok (.dup, 1) := by decide +kernel
theorem d_M_emit_67 : decode b_M_emit 67 = .ok (.getfield 215, 3) := by decide +kernel
theorem d_M_emit_70 : decode b_M_emit 70 = .ok (.iconst 1, 1) := by decide +kernel
theorem d_M_emit_71 : decode b_M_emit 71 = .ok (.iadd, 1) := by decide +kernel
theorem d_M_emit_72 : decode b_M_emit 72 = .ok (.putfield 215, 3) := by decide +kernel
theorem d_M_emit_75 : decode b_M_emit 75 = .ok (.return_, 1) := by decide +kernel
abbrev b_M_job : ByteArray := prog_1_method_13_code
def y_M_job : MethodName := ⟨"ShuffleMill", "job", "()I"⟩
theorem d_M_job_0 : decode b_M_job 0 = .ok (.aload_n 0, 1) := by decide +kernel
theorem d_M_job_1 : decode b_M_job 1 = .ok (.getfield 63, 3) := by decide +kernel
theorem d_M_job_4 : decode b_M_job 4 = .ok (.aload_n 0, 1) := by decide +kernel
theorem d_M_job_5 : decode b_M_job 5 = .ok (.getfield 253, 3) := by decide +kernel
theorem d_M_job_8 : decode b_M_job 8 = .ok (.iaload, 1) := by decide +kernel
theorem d_M_job_9 : decode b_M_job 9 = .ok (.ireturn, 1) := by decide +kernel
abbrev b_M_records : ByteArray := prog_1_method_14_code
def y_M_records : MethodName := ⟨"ShuffleMill", "records", "(I)I"⟩
theorem d_M_records_0 : decode b_M_records 0 = .ok (.iload_n 1, 1) := by decide +kernel
theorem d_M_records_1 : decode b_M_records 1 = .ok (.iconst (-1), 1) := by decide +kernel
theorem d_M_records_2 : decode b_M_records 2 = .ok (.if_icmp .ne 7, 3) := by decide +kernel
theorem d_M_records_5 : decode b_M_records 5 = .ok (.iconst 0, 1) := by decide +kernel
theorem d_M_records_6 : decode b_M_records 6 = .ok (.goto 9, 3) := by decide +kernel
theorem d_M_records_9 : decode b_M_records 9 = .ok (.aload_n 0, 1) := by decide +kernel
theorem d_M_records_10 : decode b_M_records 10 = .ok (.getfield 16, 3) := by decide +kernel
theorem d_M_records_13 : decode b_M_records 13 = .ok (.iload_n 1, 1) := by decide +kernel
theorem d_M_records_14 : decode b_M_records 14 = .ok (.iaload, 1) := by decide +kernel
theorem d_M_records_15 : decode b_M_records 15 = .ok (.ireturn, 1) := by decide +kernel
abbrev b_M_splits : ByteArray := prog_1_method_15_code
def y_M_splits : MethodName := ⟨"ShuffleMill", "splits", "()I"⟩
theorem d_M_splits_0 : decode b_M_splits 0 = .ok (.aload_n 0, 1) := by decide +kernel
theorem d_M_splits_1 : decode b_M_splits 1 = .ok (.aload_n 0, 1) := by decide +kernel
theorem d_M_splits_2 : decode b_M_splits 2 = .ok (.getfield 39, 3) := by decide +kernel
theorem d_M_splits_5 : decode b_M_splits 5 = .ok (.aload_n 0, 1) := by decide +kernel
theorem d_M_splits_6 : decode b_M_splits 6 = .ok (.invokevirtual 256, 3) := by decide +kernel
theorem d_M_splits_9 : decode b_M_splits 9 = .ok (.iaload, 1) := by decide +kernel
theorem d_M_splits_10 : decode b_M_splits 10 = .ok (.invokevirtual 260, 3) := by decide +kernel
theorem d_M_splits_13 : decode b_M_splits 13 = .ok (.aload_n 0, 1) := by decide +kernel
theorem d_M_splits_14 : decode b_M_splits 14 = .ok (.aload_n 0, 1) := by decide +kernel
theorem d_M_splits_15 : decode b_M_splits 15 = .ok (.getfield 42, 3) := by decide +kernel
theorem d_M_splits_18 : decode b_M_splits 18 = .ok (.aload_n 0, 1) := by decide +kernel
theorem d_M_splits_19 : decode b_M_splits 19 = .ok (.invokevirtual 256, 3) := by decide +kernel
theorem d_M_splits_22 : decode b_M_splits 22 = .ok (.iaload, 1) := by decide +kernel
theorem d_M_splits_23 : decode b_M_splits 23 = .ok (.invokevirtual 260, 3) := by decide +kernel
theorem d_M_splits_26 : decode b_M_splits 26 = .ok (.iadd, 1) := by decide +kernel
theorem d_M_splits_27 : decode b_M_splits 27 = .ok (.bipush 16, 2) := by decide +kernel
theorem d_M_splits_29 : decode b_M_splits 29 = .ok (.iadd, 1) := by decide +kernel
theorem d_M_splits_30 : decode b_M_splits 30 = .ok (.iconst 1, 1) := by decide +kernel
theorem d_M_splits_31 : decode b_M_splits 31 = .ok (.isub, 1) := by decide +kernel
theorem d_M_splits_32 : decode b_M_splits 32 = .ok (.bipush 16, 2) := by decide +kernel
theorem d_M_splits_34 : decode b_M_splits 34 = .ok (.idiv, 1) := by decide +kernel
theorem d_M_splits_35 : decode b_M_splits 35 = .ok (.ireturn, 1) := by decide +kernel
abbrev b_M_recordAt : ByteArray := prog_1_method_16_code
def y_M_recordAt : MethodName := ⟨"ShuffleMill", "recordAt", "(I)I"⟩
theorem d_M_recordAt_0 : decode b_M_recordAt 0 = .ok (.aload_n 0, 1) := by decide +kernel
theorem d_M_recordAt_1 : decode b_M_recordAt 1 = .ok (.invokevirtual 256, 3) := by decide +kernel
theorem d_M_recordAt_4 : decode b_M_recordAt 4 = .ok (.istore_n 2, 1) := by decide +kernel
theorem d_M_recordAt_5 : decode b_M_recordAt 5 = .ok (.iload_n 1, 1) := by decide +kernel
theorem d_M_recordAt_6 : decode b_M_recordAt 6 = .ok (.aload_n 0, 1) := by decide +kernel
theorem d_M_recordAt_7 : decode b_M_recordAt 7 = .ok (.getfield 16, 3) := by decide +kernel
theorem d_M_recordAt_10 : decode b_M_recordAt 10 = .ok (.aload_n 0, 1) := by decide +kernel
theorem d_M_recordAt_11 : decode b_M_recordAt 11 = .ok (.getfield 39, 3) := by decide +kernel
theorem d_M_recordAt_14 : decode b_M_recordAt 14 = .ok (.iload_n 2, 1) := by decide +kernel
theorem d_M_recordAt_15 : decode b_M_recordAt 15 = .ok (.iaload, 1) := by decide +kernel
theorem d_M_recordAt_16 : decode b_M_recordAt 16 = .ok (.iaload, 1) := by decide +kernel
theorem d_M_recordAt_17 : decode b_M_recordAt 17 = .ok (.if_icmp .ge 18, 3) := by decide +kernel
theorem d_M_recordAt_20 : decode b_M_recordAt 20 = .ok (.aload_n 0, 1) := by decide +kernel
theorem d_M_recordAt_21 : decode b_M_recordAt 21 = .ok (.getfield 39, 3) := by decide +kernel
theorem d_M_recordAt_24 : decode b_M_recordAt 24 = .ok (.iload_n 2, 1) := by decide +kernel
theorem d_M_recordAt_25 : decode b_M_recordAt 25 = .ok (.iaload, 1) := by decide +kernel
theorem d_M_recordAt_26 : decode b_M_recordAt 26 = .ok (.sipush 300, 3) := by decide +kernel
theorem d_M_recordAt_29 : decode b_M_recordAt 29 = .ok (.imul, 1) := by decide +kernel
theorem d_M_recordAt_30 : decode b_M_recordAt 30 = .ok (.iload_n 1, 1) := by decide +kernel
theorem d_M_recordAt_31 : decode b_M_recordAt 31 = .ok (.iadd, 1) := by decide +kernel
theorem d_M_recordAt_32 : decode b_M_recordAt 32 = .ok (.goto 27, 3) := by decide +kernel
theorem d_M_recordAt_35 : decode b_M_recordAt 35 = .ok (.aload_n 0, 1) := by decide +kernel
theorem d_M_recordAt_36 : decode b_M_recordAt 36 = .ok (.getfield 42, 3) := by decide +kernel
theorem d_M_recordAt_39 : decode b_M_recordAt 39 = .ok (.iload_n 2, 1) := by decide +kernel
theorem d_M_recordAt_40 : decode b_M_recordAt 40 = .ok (.iaload, 1) := by decide +kernel
theorem d_M_recordAt_41 : decode b_M_recordAt 41 = .ok (.sipush 300, 3) := by decide +kernel
theorem d_M_recordAt_44 : decode b_M_recordAt 44 = .ok (.imul, 1) := by decide +kernel
theorem d_M_recordAt_45 : decode b_M_recordAt 45 = .ok (.iload_n 1, 1) := by decide +kernel
theorem d_M_recordAt_46 : decode b_M_recordAt 46 = .ok (.iadd, 1) := by decide +kernel
theorem d_M_recordAt_47 : decode b_M_recordAt 47 = .ok (.aload_n 0, 1) := by decide +kernel
theorem d_M_recordAt_48 : decode b_M_recordAt 48 = .ok (.getfield 16, 3) := by decide +kernel
theorem d_M_recordAt_51 : decode b_M_recordAt 51 = .ok (.aload_n 0, 1) := by decide +kernel
theorem d_M_recordAt_52 : decode b_M_recordAt 52 = .ok (.getfield 39, 3) := by decide +kernel
theorem d_M_recordAt_55 : decode b_M_recordAt 55 = .ok (.iload_n 2, 1) := by decide +kernel
theorem d_M_recordAt_56 : decode b_M_recordAt 56 = .ok (.iaload, 1) := by decide +kernel
theorem d_M_recordAt_57 : decode b_M_recordAt 57 = .ok (.iaload, 1) := by decide +kernel
theorem d_M_recordAt_58 : decode b_M_recordAt 58 = .ok (.isub, 1) := by decide +kernel
theorem d_M_recordAt_59 : decode b_M_recordAt 59 = .ok (.ireturn, 1) := by decide +kernel
abbrev b_M_nextJob : ByteArray := prog_1_method_17_code
def y_M_nextJob : MethodName := ⟨"ShuffleMill", "nextJob", "()V"⟩
theorem d_M_nextJob_0 : decode b_M_nextJob 0 = .ok (.aload_n 0, 1) := by decide +kernel
theorem d_M_nextJob_1 : decode b_M_nextJob 1 = .ok (.getfield 253, 3) := by decide +kernel
theorem d_M_nextJob_4 : decode b_M_nextJob 4 = .ok (.aload_n 0, 1) := by decide +kernel
theorem d_M_nextJob_5 : decode b_M_nextJob 5 = .ok (.getfield 264, 3) := by decide +kernel
theorem d_M_nextJob_8 : decode b_M_nextJob 8 = .ok (.if_icmp .ne 9, 3) := by decide +kernel
theorem d_M_nextJob_11 : decode b_M_nextJob 11 = .ok (.aload_n 0, 1) := by decide +kernel
theorem d_M_nextJob_12 : decode b_M_nextJob 12 = .ok (.iconst 0, 1) := by decide +kernel
theorem d_M_nextJob_13 : decode b_M_nextJob 13 = .ok (.putfield 267, 3) := by decide +kernel
theorem d_M_nextJob_16 : decode b_M_nextJob 16 = .ok (.return_, 1) := by decide +kernel
theorem d_M_nextJob_17 : decode b_M_nextJob 17 = .ok (.aload_n 0, 1) := by decide +kernel
theorem d_M_nextJob_18 : decode b_M_nextJob 18 = .ok (.dup, 1) := by decide +kernel
theorem d_M_nextJob_19 : decode b_M_nextJob 19 = .ok (.getfield 270, 3) := by decide +kernel
theorem d_M_nextJob_22 : decode b_M_nextJob 22 = .ok (.iconst 1, 1) := by decide +kernel
theorem d_M_nextJob_23 : decode b_M_nextJob 23 = .ok (.iadd, 1) := by decide +kernel
theorem d_M_nextJob_24 : decode b_M_nextJob 24 = .ok (.putfield 270, 3) := by decide +kernel
theorem d_M_nextJob_27 : decode b_M_nextJob 27 = .ok (.iconst 0, 1) := by decide +kernel
theorem d_M_nextJob_28 : decode b_M_nextJob 28 = .ok (.istore_n 1, 1) := by decide +kernel
theorem d_M_nextJob_29 : decode b_M_nextJob 29 = .ok (.iload_n 1, 1) := by decide +kernel
theorem d_M_nextJob_30 : decode b_M_nextJob 30 = .ok (.bipush 38, 2) := by decide +kernel
theorem d_M_nextJob_32 : decode b_M_nextJob 32 = .ok (.if_icmp .ge 16, 3) := by decide +kernel
theorem d_M_nextJob_35 : decode b_M_nextJob 35 = .ok (.aload_n 0, 1) := by decide +kernel
theorem d_M_nextJob_36 : decode b_M_nextJob 36 = .ok (.getfield 66, 3) := by decide +kernel
theorem d_M_nextJob_39 : decode b_M_nextJob 39 = .ok (.iload_n 1, 1) := by decide +kernel
theorem d_M_nextJob_40 : decode b_M_nextJob 40 = .ok (.iconst (-1), 1) := by decide +kernel
theorem d_M_nextJob_41 : decode b_M_nextJob 41 = .ok (.iastore, 1) := by decide +kernel
theorem d_M_nextJob_42 : decode b_M_nextJob 42 = .ok (.iinc 1 1, 3) := by decide +kernel
theorem d_M_nextJob_45 : decode b_M_nextJob 45 = .ok (.goto (-16), 3) := by decide +kernel
theorem d_M_nextJob_48 : decode b_M_nextJob 48 = .ok (.iconst 0, 1) := by decide +kernel
theorem d_M_nextJob_49 : decode b_M_nextJob 49 = .ok (.istore_n 1, 1) := by decide +kernel
theorem d_M_nextJob_50 : decode b_M_nextJob 50 = .ok (.iload_n 1, 1) := by decide +kernel
theorem d_M_nextJob_51 : decode b_M_nextJob 51 = .ok (.bipush 6, 2) := by decide +kernel
theorem d_M_nextJob_53 : decode b_M_nextJob 53 = .ok (.if_icmp .ge 16, 3) := by decide +kernel
theorem d_M_nextJob_56 : decode b_M_nextJob 56 = .ok (.aload_n 0, 1) := by decide +kernel
theorem d_M_nextJob_57 : decode b_M_nextJob 57 = .ok (.getfield 72, 3) := by decide +kernel
theorem d_M_nextJob_60 : decode b_M_nextJob 60 = .ok (.iload_n 1, 1) := by decide +kernel
theorem d_M_nextJob_61 : decode b_M_nextJob 61 = .ok (.iconst 0, 1) := by decide +kernel
theorem d_M_nextJob_62 : decode b_M_nextJob 62 = .ok (.bastore, 1) := by decide +kernel
theorem d_M_nextJob_63 : decode b_M_nextJob 63 = .ok (.iinc 1 1, 3) := by decide +kernel
theorem d_M_nextJob_66 : decode b_M_nextJob 66 = .ok (.goto (-16), 3) := by decide +kernel
theorem d_M_nextJob_69 : decode b_M_nextJob 69 = .ok (.aload_n 0, 1) := by decide +kernel
theorem d_M_nextJob_70 : decode b_M_nextJob 70 = .ok (.iconst 0, 1) := by decide +kernel
theorem d_M_nextJob_71 : decode b_M_nextJob 71 = .ok (.putfield 273, 3) := by decide +kernel
theorem d_M_nextJob_74 : decode b_M_nextJob 74 = .ok (.return_, 1) := by decide +kernel
abbrev b_M_fail : ByteArray := prog_1_method_18_code
def y_M_fail : MethodName := ⟨"ShuffleMill", "fail", "()V"⟩
theorem d_M_fail_0 : decode b_M_fail 0 = .ok (.aload_n 0, 1) := by decide +kernel
theorem d_M_fail_1 : decode b_M_fail 1 = .ok (.aload_n 0, 1) := by decide +kernel
theorem d_M_fail_2 : decode b_M_fail 2 = .ok (.invokevirtual 256, 3) := by decide +kernel
theorem d_M_fail_5 : decode b_M_fail 5 = .ok (.putfield 276, 3) := by decide +kernel
theorem d_M_fail_8 : decode b_M_fail 8 = .ok (.aload_n 0, 1) := by decide +kernel
theorem d_M_fail_9 : decode b_M_fail 9 = .ok (.iconst 0, 1) := by decide +kernel
theorem d_M_fail_10 : decode b_M_fail 10 = .ok (.putfield 267, 3) := by decide +kernel
theorem d_M_fail_13 : decode b_M_fail 13 = .ok (.return_, 1) := by decide +kernel
abbrev b_M_send : ByteArray := prog_1_method_19_code
def y_M_send : MethodName := ⟨"ShuffleMill", "send", "(IIIIII)I"⟩
theorem d_M_send_0 : decode b_M_send 0 = .ok (.aload_n 0, 1) := by decide +kernel
theorem d_M_send_1 : decode b_M_send 1 = .ok (.getfield 279, 3) := by decide +kernel
theorem d_M_send_4 : decode b_M_send 4 = .ok (.bipush 95, 2) := by decide +kernel
theorem d_M_send_6 : decode b_M_send 6 = .ok (.if_icmp .lt 8, 3) := by decide +kernel
theorem d_M_send_9 : decode b_M_send 9 = .ok (.aload_n 0, 1) := by decide +kernel
theorem d_M_send_10 : decode b_M_send 10 = .ok (.iconst 0, 1) := by decide +kernel
theorem d_M_send_11 : decode b_M_send 11 = .ok (.invokevirtual 282, 3) := by decide +kernel
theorem d_M_send_14 : decode b_M_send 14 = .ok (.aload_n 0, 1) := by decide +kernel
theorem d_M_send_15 : decode b_M_send 15 = .ok (.getfield 279, 3) := by decide +kernel
theorem d_M_send_18 : decode b_M_send 18 = .ok (.istore 7, 2) := by decide +kernel
theorem d_M_send_20 : decode b_M_send 20 = .ok (.aload_n 0, 1) := by decide +kernel
theorem d_M_send_21 : decode b_M_send 21 = .ok (.dup, 1) := by decide +kernel
theorem d_M_send_22 : decode b_M_send 22 = .ok (.getfield 279, 3) := by decide +kernel
theorem d_M_send_25 : decode b_M_send 25 = .ok (.iconst 1, 1) := by decide +kernel
theorem d_M_send_26 : decode b_M_send 26 = .ok (.iadd, 1) := by decide +kernel
theorem d_M_send_27 : decode b_M_send 27 = .ok (.putfield 279, 3) := by decide +kernel
theorem d_M_send_30 : decode b_M_send 30 = .ok (.aload_n 0, 1) := by decide +kernel
theorem d_M_send_31 : decode b_M_send 31 = .ok (.getfield 93, 3) := by decide +kernel
theorem d_M_send_34 : decode b_M_send 34 = .ok (.iload 7, 2) := by decide +kernel
theorem d_M_send_36 : decode b_M_send 36 = .ok (.iload_n 1, 1) := by decide +kernel
theorem d_M_send_37 : decode b_M_send 37 = .ok (.iastore, 1) := by decide +kernel
theorem d_M_send_38 : decode b_M_send 38 = .ok (.aload_n 0, 1) := by decide +kernel
theorem d_M_send_39 : decode b_M_send 39 = .ok (.getfield 96, 3) := by decide +kernel
theorem d_M_send_42 : decode b_M_send 42 = .ok (.iload 7, 2) := by decide +kernel
theorem d_M_send_44 : decode b_M_send 44 = .ok (.bipush 6, 2) := by decide +kernel
theorem d_M_send_46 : decode b_M_send 46 = .ok (.imul, 1) := by decide +kernel
theorem d_M_send_47 : decode b_M_send 47 = .ok (.iload_n 2, 1) := by decide +kernel
theorem d_M_send_48 : decode b_M_send 48 = .ok (.iastore, 1) := by decide +kernel
theorem d_M_send_49 : decode b_M_send 49 = .ok (.aload_n 0, 1) := by decide +kernel
theorem d_M_send_50 : decode b_M_send 50 = .ok (.getfield 96, 3) := by decide +kernel
theorem d_M_send_53 : decode b_M_send 53 = .ok (.iload 7, 2) := by decide +kernel
theorem d_M_send_55 : decode b_M_send 55 = .ok (.bipush 6, 2) := by decide +kernel
theorem d_M_send_57 : decode b_M_send 57 = .ok (.imul, 1) := by decide +kernel
theorem d_M_send_58 : decode b_M_send 58 = .ok (.iconst 1, 1) := by decide +kernel
theorem d_M_send_59 : decode b_M_send 59 = .ok (.iadd, 1) := by decide +kernel
theorem d_M_send_60 : decode b_M_send 60 = .ok (.aload_n 0, 1) := by decide +kernel
theorem d_M_send_61 : decode b_M_send 61 = .ok (.getfield 270, 3) := by decide +kernel
theorem d_M_send_64 : decode b_M_send 64 = .ok (.iastore, 1) := by decide +kernel
theorem d_M_send_65 : decode b_M_send 65 = .ok (.aload_n 0, 1) := by decide +kernel
theorem d_M_send_66 : decode b_M_send 66 = .ok (.getfield 96, 3) := by decide +kernel
theorem d_M_send_69 : decode b_M_send 69 = .ok (.iload 7, 2) := by decide +kernel
theorem d_M_send_71 : decode b_M_send 71 = .ok (.bipush 6, 2) := by decide +kernel
theorem d_M_send_73 : decode b_M_send 73 = .ok (.imul, 1) := by decide +kernel
theorem d_M_send_74 : decode b_M_send 74 = .ok (.iconst 2, 1) := by decide +kernel
theorem d_M_send_75 : decode b_M_send 75 = .ok (.iadd, 1) := by decide +kernel
theorem d_M_send_76 : decode b_M_send 76 = .ok (.iload_n 3, 1) := by decide +kernel
theorem d_M_send_77 : decode b_M_send 77 = .ok (.iastore, 1) := by decide +kernel
theorem d_M_send_78 : decode b_M_send 78 = .ok (.aload_n 0, 1) := by decide +kernel
theorem d_M_send_79 : decode b_M_send 79 = .ok (.getfield 96, 3) := by decide +kernel
theorem d_M_send_82 : decode b_M_send 82 = .ok (.iload 7, 2) := by decide +kernel
theorem d_M_send_84 : decode b_M_send 84 = .ok (.bipush 6, 2) := by decide +kernel
theorem d_M_send_86 : decode b_M_send 86 = .ok (.imul, 1) := by decide +kernel
theorem d_M_send_87 : decode b_M_send 87 = .ok (.iconst 3, 1) := by decide +kernel
theorem d_M_send_88 : decode b_M_send 88 = .ok (.iadd, 1) := by decide +kernel
theorem d_M_send_89 : decode b_M_send 89 = .ok (.iload 4, 2) := by decide +kernel
theorem d_M_send_91 : decode b_M_send 91 = .ok (.iastore, 1) := by decide +kernel
theorem d_M_send_92 : decode b_M_send 92 = .ok (.aload_n 0, 1) := by decide +kernel
theorem d_M_send_93 : decode b_M_send 93 = .ok (.getfield 96, 3) := by decide +kernel
theorem d_M_send_96 : decode b_M_send 96 = .ok (.iload 7, 2) := by decide +kernel
theorem d_M_send_98 : decode b_M_send 98 = .ok (.bipush 6, 2) := by decide +kernel
theorem d_M_send_100 : decode b_M_send 100 = .ok (.imul, 1) := by decide +kernel
theorem d_M_send_101 : decode b_M_send 101 = .ok (.iconst 4, 1) := by decide +kernel
theorem d_M_send_102 : decode b_M_send 102 = .ok (.iadd, 1) := by decide +kernel
theorem d_M_send_103 : decode b_M_send 103 = .ok (.iload 5, 2) := by decide +kernel
theorem d_M_send_105 : decode b_M_send 105 = .ok (.iastore, 1) := by decide +kernel
theorem d_M_send_106 : decode b_M_send 106 = .ok (.aload_n 0, 1) := by decide +kernel
theorem d_M_send_107 : decode b_M_send 107 = .ok (.getfield 96, 3) := by decide +kernel
theorem d_M_send_110 : decode b_M_send 110 = .ok (.iload 7, 2) := by decide +kernel
theorem d_M_send_112 : decode b_M_send 112 = .ok (.bipush 6, 2) := by decide +kernel
theorem d_M_send_114 : decode b_M_send 114 = .ok (.imul, 1) := by decide +kernel
theorem d_M_send_115 : decode b_M_send 115 = .ok (.iconst 5, 1) := by decide +kernel
theorem d_M_send_116 : decode b_M_send 116 = .ok (.iadd, 1) := by decide +kernel
theorem d_M_send_117 : decode b_M_send 117 = .ok (.iload 6, 2) := by decide +kernel
theorem d_M_send_119 : decode b_M_send 119 = .ok (.iastore, 1) := by decide +kernel
theorem d_M_send_120 : decode b_M_send 120 = .ok (.iload 7, 2) := by decide +kernel
theorem d_M_send_122 : decode b_M_send 122 = .ok (.ireturn, 1) := by decide +kernel
