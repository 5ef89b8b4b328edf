abbrev b_L_law : ByteArray := code
def y_L_law : MethodName := ⟨"ShuffleMillLaw", "law", "([I)Z"⟩
theorem d_L_law_0 : decode b_L_law 0 = .ok (.new 8, 3) := by decide +kernel
theorem d_L_law_3 : decode b_L_law 3 = .ok (.dup, 1) := by decide +kernel
theorem d_L_law_4 : decode b_L_law 4 = .ok (.invokespecial 69, 3) := by decide +kernel
theorem d_L_law_7 : decode b_L_law 7 = .ok (.astore_n 1, 1) := by decide +kernel
theorem d_L_law_8 : decode b_L_law 8 = .ok (.new 70, 3) := by decide +kernel
theorem d_L_law_11 : decode b_L_law 11 = .ok (.dup, 1) := by decide +kernel
theorem d_L_law_12 : decode b_L_law 12 = .ok (.invokespecial 72, 3) := by decide +kernel
theorem d_L_law_15 : decode b_L_law 15 = .ok (.astore_n 2, 1) := by decide +kernel
theorem d_L_law_16 : decode b_L_law 16 = .ok (.iconst 1, 1) := by decide +kernel
theorem d_L_law_17 : decode b_L_law 17 = .ok (.newarray .long, 2) := by decide +kernel
theorem d_L_law_19 : decode b_L_law 19 = .ok (.astore_n 3, 1) := by decide +kernel
theorem d_L_law_20 : decode b_L_law 20 = .ok (.iconst 0, 1) := by decide +kernel
theorem d_L_law_21 : decode b_L_law 21 = .ok (.istore 4, 2) := by decide +kernel
theorem d_L_law_23 : decode b_L_law 23 = .ok (.iload 4, 2) := by decide +kernel
theorem d_L_law_25 : decode b_L_law 25 = .ok (.aload_n 0, 1) := by decide +kernel
theorem d_L_law_26 : decode b_L_law 26 = .ok (.arraylength, 1) := by decide +kernel
theorem d_L_law_27 : decode b_L_law 27 = .ok (.bipush 6, 2) := by decide +kernel
theorem d_L_law_29 : decode b_L_law 29 = .ok (.isub, 1) := by decide +kernel
theorem d_L_law_30 : decode b_L_law 30 = .ok (.if_icmp .gt 1047, 3) := by decide +kernel
theorem d_L_law_33 : decode b_L_law 33 = .ok (.aload_n 0, 1) := by decide +kernel
theorem d_L_law_34 : decode b_L_law 34 = .ok (.iload 4, 2) := by decide +kernel
theorem d_L_law_36 : decode b_L_law 36 = .ok (.iaload, 1) := by decide +kernel
theorem d_L_law_37 : decode b_L_law 37 = .ok (.bipush 15, 2) := by decide +kernel
theorem d_L_law_39 : decode b_L_law 39 = .ok (.iand, 1) := by decide +kernel
theorem d_L_law_40 : decode b_L_law 40 = .ok (.tableswitch 1031 0 14 #[76, 220, 276, 376, 444, 528, 591, 635, 683, 719, 767, 811, 906, 962, 1018], 76) := by decide +kernel
theorem d_L_law_116 : decode b_L_law 116 = .ok (.aload_n 1, 1) := by decide +kernel
theorem d_L_law_117 : decode b_L_law 117 = .ok (.aload_n 0, 1) := by decide +kernel
theorem d_L_law_118 : decode b_L_law 118 = .ok (.iload 4, 2) := by decide +kernel
theorem d_L_law_120 : decode b_L_law 120 = .ok (.iconst 1, 1) := by decide +kernel
theorem d_L_law_121 : decode b_L_law 121 = .ok (.iadd, 1) := by decide +kernel
theorem d_L_law_122 : decode b_L_law 122 = .ok (.iaload, 1) := by decide +kernel
theorem d_L_law_123 : decode b_L_law 123 = .ok (.aload_n 0, 1) := by decide +kernel
theorem d_L_law_124 : decode b_L_law 124 = .ok (.iload 4, 2) := by decide +kernel
theorem d_L_law_126 : decode b_L_law 126 = .ok (.iconst 2, 1) := by decide +kernel
theorem d_L_law_127 : decode b_L_law 127 = .ok (.iadd, 1) := by decide +kernel
theorem d_L_law_128 : decode b_L_law 128 = .ok (.iaload, 1) := by decide +kernel
theorem d_L_law_129 : decode b_L_law 129 = .ok (.i2l, 1) := by decide +kernel
theorem d_L_law_130 : decode b_L_law 130 = .ok (.bipush 32, 2) := by decide +kernel
theorem d_L_law_132 : decode b_L_law 132 = .ok (.lshl, 1) := by decide +kernel
theorem d_L_law_133 : decode b_L_law 133 = .ok (.aload_n 0, 1) := by decide +kernel
theorem d_L_law_134 : decode b_L_law 134 = .ok (.iload 4, 2) := by decide +kernel
theorem d_L_law_136 : decode b_L_law 136 = .ok (.iconst 3, 1) := by decide +kernel
theorem d_L_law_137 : decode b_L_law 137 = .ok (.iadd, 1) := by decide +kernel
theorem d_L_law_138 : decode b_L_law 138 = .ok (.iaload, 1) := by decide +kernel
theorem d_L_law_139 : decode b_L_law 139 = .ok (.i2l, 1) := by decide +kernel
theorem d_L_law_140 : decode b_L_law 140 = .ok (.ldc2_w 73, 3) := by decide +kernel
theorem d_L_law_143 : decode b_L_law 143 = .ok (.land, 1) := by decide +kernel
theorem d_L_law_144 : decode b_L_law 144 = .ok (.lor, 1) := by decide +kernel
theorem d_L_law_145 : decode b_L_law 145 = .ok (.aload_n 0, 1) := by decide +kernel
theorem d_L_law_146 : decode b_L_law 146 = .ok (.iload 4, 2) := by decide +kernel
theorem d_L_law_148 : decode b_L_law 148 = .ok (.iconst 4, 1) := by decide +kernel
theorem d_L_law_149 : decode b_L_law 149 = .ok (.iadd, 1) := by decide +kernel
theorem d_L_law_150 : decode b_L_law 150 = .ok (.iaload, 1) := by decide +kernel
theorem d_L_law_151 : decode b_L_law 151 = .ok (.i2l, 1) := by decide +kernel
theorem d_L_law_152 : decode b_L_law 152 = .ok (.bipush 32, 2) := by decide +kernel
theorem d_L_law_154 : decode b_L_law 154 = .ok (.lshl, 1) := by decide +kernel
theorem d_L_law_155 : decode b_L_law 155 = .ok (.aload_n 0, 1) := by decide +kernel
theorem d_L_law_156 : decode b_L_law 156 = .ok (.iload 4, 2) := by decide +kernel
theorem d_L_law_158 : decode b_L_law 158 = .ok (.iconst 5, 1) := by decide +kernel
theorem d_L_law_159 : decode b_L_law 159 = .ok (.iadd, 1) := by decide +kernel
theorem d_L_law_160 : decode b_L_law 160 = .ok (.iaload, 1) := by decide +kernel
theorem d_L_law_161 : decode b_L_law 161 = .ok (.i2l, 1) := by decide +kernel
theorem d_L_law_162 : decode b_L_law 162 = .ok (.ldc2_w 73, 3) := by decide +kernel
theorem d_L_law_165 : decode b_L_law 165 = .ok (.land, 1) := by decide +kernel
theorem d_L_law_166 : decode b_L_law 166 = .ok (.lor, 1) := by decide +kernel
theorem d_L_law_167 : decode b_L_law 167 = .ok (.aload_n 3, 1) := by decide +kernel
theorem d_L_law_168 : decode b_L_law 168 = .ok (.invokestatic 75, 3) := by decide +kernel
theorem d_L_law_171 : decode b_L_law 171 = .ok (.istore 5, 2) := by decide +kernel
theorem d_L_law_173 : decode b_L_law 173 = .ok (.aload_n 2, 1) := by decide +kernel
theorem d_L_law_174 : decode b_L_law 174 = .ok (.aload_n 0, 1) := by decide +kernel
theorem d_L_law_175 : decode b_L_law 175 = .ok (.iload 4, 2) := by decide +kernel
theorem d_L_law_177 : decode b_L_law 177 = .ok (.iconst 1, 1) := by decide +kernel
theorem d_L_law_178 : decode b_L_law 178 = .ok (.iadd, 1) := by decide +kernel
theorem d_L_law_179 : decode b_L_law 179 = .ok (.iaload, 1) := by decide +kernel
theorem d_L_law_180 : decode b_L_law 180 = .ok (.aload_n 0, 1) := by decide +kernel
theorem d_L_law_181 : decode b_L_law 181 = .ok (.iload 4, 2) := by decide +kernel
theorem d_L_law_183 : decode b_L_law 183 = .ok (.iconst 2, 1) := by decide +kernel
theorem d_L_law_184 : decode b_L_law 184 = .ok (.iadd, 1) := by decide +kernel
theorem d_L_law_185 : decode b_L_law 185 = .ok (.iaload, 1) := by decide +kernel
theorem d_L_law_186 : decode b_L_law 186 = .ok (.i2l, 1) := by decide +kernel
theorem d_L_law_187 : decode b_L_law 187 = .ok (.bipush 32, 2) := by decide +kernel
theorem d_L_law_189 : decode b_L_law 189 = .ok (.lshl, 1) := by decide +kernel
theorem d_L_law_190 : decode b_L_law 190 = .ok (.aload_n 0, 1) := by decide +kernel
theorem d_L_law_191 : decode b_L_law 191 = .ok (.iload 4, 2) := by decide +kernel
theorem d_L_law_193 : decode b_L_law 193 = .ok (.iconst 3, 1) := by decide +kernel
theorem d_L_law_194 : decode b_L_law 194 = .ok (.iadd, 1) := by decide +kernel
theorem d_L_law_195 : decode b_L_law 195 = .ok (.iaload, 1) := by decide +kernel
theorem d_L_law_196 : decode b_L_law 196 = .ok (.i2l, 1) := by decide +kernel
theorem d_L_law_197 : decode b_L_law 197 = .ok (.ldc2_w 73, 3) := by decide +kernel
theorem d_L_law_200 : decode b_L_law 200 = .ok (.land, 1) := by decide +kernel
theorem d_L_law_201 : decode b_L_law 201 = .ok (.lor, 1) := by decide +kernel
theorem d_L_law_202 : decode b_L_law 202 = .ok (.aload_n 0, 1) := by decide +kernel
theorem d_L_law_203 : decode b_L_law 203 = .ok (.iload 4, 2) := by decide +kernel
theorem d_L_law_205 : decode b_L_law 205 = .ok (.iconst 4, 1) := by decide +kernel
theorem d_L_law_206 : decode b_L_law 206 = .ok (.iadd, 1) := by decide +kernel
theorem d_L_law_207 : decode b_L_law 207 = .ok (.iaload, 1) := by decide +kernel
theorem d_L_law_208 : decode b_L_law 208 = .ok (.i2l, 1) := by decide +kernel
theorem d_L_law_209 : decode b_L_law 209 = .ok (.bipush 32, 2) := by decide +kernel
theorem d_L_law_211 : decode b_L_law 211 = .ok (.lshl, 1) := by decide +kernel
theorem d_L_law_212 : decode b_L_law 212 = .ok (.aload_n 0, 1) := by decide +kernel
theorem d_L_law_213 : decode b_L_law 213 = .ok (.iload 4, 2) := by decide +kernel
theorem d_L_law_215 : decode b_L_law 215 = .ok (.iconst 5, 1) := by decide +kernel
theorem d_L_law_216 : decode b_L_law 216 = .ok (.iadd, 1) := by decide +kernel
theorem d_L_law_217 : decode b_L_law 217 = .ok (.iaload, 1) := by decide +kernel
theorem d_L_law_218 : decode b_L_law 218 = .ok (.i2l, 1) := by decide +kernel
theorem d_L_law_219 : decode b_L_law 219 = .ok (.ldc2_w 73, 3) := by decide +kernel
theorem d_L_law_222 : decode b_L_law 222 = .ok (.land, 1) := by decide +kernel
theorem d_L_law_223 : decode b_L_law 223 = .ok (.lor, 1) := by decide +kernel
theorem d_L_law_224 : decode b_L_law 224 = .ok (.invokevirtual 80, 3) := by decide +kernel
theorem d_L_law_227 : decode b_L_law 227 = .ok (.istore 6, 2) := by decide +kernel
theorem d_L_law_229 : decode b_L_law 229 = .ok (.aload_n 2, 1) := by decide +kernel
theorem d_L_law_230 : decode b_L_law 230 = .ok (.invokevirtual 81, 3) := by decide +kernel
theorem d_L_law_233 : decode b_L_law 233 = .ok (.iload 5, 2) := by decide +kernel
theorem d_L_law_235 : decode b_L_law 235 = .ok (.if_icmp .eq 5, 3) := by decide +kernel
theorem d_L_law_238 : decode b_L_law 238 = .ok (.iconst 0, 1) := by decide +kernel
theorem d_L_law_239 : decode b_L_law 239 = .ok (.ireturn, 1) := by decide +kernel
theorem d_L_law_240 : decode b_L_law 240 = .ok (.iload 5, 2) := by decide +kernel
theorem d_L_law_242 : decode b_L_law 242 = .ok (.ifCond .ne 15, 3) := by decide +kernel
theorem d_L_law_245 : decode b_L_law 245 = .ok (.aload_n 3, 1) := by decide +kernel
theorem d_L_law_246 : decode b_L_law 246 = .ok (.iconst 0, 1) := by decide +kernel
theorem d_L_law_247 : decode b_L_law 247 = .ok (.laload, 1) := by decide +kernel
theorem d_L_law_248 : decode b_L_law 248 = .ok (.iload 6, 2) := by decide +kernel
theorem d_L_law_250 : decode b_L_law 250 = .ok (.i2l, 1) := by decide +kernel
theorem d_L_law_251 : decode b_L_law 251 = .ok (.lcmp, 1) := by decide +kernel
theorem d_L_law_252 : decode b_L_law 252 = .ok (.ifCond .eq 5, 3) := by decide +kernel
theorem d_L_law_255 : decode b_L_law 255 = .ok (.iconst 0, 1) := by decide +kernel
theorem d_L_law_256 : decode b_L_law 256 = .ok (.ireturn, 1) := by decide +kernel
theorem d_L_law_257 : decode b_L_law 257 = .ok (.goto 814, 3) := by decide +kernel
theorem d_L_law_260 : decode b_L_law 260 = .ok (.aload_n 1, 1) := by decide +kernel
theorem d_L_law_261 : decode b_L_law 261 = .ok (.aload_n 0, 1) := by decide +kernel
theorem d_L_law_262 : decode b_L_law 262 = .ok (.iload 4, 2) := by decide +kernel
theorem d_L_law_264 : decode b_L_law 264 = .ok (.iconst 1, 1) := by decide +kernel
theorem d_L_law_265 : decode b_L_law 265 = .ok (.iadd, 1) := by decide +kernel
theorem d_L_law_266 : decode b_L_law 266 = .ok (.iaload, 1) := by decide +kernel
theorem d_L_law_267 : decode b_L_law 267 = .ok (.aload_n 3, 1) := by decide +kernel
theorem d_L_law_268 : decode b_L_law 268 = .ok (.invokestatic 84, 3) := by decide +kernel
theorem d_L_law_271 : decode b_L_law 271 = .ok (.istore 5, 2) := by decide +kernel
theorem d_L_law_273 : decode b_L_law 273 = .ok (.aload_n 2, 1) := by decide +kernel
theorem d_L_law_274 : decode b_L_law 274 = .ok (.aload_n 0, 1) := by decide +kernel
theorem d_L_law_275 : decode b_L_law 275 = .ok (.iload 4, 2) := by decide +kernel
theorem d_L_law_277 : decode b_L_law 277 = .ok (.iconst 1, 1) := by decide +kernel
theorem d_L_law_278 : decode b_L_law 278 = .ok (.iadd, 1) := by decide +kernel
theorem d_L_law_279 : decode b_L_law 279 = .ok (.iaload, 1) := by decide +kernel
theorem d_L_law_280 : decode b_L_law 280 = .ok (.invokevirtual 87, 3) := by decide +kernel
theorem d_L_law_283 : decode b_L_law 283 = .ok (.istore 6, 2) := by decide +kernel
theorem d_L_law_285 : decode b_L_law 285 = .ok (.aload_n 2, 1) := by decide +kernel
theorem d_L_law_286 : decode b_L_law 286 = .ok (.invokevirtual 81, 3) := by decide +kernel
theorem d_L_law_289 : decode b_L_law 289 = .ok (.iload 5, 2) := by decide +kernel
theorem d_L_law_291 : decode b_L_law 291 = .ok (.if_icmp .eq 5, 3) := by decide +kernel
theorem d_L_law_294 : decode b_L_law 294 = .ok (.iconst 0, 1) := by decide +kernel
theorem d_L_law_295 : decode b_L_law 295 = .ok (.ireturn, 1) := by decide +kernel
theorem d_L_law_296 : decode b_L_law 296 = .ok (.iload 5, 2) := by decide +kernel
theorem d_L_law_298 : decode b_L_law 298 = .ok (.ifCond .ne 15, 3) := by decide +kernel
theorem d_L_law_301 : decode b_L_law 301 = .ok (.aload_n 3, 1) := by decide +kernel
theorem d_L_law_302 : decode b_L_law 302 = .ok (.iconst 0, 1) := by decide +kernel
theorem d_L_law_303 : decode b_L_law 303 = .ok (.laload, 1) := by decide +kernel
theorem d_L_law_304 : decode b_L_law 304 = .ok (.iload 6, 2) := by decide +kernel
theorem d_L_law_306 : decode b_L_law 306 = .ok (.i2l, 1) := by decide +kernel
theorem d_L_law_307 : decode b_L_law 307 = .ok (.lcmp, 1) := by decide +kernel
theorem d_L_law_308 : decode b_L_law 308 = .ok (.ifCond .eq 5, 3) := by decide +kernel
theorem d_L_law_311 : decode b_L_law 311 = .ok (.iconst 0, 1) := by decide +kernel
theorem d_L_law_312 : decode b_L_law 312 = .ok (.ireturn, 1) := by decide +kernel
theorem d_L_law_313 : decode b_L_law 313 = .ok (.goto 758, 3) := by decide +kernel
theorem d_L_law_316 : decode b_L_law 316 = .ok (.aload_n 1, 1) := by decide +kernel
theorem d_L_law_317 : decode b_L_law 317 = .ok (.aload_n 0, 1) := by decide +kernel
theorem d_L_law_318 : decode b_L_law 318 = .ok (.iload 4, 2) := by decide +kernel
theorem d_L_law_320 : decode b_L_law 320 = .ok (.iconst 1, 1) := by decide +kernel
theorem d_L_law_321 : decode b_L_law 321 = .ok (.iadd, 1) := by decide +kernel
theorem d_L_law_322 : decode b_L_law 322 = .ok (.iaload, 1) := by decide +kernel
theorem d_L_law_323 : decode b_L_law 323 = .ok (.aload_n 0, 1) := by decide +kernel
theorem d_L_law_324 : decode b_L_law 324 = .ok (.iload 4, 2) := by decide +kernel
theorem d_L_law_326 : decode b_L_law 326 = .ok (.iconst 2, 1) := by decide +kernel
theorem d_L_law_327 : decode b_L_law 327 = .ok (.iadd, 1) := by decide +kernel
theorem d_L_law_328 : decode b_L_law 328 = .ok (.iaload, 1) := by decide +kernel
theorem d_L_law_329 : decode b_L_law 329 = .ok (.i2l, 1) := by decide +kernel
theorem d_L_law_330 : decode b_L_law 330 = .ok (.bipush 32, 2) := by decide +kernel
theorem d_L_law_332 : decode b_L_law 332 = .ok (.lshl, 1) := by decide +kernel
theorem d_L_law_333 : decode b_L_law 333 = .ok (.aload_n 0, 1) := by decide +kernel
theorem d_L_law_334 : decode b_L_law 334 = .ok (.iload 4, 2) := by decide +kernel
theorem d_L_law_336 : decode b_L_law 336 = .ok (.iconst 3, 1) := by decide +kernel
theorem d_L_law_337 : decode b_L_law 337 = .ok (.iadd, 1) := by decide +kernel
theorem d_L_law_338 : decode b_L_law 338 = .ok (.iaload, 1) := by decide +kernel
theorem d_L_law_339 : decode b_L_law 339 = .ok (.i2l, 1) := by decide +kernel
theorem d_L_law_340 : decode b_L_law 340 = .ok (.ldc2_w 73, 3) := by decide +kernel
theorem d_L_law_343 : decode b_L_law 343 = .ok (.land, 1) := by decide +kernel
theorem d_L_law_344 : decode b_L_law 344 = .ok (.lor, 1) := by decide +kernel
theorem d_L_law_345 : decode b_L_law 345 = .ok (.aload_n 3, 1) := by decide +kernel
theorem d_L_law_346 : decode b_L_law 346 = .ok (.invokestatic 88, 3) := by decide +kernel
theorem d_L_law_349 : decode b_L_law 349 = .ok (.istore 5, 2) := by decide +kernel
theorem d_L_law_351 : decode b_L_law 351 = .ok (.aload_n 2, 1) := by decide +kernel
theorem d_L_law_352 : decode b_L_law 352 = .ok (.aload_n 0, 1) := by decide +kernel
theorem d_L_law_353 : decode b_L_law 353 = .ok (.iload 4, 2) := by decide +kernel
theorem d_L_law_355 : decode b_L_law 355 = .ok (.iconst 1, 1) := by decide +kernel
theorem d_L_law_356 : decode b_L_law 356 = .ok (.iadd, 1) := by decide +kernel
theorem d_L_law_357 : decode b_L_law 357 = .ok (.iaload, 1) := by decide +kernel
theorem d_L_law_358 : decode b_L_law 358 = .ok (.aload_n 0, 1) := by decide +kernel
theorem d_L_law_359 : decode b_L_law 359 = .ok (.iload 4, 2) := by decide +kernel
theorem d_L_law_361 : decode b_L_law 361 = .ok (.iconst 2, 1) := by decide +kernel
theorem d_L_law_362 : decode b_L_law 362 = .ok (.iadd, 1) := by decide +kernel
theorem d_L_law_363 : decode b_L_law 363 = .ok (.iaload, 1) := by decide +kernel
theorem d_L_law_364 : decode b_L_law 364 = .ok (.i2l, 1) := by decide +kernel
theorem d_L_law_365 : decode b_L_law 365 = .ok (.bipush 32, 2) := by decide +kernel
theorem d_L_law_367 : decode b_L_law 367 = .ok (.lshl, 1) := by decide +kernel
theorem d_L_law_368 : decode b_L_law 368 = .ok (.aload_n 0, 1) := by decide +kernel
theorem d_L_law_369 : decode b_L_law 369 = .ok (.iload 4, 2) := by decide +kernel
theorem d_L_law_371 : decode b_L_law 371 = .ok (.iconst 3, 1) := by decide +kernel
theorem d_L_law_372 : decode b_L_law 372 = .ok (.iadd, 1) := by decide +kernel
theorem d_L_law_373 : decode b_L_law 373 = .ok (.iaload, 1) := by decide +kernel
theorem d_L_law_374 : decode b_L_law 374 = .ok (.i2l, 1) := by decide +kernel
theorem d_L_law_375 : decode b_L_law 375 = .ok (.ldc2_w 73, 3) := by decide +kernel
theorem d_L_law_378 : decode b_L_law 378 = .ok (.land, 1) := by decide +kernel
theorem d_L_law_379 : decode b_L_law 379 = .ok (.lor, 1) := by decide +kernel
theorem d_L_law_380 : decode b_L_law 380 = .ok (.invokevirtual 91, 3) := by decide +kernel
theorem d_L_law_383 : decode b_L_law 383 = .ok (.istore 6, 2) := by decide +kernel
theorem d_L_law_385 : decode b_L_law 385 = .ok (.aload_n 2, 1) := by decide +kernel
theorem d_L_law_386 : decode b_L_law 386 = .ok (.invokevirtual 81, 3) := by decide +kernel
theorem d_L_law_389 : decode b_L_law 389 = .ok (.iload 5, 2) := by decide +kernel
theorem d_L_law_391 : decode b_L_law 391 = .ok (.if_icmp .eq 5, 3) := by decide +kernel
theorem d_L_law_394 : decode b_L_law 394 = .ok (.iconst 0, 1) := by decide +kernel
theorem d_L_law_395 : decode b_L_law 395 = .ok (.ireturn, 1) := by decide +kernel
theorem d_L_law_396 : decode b_L_law 396 = .ok (.iload 5, 2) := by decide +kernel
theorem d_L_law_398 : decode b_L_law 398 = .ok (.ifCond .ne 15, 3) := by decide +kernel
theorem d_L_law_401 : decode b_L_law 401 = .ok (.aload_n 3, 1) := by decide +kernel
theorem d_L_law_402 : decode b_L_law 402 = .ok (.iconst 0, 1) := by decide +kernel
theorem d_L_law_403 : decode b_L_law 403 = .ok (.laload, 1) := by decide +kernel
theorem d_L_law_404 : decode b_L_law 404 = .ok (.iload 6, 2) := by decide +kernel
theorem d_L_law_406 : decode b_L_law 406 = .ok (.i2l, 1) := by decide +kernel
theorem d_L_law_407 : decode b_L_law 407 = .ok (.lcmp, 1) := by decide +kernel
theorem d_L_law_408 : decode b_L_law 408 = .ok (.ifCond .eq 5, 3) := by decide +kernel
theorem d_L_law_411 : decode b_L_law 411 = .ok (.iconst 0, 1) := by decide +kernel
theorem d_L_law_412 : decode b_L_law 412 = .ok (.ireturn, 1) := by decide +kernel
theorem d_L_law_413 : decode b_L_law 413 = .ok (.goto 658, 3) := by decide +kernel
theorem d_L_law_416 : decode b_L_law 416 = .ok (.aload_n 1, 1) := by decide +kernel
theorem d_L_law_417 : decode b_L_law 417 = .ok (.aload_n 0, 1) := by decide +kernel
theorem d_L_law_418 : decode b_L_law 418 = .ok (.iload 4, 2) := by decide +kernel
theorem d_L_law_420 : decode b_L_law 420 = .ok (.iconst 1, 1) := by decide +kernel
theorem d_L_law_421 : decode b_L_law 421 = .ok (.iadd, 1) := by decide +kernel
theorem d_L_law_422 : decode b_L_law 422 = .ok (.iaload, 1) := by decide +kernel
theorem d_L_law_423 : decode b_L_law 423 = .ok (.aload_n 0, 1) := by decide +kernel
theorem d_L_law_424 : decode b_L_law 424 = .ok (.iload 4, 2) := by decide +kernel
theorem d_L_law_426 : decode b_L_law 426 = .ok (.iconst 2, 1) := by decide +kernel
theorem d_L_law_427 : decode b_L_law 427 = .ok (.iadd, 1) := by decide +kernel
theorem d_L_law_428 : decode b_L_law 428 = .ok (.iaload, 1) := by decide +kernel
theorem d_L_law_429 : decode b_L_law 429 = .ok (.aload_n 3, 1) := by decide +kernel
theorem d_L_law_430 : decode b_L_law 430 = .ok (.invokestatic 92, 3) := by decide +kernel
theorem d_L_law_433 : decode b_L_law 433 = .ok (.istore 5, 2) := by decide +kernel
theorem d_L_law_435 : decode b_L_law 435 = .ok (.aload_n 2, 1) := by decide +kernel
theorem d_L_law_436 : decode b_L_law 436 = .ok (.aload_n 0, 1) := by decide +kernel
theorem d_L_law_437 : decode b_L_law 437 = .ok (.iload 4, 2) := by decide +kernel
theorem d_L_law_439 : decode b_L_law 439 = .ok (.iconst 1, 1) := by decide +kernel
theorem d_L_law_440 : decode b_L_law 440 = .ok (.iadd, 1) := by decide +kernel
theorem d_L_law_441 : decode b_L_law 441 = .ok (.iaload, 1) := by decide +kernel
theorem d_L_law_442 : decode b_L_law 442 = .ok (.aload_n 0, 1) := by decide +kernel
theorem d_L_law_443 : decode b_L_law 443 = .ok (.iload 4, 2) := by decide +kernel
theorem d_L_law_445 : decode b_L_law 445 = .ok (.iconst 2, 1) := by decide +kernel
theorem d_L_law_446 : decode b_L_law 446 = .ok (.iadd, 1) := by decide +kernel
theorem d_L_law_447 : decode b_L_law 447 = .ok (.iaload, 1) := by decide +kernel
theorem d_L_law_448 : decode b_L_law 448 = .ok (.invokevirtual 95, 3) := by decide +kernel
theorem d_L_law_451 : decode b_L_law 451 = .ok (.istore 6, 2) := by decide +kernel
theorem d_L_law_453 : decode b_L_law 453 = .ok (.aload_n 2, 1) := by decide +kernel
theorem d_L_law_454 : decode b_L_law 454 = .ok (.invokevirtual 81, 3) := by decide +kernel
theorem d_L_law_457 : decode b_L_law 457 = .ok (.iload 5, 2) := by decide +kernel
theorem d_L_law_459 : decode b_L_law 459 = .ok (.if_icmp .eq 5, 3) := by decide +kernel
theorem d_L_law_462 : decode b_L_law 462 = .ok (.iconst 0, 1) := by decide +kernel
theorem d_L_law_463 : decode b_L_law 463 = .ok (.ireturn, 1) := by decide +kernel
theorem d_L_law_464 : decode b_L_law 464 = .ok (.iload 5, 2) := by decide +kernel
theorem d_L_law_466 : decode b_L_law 466 = .ok (.ifCond .ne 15, 3) := by decide +kernel
theorem d_L_law_469 : decode b_L_law 469 = .ok (.aload_n 3, 1) := by decide +kernel
theorem d_L_law_470 : decode b_L_law 470 = .ok (.iconst 0, 1) := by decide +kernel
theorem d_L_law_471 : decode b_L_law 471 = .ok (.laload, 1) := by decide +kernel
theorem d_L_law_472 : decode b_L_law 472 = .ok (.iload 6, 2) := by decide +kernel
theorem d_L_law_474 : decode b_L_law 474 = .ok (.i2l, 1) := by decide +kernel
theorem d_L_law_475 : decode b_L_law 475 = .ok (.lcmp, 1) := by decide +kernel
theorem d_L_law_476 : decode b_L_law 476 = .ok (.ifCond .eq 5, 3) := by decide +kernel
theorem d_L_law_479 : decode b_L_law 479 = .ok (.iconst 0, 1) := by decide +kernel
theorem d_L_law_480 : decode b_L_law 480 = .ok (.ireturn, 1) := by decide +kernel
theorem d_L_law_481 : decode b_L_law 481 = .ok (.goto 590, 3) := by decide +kernel
theorem d_L_law_484 : decode b_L_law 484 = .ok (.aload_n 1, 1) := by decide +kernel
theorem d_L_law_485 : decode b_L_law 485 = .ok (.aload_n 0, 1) := by decide +kernel
theorem d_L_law_486 : decode b_L_law 486 = .ok (.iload 4, 2) := by decide +kernel
theorem d_L_law_488 : decode b_L_law 488 = .ok (.iconst 1, 1) := by decide +kernel
theorem d_L_law_489 : decode b_L_law 489 = .ok (.iadd, 1) := by decide +kernel
theorem d_L_law_490 : decode b_L_law 490 = .ok (.iaload, 1) := by decide +kernel
theorem d_L_law_491 : decode b_L_law 491 = .ok (.aload_n 0, 1) := by decide +kernel
theorem d_L_law_492 : decode b_L_law 492 = .ok (.iload 4, 2) := by decide +kernel
theorem d_L_law_494 : decode b_L_law 494 = .ok (.iconst 2, 1) := by decide +kernel
theorem d_L_law_495 : decode b_L_law 495 = .ok (.iadd, 1) := by decide +kernel
theorem d_L_law_496 : decode b_L_law 496 = .ok (.iaload, 1) := by decide +kernel
theorem d_L_law_497 : decode b_L_law 497 = .ok (.aload_n 0, 1) := by decide +kernel
theorem d_L_law_498 : decode b_L_law 498 = .ok (.iload 4, 2) := by decide +kernel
theorem d_L_law_500 : decode b_L_law 500 = .ok (.iconst 3, 1) := by decide +kernel
theorem d_L_law_501 : decode b_L_law 501 = .ok (.iadd, 1) := by decide +kernel
theorem d_L_law_502 : decode b_L_law 502 = .ok (.iaload, 1) := by decide +kernel
theorem d_L_law_503 : decode b_L_law 503 = .ok (.aload_n 0, 1) := by decide +kernel
theorem d_L_law_504 : decode b_L_law 504 = .ok (.iload 4, 2) := by decide +kernel
theorem d_L_law_506 : decode b_L_law 506 = .ok (.iconst 4, 1) := by decide +kernel
theorem d_L_law_507 : decode b_L_law 507 = .ok (.iadd, 1) := by decide +kernel
theorem d_L_law_508 : decode b_L_law 508 = .ok (.iaload, 1) := by decide +kernel
theorem d_L_law_509 : decode b_L_law 509 = .ok (.aload_n 0, 1) := by decide +kernel
theorem d_L_law_510 : decode b_L_law 510 = .ok (.iload 4, 2) := by decide +kernel
theorem d_L_law_512 : decode b_L_law 512 = .ok (.iconst 5, 1) := by decide +kernel
theorem d_L_law_513 : decode b_L_law 513 = .ok (.iadd, 1) := by decide +kernel
theorem d_L_law_514 : decode b_L_law 514 = .ok (.iaload, 1) := by decide +kernel
theorem d_L_law_515 : decode b_L_law 515 = .ok (.invokestatic 96, 3) := by decide +kernel
theorem d_L_law_518 : decode b_L_law 518 = .ok (.istore 5, 2) := by decide +kernel
theorem d_L_law_520 : decode b_L_law 520 = .ok (.aload_n 2, 1) := by decide +kernel
theorem d_L_law_521 : decode b_L_law 521 = .ok (.aload_n 0, 1) := by decide +kernel
theorem d_L_law_522 : decode b_L_law 522 = .ok (.iload 4, 2) := by decide +kernel
theorem d_L_law_524 : decode b_L_law 524 = .ok (.iconst 1, 1) := by decide +kernel
theorem d_L_law_525 : decode b_L_law 525 = .ok (.iadd, 1) := by decide +kernel
theorem d_L_law_526 : decode b_L_law 526 = .ok (.iaload, 1) := by decide +kernel
theorem d_L_law_527 : decode b_L_law 527 = .ok (.aload_n 0, 1) := by decide +kernel
theorem d_L_law_528 : decode b_L_law 528 = .ok (.iload 4, 2) := by decide +kernel
theorem d_L_law_530 : decode b_L_law 530 = .ok (.iconst 2, 1) := by decide +kernel
theorem d_L_law_531 : decode b_L_law 531 = .ok (.iadd, 1) := by decide +kernel
theorem d_L_law_532 : decode b_L_law 532 = .ok (.iaload, 1) := by decide +kernel
theorem d_L_law_533 : decode b_L_law 533 = .ok (.aload_n 0, 1) := by decide +kernel
theorem d_L_law_534 : decode b_L_law 534 = .ok (.iload 4, 2) := by decide +kernel
theorem d_L_law_536 : decode b_L_law 536 = .ok (.iconst 3, 1) := by decide +kernel
theorem d_L_law_537 : decode b_L_law 537 = .ok (.iadd, 1) := by decide +kernel
theorem d_L_law_538 : decode b_L_law 538 = .ok (.iaload, 1) := by decide +kernel
theorem d_L_law_539 : decode b_L_law 539 = .ok (.aload_n 0, 1) := by decide +kernel
theorem d_L_law_540 : decode b_L_law 540 = .ok (.iload 4, 2) := by decide +kernel
theorem d_L_law_542 : decode b_L_law 542 = .ok (.iconst 4, 1) := by decide +kernel
theorem d_L_law_543 : decode b_L_law 543 = .ok (.iadd, 1) := by decide +kernel
theorem d_L_law_544 : decode b_L_law 544 = .ok (.iaload, 1) := by decide +kernel
theorem d_L_law_545 : decode b_L_law 545 = .ok (.aload_n 0, 1) := by decide +kernel
theorem d_L_law_546 : decode b_L_law 546 = .ok (.iload 4, 2) := by decide +kernel
theorem d_L_law_548 : decode b_L_law 548 = .ok (.iconst 5, 1) := by decide +kernel
theorem d_L_law_549 : decode b_L_law 549 = .ok (.iadd, 1) := by decide +kernel
theorem d_L_law_550 : decode b_L_law 550 = .ok (.iaload, 1) := by decide +kernel
theorem d_L_law_551 : decode b_L_law 551 = .ok (.invokevirtual 99, 3) := by decide +kernel
theorem d_L_law_554 : decode b_L_law 554 = .ok (.aload_n 2, 1) := by decide +kernel
theorem d_L_law_555 : decode b_L_law 555 = .ok (.invokevirtual 81, 3) := by decide +kernel
theorem d_L_law_558 : decode b_L_law 558 = .ok (.iload 5, 2) := by decide +kernel
theorem d_L_law_560 : decode b_L_law 560 = .ok (.if_icmp .eq 5, 3) := by decide +kernel
theorem d_L_law_563 : decode b_L_law 563 = .ok (.iconst 0, 1) := by decide +kernel
theorem d_L_law_564 : decode b_L_law 564 = .ok (.ireturn, 1) := by decide +kernel
theorem d_L_law_565 : decode b_L_law 565 = .ok (.goto 506, 3) := by decide +kernel
theorem d_L_law_568 : decode b_L_law 568 = .ok (.aload_n 1, 1) := by decide +kernel
theorem d_L_law_569 : decode b_L_law 569 = .ok (.aload_n 0, 1) := by decide +kernel
theorem d_L_law_570 : decode b_L_law 570 = .ok (.iload 4, 2) := by decide +kernel
theorem d_L_law_572 : decode b_L_law 572 = .ok (.iconst 1, 1) := by decide +kernel
theorem d_L_law_573 : decode b_L_law 573 = .ok (.iadd, 1) := by decide +kernel
theorem d_L_law_574 : decode b_L_law 574 = .ok (.iaload, 1) := by decide +kernel
theorem d_L_law_575 : decode b_L_law 575 = .ok (.aload_n 3, 1) := by decide +kernel
theorem d_L_law_576 : decode b_L_law 576 = .ok (.invokestatic 100, 3) := by decide +kernel
theorem d_L_law_579 : decode b_L_law 579 = .ok (.istore 5, 2) := by decide +kernel
theorem d_L_law_581 : decode b_L_law 581 = .ok (.aload_n 2, 1) := by decide +kernel
theorem d_L_law_582 : decode b_L_law 582 = .ok (.aload_n 0, 1) := by decide +kernel
theorem d_L_law_583 : decode b_L_law 583 = .ok (.iload 4, 2) := by decide +kernel
theorem d_L_law_585 : decode b_L_law 585 = .ok (.iconst 1, 1) := by decide +kernel
theorem d_L_law_586 : decode b_L_law 586 = .ok (.iadd, 1) := by decide +kernel
theorem d_L_law_587 : decode b_L_law 587 = .ok (.iaload, 1) := by decide +kernel
theorem d_L_law_588 : decode b_L_law 588 = .ok (.invokevirtual 102, 3) := by decide +kernel
theorem d_L_law_591 : decode b_L_law 591 = .ok (.istore 6, 2) := by decide +kernel
theorem d_L_law_593 : decode b_L_law 593 = .ok (.aload_n 2, 1) := by decide +kernel
theorem d_L_law_594 : decode b_L_law 594 = .ok (.invokevirtual 81, 3) := by decide +kernel
theorem d_L_law_597 : decode b_L_law 597 = .ok (.iload 5, 2) := by decide +kernel
theorem d_L_law_599 : decode b_L_law 599 = .ok (.if_icmp .eq 5, 3) := by decide +kernel
theorem d_L_law_602 : decode b_L_law 602 = .ok (.iconst 0, 1) := by decide +kernel
theorem d_L_law_603 : decode b_L_law 603 = .ok (.ireturn, 1) := by decide +kernel
theorem d_L_law_604 : decode b_L_law 604 = .ok (.iload 5, 2) := by decide +kernel
theorem d_L_law_606 : decode b_L_law 606 = .ok (.ifCond .ne 22, 3) := by decide +kernel
theorem d_L_law_609 : decode b_L_law 609 = .ok (.aload_n 3, 1) := by decide +kernel
theorem d_L_law_610 : decode b_L_law 610 = .ok (.iconst 0, 1) := by decide +kernel
theorem d_L_law_611 : decode b_L_law 611 = .ok (.laload, 1) := by decide +kernel
theorem d_L_law_612 : decode b_L_law 612 = .ok (.iload 6, 2) := by decide +kernel
theorem d_L_law_614 : decode b_L_law 614 = .ok (.ifCond .eq 7, 3) := by decide +kernel
theorem d_L_law_617 : decode b_L_law 617 = .ok (.lconst 1, 1) := by decide +kernel
theorem d_L_law_618 : decode b_L_law 618 = .ok (.goto 4, 3) := by decide +kernel
theorem d_L_law_621 : decode b_L_law 621 = .ok (.lconst 0, 1) := by decide +kernel
theorem d_L_law_622 : decode b_L_law 622 = .ok (.lcmp, 1) := by decide +kernel
theorem d_L_law_623 : decode b_L_law 623 = .ok (.ifCond .eq 5, 3) := by decide +kernel
theorem d_L_law_626 : decode b_L_law 626 = .ok (.iconst 0, 1) := by decide +kernel
theorem d_L_law_627 : decode b_L_law 627 = .ok (.ireturn, 1) := by decide +kernel
theorem d_L_law_628 : decode b_L_law 628 = .ok (.goto 443, 3) := by decide +kernel
theorem d_L_law_631 : decode b_L_law 631 = .ok (.aload_n 1, 1) := by decide +kernel
theorem d_L_law_632 : decode b_L_law 632 = .ok (.aload_n 3, 1) := by decide +kernel
theorem d_L_law_633 : decode b_L_law 633 = .ok (.invokestatic 103, 3) := by decide +kernel
theorem d_L_law_636 : decode b_L_law 636 = .ok (.istore 5, 2) := by decide +kernel
theorem d_L_law_638 : decode b_L_law 638 = .ok (.aload_n 2, 1) := by decide +kernel
theorem d_L_law_639 : decode b_L_law 639 = .ok (.invokevirtual 106, 3) := by decide +kernel
theorem d_L_law_642 : decode b_L_law 642 = .ok (.istore 6, 2) := by decide +kernel
theorem d_L_law_644 : decode b_L_law 644 = .ok (.aload_n 2, 1) := by decide +kernel
theorem d_L_law_645 : decode b_L_law 645 = .ok (.invokevirtual 81, 3) := by decide +kernel
theorem d_L_law_648 : decode b_L_law 648 = .ok (.iload 5, 2) := by decide +kernel
theorem d_L_law_650 : decode b_L_law 650 = .ok (.if_icmp .eq 5, 3) := by decide +kernel
theorem d_L_law_653 : decode b_L_law 653 = .ok (.iconst 0, 1) := by decide +kernel
theorem d_L_law_654 : decode b_L_law 654 = .ok (.ireturn, 1) := by decide +kernel
theorem d_L_law_655 : decode b_L_law 655 = .ok (.iload 5, 2) := by decide +kernel
theorem d_L_law_657 : decode b_L_law 657 = .ok (.ifCond .ne 15, 3) := by decide +kernel
theorem d_L_law_660 : decode b_L_law 660 = .ok (.aload_n 3, 1) := by decide +kernel
theorem d_L_law_661 : decode b_L_law 661 = .ok (.iconst 0, 1) := by decide +kernel
theorem d_L_law_662 : decode b_L_law 662 = .ok (.laload, 1) := by decide +kernel
theorem d_L_law_663 : decode b_L_law 663 = .ok (.iload 6, 2) := by decide +kernel
theorem d_L_law_665 : decode b_L_law 665 = .ok (.i2l, 1) := by decide +kernel
theorem d_L_law_666 : decode b_L_law 666 = .ok (.lcmp, 1) := by decide +kernel
theorem d_L_law_667 : decode b_L_law 667 = .ok (.ifCond .eq 5, 3) := by decide +kernel
theorem d_L_law_670 : decode b_L_law 670 = .ok (.iconst 0, 1) := by decide +kernel
theorem d_L_law_671 : decode b_L_law 671 = .ok (.ireturn, 1) := by decide +kernel
theorem d_L_law_672 : decode b_L_law 672 = .ok (.goto 399, 3) := by decide +kernel
theorem d_L_law_675 : decode b_L_law 675 = .ok (.aload_n 1, 1) := by decide +kernel
theorem d_L_law_676 : decode b_L_law 676 = .ok (.aload_n 0, 1) := by decide +kernel
theorem d_L_law_677 : decode b_L_law 677 = .ok (.iload 4, 2) := by decide +kernel
theorem d_L_law_679 : decode b_L_law 679 = .ok (.iconst 1, 1) := by decide +kernel
theorem d_L_law_680 : decode b_L_law 680 = .ok (.iadd, 1) := by decide +kernel
theorem d_L_law_681 : decode b_L_law 681 = .ok (.iaload, 1) := by decide +kernel
theorem d_L_law_682 : decode b_L_law 682 = .ok (.aload_n 0, 1) := by decide +kernel
theorem d_L_law_683 : decode b_L_law 683 = .ok (.iload 4, 2) := by decide +kernel
theorem d_L_law_685 : decode b_L_law 685 = .ok (.iconst 2, 1) := by decide +kernel
theorem d_L_law_686 : decode b_L_law 686 = .ok (.iadd, 1) := by decide +kernel
theorem d_L_law_687 : decode b_L_law 687 = .ok (.iaload, 1) := by decide +kernel
theorem d_L_law_688 : decode b_L_law 688 = .ok (.invokestatic 107, 3) := by decide +kernel
theorem d_L_law_691 : decode b_L_law 691 = .ok (.istore 5, 2) := by decide +kernel
theorem d_L_law_693 : decode b_L_law 693 = .ok (.aload_n 2, 1) := by decide +kernel
theorem d_L_law_694 : decode b_L_law 694 = .ok (.aload_n 0, 1) := by decide +kernel
theorem d_L_law_695 : decode b_L_law 695 = .ok (.iload 4, 2) := by decide +kernel
theorem d_L_law_697 : decode b_L_law 697 = .ok (.iconst 1, 1) := by decide +kernel
theorem d_L_law_698 : decode b_L_law 698 = .ok (.iadd, 1) := by decide +kernel
theorem d_L_law_699 : decode b_L_law 699 = .ok (.iaload, 1) := by decide +kernel
theorem d_L_law_700 : decode b_L_law 700 = .ok (.aload_n 0, 1) := by decide +kernel
theorem d_L_law_701 : decode b_L_law 701 = .ok (.iload 4, 2) := by decide +kernel
theorem d_L_law_703 : decode b_L_law 703 = .ok (.iconst 2, 1) := by decide +kernel
theorem d_L_law_704 : decode b_L_law 704 = .ok (.iadd, 1) := by decide +kernel
theorem d_L_law_705 : decode b_L_law 705 = .ok (.iaload, 1) := by decide +kernel
theorem d_L_law_706 : decode b_L_law 706 = .ok (.invokevirtual 110, 3) := by decide +kernel
theorem d_L_law_709 : decode b_L_law 709 = .ok (.aload_n 2, 1) := by decide +kernel
theorem d_L_law_710 : decode b_L_law 710 = .ok (.invokevirtual 81, 3) := by decide +kernel
theorem d_L_law_713 : decode b_L_law 713 = .ok (.iload 5, 2) := by decide +kernel
theorem d_L_law_715 : decode b_L_law 715 = .ok (.if_icmp .eq 5, 3) := by decide +kernel
theorem d_L_law_718 : decode b_L_law 718 = .ok (.iconst 0, 1) := by decide +kernel
theorem d_L_law_719 : decode b_L_law 719 = .ok (.ireturn, 1) := by decide +kernel
theorem d_L_law_720 : decode b_L_law 720 = .ok (.goto 351, 3) := by decide +kernel
theorem d_L_law_723 : decode b_L_law 723 = .ok (.aload_n 1, 1) := by decide +kernel
theorem d_L_law_724 : decode b_L_law 724 = .ok (.aload_n 0, 1) := by decide +kernel
theorem d_L_law_725 : decode b_L_law 725 = .ok (.iload 4, 2) := by decide +kernel
theorem d_L_law_727 : decode b_L_law 727 = .ok (.iconst 1, 1) := by decide +kernel
theorem d_L_law_728 : decode b_L_law 728 = .ok (.iadd, 1) := by decide +kernel
theorem d_L_law_729 : decode b_L_law 729 = .ok (.iaload, 1) := by decide +kernel
theorem d_L_law_730 : decode b_L_law 730 = .ok (.invokestatic 111, 3) := by decide +kernel
theorem d_L_law_733 : decode b_L_law 733 = .ok (.istore 5, 2) := by decide +kernel
theorem d_L_law_735 : decode b_L_law 735 = .ok (.aload_n 2, 1) := by decide +kernel
theorem d_L_law_736 : decode b_L_law 736 = .ok (.aload_n 0, 1) := by decide +kernel
theorem d_L_law_737 : decode b_L_law 737 = .ok (.iload 4, 2) := by decide +kernel
theorem d_L_law_739 : decode b_L_law 739 = .ok (.iconst 1, 1) := by decide +kernel
theorem d_L_law_740 : decode b_L_law 740 = .ok (.iadd, 1) := by decide +kernel
theorem d_L_law_741 : decode b_L_law 741 = .ok (.iaload, 1) := by decide +kernel
theorem d_L_law_742 : decode b_L_law 742 = .ok (.invokevirtual 114, 3) := by decide +kernel
theorem d_L_law_745 : decode b_L_law 745 = .ok (.aload_n 2, 1) := by decide +kernel
theorem d_L_law_746 : decode b_L_law 746 = .ok (.invokevirtual 81, 3) := by decide +kernel
theorem d_L_law_749 : decode b_L_law 749 = .ok (.iload 5, 2) := by decide +kernel
theorem d_L_law_751 : decode b_L_law 751 = .ok (.if_icmp .eq 5, 3) := by decide +kernel
theorem d_L_law_754 : decode b_L_law 754 = .ok (.iconst 0, 1) := by decide +kernel
theorem d_L_law_755 : decode b_L_law 755 = .ok (.ireturn, 1) := by decide +kernel
theorem d_L_law_756 : decode b_L_law 756 = .ok (.goto 315, 3) := by decide +kernel
theorem d_L_law_759 : decode b_L_law 759 = .ok (.aload_n 1, 1) := by decide +kernel
theorem d_L_law_760 : decode b_L_law 760 = .ok (.aload_n 0, 1) := by decide +kernel
theorem d_L_law_761 : decode b_L_law 761 = .ok (.iload 4, 2) := by decide +kernel
theorem d_L_law_763 : decode b_L_law 763 = .ok (.iconst 1, 1) := by decide +kernel
theorem d_L_law_764 : decode b_L_law 764 = .ok (.iadd, 1) := by decide +kernel
theorem d_L_law_765 : decode b_L_law 765 = .ok (.iaload, 1) := by decide +kernel
theorem d_L_law_766 : decode b_L_law 766 = .ok (.aload_n 0, 1) := by decide +kernel
theorem d_L_law_767 : decode b_L_law 767 = .ok (.iload 4, 2) := by decide +kernel
theorem d_L_law_769 : decode b_L_law 769 = .ok (.iconst 2, 1) := by decide +kernel
theorem d_L_law_770 : decode b_L_law 770 = .ok (.iadd, 1) := by decide +kernel
theorem d_L_law_771 : decode b_L_law 771 = .ok (.iaload, 1) := by decide +kernel
theorem d_L_law_772 : decode b_L_law 772 = .ok (.invokestatic 115, 3) := by decide +kernel
theorem d_L_law_775 : decode b_L_law 775 = .ok (.istore 5, 2) := by decide +kernel
theorem d_L_law_777 : decode b_L_law 777 = .ok (.aload_n 2, 1) := by decide +kernel
theorem d_L_law_778 : decode b_L_law 778 = .ok (.aload_n 0, 1) := by decide +kernel
theorem d_L_law_779 : decode b_L_law 779 = .ok (.iload 4, 2) := by decide +kernel
theorem d_L_law_781 : decode b_L_law 781 = .ok (.iconst 1, 1) := by decide +kernel
theorem d_L_law_782 : decode b_L_law 782 = .ok (.iadd, 1) := by decide +kernel
theorem d_L_law_783 : decode b_L_law 783 = .ok (.iaload, 1) := by decide +kernel
theorem d_L_law_784 : decode b_L_law 784 = .ok (.aload_n 0, 1) := by decide +kernel
theorem d_L_law_785 : decode b_L_law 785 = .ok (.iload 4, 2) := by decide +kernel
theorem d_L_law_787 : decode b_L_law 787 = .ok (.iconst 2, 1) := by decide +kernel
theorem d_L_law_788 : decode b_L_law 788 = .ok (.iadd, 1) := by decide +kernel
theorem d_L_law_789 : decode b_L_law 789 = .ok (.iaload, 1) := by decide +kernel
theorem d_L_law_790 : decode b_L_law 790 = .ok (.invokevirtual 117, 3) := by decide +kernel
theorem d_L_law_793 : decode b_L_law 793 = .ok (.aload_n 2, 1) := by decide +kernel
theorem d_L_law_794 : decode b_L_law 794 = .ok (.invokevirtual 81, 3) := by decide +kernel
theorem d_L_law_797 : decode b_L_law 797 = .ok (.iload 5, 2) := by decide +kernel
theorem d_L_law_799 : decode b_L_law 799 = .ok (.if_icmp .eq 5, 3) := by decide +kernel
theorem d_L_law_802 : decode b_L_law 802 = .ok (.iconst 0, 1) := by decide +kernel
theorem d_L_law_803 : decode b_L_law 803 = .ok (.ireturn, 1) := by decide +kernel
theorem d_L_law_804 : decode b_L_law 804 = .ok (.goto 267, 3) := by decide +kernel
theorem d_L_law_807 : decode b_L_law 807 = .ok (.aload_n 1, 1) := by decide +kernel
theorem d_L_law_808 : decode b_L_law 808 = .ok (.aload_n 3, 1) := by decide +kernel
theorem d_L_law_809 : decode b_L_law 809 = .ok (.invokestatic 118, 3) := by decide +kernel
theorem d_L_law_812 : decode b_L_law 812 = .ok (.istore 5, 2) := by decide +kernel
theorem d_L_law_814 : decode b_L_law 814 = .ok (.aload_n 2, 1) := by decide +kernel
theorem d_L_law_815 : decode b_L_law 815 = .ok (.invokevirtual 120, 3) := by decide +kernel
theorem d_L_law_818 : decode b_L_law 818 = .ok (.istore 6, 2) := by decide +kernel
theorem d_L_law_820 : decode b_L_law 820 = .ok (.aload_n 2, 1) := by decide +kernel
theorem d_L_law_821 : decode b_L_law 821 = .ok (.invokevirtual 81, 3) := by decide +kernel
theorem d_L_law_824 : decode b_L_law 824 = .ok (.iload 5, 2) := by decide +kernel
theorem d_L_law_826 : decode b_L_law 826 = .ok (.if_icmp .eq 5, 3) := by decide +kernel
theorem d_L_law_829 : decode b_L_law 829 = .ok (.iconst 0, 1) := by decide +kernel
theorem d_L_law_830 : decode b_L_law 830 = .ok (.ireturn, 1) := by decide +kernel
theorem d_L_law_831 : decode b_L_law 831 = .ok (.iload 5, 2) := by decide +kernel
theorem d_L_law_833 : decode b_L_law 833 = .ok (.ifCond .ne 15, 3) := by decide +kernel
theorem d_L_law_836 : decode b_L_law 836 = .ok (.aload_n 3, 1) := by decide +kernel
theorem d_L_law_837 : decode b_L_law 837 = .ok (.iconst 0, 1) := by decide +kernel
theorem d_L_law_838 : decode b_L_law 838 = .ok (.laload, 1) := by decide +kernel
theorem d_L_law_839 : decode b_L_law 839 = .ok (.iload 6, 2) := by decide +kernel
theorem d_L_law_841 : decode b_L_law 841 = .ok (.i2l, 1) := by decide +kernel
theorem d_L_law_842 : decode b_L_law 842 = .ok (.lcmp, 1) := by decide +kernel
theorem d_L_law_843 : decode b_L_law 843 = .ok (.ifCond .eq 5, 3) := by decide +kernel
theorem d_L_law_846 : decode b_L_law 846 = .ok (.iconst 0, 1) := by decide +kernel
theorem d_L_law_847 : decode b_L_law 847 = .ok (.ireturn, 1) := by decide +kernel
theorem d_L_law_848 : decode b_L_law 848 = .ok (.goto 223, 3) := by decide +kernel
theorem d_L_law_851 : decode b_L_law 851 = .ok (.aload_n 1, 1) := by decide +kernel
theorem d_L_law_852 : decode b_L_law 852 = .ok (.aload_n 0, 1) := by decide +kernel
theorem d_L_law_853 : decode b_L_law 853 = .ok (.iload 4, 2) := by decide +kernel
theorem d_L_law_855 : decode b_L_law 855 = .ok (.iconst 1, 1) := by decide +kernel
theorem d_L_law_856 : decode b_L_law 856 = .ok (.iadd, 1) := by decide +kernel
theorem d_L_law_857 : decode b_L_law 857 = .ok (.iaload, 1) := by decide +kernel
theorem d_L_law_858 : decode b_L_law 858 = .ok (.aload_n 0, 1) := by decide +kernel
theorem d_L_law_859 : decode b_L_law 859 = .ok (.iload 4, 2) := by decide +kernel
theorem d_L_law_861 : decode b_L_law 861 = .ok (.iconst 2, 1) := by decide +kernel
theorem d_L_law_862 : decode b_L_law 862 = .ok (.iadd, 1) := by decide +kernel
theorem d_L_law_863 : decode b_L_law 863 = .ok (.iaload, 1) := by decide +kernel
theorem d_L_law_864 : decode b_L_law 864 = .ok (.aload_n 0, 1) := by decide +kernel
theorem d_L_law_865 : decode b_L_law 865 = .ok (.iload 4, 2) := by decide +kernel
theorem d_L_law_867 : decode b_L_law 867 = .ok (.iconst 3, 1) := by decide +kernel
theorem d_L_law_868 : decode b_L_law 868 = .ok (.iadd, 1) := by decide +kernel
theorem d_L_law_869 : decode b_L_law 869 = .ok (.iaload, 1) := by decide +kernel
theorem d_L_law_870 : decode b_L_law 870 = .ok (.ifCond .eq 7, 3) := by decide +kernel
theorem d_L_law_873 : decode b_L_law 873 = .ok (.iconst 1, 1) := by decide +kernel
theorem d_L_law_874 : decode b_L_law 874 = .ok (.goto 4, 3) := by decide +kernel
theorem d_L_law_877 : decode b_L_law 877 = .ok (.iconst 0, 1) := by decide +kernel
theorem d_L_law_878 : decode b_L_law 878 = .ok (.aload_n 3, 1) := by decide +kernel
theorem d_L_law_879 : decode b_L_law 879 = .ok (.invokestatic 121, 3) := by decide +kernel
theorem d_L_law_882 : decode b_L_law 882 = .ok (.istore 5, 2) := by decide +kernel
theorem d_L_law_884 : decode b_L_law 884 = .ok (.aload_n 2, 1) := by decide +kernel
theorem d_L_law_885 : decode b_L_law 885 = .ok (.aload_n 0, 1) := by decide +kernel
theorem d_L_law_886 : decode b_L_law 886 = .ok (.iload 4, 2) := by decide +kernel
theorem d_L_law_888 : decode b_L_law 888 = .ok (.iconst 1, 1) := by decide +kernel
theorem d_L_law_889 : decode b_L_law 889 = .ok (.iadd, 1) := by decide +kernel
theorem d_L_law_890 : decode b_L_law 890 = .ok (.iaload, 1) := by decide +kernel
theorem d_L_law_891 : decode b_L_law 891 = .ok (.aload_n 0, 1) := by decide +kernel
theorem d_L_law_892 : decode b_L_law 892 = .ok (.iload 4, 2) := by decide +kernel
theorem d_L_law_894 : decode b_L_law 894 = .ok (.iconst 2, 1) := by decide +kernel
theorem d_L_law_895 : decode b_L_law 895 = .ok (.iadd, 1) := by decide +kernel
theorem d_L_law_896 : decode b_L_law 896 = .ok (.iaload, 1) := by decide +kernel
theorem d_L_law_897 : decode b_L_law 897 = .ok (.aload_n 0, 1) := by decide +kernel
theorem d_L_law_898 : decode b_L_law 898 = .ok (.iload 4, 2) := by decide +kernel
theorem d_L_law_900 : decode b_L_law 900 = .ok (.iconst 3, 1) := by decide +kernel
theorem d_L_law_901 : decode b_L_law 901 = .ok (.iadd, 1) := by decide +kernel
theorem d_L_law_902 : decode b_L_law 902 = .ok (.iaload, 1) := by decide +kernel
theorem d_L_law_903 : decode b_L_law 903 = .ok (.ifCond .eq 7, 3) := by decide +kernel
theorem d_L_law_906 : decode b_L_law 906 = .ok (.iconst 1, 1) := by decide +kernel
theorem d_L_law_907 : decode b_L_law 907 = .ok (.goto 4, 3) := by decide +kernel
theorem d_L_law_910 : decode b_L_law 910 = .ok (.iconst 0, 1) := by decide +kernel
theorem d_L_law_911 : decode b_L_law 911 = .ok (.invokevirtual 124, 3) := by decide +kernel
theorem d_L_law_914 : decode b_L_law 914 = .ok (.lstore 6, 2) := by decide +kernel
theorem d_L_law_916 : decode b_L_law 916 = .ok (.aload_n 2, 1) := by decide +kernel
theorem d_L_law_917 : decode b_L_law 917 = .ok (.invokevirtual 81, 3) := by decide +kernel
theorem d_L_law_920 : decode b_L_law 920 = .ok (.iload 5, 2) := by decide +kernel
theorem d_L_law_922 : decode b_L_law 922 = .ok (.if_icmp .eq 5, 3) := by decide +kernel
theorem d_L_law_925 : decode b_L_law 925 = .ok (.iconst 0, 1) := by decide +kernel
theorem d_L_law_926 : decode b_L_law 926 = .ok (.ireturn, 1) := by decide +kernel
theorem d_L_law_927 : decode b_L_law 927 = .ok (.iload 5, 2) := by decide +kernel
theorem d_L_law_929 : decode b_L_law 929 = .ok (.ifCond .ne 14, 3) := by decide +kernel
theorem d_L_law_932 : decode b_L_law 932 = .ok (.aload_n 3, 1) := by decide +kernel
theorem d_L_law_933 : decode b_L_law 933 = .ok (.iconst 0, 1) := by decide +kernel
theorem d_L_law_934 : decode b_L_law 934 = .ok (.laload, 1) := by decide +kernel
theorem d_L_law_935 : decode b_L_law 935 = .ok (.lload 6, 2) := by decide +kernel
theorem d_L_law_937 : decode b_L_law 937 = .ok (.lcmp, 1) := by decide +kernel
theorem d_L_law_938 : decode b_L_law 938 = .ok (.ifCond .eq 5, 3) := by decide +kernel
theorem d_L_law_941 : decode b_L_law 941 = .ok (.iconst 0, 1) := by decide +kernel
theorem d_L_law_942 : decode b_L_law 942 = .ok (.ireturn, 1) := by decide +kernel
theorem d_L_law_943 : decode b_L_law 943 = .ok (.goto 128, 3) := by decide +kernel
theorem d_L_law_946 : decode b_L_law 946 = .ok (.aload_n 1, 1) := by decide +kernel
theorem d_L_law_947 : decode b_L_law 947 = .ok (.aload_n 0, 1) := by decide +kernel
theorem d_L_law_948 : decode b_L_law 948 = .ok (.iload 4, 2) := by decide +kernel
theorem d_L_law_950 : decode b_L_law 950 = .ok (.iconst 1, 1) := by decide +kernel
theorem d_L_law_951 : decode b_L_law 951 = .ok (.iadd, 1) := by decide +kernel
theorem d_L_law_952 : decode b_L_law 952 = .ok (.iaload, 1) := by decide +kernel
theorem d_L_law_953 : decode b_L_law 953 = .ok (.aload_n 3, 1) := by decide +kernel
theorem d_L_law_954 : decode b_L_law 954 = .ok (.invokestatic 125, 3) := by decide +kernel
theorem d_L_law_957 : decode b_L_law 957 = .ok (.istore 5, 2) := by decide +kernel
theorem d_L_law_959 : decode b_L_law 959 = .ok (.aload_n 2, 1) := by decide +kernel
theorem d_L_law_960 : decode b_L_law 960 = .ok (.aload_n 0, 1) := by decide +kernel
theorem d_L_law_961 : decode b_L_law 961 = .ok (.iload 4, 2) := by decide +kernel
theorem d_L_law_963 : decode b_L_law 963 = .ok (.iconst 1, 1) := by decide +kernel
theorem d_L_law_964 : decode b_L_law 964 = .ok (.iadd, 1) := by decide +kernel
theorem d_L_law_965 : decode b_L_law 965 = .ok (.iaload, 1) := by decide +kernel
theorem d_L_law_966 : decode b_L_law 966 = .ok (.invokevirtual 127, 3) := by decide +kernel
theorem d_L_law_969 : decode b_L_law 969 = .ok (.istore 6, 2) := by decide +kernel
theorem d_L_law_971 : decode b_L_law 971 = .ok (.aload_n 2, 1) := by decide +kernel
theorem d_L_law_972 : decode b_L_law 972 = .ok (.invokevirtual 81, 3) := by decide +kernel
theorem d_L_law_975 : decode b_L_law 975 = .ok (.iload 5, 2) := by decide +kernel
theorem d_L_law_977 : decode b_L_law 977 = .ok (.if_icmp .eq 5, 3) := by decide +kernel
theorem d_L_law_980 : decode b_L_law 980 = .ok (.iconst 0, 1) := by decide +kernel
theorem d_L_law_981 : decode b_L_law 981 = .ok (.ireturn, 1) := by decide +kernel
theorem d_L_law_982 : decode b_L_law 982 = .ok (.iload 5, 2) := by decide +kernel
theorem d_L_law_984 : decode b_L_law 984 = .ok (.ifCond .ne 15, 3) := by decide +kernel
theorem d_L_law_987 : decode b_L_law 987 = .ok (.aload_n 3, 1) := by decide +kernel
theorem d_L_law_988 : decode b_L_law 988 = .ok (.iconst 0, 1) := by decide +kernel
theorem d_L_law_989 : decode b_L_law 989 = .ok (.laload, 1) := by decide +kernel
theorem d_L_law_990 : decode b_L_law 990 = .ok (.iload 6, 2) := by decide +kernel
theorem d_L_law_992 : decode b_L_law 992 = .ok (.i2l, 1) := by decide +kernel
theorem d_L_law_993 : decode b_L_law 993 = .ok (.lcmp, 1) := by decide +kernel
theorem d_L_law_994 : decode b_L_law 994 = .ok (.ifCond .eq 5, 3) := by decide +kernel
theorem d_L_law_997 : decode b_L_law 997 = .ok (.iconst 0, 1) := by decide +kernel
theorem d_L_law_998 : decode b_L_law 998 = .ok (.ireturn, 1) := by decide +kernel
theorem d_L_law_999 : decode b_L_law 999 = .ok (.goto 72, 3) := by decide +kernel
theorem d_L_law_1002 : decode b_L_law 1002 = .ok (.aload_n 1, 1) := by decide +kernel
theorem d_L_law_1003 : decode b_L_law 1003 = .ok (.aload_n 0, 1) := by decide +kernel
theorem d_L_law_1004 : decode b_L_law 1004 = .ok (.iload 4, 2) := by decide +kernel
theorem d_L_law_1006 : decode b_L_law 1006 = .ok (.iconst 1, 1) := by decide +kernel
theorem d_L_law_1007 : decode b_L_law 1007 = .ok (.iadd, 1) := by decide +kernel
theorem d_L_law_1008 : decode b_L_law 1008 = .ok (.iaload, 1) := by decide +kernel
theorem d_L_law_1009 : decode b_L_law 1009 = .ok (.aload_n 3, 1) := by decide +kernel
theorem d_L_law_1010 : decode b_L_law 1010 = .ok (.invokestatic 128, 3) := by decide +kernel
theorem d_L_law_1013 : decode b_L_law 1013 = .ok (.istore 5, 2) := by decide +kernel
theorem d_L_law_1015 : decode b_L_law 1015 = .ok (.aload_n 2, 1) := by decide +kernel
theorem d_L_law_1016 : decode b_L_law 1016 = .ok (.aload_n 0, 1) := by decide +kernel
theorem d_L_law_1017 : decode b_L_law 1017 = .ok (.iload 4, 2) := by decide +kernel
theorem d_L_law_1019 : decode b_L_law 1019 = .ok (.iconst 1, 1) := by decide +kernel
theorem d_L_law_1020 : decode b_L_law 1020 = .ok (.iadd, 1) := by decide +kernel
theorem d_L_law_1021 : decode b_L_law 1021 = .ok (.iaload, 1) := by decide +kernel
theorem d_L_law_1022 : decode b_L_law 1022 = .ok (.invokevirtual 130, 3) := by decide +kernel
theorem d_L_law_1025 : decode b_L_law 1025 = .ok (.istore 6, 2) := by decide +kernel
theorem d_L_law_1027 : decode b_L_law 1027 = .ok (.aload_n 2, 1) := by decide +kernel
theorem d_L_law_1028 : decode b_L_law 1028 = .ok (.invokevirtual 81, 3) := by decide +kernel
theorem d_L_law_1031 : decode b_L_law 1031 = .ok (.iload 5, 2) := by decide +kernel
theorem d_L_law_1033 : decode b_L_law 1033 = .ok (.if_icmp .eq 5, 3) := by decide +kernel
theorem d_L_law_1036 : decode b_L_law 1036 = .ok (.iconst 0, 1) := by decide +kernel
theorem d_L_law_1037 : decode b_L_law 1037 = .ok (.ireturn, 1) := by decide +kernel
theorem d_L_law_1038 : decode b_L_law 1038 = .ok (.iload 5, 2) := by decide +kernel
theorem d_L_law_1040 : decode b_L_law 1040 = .ok (.ifCond .ne 15, 3) := by decide +kernel
theorem d_L_law_1043 : decode b_L_law 1043 = .ok (.aload_n 3, 1) := by decide +kernel
theorem d_L_law_1044 : decode b_L_law 1044 = .ok (.iconst 0, 1) := by decide +kernel
theorem d_L_law_1045 : decode b_L_law 1045 = .ok (.laload, 1) := by decide +kernel
theorem d_L_law_1046 : decode b_L_law 1046 = .ok (.iload 6, 2) := by decide +kernel
theorem d_L_law_1048 : decode b_L_law 1048 = .ok (.i2l, 1) := by decide +kernel
theorem d_L_law_1049 : decode b_L_law 1049 = .ok (.lcmp, 1) := by decide +kernel
theorem d_L_law_1050 : decode b_L_law 1050 = .ok (.ifCond .eq 5, 3) := by decide +kernel
theorem d_L_law_1053 : decode b_L_law 1053 = .ok (.iconst 0, 1) := by decide +kernel
theorem d_L_law_1054 : decode b_L_law 1054 = .ok (.ireturn, 1) := by decide +kernel
theorem d_L_law_1055 : decode b_L_law 1055 = .ok (.goto 16, 3) := by decide +kernel
theorem d_L_law_1058 : decode b_L_law 1058 = .ok (.aload_n 1, 1) := by decide +kernel
theorem d_L_law_1059 : decode b_L_law 1059 = .ok (.invokevirtual 131, 3) := by decide +kernel
theorem d_L_law_1062 : decode b_L_law 1062 = .ok (.aload_n 2, 1) := by decide +kernel
theorem d_L_law_1063 : decode b_L_law 1063 = .ok (.invokevirtual 134, 3) := by decide +kernel
theorem d_L_law_1066 : decode b_L_law 1066 = .ok (.if_icmp .eq 5, 3) := by decide +kernel
theorem d_L_law_1069 : decode b_L_law 1069 = .ok (.iconst 0, 1) := by decide +kernel
theorem d_L_law_1070 : decode b_L_law 1070 = .ok (.ireturn, 1) := by decide +kernel
theorem d_L_law_1071 : decode b_L_law 1071 = .ok (.iinc 4 6, 3) := by decide +kernel
theorem d_L_law_1074 : decode b_L_law 1074 = .ok (.goto (-1051), 3) := by decide +kernel
theorem d_L_law_1077 : decode b_L_law 1077 = .ok (.iconst 1, 1) := by decide +kernel
theorem d_L_law_1078 : decode b_L_law 1078 = .ok (.ireturn, 1) := by decide +kernel
abbrev rm_L_law : Room := room_1
theorem sc_L_106 {l : Launch} {R : Room} {ad : Nat → Nat} {D : va_G} {cA : Nat → ClassId} {cc : ByteArray} {nL : Nat} {WW : Nat → qP} (S : qSnd l R ad D cA R_L cc nL WW) (hR : rm_D_begin.frames + 1 ≤ R.frames ∧ 8 + (1 + 11) + rm_D_begin.locals ≤ R.locals) {K : qP} {pc : Nat} (d : decode cc pc = .ok (.invokevirtual 106, 3)) (h : qle K WW (pc + 3)) : qle (oc_D_begin K) WW pc := by
  intro st ls σ k
  refine S.callV (o := 901) (ci := 1) (N := 32) (base := 100) (C := R_D) (T := F_D) (n := 0) (pre := pre_D_begin) (post := post_D_begin) (Or.inr ⟨rfl, rfl, rfl, rfl, rfl, rfl⟩) ⟨lw_at 922 (by decide +kernel) rfl, lw_at 919 (by decide +kernel) rfl, lw_at 60 (by decide +kernel) rfl, by decide, by decide, by decide +kernel⟩ ⟨lw_at 920 (by decide +kernel) rfl, lw_at 921 (by decide +kernel) rfl⟩ ⟨rfl, rfl⟩ hR (c_D_begin l ad D cA) ?_ d h st ls σ ?_
  · intro av σ h; unfold pre_D_begin at h; split at h
    · obtain ⟨rfl, h⟩ := h; exact ⟨_, rfl⟩
    · exact h.elim
  · unfold oc_D_begin at k
    split at k
    next o st =>
      obtain ⟨rfl, hs, hp, k⟩ := k
      refine ⟨[.inr (.inr 901)], st, rfl, rfl, hs, ⟨rfl, hp⟩, fun r σ' hq => ?_⟩
      unfold post_D_begin at hq
      split at hq
      next h1 =>
        cases h1
        exact k _ _ hq
      next => exact hq.elim
    next => exact k.elim
theorem sc_L_134 {l : Launch} {R : Room} {ad : Nat → Nat} {D : va_G} {cA : Nat → ClassId} {cc : ByteArray} {nL : Nat} {WW : Nat → qP} (S : qSnd l R ad D cA R_L cc nL WW) (hR : rm_D_check.frames + 1 ≤ R.frames ∧ 8 + (1 + 11) + rm_D_check.locals ≤ R.locals) {K : qP} {pc : Nat} (d : decode cc pc = .ok (.invokevirtual 134, 3)) (h : qle K WW (pc + 3)) : qle (oc_D_check K) WW pc := by
  intro st ls σ k
  refine S.callV (o := 901) (ci := 1) (N := 32) (base := 100) (C := R_D) (T := F_D) (n := 0) (pre := pre_D_check) (post := post_D_check) (Or.inr ⟨rfl, rfl, rfl, rfl, rfl, rfl⟩) ⟨lw_at 990 (by decide +kernel) rfl, lw_at 987 (by decide +kernel) rfl, lw_at 60 (by decide +kernel) rfl, by decide, by decide, by decide +kernel⟩ ⟨lw_at 988 (by decide +kernel) rfl, lw_at 989 (by decide +kernel) rfl⟩ ⟨rfl, rfl⟩ hR (c_D_check l ad D cA) ?_ d h st ls σ ?_
  · intro av σ h; unfold pre_D_check at h; split at h
    · obtain ⟨rfl, h⟩ := h; exact ⟨_, rfl⟩
    · exact h.elim
  · unfold oc_D_check at k
    split at k
    next o st =>
      obtain ⟨rfl, hs, hp, k⟩ := k
      refine ⟨[.inr (.inr 901)], st, rfl, rfl, hs, ⟨rfl, hp⟩, fun r σ' hq => ?_⟩
      unfold post_D_check at hq
      split at hq
      next h1 =>
        cases h1
        exact k _ _ hq
      next => exact hq.elim
    next => exact k.elim
theorem sc_L_87 {l : Launch} {R : Room} {ad : Nat → Nat} {D : va_G} {cA : Nat → ClassId} {cc : ByteArray} {nL : Nat} {WW : Nat → qP} (S : qSnd l R ad D cA R_L cc nL WW) (hR : rm_D_clear.frames + 1 ≤ R.frames ∧ 8 + (3 + 11) + rm_D_clear.locals ≤ R.locals) {K : qP} {pc : Nat} (d : decode cc pc = .ok (.invokevirtual 87, 3)) (h : qle K WW (pc + 3)) : qle (oc_D_clear K) WW pc := by
  intro st ls σ k
  refine S.callV (o := 901) (ci := 1) (N := 32) (base := 100) (C := R_D) (T := F_D) (n := 1) (pre := pre_D_clear) (post := post_D_clear) (Or.inr ⟨rfl, rfl, rfl, rfl, rfl, rfl⟩) ⟨lw_at 900 (by decide +kernel) rfl, lw_at 897 (by decide +kernel) rfl, lw_at 60 (by decide +kernel) rfl, by decide, by decide, by decide +kernel⟩ ⟨lw_at 898 (by decide +kernel) rfl, lw_at 899 (by decide +kernel) rfl⟩ ⟨rfl, rfl⟩ hR (c_D_clear l ad D cA) ?_ d h st ls σ ?_
  · intro av σ h; unfold pre_D_clear at h; split at h
    · obtain ⟨rfl, h⟩ := h; exact ⟨_, rfl⟩
    · exact h.elim
  · unfold oc_D_clear at k
    split at k
    next a1 o st =>
      obtain ⟨rfl, hs, hp, k⟩ := k
      refine ⟨[.inr (.inr 901), .inl a1], st, rfl, rfl, hs, ⟨rfl, hp⟩, fun r σ' hq => ?_⟩
      unfold post_D_clear at hq
      split at hq
      next h1 =>
        cases h1
        exact k _ _ hq
      next => exact hq.elim
    next => exact k.elim
theorem sc_L_91 {l : Launch} {R : Room} {ad : Nat → Nat} {D : va_G} {cA : Nat → ClassId} {cc : ByteArray} {nL : Nat} {WW : Nat → qP} (S : qSnd l R ad D cA R_L cc nL WW) (hR : rm_D_code.frames + 1 ≤ R.frames ∧ 8 + (5 + 11) + rm_D_code.locals ≤ R.locals) {K : qP} {pc : Nat} (d : decode cc pc = .ok (.invokevirtual 91, 3)) (h : qle K WW (pc + 3)) : qle (oc_D_code K) WW pc := by
  intro st ls σ k
  refine S.callV (o := 901) (ci := 1) (N := 32) (base := 100) (C := R_D) (T := F_D) (n := 2) (pre := pre_D_code) (post := post_D_code) (Or.inr ⟨rfl, rfl, rfl, rfl, rfl, rfl⟩) ⟨lw_at 904 (by decide +kernel) rfl, lw_at 901 (by decide +kernel) rfl, lw_at 60 (by decide +kernel) rfl, by decide, by decide, by decide +kernel⟩ ⟨lw_at 902 (by decide +kernel) rfl, lw_at 903 (by decide +kernel) rfl⟩ ⟨rfl, rfl⟩ hR (c_D_code l ad D cA) ?_ d h st ls σ ?_
  · intro av σ h; unfold pre_D_code at h; split at h
    · obtain ⟨rfl, h⟩ := h; exact ⟨_, rfl⟩
    · exact h.elim
  · unfold oc_D_code at k
    split at k
    next a2 a1 o st =>
      obtain ⟨rfl, hs, hp, k⟩ := k
      refine ⟨[.inr (.inr 901), .inl a1, .inr (.inl a2)], st, rfl, rfl, hs, ⟨rfl, hp⟩, fun r σ' hq => ?_⟩
      unfold post_D_code at hq
      split at hq
      next h1 =>
        cases h1
        exact k _ _ hq
      next => exact hq.elim
    next => exact k.elim
theorem sc_L_130 {l : Launch} {R : Room} {ad : Nat → Nat} {D : va_G} {cA : Nat → ClassId} {cc : ByteArray} {nL : Nat} {WW : Nat → qP} (S : qSnd l R ad D cA R_L cc nL WW) (hR : rm_D_count.frames + 1 ≤ R.frames ∧ 8 + (5 + 11) + rm_D_count.locals ≤ R.locals) {K : qP} {pc : Nat} (d : decode cc pc = .ok (.invokevirtual 130, 3)) (h : qle K WW (pc + 3)) : qle (oc_D_count K) WW pc := by
  intro st ls σ k
  refine S.callV (o := 901) (ci := 1) (N := 32) (base := 100) (C := R_D) (T := F_D) (n := 1) (pre := pre_D_count) (post := post_D_count) (Or.inr ⟨rfl, rfl, rfl, rfl, rfl, rfl⟩) ⟨lw_at 986 (by decide +kernel) rfl, lw_at 983 (by decide +kernel) rfl, lw_at 60 (by decide +kernel) rfl, by decide, by decide, by decide +kernel⟩ ⟨lw_at 984 (by decide +kernel) rfl, lw_at 985 (by decide +kernel) rfl⟩ ⟨rfl, rfl⟩ hR (c_D_count l ad D cA) ?_ d h st ls σ ?_
  · intro av σ h; unfold pre_D_count at h; split at h
    · obtain ⟨rfl, h⟩ := h; exact ⟨_, rfl⟩
    · exact h.elim
  · unfold oc_D_count at k
    split at k
    next a1 o st =>
      obtain ⟨rfl, hs, hp, k⟩ := k
      refine ⟨[.inr (.inr 901), .inl a1], st, rfl, rfl, hs, ⟨rfl, hp⟩, fun r σ' hq => ?_⟩
      unfold post_D_count at hq
      split at hq
      next h1 =>
        cases h1
        exact k _ _ hq
      next => exact hq.elim
    next => exact k.elim
theorem sc_L_114 {l : Launch} {R : Room} {ad : Nat → Nat} {D : va_G} {cA : Nat → ClassId} {cc : ByteArray} {nL : Nat} {WW : Nat → qP} (S : qSnd l R ad D cA R_L cc nL WW) (hR : rm_D_crash.frames + 1 ≤ R.frames ∧ 8 + (2 + 11) + rm_D_crash.locals ≤ R.locals) {K : qP} {pc : Nat} (d : decode cc pc = .ok (.invokevirtual 114, 3)) (h : qle K WW (pc + 3)) : qle (oc_D_crash K) WW pc := by
  intro st ls σ k
  refine S.callV (o := 901) (ci := 1) (N := 32) (base := 100) (C := R_D) (T := F_D) (n := 1) (pre := pre_D_crash) (post := post_D_crash) (Or.inr ⟨rfl, rfl, rfl, rfl, rfl, rfl⟩) ⟨lw_at 938 (by decide +kernel) rfl, lw_at 935 (by decide +kernel) rfl, lw_at 60 (by decide +kernel) rfl, by decide, by decide, by decide +kernel⟩ ⟨lw_at 936 (by decide +kernel) rfl, lw_at 937 (by decide +kernel) rfl⟩ ⟨rfl, rfl⟩ hR (c_D_crash l ad D cA) ?_ d h st ls σ ?_
  · intro av σ h; unfold pre_D_crash at h; split at h
    · obtain ⟨rfl, h⟩ := h; exact ⟨_, rfl⟩
    · exact h.elim
  · unfold oc_D_crash at k
    split at k
    next a1 o st =>
      obtain ⟨rfl, hs, hp, k⟩ := k
      refine ⟨[.inr (.inr 901), .inl a1], st, rfl, rfl, hs, ⟨rfl, hp⟩, fun r σ' hq => ?_⟩
      unfold post_D_crash at hq
      split at hq
      next h1 =>
        cases h1
        exact k _ hq
      next => exact hq.elim
    next => exact k.elim
theorem sc_L_102 {l : Launch} {R : Room} {ad : Nat → Nat} {D : va_G} {cA : Nat → ClassId} {cc : ByteArray} {nL : Nat} {WW : Nat → qP} (S : qSnd l R ad D cA R_L cc nL WW) (hR : rm_D_drop.frames + 1 ≤ R.frames ∧ 8 + (3 + 11) + rm_D_drop.locals ≤ R.locals) {K : qP} {pc : Nat} (d : decode cc pc = .ok (.invokevirtual 102, 3)) (h : qle K WW (pc + 3)) : qle (oc_D_drop K) WW pc := by
  intro st ls σ k
  refine S.callV (o := 901) (ci := 1) (N := 32) (base := 100) (C := R_D) (T := F_D) (n := 1) (pre := pre_D_drop) (post := post_D_drop) (Or.inr ⟨rfl, rfl, rfl, rfl, rfl, rfl⟩) ⟨lw_at 918 (by decide +kernel) rfl, lw_at 915 (by decide +kernel) rfl, lw_at 60 (by decide +kernel) rfl, by decide, by decide, by decide +kernel⟩ ⟨lw_at 916 (by decide +kernel) rfl, lw_at 917 (by decide +kernel) rfl⟩ ⟨rfl, rfl⟩ hR (c_D_drop l ad D cA) ?_ d h st ls σ ?_
  · intro av σ h; unfold pre_D_drop at h; split at h
    · obtain ⟨rfl, h⟩ := h; exact ⟨_, rfl⟩
    · exact h.elim
  · unfold oc_D_drop at k
    split at k
    next a1 o st =>
      obtain ⟨rfl, hs, hp, k⟩ := k
      refine ⟨[.inr (.inr 901), .inl a1], st, rfl, rfl, hs, ⟨rfl, hp⟩, fun r σ' hq => ?_⟩
      unfold post_D_drop at hq
      split at hq
      next h1 =>
        cases h1
        exact k _ _ hq
      next => exact hq.elim
    next => exact k.elim
theorem sc_L_120 {l : Launch} {R : Room} {ad : Nat → Nat} {D : va_G} {cA : Nat → ClassId} {cc : ByteArray} {nL : Nat} {WW : Nat → qP} (S : qSnd l R ad D cA R_L cc nL WW) (hR : rm_D_finish.frames + 1 ≤ R.frames ∧ 8 + (2 + 11) + rm_D_finish.locals ≤ R.locals) {K : qP} {pc : Nat} (d : decode cc pc = .ok (.invokevirtual 120, 3)) (h : qle K WW (pc + 3)) : qle (oc_D_finish K) WW pc := by
  intro st ls σ k
  refine S.callV (o := 901) (ci := 1) (N := 32) (base := 100) (C := R_D) (T := F_D) (n := 0) (pre := pre_D_finish) (post := post_D_finish) (Or.inr ⟨rfl, rfl, rfl, rfl, rfl, rfl⟩) ⟨lw_at 946 (by decide +kernel) rfl, lw_at 943 (by decide +kernel) rfl, lw_at 60 (by decide +kernel) rfl, by decide, by decide, by decide +kernel⟩ ⟨lw_at 944 (by decide +kernel) rfl, lw_at 945 (by decide +kernel) rfl⟩ ⟨rfl, rfl⟩ hR (c_D_finish l ad D cA) ?_ d h st ls σ ?_
  · intro av σ h; unfold pre_D_finish at h; split at h
    · obtain ⟨rfl, h⟩ := h; exact ⟨_, rfl⟩
    · exact h.elim
  · unfold oc_D_finish at k
    split at k
    next o st =>
      obtain ⟨rfl, hs, hp, k⟩ := k
      refine ⟨[.inr (.inr 901)], st, rfl, rfl, hs, ⟨rfl, hp⟩, fun r σ' hq => ?_⟩
      unfold post_D_finish at hq
      split at hq
      next h1 =>
        cases h1
        exact k _ _ hq
      next => exact hq.elim
    next => exact k.elim
theorem sc_L_99 {l : Launch} {R : Room} {ad : Nat → Nat} {D : va_G} {cA : Nat → ClassId} {cc : ByteArray} {nL : Nat} {WW : Nat → qP} (S : qSnd l R ad D cA R_L cc nL WW) (hR : rm_D_job.frames + 1 ≤ R.frames ∧ 8 + (6 + 11) + rm_D_job.locals ≤ R.locals) {K : qP} {pc : Nat} (d : decode cc pc = .ok (.invokevirtual 99, 3)) (h : qle K WW (pc + 3)) : qle (oc_D_job K) WW pc := by
  intro st ls σ k
  refine S.callV (o := 901) (ci := 1) (N := 32) (base := 100) (C := R_D) (T := F_D) (n := 5) (pre := pre_D_job) (post := post_D_job) (Or.inr ⟨rfl, rfl, rfl, rfl, rfl, rfl⟩) ⟨lw_at 914 (by decide +kernel) rfl, lw_at 911 (by decide +kernel) rfl, lw_at 60 (by decide +kernel) rfl, by decide, by decide, by decide +kernel⟩ ⟨lw_at 912 (by decide +kernel) rfl, lw_at 913 (by decide +kernel) rfl⟩ ⟨rfl, rfl⟩ hR (c_D_job l ad D cA) ?_ d h st ls σ ?_
  · intro av σ h; unfold pre_D_job at h; split at h
    · obtain ⟨rfl, h⟩ := h; exact ⟨_, rfl⟩
    · exact h.elim
  · unfold oc_D_job at k
    split at k
    next a5 a4 a3 a2 a1 o st =>
      obtain ⟨rfl, hs, hp, k⟩ := k
      refine ⟨[.inr (.inr 901), .inl a1, .inl a2, .inl a3, .inl a4, .inl a5], st, rfl, rfl, hs, ⟨rfl, hp⟩, fun r σ' hq => ?_⟩
      unfold post_D_job at hq
      split at hq
      next h1 =>
        cases h1
        exact k _ hq
      next => exact hq.elim
    next => exact k.elim
theorem sc_L_117 {l : Launch} {R : Room} {ad : Nat → Nat} {D : va_G} {cA : Nat → ClassId} {cc : ByteArray} {nL : Nat} {WW : Nat → qP} (S : qSnd l R ad D cA R_L cc nL WW) (hR : rm_D_line.frames + 1 ≤ R.frames ∧ 8 + (3 + 11) + rm_D_line.locals ≤ R.locals) {K : qP} {pc : Nat} (d : decode cc pc = .ok (.invokevirtual 117, 3)) (h : qle K WW (pc + 3)) : qle (oc_D_line K) WW pc := by
  intro st ls σ k
  refine S.callV (o := 901) (ci := 1) (N := 32) (base := 100) (C := R_D) (T := F_D) (n := 2) (pre := pre_D_line) (post := post_D_line) (Or.inr ⟨rfl, rfl, rfl, rfl, rfl, rfl⟩) ⟨lw_at 942 (by decide +kernel) rfl, lw_at 939 (by decide +kernel) rfl, lw_at 60 (by decide +kernel) rfl, by decide, by decide, by decide +kernel⟩ ⟨lw_at 940 (by decide +kernel) rfl, lw_at 941 (by decide +kernel) rfl⟩ ⟨rfl, rfl⟩ hR (c_D_line l ad D cA) ?_ d h st ls σ ?_
  · intro av σ h; unfold pre_D_line at h; split at h
    · obtain ⟨rfl, h⟩ := h; exact ⟨_, rfl⟩
    · exact h.elim
  · unfold oc_D_line at k
    split at k
    next a2 a1 o st =>
      obtain ⟨rfl, hs, hp, k⟩ := k
      refine ⟨[.inr (.inr 901), .inl a1, .inl a2], st, rfl, rfl, hs, ⟨rfl, hp⟩, fun r σ' hq => ?_⟩
      unfold post_D_line at hq
      split at hq
      next h1 =>
        cases h1
        exact k _ hq
      next => exact hq.elim
    next => exact k.elim
theorem sc_L_95 {l : Launch} {R : Room} {ad : Nat → Nat} {D : va_G} {cA : Nat → ClassId} {cc : ByteArray} {nL : Nat} {WW : Nat → qP} (S : qSnd l R ad D cA R_L cc nL WW) (hR : rm_D_program.frames + 1 ≤ R.frames ∧ 8 + (7 + 11) + rm_D_program.locals ≤ R.locals) {K : qP} {pc : Nat} (d : decode cc pc = .ok (.invokevirtual 95, 3)) (h : qle K WW (pc + 3)) : qle (oc_D_program K) WW pc := by
  intro st ls σ k
  refine S.callV (o := 901) (ci := 1) (N := 32) (base := 100) (C := R_D) (T := F_D) (n := 2) (pre := pre_D_program) (post := post_D_program) (Or.inr ⟨rfl, rfl, rfl, rfl, rfl, rfl⟩) ⟨lw_at 910 (by decide +kernel) rfl, lw_at 907 (by decide +kernel) rfl, lw_at 60 (by decide +kernel) rfl, by decide, by decide, by decide +kernel⟩ ⟨lw_at 908 (by decide +kernel) rfl, lw_at 909 (by decide +kernel) rfl⟩ ⟨rfl, rfl⟩ hR (c_D_program l ad D cA) ?_ d h st ls σ ?_
  · intro av σ h; unfold pre_D_program at h; split at h
    · obtain ⟨rfl, h⟩ := h; exact ⟨_, rfl⟩
    · exact h.elim
  · unfold oc_D_program at k
    split at k
    next a2 a1 o st =>
      obtain ⟨rfl, hs, hp, k⟩ := k
      refine ⟨[.inr (.inr 901), .inl a1, .inl a2], st, rfl, rfl, hs, ⟨rfl, hp⟩, fun r σ' hq => ?_⟩
      unfold post_D_program at hq
      split at hq
      next h1 =>
        cases h1
        exact k _ _ hq
      next => exact hq.elim
    next => exact k.elim
theorem sc_L_80 {l : Launch} {R : Room} {ad : Nat → Nat} {D : va_G} {cA : Nat → ClassId} {cc : ByteArray} {nL : Nat} {WW : Nat → qP} (S : qSnd l R ad D cA R_L cc nL WW) (hR : rm_D_record.frames + 1 ≤ R.frames ∧ 8 + (6 + 11) + rm_D_record.locals ≤ R.locals) {K : qP} {pc : Nat} (d : decode cc pc = .ok (.invokevirtual 80, 3)) (h : qle K WW (pc + 3)) : qle (oc_D_record K) WW pc := by
  intro st ls σ k
  refine S.callV (o := 901) (ci := 1) (N := 32) (base := 100) (C := R_D) (T := F_D) (n := 3) (pre := pre_D_record) (post := post_D_record) (Or.inr ⟨rfl, rfl, rfl, rfl, rfl, rfl⟩) ⟨lw_at 893 (by decide +kernel) rfl, lw_at 890 (by decide +kernel) rfl, lw_at 60 (by decide +kernel) rfl, by decide, by decide, by decide +kernel⟩ ⟨lw_at 891 (by decide +kernel) rfl, lw_at 892 (by decide +kernel) rfl⟩ ⟨rfl, rfl⟩ hR (c_D_record l ad D cA) ?_ d h st ls σ ?_
  · intro av σ h; unfold pre_D_record at h; split at h
    · obtain ⟨rfl, h⟩ := h; exact ⟨_, rfl⟩
    · exact h.elim
  · unfold oc_D_record at k
    split at k
    next a3 a2 a1 o st =>
      obtain ⟨rfl, hs, hp, k⟩ := k
      refine ⟨[.inr (.inr 901), .inl a1, .inr (.inl a2), .inr (.inl a3)], st, rfl, rfl, hs, ⟨rfl, hp⟩, fun r σ' hq => ?_⟩
      unfold post_D_record at hq
      split at hq
      next h1 =>
        cases h1
        exact k _ _ hq
      next => exact hq.elim
    next => exact k.elim
theorem sc_L_127 {l : Launch} {R : Room} {ad : Nat → Nat} {D : va_G} {cA : Nat → ClassId} {cc : ByteArray} {nL : Nat} {WW : Nat → qP} (S : qSnd l R ad D cA R_L cc nL WW) (hR : rm_D_size.frames + 1 ≤ R.frames ∧ 8 + (2 + 11) + rm_D_size.locals ≤ R.locals) {K : qP} {pc : Nat} (d : decode cc pc = .ok (.invokevirtual 127, 3)) (h : qle K WW (pc + 3)) : qle (oc_D_size K) WW pc := by
  intro st ls σ k
  refine S.callV (o := 901) (ci := 1) (N := 32) (base := 100) (C := R_D) (T := F_D) (n := 1) (pre := pre_D_size) (post := post_D_size) (Or.inr ⟨rfl, rfl, rfl, rfl, rfl, rfl⟩) ⟨lw_at 982 (by decide +kernel) rfl, lw_at 979 (by decide +kernel) rfl, lw_at 60 (by decide +kernel) rfl, by decide, by decide, by decide +kernel⟩ ⟨lw_at 980 (by decide +kernel) rfl, lw_at 981 (by decide +kernel) rfl⟩ ⟨rfl, rfl⟩ hR (c_D_size l ad D cA) ?_ d h st ls σ ?_
  · intro av σ h; unfold pre_D_size at h; split at h
    · obtain ⟨rfl, h⟩ := h; exact ⟨_, rfl⟩
    · exact h.elim
  · unfold oc_D_size at k
    split at k
    next a1 o st =>
      obtain ⟨rfl, hs, hp, k⟩ := k
      refine ⟨[.inr (.inr 901), .inl a1], st, rfl, rfl, hs, ⟨rfl, hp⟩, fun r σ' hq => ?_⟩
      unfold post_D_size at hq
      split at hq
      next h1 =>
        cases h1
        exact k _ _ hq
      next => exact hq.elim
    next => exact k.elim
theorem sc_L_81 {l : Launch} {R : Room} {ad : Nat → Nat} {D : va_G} {cA : Nat → ClassId} {cc : ByteArray} {nL : Nat} {WW : Nat → qP} (S : qSnd l R ad D cA R_L cc nL WW) (hR : rm_D_thrown.frames + 1 ≤ R.frames ∧ 8 + (1 + 11) + rm_D_thrown.locals ≤ R.locals) {K : qP} {pc : Nat} (d : decode cc pc = .ok (.invokevirtual 81, 3)) (h : qle K WW (pc + 3)) : qle (oc_D_thrown K) WW pc := by
  intro st ls σ k
  refine S.callV (o := 901) (ci := 1) (N := 32) (base := 100) (C := R_D) (T := F_D) (n := 0) (pre := pre_D_thrown) (post := post_D_thrown) (Or.inr ⟨rfl, rfl, rfl, rfl, rfl, rfl⟩) ⟨lw_at 889 (by decide +kernel) rfl, lw_at 886 (by decide +kernel) rfl, lw_at 60 (by decide +kernel) rfl, by decide, by decide, by decide +kernel⟩ ⟨lw_at 887 (by decide +kernel) rfl, lw_at 888 (by decide +kernel) rfl⟩ ⟨rfl, rfl⟩ hR (c_D_thrown l ad D cA) ?_ d h st ls σ ?_
  · intro av σ h; unfold pre_D_thrown at h; split at h
    · obtain ⟨rfl, h⟩ := h; exact ⟨_, rfl⟩
    · exact h.elim
  · unfold oc_D_thrown at k
    split at k
    next o st =>
      obtain ⟨rfl, hs, hp, k⟩ := k
      refine ⟨[.inr (.inr 901)], st, rfl, rfl, hs, ⟨rfl, hp⟩, fun r σ' hq => ?_⟩
      unfold post_D_thrown at hq
      split at hq
      next h1 =>
        cases h1
        exact k _ _ hq
      next => exact hq.elim
    next => exact k.elim
theorem sc_L_110 {l : Launch} {R : Room} {ad : Nat → Nat} {D : va_G} {cA : Nat → ClassId} {cc : ByteArray} {nL : Nat} {WW : Nat → qP} (S : qSnd l R ad D cA R_L cc nL WW) (hR : rm_D_tick.frames + 1 ≤ R.frames ∧ 8 + (3 + 11) + rm_D_tick.locals ≤ R.locals) {K : qP} {pc : Nat} (d : decode cc pc = .ok (.invokevirtual 110, 3)) (h : qle K WW (pc + 3)) : qle (oc_D_tick K) WW pc := by
  intro st ls σ k
  refine S.callV (o := 901) (ci := 1) (N := 32) (base := 100) (C := R_D) (T := F_D) (n := 2) (pre := pre_D_tick) (post := post_D_tick) (Or.inr ⟨rfl, rfl, rfl, rfl, rfl, rfl⟩) ⟨lw_at 934 (by decide +kernel) rfl, lw_at 931 (by decide +kernel) rfl, lw_at 60 (by decide +kernel) rfl, by decide, by decide, by decide +kernel⟩ ⟨lw_at 932 (by decide +kernel) rfl, lw_at 933 (by decide +kernel) rfl⟩ ⟨rfl, rfl⟩ hR (c_D_tick l ad D cA) ?_ d h st ls σ ?_
  · intro av σ h; unfold pre_D_tick at h; split at h
    · obtain ⟨rfl, h⟩ := h; exact ⟨_, rfl⟩
    · exact h.elim
  · unfold oc_D_tick at k
    split at k
    next a2 a1 o st =>
      obtain ⟨rfl, hs, hp, k⟩ := k
      refine ⟨[.inr (.inr 901), .inl a1, .inl a2], st, rfl, rfl, hs, ⟨rfl, hp⟩, fun r σ' hq => ?_⟩
      unfold post_D_tick at hq
      split at hq
      next h1 =>
        cases h1
        exact k _ hq
      next => exact hq.elim
    next => exact k.elim
theorem sc_L_124 {l : Launch} {R : Room} {ad : Nat → Nat} {D : va_G} {cA : Nat → ClassId} {cc : ByteArray} {nL : Nat} {WW : Nat → qP} (S : qSnd l R ad D cA R_L cc nL WW) (hR : rm_D_told.frames + 1 ≤ R.frames ∧ 8 + (4 + 11) + rm_D_told.locals ≤ R.locals) {K : qP} {pc : Nat} (d : decode cc pc = .ok (.invokevirtual 124, 3)) (h : qle K WW (pc + 3)) : qle (oc_D_told K) WW pc := by
  intro st ls σ k
  refine S.callV (o := 901) (ci := 1) (N := 32) (base := 100) (C := R_D) (T := F_D) (n := 3) (pre := pre_D_told) (post := post_D_told) (Or.inr ⟨rfl, rfl, rfl, rfl, rfl, rfl⟩) ⟨lw_at 978 (by decide +kernel) rfl, lw_at 975 (by decide +kernel) rfl, lw_at 60 (by decide +kernel) rfl, by decide, by decide, by decide +kernel⟩ ⟨lw_at 976 (by decide +kernel) rfl, lw_at 977 (by decide +kernel) rfl⟩ ⟨rfl, rfl⟩ hR (c_D_told l ad D cA) ?_ d h st ls σ ?_
  · intro av σ h; unfold pre_D_told at h; split at h
    · obtain ⟨rfl, h⟩ := h; exact ⟨_, rfl⟩
    · exact h.elim
  · unfold oc_D_told at k
    split at k
    next a3 a2 a1 o st =>
      obtain ⟨rfl, hs, hp, k⟩ := k
      refine ⟨[.inr (.inr 901), .inl a1, .inl a2, .inl a3], st, rfl, rfl, hs, ⟨rfl, hp⟩, fun r σ' hq => ?_⟩
      unfold post_D_told at hq
      split at hq
      next h1 =>
        cases h1
        exact k _ _ hq
      next => exact hq.elim
    next => exact k.elim
theorem sl_L_103 {l : Launch} {R : Room} {ad : Nat → Nat} {D : va_G} {cA : Nat → ClassId} {cc : ByteArray} {WW WW2 : Nat → qP} (Lc : qLcl l R ad D cA R_L cc WW WW2) (hR : rm_L_begin.frames + 1 ≤ R.frames ∧ 8 + (3 + 11) + rm_L_begin.locals ≤ R.locals) {pc : Nat} (d : decode cc pc = .ok (.invokestatic 103, 3)) : qle (oc_L_begin (WW2 (pc + 3))) WW pc := by
  intro st ls σ k
  refine Lc 103 2 3 pc y_L_begin b_L_begin (some .int) hh_L_begin rm_L_begin pre_L_begin post_L_begin ⟨lw_at 520 (by decide +kernel) rfl, lw_at 518 (by decide +kernel) rfl, lw_at 58 (by decide +kernel) rfl, lw_at 519 (by decide +kernel) rfl, by decide, by decide, by decide +kernel⟩ ⟨rfl, rfl⟩ hR (c_L_begin l ad D cA) d st ls σ ?_
  unfold oc_L_begin at k
  split at k
  next a2 a1 st =>
    obtain ⟨hs, hp, k⟩ := k
    refine ⟨[.inr (.inr a1), .inr (.inr a2)], st, rfl, rfl, hs, hp, fun r σ' hq => ?_⟩
    unfold post_L_begin at hq
    split at hq
    next h1 =>
      cases h1
      exact k _ _ hq
    next => exact hq.elim
  next => exact k.elim
theorem sl_L_84 {l : Launch} {R : Room} {ad : Nat → Nat} {D : va_G} {cA : Nat → ClassId} {cc : ByteArray} {WW WW2 : Nat → qP} (Lc : qLcl l R ad D cA R_L cc WW WW2) (hR : rm_L_clear.frames + 1 ≤ R.frames ∧ 8 + (4 + 11) + rm_L_clear.locals ≤ R.locals) {pc : Nat} (d : decode cc pc = .ok (.invokestatic 84, 3)) : qle (oc_L_clear (WW2 (pc + 3))) WW pc := by
  intro st ls σ k
  refine Lc 84 3 4 pc y_L_clear b_L_clear (some .int) hh_L_clear rm_L_clear pre_L_clear post_L_clear ⟨lw_at 455 (by decide +kernel) rfl, lw_at 453 (by decide +kernel) rfl, lw_at 58 (by decide +kernel) rfl, lw_at 454 (by decide +kernel) rfl, by decide, by decide, by decide +kernel⟩ ⟨rfl, rfl⟩ hR (c_L_clear l ad D cA) d st ls σ ?_
  unfold oc_L_clear at k
  split at k
  next a3 a2 a1 st =>
    obtain ⟨hs, hp, k⟩ := k
    refine ⟨[.inr (.inr a1), .inl a2, .inr (.inr a3)], st, rfl, rfl, hs, hp, fun r σ' hq => ?_⟩
    unfold post_L_clear at hq
    split at hq
    next h1 =>
      cases h1
      exact k _ _ hq
    next => exact hq.elim
  next => exact k.elim
theorem sl_L_88 {l : Launch} {R : Room} {ad : Nat → Nat} {D : va_G} {cA : Nat → ClassId} {cc : ByteArray} {WW WW2 : Nat → qP} (Lc : qLcl l R ad D cA R_L cc WW WW2) (hR : rm_L_code.frames + 1 ≤ R.frames ∧ 8 + (6 + 11) + rm_L_code.locals ≤ R.locals) {pc : Nat} (d : decode cc pc = .ok (.invokestatic 88, 3)) : qle (oc_L_code (WW2 (pc + 3))) WW pc := by
  intro st ls σ k
  refine Lc 88 4 6 pc y_L_code b_L_code (some .int) hh_L_code rm_L_code pre_L_code post_L_code ⟨lw_at 466 (by decide +kernel) rfl, lw_at 464 (by decide +kernel) rfl, lw_at 58 (by decide +kernel) rfl, lw_at 465 (by decide +kernel) rfl, by decide, by decide, by decide +kernel⟩ ⟨rfl, rfl⟩ hR (c_L_code l ad D cA) d st ls σ ?_
  unfold oc_L_code at k
  split at k
  next a4 a3 a2 a1 st =>
    obtain ⟨hs, hp, k⟩ := k
    refine ⟨[.inr (.inr a1), .inl a2, .inr (.inl a3), .inr (.inr a4)], st, rfl, rfl, hs, hp, fun r σ' hq => ?_⟩
    unfold post_L_code at hq
    split at hq
    next h1 =>
      cases h1
      exact k _ _ hq
    next => exact hq.elim
  next => exact k.elim
theorem sl_L_128 {l : Launch} {R : Room} {ad : Nat → Nat} {D : va_G} {cA : Nat → ClassId} {cc : ByteArray} {WW WW2 : Nat → qP} (Lc : qLcl l R ad D cA R_L cc WW WW2) (hR : rm_L_count.frames + 1 ≤ R.frames ∧ 8 + (4 + 11) + rm_L_count.locals ≤ R.locals) {pc : Nat} (d : decode cc pc = .ok (.invokestatic 128, 3)) : qle (oc_L_count (WW2 (pc + 3))) WW pc := by
  intro st ls σ k
  refine Lc 128 3 4 pc y_L_count b_L_count (some .int) hh_L_count rm_L_count pre_L_count post_L_count ⟨lw_at 771 (by decide +kernel) rfl, lw_at 769 (by decide +kernel) rfl, lw_at 58 (by decide +kernel) rfl, lw_at 770 (by decide +kernel) rfl, by decide, by decide, by decide +kernel⟩ ⟨rfl, rfl⟩ hR (c_L_count l ad D cA) d st ls σ ?_
  unfold oc_L_count at k
  split at k
  next a3 a2 a1 st =>
    obtain ⟨hs, hp, k⟩ := k
    refine ⟨[.inr (.inr a1), .inl a2, .inr (.inr a3)], st, rfl, rfl, hs, hp, fun r σ' hq => ?_⟩
    unfold post_L_count at hq
    split at hq
    next h1 =>
      cases h1
      exact k _ _ hq
    next => exact hq.elim
  next => exact k.elim
theorem sl_L_111 {l : Launch} {R : Room} {ad : Nat → Nat} {D : va_G} {cA : Nat → ClassId} {cc : ByteArray} {WW WW2 : Nat → qP} (Lc : qLcl l R ad D cA R_L cc WW WW2) (hR : rm_L_crash.frames + 1 ≤ R.frames ∧ 8 + (3 + 11) + rm_L_crash.locals ≤ R.locals) {pc : Nat} (d : decode cc pc = .ok (.invokestatic 111, 3)) : qle (oc_L_crash (WW2 (pc + 3))) WW pc := by
  intro st ls σ k
  refine Lc 111 2 3 pc y_L_crash b_L_crash (some .int) hh_L_crash rm_L_crash pre_L_crash post_L_crash ⟨lw_at 735 (by decide +kernel) rfl, lw_at 733 (by decide +kernel) rfl, lw_at 58 (by decide +kernel) rfl, lw_at 734 (by decide +kernel) rfl, by decide, by decide, by decide +kernel⟩ ⟨rfl, rfl⟩ hR (c_L_crash l ad D cA) d st ls σ ?_
  unfold oc_L_crash at k
  split at k
  next a2 a1 st =>
    obtain ⟨hs, hp, k⟩ := k
    refine ⟨[.inr (.inr a1), .inl a2], st, rfl, rfl, hs, hp, fun r σ' hq => ?_⟩
    unfold post_L_crash at hq
    split at hq
    next h1 =>
      cases h1
      exact k _ _ hq
    next => exact hq.elim
  next => exact k.elim
theorem sl_L_100 {l : Launch} {R : Room} {ad : Nat → Nat} {D : va_G} {cA : Nat → ClassId} {cc : ByteArray} {WW WW2 : Nat → qP} (Lc : qLcl l R ad D cA R_L cc WW WW2) (hR : rm_L_drop.frames + 1 ≤ R.frames ∧ 8 + (4 + 11) + rm_L_drop.locals ≤ R.locals) {pc : Nat} (d : decode cc pc = .ok (.invokestatic 100, 3)) : qle (oc_L_drop (WW2 (pc + 3))) WW pc := by
  intro st ls σ k
  refine Lc 100 3 4 pc y_L_drop b_L_drop (some .int) hh_L_drop rm_L_drop pre_L_drop post_L_drop ⟨lw_at 513 (by decide +kernel) rfl, lw_at 511 (by decide +kernel) rfl, lw_at 58 (by decide +kernel) rfl, lw_at 512 (by decide +kernel) rfl, by decide, by decide, by decide +kernel⟩ ⟨rfl, rfl⟩ hR (c_L_drop l ad D cA) d st ls σ ?_
  unfold oc_L_drop at k
  split at k
  next a3 a2 a1 st =>
    obtain ⟨hs, hp, k⟩ := k
    refine ⟨[.inr (.inr a1), .inl a2, .inr (.inr a3)], st, rfl, rfl, hs, hp, fun r σ' hq => ?_⟩
    unfold post_L_drop at hq
    split at hq
    next h1 =>
      cases h1
      exact k _ _ hq
    next => exact hq.elim
  next => exact k.elim
theorem sl_L_118 {l : Launch} {R : Room} {ad : Nat → Nat} {D : va_G} {cA : Nat → ClassId} {cc : ByteArray} {WW WW2 : Nat → qP} (Lc : qLcl l R ad D cA R_L cc WW WW2) (hR : rm_L_finish.frames + 1 ≤ R.frames ∧ 8 + (3 + 11) + rm_L_finish.locals ≤ R.locals) {pc : Nat} (d : decode cc pc = .ok (.invokestatic 118, 3)) : qle (oc_L_finish (WW2 (pc + 3))) WW pc := by
  intro st ls σ k
  refine Lc 118 2 3 pc y_L_finish b_L_finish (some .int) hh_L_finish rm_L_finish pre_L_finish post_L_finish ⟨lw_at 750 (by decide +kernel) rfl, lw_at 748 (by decide +kernel) rfl, lw_at 58 (by decide +kernel) rfl, lw_at 749 (by decide +kernel) rfl, by decide, by decide, by decide +kernel⟩ ⟨rfl, rfl⟩ hR (c_L_finish l ad D cA) d st ls σ ?_
  unfold oc_L_finish at k
  split at k
  next a2 a1 st =>
    obtain ⟨hs, hp, k⟩ := k
    refine ⟨[.inr (.inr a1), .inr (.inr a2)], st, rfl, rfl, hs, hp, fun r σ' hq => ?_⟩
    unfold post_L_finish at hq
    split at hq
    next h1 =>
      cases h1
      exact k _ _ hq
    next => exact hq.elim
  next => exact k.elim
theorem sl_L_96 {l : Launch} {R : Room} {ad : Nat → Nat} {D : va_G} {cA : Nat → ClassId} {cc : ByteArray} {WW WW2 : Nat → qP} (Lc : qLcl l R ad D cA R_L cc WW WW2) (hR : rm_L_job.frames + 1 ≤ R.frames ∧ 8 + (7 + 11) + rm_L_job.locals ≤ R.locals) {pc : Nat} (d : decode cc pc = .ok (.invokestatic 96, 3)) : qle (oc_L_job (WW2 (pc + 3))) WW pc := by
  intro st ls σ k
  refine Lc 96 6 7 pc y_L_job b_L_job (some .int) hh_L_job rm_L_job pre_L_job post_L_job ⟨lw_at 504 (by decide +kernel) rfl, lw_at 502 (by decide +kernel) rfl, lw_at 58 (by decide +kernel) rfl, lw_at 503 (by decide +kernel) rfl, by decide, by decide, by decide +kernel⟩ ⟨rfl, rfl⟩ hR (c_L_job l ad D cA) d st ls σ ?_
  unfold oc_L_job at k
  split at k
  next a6 a5 a4 a3 a2 a1 st =>
    obtain ⟨hs, hp, k⟩ := k
    refine ⟨[.inr (.inr a1), .inl a2, .inl a3, .inl a4, .inl a5, .inl a6], st, rfl, rfl, hs, hp, fun r σ' hq => ?_⟩
    unfold post_L_job at hq
    split at hq
    next h1 =>
      cases h1
      exact k _ _ hq
    next => exact hq.elim
  next => exact k.elim
theorem sl_L_115 {l : Launch} {R : Room} {ad : Nat → Nat} {D : va_G} {cA : Nat → ClassId} {cc : ByteArray} {WW WW2 : Nat → qP} (Lc : qLcl l R ad D cA R_L cc WW WW2) (hR : rm_L_line.frames + 1 ≤ R.frames ∧ 8 + (4 + 11) + rm_L_line.locals ≤ R.locals) {pc : Nat} (d : decode cc pc = .ok (.invokestatic 115, 3)) : qle (oc_L_line (WW2 (pc + 3))) WW pc := by
  intro st ls σ k
  refine Lc 115 3 4 pc y_L_line b_L_line (some .int) hh_L_line rm_L_line pre_L_line post_L_line ⟨lw_at 742 (by decide +kernel) rfl, lw_at 740 (by decide +kernel) rfl, lw_at 58 (by decide +kernel) rfl, lw_at 741 (by decide +kernel) rfl, by decide, by decide, by decide +kernel⟩ ⟨rfl, rfl⟩ hR (c_L_line l ad D cA) d st ls σ ?_
  unfold oc_L_line at k
  split at k
  next a3 a2 a1 st =>
    obtain ⟨hs, hp, k⟩ := k
    refine ⟨[.inr (.inr a1), .inl a2, .inl a3], st, rfl, rfl, hs, hp, fun r σ' hq => ?_⟩
    unfold post_L_line at hq
    split at hq
    next h1 =>
      cases h1
      exact k _ _ hq
    next => exact hq.elim
  next => exact k.elim
theorem sl_L_92 {l : Launch} {R : Room} {ad : Nat → Nat} {D : va_G} {cA : Nat → ClassId} {cc : ByteArray} {WW WW2 : Nat → qP} (Lc : qLcl l R ad D cA R_L cc WW WW2) (hR : rm_L_program.frames + 1 ≤ R.frames ∧ 8 + (5 + 11) + rm_L_program.locals ≤ R.locals) {pc : Nat} (d : decode cc pc = .ok (.invokestatic 92, 3)) : qle (oc_L_program (WW2 (pc + 3))) WW pc := by
  intro st ls σ k
  refine Lc 92 4 5 pc y_L_program b_L_program (some .int) hh_L_program rm_L_program pre_L_program post_L_program ⟨lw_at 495 (by decide +kernel) rfl, lw_at 493 (by decide +kernel) rfl, lw_at 58 (by decide +kernel) rfl, lw_at 494 (by decide +kernel) rfl, by decide, by decide, by decide +kernel⟩ ⟨rfl, rfl⟩ hR (c_L_program l ad D cA) d st ls σ ?_
  unfold oc_L_program at k
  split at k
  next a4 a3 a2 a1 st =>
    obtain ⟨hs, hp, k⟩ := k
    refine ⟨[.inr (.inr a1), .inl a2, .inl a3, .inr (.inr a4)], st, rfl, rfl, hs, hp, fun r σ' hq => ?_⟩
    unfold post_L_program at hq
    split at hq
    next h1 =>
      cases h1
      exact k _ _ hq
    next => exact hq.elim
  next => exact k.elim
theorem sl_L_75 {l : Launch} {R : Room} {ad : Nat → Nat} {D : va_G} {cA : Nat → ClassId} {cc : ByteArray} {WW WW2 : Nat → qP} (Lc : qLcl l R ad D cA R_L cc WW WW2) (hR : rm_L_record.frames + 1 ≤ R.frames ∧ 8 + (8 + 11) + rm_L_record.locals ≤ R.locals) {pc : Nat} (d : decode cc pc = .ok (.invokestatic 75, 3)) : qle (oc_L_record (WW2 (pc + 3))) WW pc := by
  intro st ls σ k
  refine Lc 75 5 8 pc y_L_record b_L_record (some .int) hh_L_record rm_L_record pre_L_record post_L_record ⟨lw_at 354 (by decide +kernel) rfl, lw_at 352 (by decide +kernel) rfl, lw_at 58 (by decide +kernel) rfl, lw_at 353 (by decide +kernel) rfl, by decide, by decide, by decide +kernel⟩ ⟨rfl, rfl⟩ hR (c_L_record l ad D cA) d st ls σ ?_
  unfold oc_L_record at k
  split at k
  next a5 a4 a3 a2 a1 st =>
    obtain ⟨hs, hp, k⟩ := k
    refine ⟨[.inr (.inr a1), .inl a2, .inr (.inl a3), .inr (.inl a4), .inr (.inr a5)], st, rfl, rfl, hs, hp, fun r σ' hq => ?_⟩
    unfold post_L_record at hq
    split at hq
    next h1 =>
      cases h1
      exact k _ _ hq
    next => exact hq.elim
  next => exact k.elim
theorem sl_L_125 {l : Launch} {R : Room} {ad : Nat → Nat} {D : va_G} {cA : Nat → ClassId} {cc : ByteArray} {WW WW2 : Nat → qP} (Lc : qLcl l R ad D cA R_L cc WW WW2) (hR : rm_L_size.frames + 1 ≤ R.frames ∧ 8 + (4 + 11) + rm_L_size.locals ≤ R.locals) {pc : Nat} (d : decode cc pc = .ok (.invokestatic 125, 3)) : qle (oc_L_size (WW2 (pc + 3))) WW pc := by
  intro st ls σ k
  refine Lc 125 3 4 pc y_L_size b_L_size (some .int) hh_L_size rm_L_size pre_L_size post_L_size ⟨lw_at 764 (by decide +kernel) rfl, lw_at 762 (by decide +kernel) rfl, lw_at 58 (by decide +kernel) rfl, lw_at 763 (by decide +kernel) rfl, by decide, by decide, by decide +kernel⟩ ⟨rfl, rfl⟩ hR (c_L_size l ad D cA) d st ls σ ?_
  unfold oc_L_size at k
  split at k
  next a3 a2 a1 st =>
    obtain ⟨hs, hp, k⟩ := k
    refine ⟨[.inr (.inr a1), .inl a2, .inr (.inr a3)], st, rfl, rfl, hs, hp, fun r σ' hq => ?_⟩
    unfold post_L_size at hq
    split at hq
    next h1 =>
      cases h1
      exact k _ _ hq
    next => exact hq.elim
  next => exact k.elim
theorem sl_L_107 {l : Launch} {R : Room} {ad : Nat → Nat} {D : va_G} {cA : Nat → ClassId} {cc : ByteArray} {WW WW2 : Nat → qP} (Lc : qLcl l R ad D cA R_L cc WW WW2) (hR : rm_L_tick.frames + 1 ≤ R.frames ∧ 8 + (4 + 11) + rm_L_tick.locals ≤ R.locals) {pc : Nat} (d : decode cc pc = .ok (.invokestatic 107, 3)) : qle (oc_L_tick (WW2 (pc + 3))) WW pc := by
  intro st ls σ k
  refine Lc 107 3 4 pc y_L_tick b_L_tick (some .int) hh_L_tick rm_L_tick pre_L_tick post_L_tick ⟨lw_at 555 (by decide +kernel) rfl, lw_at 553 (by decide +kernel) rfl, lw_at 58 (by decide +kernel) rfl, lw_at 554 (by decide +kernel) rfl, by decide, by decide, by decide +kernel⟩ ⟨rfl, rfl⟩ hR (c_L_tick l ad D cA) d st ls σ ?_
  unfold oc_L_tick at k
  split at k
  next a3 a2 a1 st =>
    obtain ⟨hs, hp, k⟩ := k
    refine ⟨[.inr (.inr a1), .inl a2, .inl a3], st, rfl, rfl, hs, hp, fun r σ' hq => ?_⟩
    unfold post_L_tick at hq
    split at hq
    next h1 =>
      cases h1
      exact k _ _ hq
    next => exact hq.elim
  next => exact k.elim
theorem sl_L_121 {l : Launch} {R : Room} {ad : Nat → Nat} {D : va_G} {cA : Nat → ClassId} {cc : ByteArray} {WW WW2 : Nat → qP} (Lc : qLcl l R ad D cA R_L cc WW WW2) (hR : rm_L_told.frames + 1 ≤ R.frames ∧ 8 + (6 + 11) + rm_L_told.locals ≤ R.locals) {pc : Nat} (d : decode cc pc = .ok (.invokestatic 121, 3)) : qle (oc_L_told (WW2 (pc + 3))) WW pc := by
  intro st ls σ k
  refine Lc 121 5 6 pc y_L_told b_L_told (some .int) hh_L_told rm_L_told pre_L_told post_L_told ⟨lw_at 757 (by decide +kernel) rfl, lw_at 755 (by decide +kernel) rfl, lw_at 58 (by decide +kernel) rfl, lw_at 756 (by decide +kernel) rfl, by decide, by decide, by decide +kernel⟩ ⟨rfl, rfl⟩ hR (c_L_told l ad D cA) d st ls σ ?_
  unfold oc_L_told at k
  split at k
  next a5 a4 a3 a2 a1 st =>
    obtain ⟨hs, hp, k⟩ := k
    refine ⟨[.inr (.inr a1), .inl a2, .inl a3, .inl a4, .inr (.inr a5)], st, rfl, rfl, hs, hp, fun r σ' hq => ?_⟩
    unfold post_L_told at hq
    split at hq
    next h1 =>
      cases h1
      exact k _ _ hq
    next => exact hq.elim
  next => exact k.elim
theorem sc_L_131 {l : Launch} {R : Room} {ad : Nat → Nat} {D : va_G} {cA : Nat → ClassId} {cc : ByteArray} {nL : Nat} {WW : Nat → qP} (S : qSnd l R ad D cA R_L cc nL WW) (hR : rm_M_check.frames + 1 ≤ R.frames ∧ 8 + (6 + 11) + rm_M_check.locals ≤ R.locals) {K : qP} {pc : Nat} (d : decode cc pc = .ok (.invokevirtual 131, 3)) (h : qle K WW (pc + 3)) : qle (oc_M_check K) WW pc := by
  intro st ls σ k
  refine S.callV (o := 900) (ci := 0) (N := 82) (base := 0) (C := R_M) (T := F_M) (n := 0) (pre := pre_M_check) (post := post_M_check) (Or.inl ⟨rfl, rfl, rfl, rfl, rfl, rfl⟩) ⟨lw_at 331 (by decide +kernel) rfl, lw_at 328 (by decide +kernel) rfl, lw_at 59 (by decide +kernel) rfl, by decide, by decide, by decide +kernel⟩ ⟨lw_at 329 (by decide +kernel) rfl, lw_at 330 (by decide +kernel) rfl⟩ ⟨rfl, rfl⟩ hR (c_M_check l ad D cA) ?_ d h st ls σ ?_
  · intro av σ h; unfold pre_M_check at h; split at h
    · obtain ⟨rfl, h⟩ := h; exact ⟨_, rfl⟩
    · exact h.elim
  · unfold oc_M_check at k
    split at k
    next o st =>
      obtain ⟨rfl, hs, hp, k⟩ := k
      refine ⟨[.inr (.inr 900)], st, rfl, rfl, hs, ⟨rfl, hp⟩, fun r σ' hq => ?_⟩
      unfold post_M_check at hq
      split at hq
      next h1 =>
        cases h1
        exact k _ _ hq
      next => exact hq.elim
    next => exact k.elim
def k_L_law_1077 (xs : Nat → Int32) (L : Nat) (QR : Option qA → qS → Prop) (H H2 : Nat → qP) : qP :=
  o_c (.inl 1) <| o_rz QR
def k_L_law_1071 (xs : Nat → Int32) (L : Nat) (QR : Option qA → qS → Prop) (H H2 : Nat → qP) : qP :=
  o_inc 4 6 <| H 23
def k_L_law_1069 (xs : Nat → Int32) (L : Nat) (QR : Option qA → qS → Prop) (H H2 : Nat → qP) : qP :=
  o_c (.inl 0) <| o_rz QR
def k_L_law_1058 (xs : Nat → Int32) (L : Nat) (QR : Option qA → qS → Prop) (H H2 : Nat → qP) : qP :=
  o_al 1 <| oc_M_check <| o_al 2 <| oc_D_check <| o_i2 (fun a b => a = b) (k_L_law_1071 xs L QR H H2) (k_L_law_1069 xs L QR H H2)
def k_L_law_1055 (xs : Nat → Int32) (L : Nat) (QR : Option qA → qS → Prop) (H H2 : Nat → qP) : qP :=
  k_L_law_1071 xs L QR H H2
def k_L_law_1053 (xs : Nat → Int32) (L : Nat) (QR : Option qA → qS → Prop) (H H2 : Nat → qP) : qP :=
  o_c (.inl 0) <| o_rz QR
def k_L_law_1043 (xs : Nat → Int32) (L : Nat) (QR : Option qA → qS → Prop) (H H2 : Nat → qP) : qP :=
  o_al 3 <| o_c (.inl 0) <| o_ja <| o_il 6 <| o_i2l <| o_l2 (fun a b => a = b) (k_L_law_1055 xs L QR H H2) (k_L_law_1053 xs L QR H H2)
def k_L_law_1038 (xs : Nat → Int32) (L : Nat) (QR : Option qA → qS → Prop) (H H2 : Nat → qP) : qP :=
  o_il 5 <| o_if (fun a => ¬ a = 0) (k_L_law_1055 xs L QR H H2) (k_L_law_1043 xs L QR H H2)
def k_L_law_1036 (xs : Nat → Int32) (L : Nat) (QR : Option qA → qS → Prop) (H H2 : Nat → qP) : qP :=
  o_c (.inl 0) <| o_rz QR
def k_L_law_1013 (xs : Nat → Int32) (L : Nat) (QR : Option qA → qS → Prop) (H H2 : Nat → qP) : qP :=
  o_is 5 <| o_al 2 <| o_al 0 <| o_il 4 <| o_c (.inl 1) <| o_bi z_add <| o_sld xs L <| oc_D_count <| o_is 6 <| o_al 2 <| oc_D_thrown <| o_il 5 <| o_i2 (fun a b => a = b) (k_L_law_1038 xs L QR H H2) (k_L_law_1036 xs L QR H H2)
def k_L_law_1002 (xs : Nat → Int32) (L : Nat) (QR : Option qA → qS → Prop) (H H2 : Nat → qP) : qP :=
  o_al 1 <| o_al 0 <| o_il 4 <| o_c (.inl 1) <| o_bi z_add <| o_sld xs L <| o_al 3 <| oc_L_count (H2 1013)
def k_L_law_999 (xs : Nat → Int32) (L : Nat) (QR : Option qA → qS → Prop) (H H2 : Nat → qP) : qP :=
  k_L_law_1071 xs L QR H H2
def k_L_law_997 (xs : Nat → Int32) (L : Nat) (QR : Option qA → qS → Prop) (H H2 : Nat → qP) : qP :=
  o_c (.inl 0) <| o_rz QR
def k_L_law_987 (xs : Nat → Int32) (L : Nat) (QR : Option qA → qS → Prop) (H H2 : Nat → qP) : qP :=
  o_al 3 <| o_c (.inl 0) <| o_ja <| o_il 6 <| o_i2l <| o_l2 (fun a b => a = b) (k_L_law_999 xs L QR H H2) (k_L_law_997 xs L QR H H2)
def k_L_law_982 (xs : Nat → Int32) (L : Nat) (QR : Option qA → qS → Prop) (H H2 : Nat → qP) : qP :=
  o_il 5 <| o_if (fun a => ¬ a = 0) (k_L_law_999 xs L QR H H2) (k_L_law_987 xs L QR H H2)
def k_L_law_980 (xs : Nat → Int32) (L : Nat) (QR : Option qA → qS → Prop) (H H2 : Nat → qP) : qP :=
  o_c (.inl 0) <| o_rz QR
def k_L_law_957 (xs : Nat → Int32) (L : Nat) (QR : Option qA → qS → Prop) (H H2 : Nat → qP) : qP :=
  o_is 5 <| o_al 2 <| o_al 0 <| o_il 4 <| o_c (.inl 1) <| o_bi z_add <| o_sld xs L <| oc_D_size <| o_is 6 <| o_al 2 <| oc_D_thrown <| o_il 5 <| o_i2 (fun a b => a = b) (k_L_law_982 xs L QR H H2) (k_L_law_980 xs L QR H H2)
def k_L_law_946 (xs : Nat → Int32) (L : Nat) (QR : Option qA → qS → Prop) (H H2 : Nat → qP) : qP :=
  o_al 1 <| o_al 0 <| o_il 4 <| o_c (.inl 1) <| o_bi z_add <| o_sld xs L <| o_al 3 <| oc_L_size (H2 957)
def k_L_law_943 (xs : Nat → Int32) (L : Nat) (QR : Option qA → qS → Prop) (H H2 : Nat → qP) : qP :=
  k_L_law_1071 xs L QR H H2
def k_L_law_941 (xs : Nat → Int32) (L : Nat) (QR : Option qA → qS → Prop) (H H2 : Nat → qP) : qP :=
  o_c (.inl 0) <| o_rz QR
def k_L_law_932 (xs : Nat → Int32) (L : Nat) (QR : Option qA → qS → Prop) (H H2 : Nat → qP) : qP :=
  o_al 3 <| o_c (.inl 0) <| o_ja <| o_ll 6 <| o_l2 (fun a b => a = b) (k_L_law_943 xs L QR H H2) (k_L_law_941 xs L QR H H2)
def k_L_law_927 (xs : Nat → Int32) (L : Nat) (QR : Option qA → qS → Prop) (H H2 : Nat → qP) : qP :=
  o_il 5 <| o_if (fun a => ¬ a = 0) (k_L_law_943 xs L QR H H2) (k_L_law_932 xs L QR H H2)
def k_L_law_925 (xs : Nat → Int32) (L : Nat) (QR : Option qA → qS → Prop) (H H2 : Nat → qP) : qP :=
  o_c (.inl 0) <| o_rz QR
def k_L_law_911 (xs : Nat → Int32) (L : Nat) (QR : Option qA → qS → Prop) (H H2 : Nat → qP) : qP :=
  oc_D_told <| o_ls 6 <| o_al 2 <| oc_D_thrown <| o_il 5 <| o_i2 (fun a b => a = b) (k_L_law_927 xs L QR H H2) (k_L_law_925 xs L QR H H2)
def k_L_law_910 (xs : Nat → Int32) (L : Nat) (QR : Option qA → qS → Prop) (H H2 : Nat → qP) : qP :=
  o_c (.inl 0) <| k_L_law_911 xs L QR H H2
def k_L_law_906 (xs : Nat → Int32) (L : Nat) (QR : Option qA → qS → Prop) (H H2 : Nat → qP) : qP :=
  o_c (.inl 1) <| k_L_law_911 xs L QR H H2
def k_L_law_882 (xs : Nat → Int32) (L : Nat) (QR : Option qA → qS → Prop) (H H2 : Nat → qP) : qP :=
  o_is 5 <| o_al 2 <| o_al 0 <| o_il 4 <| o_c (.inl 1) <| o_bi z_add <| o_sld xs L <| o_al 0 <| o_il 4 <| o_c (.inl 2) <| o_bi z_add <| o_sld xs L <| o_al 0 <| o_il 4 <| o_c (.inl 3) <| o_bi z_add <| o_sld xs L <| o_if (fun a => a = 0) (k_L_law_910 xs L QR H H2) (k_L_law_906 xs L QR H H2)
def k_L_law_878 (xs : Nat → Int32) (L : Nat) (QR : Option qA → qS → Prop) (H H2 : Nat → qP) : qP :=
  o_al 3 <| oc_L_told (H2 882)
def k_L_law_877 (xs : Nat → Int32) (L : Nat) (QR : Option qA → qS → Prop) (H H2 : Nat → qP) : qP :=
  o_c (.inl 0) <| k_L_law_878 xs L QR H H2
def k_L_law_873 (xs : Nat → Int32) (L : Nat) (QR : Option qA → qS → Prop) (H H2 : Nat → qP) : qP :=
  o_c (.inl 1) <| k_L_law_878 xs L QR H H2
def k_L_law_851 (xs : Nat → Int32) (L : Nat) (QR : Option qA → qS → Prop) (H H2 : Nat → qP) : qP :=
  o_al 1 <| o_al 0 <| o_il 4 <| o_c (.inl 1) <| o_bi z_add <| o_sld xs L <| o_al 0 <| o_il 4 <| o_c (.inl 2) <| o_bi z_add <| o_sld xs L <| o_al 0 <| o_il 4 <| o_c (.inl 3) <| o_bi z_add <| o_sld xs L <| o_if (fun a => a = 0) (k_L_law_877 xs L QR H H2) (k_L_law_873 xs L QR H H2)
def k_L_law_848 (xs : Nat → Int32) (L : Nat) (QR : Option qA → qS → Prop) (H H2 : Nat → qP) : qP :=
  k_L_law_1071 xs L QR H H2
def k_L_law_846 (xs : Nat → Int32) (L : Nat) (QR : Option qA → qS → Prop) (H H2 : Nat → qP) : qP :=
  o_c (.inl 0) <| o_rz QR
def k_L_law_836 (xs : Nat → Int32) (L : Nat) (QR : Option qA → qS → Prop) (H H2 : Nat → qP) : qP :=
  o_al 3 <| o_c (.inl 0) <| o_ja <| o_il 6 <| o_i2l <| o_l2 (fun a b => a = b) (k_L_law_848 xs L QR H H2) (k_L_law_846 xs L QR H H2)
def k_L_law_831 (xs : Nat → Int32) (L : Nat) (QR : Option qA → qS → Prop) (H H2 : Nat → qP) : qP :=
  o_il 5 <| o_if (fun a => ¬ a = 0) (k_L_law_848 xs L QR H H2) (k_L_law_836 xs L QR H H2)
def k_L_law_829 (xs : Nat → Int32) (L : Nat) (QR : Option qA → qS → Prop) (H H2 : Nat → qP) : qP :=
  o_c (.inl 0) <| o_rz QR
def k_L_law_812 (xs : Nat → Int32) (L : Nat) (QR : Option qA → qS → Prop) (H H2 : Nat → qP) : qP :=
  o_is 5 <| o_al 2 <| oc_D_finish <| o_is 6 <| o_al 2 <| oc_D_thrown <| o_il 5 <| o_i2 (fun a b => a = b) (k_L_law_831 xs L QR H H2) (k_L_law_829 xs L QR H H2)
def k_L_law_807 (xs : Nat → Int32) (L : Nat) (QR : Option qA → qS → Prop) (H H2 : Nat → qP) : qP :=
  o_al 1 <| o_al 3 <| oc_L_finish (H2 812)
def k_L_law_804 (xs : Nat → Int32) (L : Nat) (QR : Option qA → qS → Prop) (H H2 : Nat → qP) : qP :=
  k_L_law_1071 xs L QR H H2
def k_L_law_802 (xs : Nat → Int32) (L : Nat) (QR : Option qA → qS → Prop) (H H2 : Nat → qP) : qP :=
  o_c (.inl 0) <| o_rz QR
def k_L_law_775 (xs : Nat → Int32) (L : Nat) (QR : Option qA → qS → Prop) (H H2 : Nat → qP) : qP :=
  o_is 5 <| o_al 2 <| o_al 0 <| o_il 4 <| o_c (.inl 1) <| o_bi z_add <| o_sld xs L <| o_al 0 <| o_il 4 <| o_c (.inl 2) <| o_bi z_add <| o_sld xs L <| oc_D_line <| o_al 2 <| oc_D_thrown <| o_il 5 <| o_i2 (fun a b => a = b) (k_L_law_804 xs L QR H H2) (k_L_law_802 xs L QR H H2)
def k_L_law_759 (xs : Nat → Int32) (L : Nat) (QR : Option qA → qS → Prop) (H H2 : Nat → qP) : qP :=
  o_al 1 <| o_al 0 <| o_il 4 <| o_c (.inl 1) <| o_bi z_add <| o_sld xs L <| o_al 0 <| o_il 4 <| o_c (.inl 2) <| o_bi z_add <| o_sld xs L <| oc_L_line (H2 775)
def k_L_law_756 (xs : Nat → Int32) (L : Nat) (QR : Option qA → qS → Prop) (H H2 : Nat → qP) : qP :=
  k_L_law_1071 xs L QR H H2
def k_L_law_754 (xs : Nat → Int32) (L : Nat) (QR : Option qA → qS → Prop) (H H2 : Nat → qP) : qP :=
  o_c (.inl 0) <| o_rz QR
def k_L_law_733 (xs : Nat → Int32) (L : Nat) (QR : Option qA → qS → Prop) (H H2 : Nat → qP) : qP :=
  o_is 5 <| o_al 2 <| o_al 0 <| o_il 4 <| o_c (.inl 1) <| o_bi z_add <| o_sld xs L <| oc_D_crash <| o_al 2 <| oc_D_thrown <| o_il 5 <| o_i2 (fun a b => a = b) (k_L_law_756 xs L QR H H2) (k_L_law_754 xs L QR H H2)
def k_L_law_723 (xs : Nat → Int32) (L : Nat) (QR : Option qA → qS → Prop) (H H2 : Nat → qP) : qP :=
  o_al 1 <| o_al 0 <| o_il 4 <| o_c (.inl 1) <| o_bi z_add <| o_sld xs L <| oc_L_crash (H2 733)
def k_L_law_720 (xs : Nat → Int32) (L : Nat) (QR : Option qA → qS → Prop) (H H2 : Nat → qP) : qP :=
  k_L_law_1071 xs L QR H H2
def k_L_law_718 (xs : Nat → Int32) (L : Nat) (QR : Option qA → qS → Prop) (H H2 : Nat → qP) : qP :=
  o_c (.inl 0) <| o_rz QR
def k_L_law_691 (xs : Nat → Int32) (L : Nat) (QR : Option qA → qS → Prop) (H H2 : Nat → qP) : qP :=
  o_is 5 <| o_al 2 <| o_al 0 <| o_il 4 <| o_c (.inl 1) <| o_bi z_add <| o_sld xs L <| o_al 0 <| o_il 4 <| o_c (.inl 2) <| o_bi z_add <| o_sld xs L <| oc_D_tick <| o_al 2 <| oc_D_thrown <| o_il 5 <| o_i2 (fun a b => a = b) (k_L_law_720 xs L QR H H2) (k_L_law_718 xs L QR H H2)
def k_L_law_675 (xs : Nat → Int32) (L : Nat) (QR : Option qA → qS → Prop) (H H2 : Nat → qP) : qP :=
  o_al 1 <| o_al 0 <| o_il 4 <| o_c (.inl 1) <| o_bi z_add <| o_sld xs L <| o_al 0 <| o_il 4 <| o_c (.inl 2) <| o_bi z_add <| o_sld xs L <| oc_L_tick (H2 691)
def k_L_law_672 (xs : Nat → Int32) (L : Nat) (QR : Option qA → qS → Prop) (H H2 : Nat → qP) : qP :=
  k_L_law_1071 xs L QR H H2
def k_L_law_670 (xs : Nat → Int32) (L : Nat) (QR : Option qA → qS → Prop) (H H2 : Nat → qP) : qP :=
  o_c (.inl 0) <| o_rz QR
def k_L_law_660 (xs : Nat → Int32) (L : Nat) (QR : Option qA → qS → Prop) (H H2 : Nat → qP) : qP :=
  o_al 3 <| o_c (.inl 0) <| o_ja <| o_il 6 <| o_i2l <| o_l2 (fun a b => a = b) (k_L_law_672 xs L QR H H2) (k_L_law_670 xs L QR H H2)
def k_L_law_655 (xs : Nat → Int32) (L : Nat) (QR : Option qA → qS → Prop) (H H2 : Nat → qP) : qP :=
  o_il 5 <| o_if (fun a => ¬ a = 0) (k_L_law_672 xs L QR H H2) (k_L_law_660 xs L QR H H2)
def k_L_law_653 (xs : Nat → Int32) (L : Nat) (QR : Option qA → qS → Prop) (H H2 : Nat → qP) : qP :=
  o_c (.inl 0) <| o_rz QR
def k_L_law_636 (xs : Nat → Int32) (L : Nat) (QR : Option qA → qS → Prop) (H H2 : Nat → qP) : qP :=
  o_is 5 <| o_al 2 <| oc_D_begin <| o_is 6 <| o_al 2 <| oc_D_thrown <| o_il 5 <| o_i2 (fun a b => a = b) (k_L_law_655 xs L QR H H2) (k_L_law_653 xs L QR H H2)
def k_L_law_631 (xs : Nat → Int32) (L : Nat) (QR : Option qA → qS → Prop) (H H2 : Nat → qP) : qP :=
  o_al 1 <| o_al 3 <| oc_L_begin (H2 636)
def k_L_law_628 (xs : Nat → Int32) (L : Nat) (QR : Option qA → qS → Prop) (H H2 : Nat → qP) : qP :=
  k_L_law_1071 xs L QR H H2
def k_L_law_626 (xs : Nat → Int32) (L : Nat) (QR : Option qA → qS → Prop) (H H2 : Nat → qP) : qP :=
  o_c (.inl 0) <| o_rz QR
def k_L_law_622 (xs : Nat → Int32) (L : Nat) (QR : Option qA → qS → Prop) (H H2 : Nat → qP) : qP :=
  o_l2 (fun a b => a = b) (k_L_law_628 xs L QR H H2) (k_L_law_626 xs L QR H H2)
def k_L_law_621 (xs : Nat → Int32) (L : Nat) (QR : Option qA → qS → Prop) (H H2 : Nat → qP) : qP :=
  o_c (.inr (.inl 0)) <| k_L_law_622 xs L QR H H2
def k_L_law_617 (xs : Nat → Int32) (L : Nat) (QR : Option qA → qS → Prop) (H H2 : Nat → qP) : qP :=
  o_c (.inr (.inl 1)) <| k_L_law_622 xs L QR H H2
def k_L_law_609 (xs : Nat → Int32) (L : Nat) (QR : Option qA → qS → Prop) (H H2 : Nat → qP) : qP :=
  o_al 3 <| o_c (.inl 0) <| o_ja <| o_il 6 <| o_if (fun a => a = 0) (k_L_law_621 xs L QR H H2) (k_L_law_617 xs L QR H H2)
def k_L_law_604 (xs : Nat → Int32) (L : Nat) (QR : Option qA → qS → Prop) (H H2 : Nat → qP) : qP :=
  o_il 5 <| o_if (fun a => ¬ a = 0) (k_L_law_628 xs L QR H H2) (k_L_law_609 xs L QR H H2)
def k_L_law_602 (xs : Nat → Int32) (L : Nat) (QR : Option qA → qS → Prop) (H H2 : Nat → qP) : qP :=
  o_c (.inl 0) <| o_rz QR
def k_L_law_579 (xs : Nat → Int32) (L : Nat) (QR : Option qA → qS → Prop) (H H2 : Nat → qP) : qP :=
  o_is 5 <| o_al 2 <| o_al 0 <| o_il 4 <| o_c (.inl 1) <| o_bi z_add <| o_sld xs L <| oc_D_drop <| o_is 6 <| o_al 2 <| oc_D_thrown <| o_il 5 <| o_i2 (fun a b => a = b) (k_L_law_604 xs L QR H H2) (k_L_law_602 xs L QR H H2)
def k_L_law_568 (xs : Nat → Int32) (L : Nat) (QR : Option qA → qS → Prop) (H H2 : Nat → qP) : qP :=
  o_al 1 <| o_al 0 <| o_il 4 <| o_c (.inl 1) <| o_bi z_add <| o_sld xs L <| o_al 3 <| oc_L_drop (H2 579)
def k_L_law_565 (xs : Nat → Int32) (L : Nat) (QR : Option qA → qS → Prop) (H H2 : Nat → qP) : qP :=
  k_L_law_1071 xs L QR H H2
def k_L_law_563 (xs : Nat → Int32) (L : Nat) (QR : Option qA → qS → Prop) (H H2 : Nat → qP) : qP :=
  o_c (.inl 0) <| o_rz QR
def k_L_law_518 (xs : Nat → Int32) (L : Nat) (QR : Option qA → qS → Prop) (H H2 : Nat → qP) : qP :=
  o_is 5 <| o_al 2 <| o_al 0 <| o_il 4 <| o_c (.inl 1) <| o_bi z_add <| o_sld xs L <| o_al 0 <| o_il 4 <| o_c (.inl 2) <| o_bi z_add <| o_sld xs L <| o_al 0 <| o_il 4 <| o_c (.inl 3) <| o_bi z_add <| o_sld xs L <| o_al 0 <| o_il 4 <| o_c (.inl 4) <| o_bi z_add <| o_sld xs L <| o_al 0 <| o_il 4 <| o_c (.inl 5) <| o_bi z_add <| o_sld xs L <| oc_D_job <| o_al 2 <| oc_D_thrown <| o_il 5 <| o_i2 (fun a b => a = b) (k_L_law_565 xs L QR H H2) (k_L_law_563 xs L QR H H2)
def k_L_law_484 (xs : Nat → Int32) (L : Nat) (QR : Option qA → qS → Prop) (H H2 : Nat → qP) : qP :=
  o_al 1 <| o_al 0 <| o_il 4 <| o_c (.inl 1) <| o_bi z_add <| o_sld xs L <| o_al 0 <| o_il 4 <| o_c (.inl 2) <| o_bi z_add <| o_sld xs L <| o_al 0 <| o_il 4 <| o_c (.inl 3) <| o_bi z_add <| o_sld xs L <| o_al 0 <| o_il 4 <| o_c (.inl 4) <| o_bi z_add <| o_sld xs L <| o_al 0 <| o_il 4 <| o_c (.inl 5) <| o_bi z_add <| o_sld xs L <| oc_L_job (H2 518)
def k_L_law_481 (xs : Nat → Int32) (L : Nat) (QR : Option qA → qS → Prop) (H H2 : Nat → qP) : qP :=
  k_L_law_1071 xs L QR H H2
def k_L_law_479 (xs : Nat → Int32) (L : Nat) (QR : Option qA → qS → Prop) (H H2 : Nat → qP) : qP :=
  o_c (.inl 0) <| o_rz QR
def k_L_law_469 (xs : Nat → Int32) (L : Nat) (QR : Option qA → qS → Prop) (H H2 : Nat → qP) : qP :=
  o_al 3 <| o_c (.inl 0) <| o_ja <| o_il 6 <| o_i2l <| o_l2 (fun a b => a = b) (k_L_law_481 xs L QR H H2) (k_L_law_479 xs L QR H H2)
def k_L_law_464 (xs : Nat → Int32) (L : Nat) (QR : Option qA → qS → Prop) (H H2 : Nat → qP) : qP :=
  o_il 5 <| o_if (fun a => ¬ a = 0) (k_L_law_481 xs L QR H H2) (k_L_law_469 xs L QR H H2)
def k_L_law_462 (xs : Nat → Int32) (L : Nat) (QR : Option qA → qS → Prop) (H H2 : Nat → qP) : qP :=
  o_c (.inl 0) <| o_rz QR
def k_L_law_433 (xs : Nat → Int32) (L : Nat) (QR : Option qA → qS → Prop) (H H2 : Nat → qP) : qP :=
  o_is 5 <| o_al 2 <| o_al 0 <| o_il 4 <| o_c (.inl 1) <| o_bi z_add <| o_sld xs L <| o_al 0 <| o_il 4 <| o_c (.inl 2) <| o_bi z_add <| o_sld xs L <| oc_D_program <| o_is 6 <| o_al 2 <| oc_D_thrown <| o_il 5 <| o_i2 (fun a b => a = b) (k_L_law_464 xs L QR H H2) (k_L_law_462 xs L QR H H2)
def k_L_law_416 (xs : Nat → Int32) (L : Nat) (QR : Option qA → qS → Prop) (H H2 : Nat → qP) : qP :=
  o_al 1 <| o_al 0 <| o_il 4 <| o_c (.inl 1) <| o_bi z_add <| o_sld xs L <| o_al 0 <| o_il 4 <| o_c (.inl 2) <| o_bi z_add <| o_sld xs L <| o_al 3 <| oc_L_program (H2 433)
def k_L_law_413 (xs : Nat → Int32) (L : Nat) (QR : Option qA → qS → Prop) (H H2 : Nat → qP) : qP :=
  k_L_law_1071 xs L QR H H2
def k_L_law_411 (xs : Nat → Int32) (L : Nat) (QR : Option qA → qS → Prop) (H H2 : Nat → qP) : qP :=
  o_c (.inl 0) <| o_rz QR
def k_L_law_401 (xs : Nat → Int32) (L : Nat) (QR : Option qA → qS → Prop) (H H2 : Nat → qP) : qP :=
  o_al 3 <| o_c (.inl 0) <| o_ja <| o_il 6 <| o_i2l <| o_l2 (fun a b => a = b) (k_L_law_413 xs L QR H H2) (k_L_law_411 xs L QR H H2)
def k_L_law_396 (xs : Nat → Int32) (L : Nat) (QR : Option qA → qS → Prop) (H H2 : Nat → qP) : qP :=
  o_il 5 <| o_if (fun a => ¬ a = 0) (k_L_law_413 xs L QR H H2) (k_L_law_401 xs L QR H H2)
def k_L_law_394 (xs : Nat → Int32) (L : Nat) (QR : Option qA → qS → Prop) (H H2 : Nat → qP) : qP :=
  o_c (.inl 0) <| o_rz QR
def k_L_law_349 (xs : Nat → Int32) (L : Nat) (QR : Option qA → qS → Prop) (H H2 : Nat → qP) : qP :=
  o_is 5 <| o_al 2 <| o_al 0 <| o_il 4 <| o_c (.inl 1) <| o_bi z_add <| o_sld xs L <| o_al 0 <| o_il 4 <| o_c (.inl 2) <| o_bi z_add <| o_sld xs L <| o_i2l <| o_c (.inl 32) <| o_sl y_shl <| o_al 0 <| o_il 4 <| o_c (.inl 3) <| o_bi z_add <| o_sld xs L <| o_i2l <| o_c (.inr (.inl 4294967295)) <| o_bl y_and <| o_bl y_or <| oc_D_code <| o_is 6 <| o_al 2 <| oc_D_thrown <| o_il 5 <| o_i2 (fun a b => a = b) (k_L_law_396 xs L QR H H2) (k_L_law_394 xs L QR H H2)
def k_L_law_316 (xs : Nat → Int32) (L : Nat) (QR : Option qA → qS → Prop) (H H2 : Nat → qP) : qP :=
  o_al 1 <| o_al 0 <| o_il 4 <| o_c (.inl 1) <| o_bi z_add <| o_sld xs L <| o_al 0 <| o_il 4 <| o_c (.inl 2) <| o_bi z_add <| o_sld xs L <| o_i2l <| o_c (.inl 32) <| o_sl y_shl <| o_al 0 <| o_il 4 <| o_c (.inl 3) <| o_bi z_add <| o_sld xs L <| o_i2l <| o_c (.inr (.inl 4294967295)) <| o_bl y_and <| o_bl y_or <| o_al 3 <| oc_L_code (H2 349)
def k_L_law_313 (xs : Nat → Int32) (L : Nat) (QR : Option qA → qS → Prop) (H H2 : Nat → qP) : qP :=
  k_L_law_1071 xs L QR H H2
def k_L_law_311 (xs : Nat → Int32) (L : Nat) (QR : Option qA → qS → Prop) (H H2 : Nat → qP) : qP :=
  o_c (.inl 0) <| o_rz QR
def k_L_law_301 (xs : Nat → Int32) (L : Nat) (QR : Option qA → qS → Prop) (H H2 : Nat → qP) : qP :=
  o_al 3 <| o_c (.inl 0) <| o_ja <| o_il 6 <| o_i2l <| o_l2 (fun a b => a = b) (k_L_law_313 xs L QR H H2) (k_L_law_311 xs L QR H H2)
def k_L_law_296 (xs : Nat → Int32) (L : Nat) (QR : Option qA → qS → Prop) (H H2 : Nat → qP) : qP :=
  o_il 5 <| o_if (fun a => ¬ a = 0) (k_L_law_313 xs L QR H H2) (k_L_law_301 xs L QR H H2)
def k_L_law_294 (xs : Nat → Int32) (L : Nat) (QR : Option qA → qS → Prop) (H H2 : Nat → qP) : qP :=
  o_c (.inl 0) <| o_rz QR
def k_L_law_271 (xs : Nat → Int32) (L : Nat) (QR : Option qA → qS → Prop) (H H2 : Nat → qP) : qP :=
  o_is 5 <| o_al 2 <| o_al 0 <| o_il 4 <| o_c (.inl 1) <| o_bi z_add <| o_sld xs L <| oc_D_clear <| o_is 6 <| o_al 2 <| oc_D_thrown <| o_il 5 <| o_i2 (fun a b => a = b) (k_L_law_296 xs L QR H H2) (k_L_law_294 xs L QR H H2)
def k_L_law_260 (xs : Nat → Int32) (L : Nat) (QR : Option qA → qS → Prop) (H H2 : Nat → qP) : qP :=
  o_al 1 <| o_al 0 <| o_il 4 <| o_c (.inl 1) <| o_bi z_add <| o_sld xs L <| o_al 3 <| oc_L_clear (H2 271)
def k_L_law_257 (xs : Nat → Int32) (L : Nat) (QR : Option qA → qS → Prop) (H H2 : Nat → qP) : qP :=
  k_L_law_1071 xs L QR H H2
def k_L_law_255 (xs : Nat → Int32) (L : Nat) (QR : Option qA → qS → Prop) (H H2 : Nat → qP) : qP :=
  o_c (.inl 0) <| o_rz QR
def k_L_law_245 (xs : Nat → Int32) (L : Nat) (QR : Option qA → qS → Prop) (H H2 : Nat → qP) : qP :=
  o_al 3 <| o_c (.inl 0) <| o_ja <| o_il 6 <| o_i2l <| o_l2 (fun a b => a = b) (k_L_law_257 xs L QR H H2) (k_L_law_255 xs L QR H H2)
def k_L_law_240 (xs : Nat → Int32) (L : Nat) (QR : Option qA → qS → Prop) (H H2 : Nat → qP) : qP :=
  o_il 5 <| o_if (fun a => ¬ a = 0) (k_L_law_257 xs L QR H H2) (k_L_law_245 xs L QR H H2)
def k_L_law_238 (xs : Nat → Int32) (L : Nat) (QR : Option qA → qS → Prop) (H H2 : Nat → qP) : qP :=
  o_c (.inl 0) <| o_rz QR
def k_L_law_171 (xs : Nat → Int32) (L : Nat) (QR : Option qA → qS → Prop) (H H2 : Nat → qP) : qP :=
  o_is 5 <| o_al 2 <| o_al 0 <| o_il 4 <| o_c (.inl 1) <| o_bi z_add <| o_sld xs L <| o_al 0 <| o_il 4 <| o_c (.inl 2) <| o_bi z_add <| o_sld xs L <| o_i2l <| o_c (.inl 32) <| o_sl y_shl <| o_al 0 <| o_il 4 <| o_c (.inl 3) <| o_bi z_add <| o_sld xs L <| o_i2l <| o_c (.inr (.inl 4294967295)) <| o_bl y_and <| o_bl y_or <| o_al 0 <| o_il 4 <| o_c (.inl 4) <| o_bi z_add <| o_sld xs L <| o_i2l <| o_c (.inl 32) <| o_sl y_shl <| o_al 0 <| o_il 4 <| o_c (.inl 5) <| o_bi z_add <| o_sld xs L <| o_i2l <| o_c (.inr (.inl 4294967295)) <| o_bl y_and <| o_bl y_or <| oc_D_record <| o_is 6 <| o_al 2 <| oc_D_thrown <| o_il 5 <| o_i2 (fun a b => a = b) (k_L_law_240 xs L QR H H2) (k_L_law_238 xs L QR H H2)
def k_L_law_116 (xs : Nat → Int32) (L : Nat) (QR : Option qA → qS → Prop) (H H2 : Nat → qP) : qP :=
  o_al 1 <| o_al 0 <| o_il 4 <| o_c (.inl 1) <| o_bi z_add <| o_sld xs L <| o_al 0 <| o_il 4 <| o_c (.inl 2) <| o_bi z_add <| o_sld xs L <| o_i2l <| o_c (.inl 32) <| o_sl y_shl <| o_al 0 <| o_il 4 <| o_c (.inl 3) <| o_bi z_add <| o_sld xs L <| o_i2l <| o_c (.inr (.inl 4294967295)) <| o_bl y_and <| o_bl y_or <| o_al 0 <| o_il 4 <| o_c (.inl 4) <| o_bi z_add <| o_sld xs L <| o_i2l <| o_c (.inl 32) <| o_sl y_shl <| o_al 0 <| o_il 4 <| o_c (.inl 5) <| o_bi z_add <| o_sld xs L <| o_i2l <| o_c (.inr (.inl 4294967295)) <| o_bl y_and <| o_bl y_or <| o_al 3 <| oc_L_record (H2 171)
def k_L_law_33 (xs : Nat → Int32) (L : Nat) (QR : Option qA → qS → Prop) (H H2 : Nat → qP) : qP :=
  o_al 0 <| o_il 4 <| o_sld xs L <| o_c (.inl 15) <| o_bi z_and <| o_sw 0 [k_L_law_116 xs L QR H H2, k_L_law_260 xs L QR H H2, k_L_law_316 xs L QR H H2, k_L_law_416 xs L QR H H2, k_L_law_484 xs L QR H H2, k_L_law_568 xs L QR H H2, k_L_law_631 xs L QR H H2, k_L_law_675 xs L QR H H2, k_L_law_723 xs L QR H H2, k_L_law_759 xs L QR H H2, k_L_law_807 xs L QR H H2, k_L_law_851 xs L QR H H2, k_L_law_946 xs L QR H H2, k_L_law_1002 xs L QR H H2, k_L_law_1058 xs L QR H H2] (k_L_law_1071 xs L QR H H2)
def k_L_law_23 (xs : Nat → Int32) (L : Nat) (QR : Option qA → qS → Prop) (H H2 : Nat → qP) : qP :=
  o_il 4 <| o_al 0 <| o_slen L <| o_c (.inl 6) <| o_bi z_sub <| o_i2 (fun a b => b < a) (k_L_law_1077 xs L QR H H2) (k_L_law_33 xs L QR H H2)
set_option maxRecDepth 8000 in
theorem s_L_law_1077 {l : Launch} {ad : Nat → Nat} {D : va_G} {cA : Nat → ClassId} {WW WW2 : Nat → qP} {QR : Option qA → qS → Prop} {xs : Nat → Int32} {L : Nat} (S : qSnd l rm_L_law ad D cA R_L b_L_law 8 WW) (Q : qRet (some .boolean) b_L_law WW QR) (Sc : qScr xs L b_L_law WW) (Lc : qLcl l rm_L_law ad D cA R_L b_L_law WW WW2) : qle (k_L_law_1077 xs L QR WW WW2) WW 1077 :=
  S.iconst d_L_law_1077 (by decide) <| Q.2.1 rfl _ d_L_law_1078
set_option maxRecDepth 8000 in
theorem s_L_law_1071 {l : Launch} {ad : Nat → Nat} {D : va_G} {cA : Nat → ClassId} {WW WW2 : Nat → qP} {QR : Option qA → qS → Prop} {xs : Nat → Int32} {L : Nat} (S : qSnd l rm_L_law ad D cA R_L b_L_law 8 WW) (Q : qRet (some .boolean) b_L_law WW QR) (Sc : qScr xs L b_L_law WW) (Lc : qLcl l rm_L_law ad D cA R_L b_L_law WW WW2) : qle (k_L_law_1071 xs L QR WW WW2) WW 1071 :=
  S.iinc d_L_law_1071 (by decide) <| S.goto d_L_law_1074 (by decide) (fun _ _ _ h => h)
set_option maxRecDepth 8000 in
theorem s_L_law_1069 {l : Launch} {ad : Nat → Nat} {D : va_G} {cA : Nat → ClassId} {WW WW2 : Nat → qP} {QR : Option qA → qS → Prop} {xs : Nat → Int32} {L : Nat} (S : qSnd l rm_L_law ad D cA R_L b_L_law 8 WW) (Q : qRet (some .boolean) b_L_law WW QR) (Sc : qScr xs L b_L_law WW) (Lc : qLcl l rm_L_law ad D cA R_L b_L_law WW WW2) : qle (k_L_law_1069 xs L QR WW WW2) WW 1069 :=
  S.iconst d_L_law_1069 (by decide) <| Q.2.1 rfl _ d_L_law_1070
set_option maxRecDepth 8000 in
theorem s_L_law_1058 {l : Launch} {ad : Nat → Nat} {D : va_G} {cA : Nat → ClassId} {WW WW2 : Nat → qP} {QR : Option qA → qS → Prop} {xs : Nat → Int32} {L : Nat} (S : qSnd l rm_L_law ad D cA R_L b_L_law 8 WW) (Q : qRet (some .boolean) b_L_law WW QR) (Sc : qScr xs L b_L_law WW) (Lc : qLcl l rm_L_law ad D cA R_L b_L_law WW WW2) : qle (k_L_law_1058 xs L QR WW WW2) WW 1058 :=
  S.aload_n d_L_law_1058 rfl <| sc_L_131 S (by decide) d_L_law_1059 <| S.aload_n d_L_law_1062 rfl <| sc_L_134 S (by decide) d_L_law_1063 <| S.icmp_eq d_L_law_1066 (by decide) (s_L_law_1071 S Q Sc Lc) (s_L_law_1069 S Q Sc Lc)
set_option maxRecDepth 8000 in
theorem s_L_law_1055 {l : Launch} {ad : Nat → Nat} {D : va_G} {cA : Nat → ClassId} {WW WW2 : Nat → qP} {QR : Option qA → qS → Prop} {xs : Nat → Int32} {L : Nat} (S : qSnd l rm_L_law ad D cA R_L b_L_law 8 WW) (Q : qRet (some .boolean) b_L_law WW QR) (Sc : qScr xs L b_L_law WW) (Lc : qLcl l rm_L_law ad D cA R_L b_L_law WW WW2) : qle (k_L_law_1055 xs L QR WW WW2) WW 1055 :=
  S.goto d_L_law_1055 (by decide) (s_L_law_1071 S Q Sc Lc)
set_option maxRecDepth 8000 in
theorem s_L_law_1053 {l : Launch} {ad : Nat → Nat} {D : va_G} {cA : Nat → ClassId} {WW WW2 : Nat → qP} {QR : Option qA → qS → Prop} {xs : Nat → Int32} {L : Nat} (S : qSnd l rm_L_law ad D cA R_L b_L_law 8 WW) (Q : qRet (some .boolean) b_L_law WW QR) (Sc : qScr xs L b_L_law WW) (Lc : qLcl l rm_L_law ad D cA R_L b_L_law WW WW2) : qle (k_L_law_1053 xs L QR WW WW2) WW 1053 :=
  S.iconst d_L_law_1053 (by decide) <| Q.2.1 rfl _ d_L_law_1054
set_option maxRecDepth 8000 in
theorem s_L_law_1043 {l : Launch} {ad : Nat → Nat} {D : va_G} {cA : Nat → ClassId} {WW WW2 : Nat → qP} {QR : Option qA → qS → Prop} {xs : Nat → Int32} {L : Nat} (S : qSnd l rm_L_law ad D cA R_L b_L_law 8 WW) (Q : qRet (some .boolean) b_L_law WW QR) (Sc : qScr xs L b_L_law WW) (Lc : qLcl l rm_L_law ad D cA R_L b_L_law WW WW2) : qle (k_L_law_1043 xs L QR WW WW2) WW 1043 :=
  S.aload_n d_L_law_1043 rfl <| S.iconst d_L_law_1044 (by decide) <| S.jald d_L_law_1045 <| S.iload d_L_law_1046 <| S.i2l d_L_law_1048 <| S.lcmp_eq d_L_law_1049 d_L_law_1050 (by decide) (s_L_law_1055 S Q Sc Lc) (s_L_law_1053 S Q Sc Lc)
set_option maxRecDepth 8000 in
theorem s_L_law_1038 {l : Launch} {ad : Nat → Nat} {D : va_G} {cA : Nat → ClassId} {WW WW2 : Nat → qP} {QR : Option qA → qS → Prop} {xs : Nat → Int32} {L : Nat} (S : qSnd l rm_L_law ad D cA R_L b_L_law 8 WW) (Q : qRet (some .boolean) b_L_law WW QR) (Sc : qScr xs L b_L_law WW) (Lc : qLcl l rm_L_law ad D cA R_L b_L_law WW WW2) : qle (k_L_law_1038 xs L QR WW WW2) WW 1038 :=
  S.iload d_L_law_1038 <| S.if_ne d_L_law_1040 (by decide) (s_L_law_1055 S Q Sc Lc) (s_L_law_1043 S Q Sc Lc)
set_option maxRecDepth 8000 in
theorem s_L_law_1036 {l : Launch} {ad : Nat → Nat} {D : va_G} {cA : Nat → ClassId} {WW WW2 : Nat → qP} {QR : Option qA → qS → Prop} {xs : Nat → Int32} {L : Nat} (S : qSnd l rm_L_law ad D cA R_L b_L_law 8 WW) (Q : qRet (some .boolean) b_L_law WW QR) (Sc : qScr xs L b_L_law WW) (Lc : qLcl l rm_L_law ad D cA R_L b_L_law WW WW2) : qle (k_L_law_1036 xs L QR WW WW2) WW 1036 :=
  S.iconst d_L_law_1036 (by decide) <| Q.2.1 rfl _ d_L_law_1037
set_option maxRecDepth 8000 in
theorem s_L_law_1013 {l : Launch} {ad : Nat → Nat} {D : va_G} {cA : Nat → ClassId} {WW WW2 : Nat → qP} {QR : Option qA → qS → Prop} {xs : Nat → Int32} {L : Nat} (S : qSnd l rm_L_law ad D cA R_L b_L_law 8 WW) (Q : qRet (some .boolean) b_L_law WW QR) (Sc : qScr xs L b_L_law WW) (Lc : qLcl l rm_L_law ad D cA R_L b_L_law WW WW2) : qle (k_L_law_1013 xs L QR WW WW2) WW 1013 :=
  S.istore d_L_law_1013 (by decide) <| S.aload_n d_L_law_1015 rfl <| S.aload_n d_L_law_1016 rfl <| S.iload d_L_law_1017 <| S.iconst d_L_law_1019 (by decide) <| S.iadd d_L_law_1020 <| Sc.2 _ _ d_L_law_1021 <| sc_L_130 S (by decide) d_L_law_1022 <| S.istore d_L_law_1025 (by decide) <| S.aload_n d_L_law_1027 rfl <| sc_L_81 S (by decide) d_L_law_1028 <| S.iload d_L_law_1031 <| S.icmp_eq d_L_law_1033 (by decide) (s_L_law_1038 S Q Sc Lc) (s_L_law_1036 S Q Sc Lc)
set_option maxRecDepth 8000 in
theorem s_L_law_1002 {l : Launch} {ad : Nat → Nat} {D : va_G} {cA : Nat → ClassId} {WW WW2 : Nat → qP} {QR : Option qA → qS → Prop} {xs : Nat → Int32} {L : Nat} (S : qSnd l rm_L_law ad D cA R_L b_L_law 8 WW) (Q : qRet (some .boolean) b_L_law WW QR) (Sc : qScr xs L b_L_law WW) (Lc : qLcl l rm_L_law ad D cA R_L b_L_law WW WW2) : qle (k_L_law_1002 xs L QR WW WW2) WW 1002 :=
  S.aload_n d_L_law_1002 rfl <| S.aload_n d_L_law_1003 rfl <| S.iload d_L_law_1004 <| S.iconst d_L_law_1006 (by decide) <| S.iadd d_L_law_1007 <| Sc.2 _ _ d_L_law_1008 <| S.aload_n d_L_law_1009 rfl <| sl_L_128 Lc (by decide) d_L_law_1010
set_option maxRecDepth 8000 in
theorem s_L_law_999 {l : Launch} {ad : Nat → Nat} {D : va_G} {cA : Nat → ClassId} {WW WW2 : Nat → qP} {QR : Option qA → qS → Prop} {xs : Nat → Int32} {L : Nat} (S : qSnd l rm_L_law ad D cA R_L b_L_law 8 WW) (Q : qRet (some .boolean) b_L_law WW QR) (Sc : qScr xs L b_L_law WW) (Lc : qLcl l rm_L_law ad D cA R_L b_L_law WW WW2) : qle (k_L_law_999 xs L QR WW WW2) WW 999 :=
  S.goto d_L_law_999 (by decide) (s_L_law_1071 S Q Sc Lc)
set_option maxRecDepth 8000 in
theorem s_L_law_997 {l : Launch} {ad : Nat → Nat} {D : va_G} {cA : Nat → ClassId} {WW WW2 : Nat → qP} {QR : Option qA → qS → Prop} {xs : Nat → Int32} {L : Nat} (S : qSnd l rm_L_law ad D cA R_L b_L_law 8 WW) (Q : qRet (some .boolean) b_L_law WW QR) (Sc : qScr xs L b_L_law WW) (Lc : qLcl l rm_L_law ad D cA R_L b_L_law WW WW2) : qle (k_L_law_997 xs L QR WW WW2) WW 997 :=
  S.iconst d_L_law_997 (by decide) <| Q.2.1 rfl _ d_L_law_998
set_option maxRecDepth 8000 in
theorem s_L_law_987 {l : Launch} {ad : Nat → Nat} {D : va_G} {cA : Nat → ClassId} {WW WW2 : Nat → qP} {QR : Option qA → qS → Prop} {xs : Nat → Int32} {L : Nat} (S : qSnd l rm_L_law ad D cA R_L b_L_law 8 WW) (Q : qRet (some .boolean) b_L_law WW QR) (Sc : qScr xs L b_L_law WW) (Lc : qLcl l rm_L_law ad D cA R_L b_L_law WW WW2) : qle (k_L_law_987 xs L QR WW WW2) WW 987 :=
  S.aload_n d_L_law_987 rfl <| S.iconst d_L_law_988 (by decide) <| S.jald d_L_law_989 <| S.iload d_L_law_990 <| S.i2l d_L_law_992 <| S.lcmp_eq d_L_law_993 d_L_law_994 (by decide) (s_L_law_999 S Q Sc Lc) (s_L_law_997 S Q Sc Lc)
set_option maxRecDepth 8000 in
theorem s_L_law_982 {l : Launch} {ad : Nat → Nat} {D : va_G} {cA : Nat → ClassId} {WW WW2 : Nat → qP} {QR : Option qA → qS → Prop} {xs : Nat → Int32} {L : Nat} (S : qSnd l rm_L_law ad D cA R_L b_L_law 8 WW) (Q : qRet (some .boolean) b_L_law WW QR) (Sc : qScr xs L b_L_law WW) (Lc : qLcl l rm_L_law ad D cA R_L b_L_law WW WW2) : qle (k_L_law_982 xs L QR WW WW2) WW 982 :=
  S.iload d_L_law_982 <| S.if_ne d_L_law_984 (by decide) (s_L_law_999 S Q Sc Lc) (s_L_law_987 S Q Sc Lc)
set_option maxRecDepth 8000 in
theorem s_L_law_980 {l : Launch} {ad : Nat → Nat} {D : va_G} {cA : Nat → ClassId} {WW WW2 : Nat → qP} {QR : Option qA → qS → Prop} {xs : Nat → Int32} {L : Nat} (S : qSnd l rm_L_law ad D cA R_L b_L_law 8 WW) (Q : qRet (some .boolean) b_L_law WW QR) (Sc : qScr xs L b_L_law WW) (Lc : qLcl l rm_L_law ad D cA R_L b_L_law WW WW2) : qle (k_L_law_980 xs L QR WW WW2) WW 980 :=
  S.iconst d_L_law_980 (by decide) <| Q.2.1 rfl _ d_L_law_981
set_option maxRecDepth 8000 in
theorem s_L_law_957 {l : Launch} {ad : Nat → Nat} {D : va_G} {cA : Nat → ClassId} {WW WW2 : Nat → qP} {QR : Option qA → qS → Prop} {xs : Nat → Int32} {L : Nat} (S : qSnd l rm_L_law ad D cA R_L b_L_law 8 WW) (Q : qRet (some .boolean) b_L_law WW QR) (Sc : qScr xs L b_L_law WW) (Lc : qLcl l rm_L_law ad D cA R_L b_L_law WW WW2) : qle (k_L_law_957 xs L QR WW WW2) WW 957 :=
  S.istore d_L_law_957 (by decide) <| S.aload_n d_L_law_959 rfl <| S.aload_n d_L_law_960 rfl <| S.iload d_L_law_961 <| S.iconst d_L_law_963 (by decide) <| S.iadd d_L_law_964 <| Sc.2 _ _ d_L_law_965 <| sc_L_127 S (by decide) d_L_law_966 <| S.istore d_L_law_969 (by decide) <| S.aload_n d_L_law_971 rfl <| sc_L_81 S (by decide) d_L_law_972 <| S.iload d_L_law_975 <| S.icmp_eq d_L_law_977 (by decide) (s_L_law_982 S Q Sc Lc) (s_L_law_980 S Q Sc Lc)
set_option maxRecDepth 8000 in
theorem s_L_law_946 {l : Launch} {ad : Nat → Nat} {D : va_G} {cA : Nat → ClassId} {WW WW2 : Nat → qP} {QR : Option qA → qS → Prop} {xs : Nat → Int32} {L : Nat} (S : qSnd l rm_L_law ad D cA R_L b_L_law 8 WW) (Q : qRet (some .boolean) b_L_law WW QR) (Sc : qScr xs L b_L_law WW) (Lc : qLcl l rm_L_law ad D cA R_L b_L_law WW WW2) : qle (k_L_law_946 xs L QR WW WW2) WW 946 :=
  S.aload_n d_L_law_946 rfl <| S.aload_n d_L_law_947 rfl <| S.iload d_L_law_948 <| S.iconst d_L_law_950 (by decide) <| S.iadd d_L_law_951 <| Sc.2 _ _ d_L_law_952 <| S.aload_n d_L_law_953 rfl <| sl_L_125 Lc (by decide) d_L_law_954
set_option maxRecDepth 8000 in
theorem s_L_law_943 {l : Launch} {ad : Nat → Nat} {D : va_G} {cA : Nat → ClassId} {WW WW2 : Nat → qP} {QR : Option qA → qS → Prop} {xs : Nat → Int32} {L : Nat} (S : qSnd l rm_L_law ad D cA R_L b_L_law 8 WW) (Q : qRet (some .boolean) b_L_law WW QR) (Sc : qScr xs L b_L_law WW) (Lc : qLcl l rm_L_law ad D cA R_L b_L_law WW WW2) : qle (k_L_law_943 xs L QR WW WW2) WW 943 :=
  S.goto d_L_law_943 (by decide) (s_L_law_1071 S Q Sc Lc)
set_option maxRecDepth 8000 in
theorem s_L_law_941 {l : Launch} {ad : Nat → Nat} {D : va_G} {cA : Nat → ClassId} {WW WW2 : Nat → qP} {QR : Option qA → qS → Prop} {xs : Nat → Int32} {L : Nat} (S : qSnd l rm_L_law ad D cA R_L b_L_law 8 WW) (Q : qRet (some .boolean) b_L_law WW QR) (Sc : qScr xs L b_L_law WW) (Lc : qLcl l rm_L_law ad D cA R_L b_L_law WW WW2) : qle (k_L_law_941 xs L QR WW WW2) WW 941 :=
  S.iconst d_L_law_941 (by decide) <| Q.2.1 rfl _ d_L_law_942
set_option maxRecDepth 8000 in
theorem s_L_law_932 {l : Launch} {ad : Nat → Nat} {D : va_G} {cA : Nat → ClassId} {WW WW2 : Nat → qP} {QR : Option qA → qS → Prop} {xs : Nat → Int32} {L : Nat} (S : qSnd l rm_L_law ad D cA R_L b_L_law 8 WW) (Q : qRet (some .boolean) b_L_law WW QR) (Sc : qScr xs L b_L_law WW) (Lc : qLcl l rm_L_law ad D cA R_L b_L_law WW WW2) : qle (k_L_law_932 xs L QR WW WW2) WW 932 :=
  S.aload_n d_L_law_932 rfl <| S.iconst d_L_law_933 (by decide) <| S.jald d_L_law_934 <| S.lload d_L_law_935 <| S.lcmp_eq d_L_law_937 d_L_law_938 (by decide) (s_L_law_943 S Q Sc Lc) (s_L_law_941 S Q Sc Lc)
set_option maxRecDepth 8000 in
theorem s_L_law_927 {l : Launch} {ad : Nat → Nat} {D : va_G} {cA : Nat → ClassId} {WW WW2 : Nat → qP} {QR : Option qA → qS → Prop} {xs : Nat → Int32} {L : Nat} (S : qSnd l rm_L_law ad D cA R_L b_L_law 8 WW) (Q : qRet (some .boolean) b_L_law WW QR) (Sc : qScr xs L b_L_law WW) (Lc : qLcl l rm_L_law ad D cA R_L b_L_law WW WW2) : qle (k_L_law_927 xs L QR WW WW2) WW 927 :=
  S.iload d_L_law_927 <| S.if_ne d_L_law_929 (by decide) (s_L_law_943 S Q Sc Lc) (s_L_law_932 S Q Sc Lc)
set_option maxRecDepth 8000 in
theorem s_L_law_925 {l : Launch} {ad : Nat → Nat} {D : va_G} {cA : Nat → ClassId} {WW WW2 : Nat → qP} {QR : Option qA → qS → Prop} {xs : Nat → Int32} {L : Nat} (S : qSnd l rm_L_law ad D cA R_L b_L_law 8 WW) (Q : qRet (some .boolean) b_L_law WW QR) (Sc : qScr xs L b_L_law WW) (Lc : qLcl l rm_L_law ad D cA R_L b_L_law WW WW2) : qle (k_L_law_925 xs L QR WW WW2) WW 925 :=
  S.iconst d_L_law_925 (by decide) <| Q.2.1 rfl _ d_L_law_926
set_option maxRecDepth 8000 in
theorem s_L_law_911 {l : Launch} {ad : Nat → Nat} {D : va_G} {cA : Nat → ClassId} {WW WW2 : Nat → qP} {QR : Option qA → qS → Prop} {xs : Nat → Int32} {L : Nat} (S : qSnd l rm_L_law ad D cA R_L b_L_law 8 WW) (Q : qRet (some .boolean) b_L_law WW QR) (Sc : qScr xs L b_L_law WW) (Lc : qLcl l rm_L_law ad D cA R_L b_L_law WW WW2) : qle (k_L_law_911 xs L QR WW WW2) WW 911 :=
  sc_L_124 S (by decide) d_L_law_911 <| S.lstore d_L_law_914 (by decide) <| S.aload_n d_L_law_916 rfl <| sc_L_81 S (by decide) d_L_law_917 <| S.iload d_L_law_920 <| S.icmp_eq d_L_law_922 (by decide) (s_L_law_927 S Q Sc Lc) (s_L_law_925 S Q Sc Lc)
set_option maxRecDepth 8000 in
theorem s_L_law_910 {l : Launch} {ad : Nat → Nat} {D : va_G} {cA : Nat → ClassId} {WW WW2 : Nat → qP} {QR : Option qA → qS → Prop} {xs : Nat → Int32} {L : Nat} (S : qSnd l rm_L_law ad D cA R_L b_L_law 8 WW) (Q : qRet (some .boolean) b_L_law WW QR) (Sc : qScr xs L b_L_law WW) (Lc : qLcl l rm_L_law ad D cA R_L b_L_law WW WW2) : qle (k_L_law_910 xs L QR WW WW2) WW 910 :=
  S.iconst d_L_law_910 (by decide) <| (s_L_law_911 S Q Sc Lc)
set_option maxRecDepth 8000 in
theorem s_L_law_906 {l : Launch} {ad : Nat → Nat} {D : va_G} {cA : Nat → ClassId} {WW WW2 : Nat → qP} {QR : Option qA → qS → Prop} {xs : Nat → Int32} {L : Nat} (S : qSnd l rm_L_law ad D cA R_L b_L_law 8 WW) (Q : qRet (some .boolean) b_L_law WW QR) (Sc : qScr xs L b_L_law WW) (Lc : qLcl l rm_L_law ad D cA R_L b_L_law WW WW2) : qle (k_L_law_906 xs L QR WW WW2) WW 906 :=
  S.iconst d_L_law_906 (by decide) <| S.goto d_L_law_907 (by decide) (s_L_law_911 S Q Sc Lc)
set_option maxRecDepth 8000 in
theorem s_L_law_882 {l : Launch} {ad : Nat → Nat} {D : va_G} {cA : Nat → ClassId} {WW WW2 : Nat → qP} {QR : Option qA → qS → Prop} {xs : Nat → Int32} {L : Nat} (S : qSnd l rm_L_law ad D cA R_L b_L_law 8 WW) (Q : qRet (some .boolean) b_L_law WW QR) (Sc : qScr xs L b_L_law WW) (Lc : qLcl l rm_L_law ad D cA R_L b_L_law WW WW2) : qle (k_L_law_882 xs L QR WW WW2) WW 882 :=
  S.istore d_L_law_882 (by decide) <| S.aload_n d_L_law_884 rfl <| S.aload_n d_L_law_885 rfl <| S.iload d_L_law_886 <| S.iconst d_L_law_888 (by decide) <| S.iadd d_L_law_889 <| Sc.2 _ _ d_L_law_890 <| S.aload_n d_L_law_891 rfl <| S.iload d_L_law_892 <| S.iconst d_L_law_894 (by decide) <| S.iadd d_L_law_895 <| Sc.2 _ _ d_L_law_896 <| S.aload_n d_L_law_897 rfl <| S.iload d_L_law_898 <| S.iconst d_L_law_900 (by decide) <| S.iadd d_L_law_901 <| Sc.2 _ _ d_L_law_902 <| S.if_eq d_L_law_903 (by decide) (s_L_law_910 S Q Sc Lc) (s_L_law_906 S Q Sc Lc)
set_option maxRecDepth 8000 in
theorem s_L_law_878 {l : Launch} {ad : Nat → Nat} {D : va_G} {cA : Nat → ClassId} {WW WW2 : Nat → qP} {QR : Option qA → qS → Prop} {xs : Nat → Int32} {L : Nat} (S : qSnd l rm_L_law ad D cA R_L b_L_law 8 WW) (Q : qRet (some .boolean) b_L_law WW QR) (Sc : qScr xs L b_L_law WW) (Lc : qLcl l rm_L_law ad D cA R_L b_L_law WW WW2) : qle (k_L_law_878 xs L QR WW WW2) WW 878 :=
  S.aload_n d_L_law_878 rfl <| sl_L_121 Lc (by decide) d_L_law_879
set_option maxRecDepth 8000 in
theorem s_L_law_877 {l : Launch} {ad : Nat → Nat} {D : va_G} {cA : Nat → ClassId} {WW WW2 : Nat → qP} {QR : Option qA → qS → Prop} {xs : Nat → Int32} {L : Nat} (S : qSnd l rm_L_law ad D cA R_L b_L_law 8 WW) (Q : qRet (some .boolean) b_L_law WW QR) (Sc : qScr xs L b_L_law WW) (Lc : qLcl l rm_L_law ad D cA R_L b_L_law WW WW2) : qle (k_L_law_877 xs L QR WW WW2) WW 877 :=
  S.iconst d_L_law_877 (by decide) <| (s_L_law_878 S Q Sc Lc)
set_option maxRecDepth 8000 in
theorem s_L_law_873 {l : Launch} {ad : Nat → Nat} {D : va_G} {cA : Nat → ClassId} {WW WW2 : Nat → qP} {QR : Option qA → qS → Prop} {xs : Nat → Int32} {L : Nat} (S : qSnd l rm_L_law ad D cA R_L b_L_law 8 WW) (Q : qRet (some .boolean) b_L_law WW QR) (Sc : qScr xs L b_L_law WW) (Lc : qLcl l rm_L_law ad D cA R_L b_L_law WW WW2) : qle (k_L_law_873 xs L QR WW WW2) WW 873 :=
  S.iconst d_L_law_873 (by decide) <| S.goto d_L_law_874 (by decide) (s_L_law_878 S Q Sc Lc)
set_option maxRecDepth 8000 in
theorem s_L_law_851 {l : Launch} {ad : Nat → Nat} {D : va_G} {cA : Nat → ClassId} {WW WW2 : Nat → qP} {QR : Option qA → qS → Prop} {xs : Nat → Int32} {L : Nat} (S : qSnd l rm_L_law ad D cA R_L b_L_law 8 WW) (Q : qRet (some .boolean) b_L_law WW QR) (Sc : qScr xs L b_L_law WW) (Lc : qLcl l rm_L_law ad D cA R_L b_L_law WW WW2) : qle (k_L_law_851 xs L QR WW WW2) WW 851 :=
  S.aload_n d_L_law_851 rfl <| S.aload_n d_L_law_852 rfl <| S.iload d_L_law_853 <| S.iconst d_L_law_855 (by decide) <| S.iadd d_L_law_856 <| Sc.2 _ _ d_L_law_857 <| S.aload_n d_L_law_858 rfl <| S.iload d_L_law_859 <| S.iconst d_L_law_861 (by decide) <| S.iadd d_L_law_862 <| Sc.2 _ _ d_L_law_863 <| S.aload_n d_L_law_864 rfl <| S.iload d_L_law_865 <| S.iconst d_L_law_867 (by decide) <| S.iadd d_L_law_868 <| Sc.2 _ _ d_L_law_869 <| S.if_eq d_L_law_870 (by decide) (s_L_law_877 S Q Sc Lc) (s_L_law_873 S Q Sc Lc)
set_option maxRecDepth 8000 in
theorem s_L_law_848 {l : Launch} {ad : Nat → Nat} {D : va_G} {cA : Nat → ClassId} {WW WW2 : Nat → qP} {QR : Option qA → qS → Prop} {xs : Nat → Int32} {L : Nat} (S : qSnd l rm_L_law ad D cA R_L b_L_law 8 WW) (Q : qRet (some .boolean) b_L_law WW QR) (Sc : qScr xs L b_L_law WW) (Lc : qLcl l rm_L_law ad D cA R_L b_L_law WW WW2) : qle (k_L_law_848 xs L QR WW WW2) WW 848 :=
  S.goto d_L_law_848 (by decide) (s_L_law_1071 S Q Sc Lc)
set_option maxRecDepth 8000 in
theorem s_L_law_846 {l : Launch} {ad : Nat → Nat} {D : va_G} {cA : Nat → ClassId} {WW WW2 : Nat → qP} {QR : Option qA → qS → Prop} {xs : Nat → Int32} {L : Nat} (S : qSnd l rm_L_law ad D cA R_L b_L_law 8 WW) (Q : qRet (some .boolean) b_L_law WW QR) (Sc : qScr xs L b_L_law WW) (Lc : qLcl l rm_L_law ad D cA R_L b_L_law WW WW2) : qle (k_L_law_846 xs L QR WW WW2) WW 846 :=
  S.iconst d_L_law_846 (by decide) <| Q.2.1 rfl _ d_L_law_847
set_option maxRecDepth 8000 in
theorem s_L_law_836 {l : Launch} {ad : Nat → Nat} {D : va_G} {cA : Nat → ClassId} {WW WW2 : Nat → qP} {QR : Option qA → qS → Prop} {xs : Nat → Int32} {L : Nat} (S : qSnd l rm_L_law ad D cA R_L b_L_law 8 WW) (Q : qRet (some .boolean) b_L_law WW QR) (Sc : qScr xs L b_L_law WW) (Lc : qLcl l rm_L_law ad D cA R_L b_L_law WW WW2) : qle (k_L_law_836 xs L QR WW WW2) WW 836 :=
  S.aload_n d_L_law_836 rfl <| S.iconst d_L_law_837 (by decide) <| S.jald d_L_law_838 <| S.iload d_L_law_839 <| S.i2l d_L_law_841 <| S.lcmp_eq d_L_law_842 d_L_law_843 (by decide) (s_L_law_848 S Q Sc Lc) (s_L_law_846 S Q Sc Lc)
set_option maxRecDepth 8000 in
theorem s_L_law_831 {l : Launch} {ad : Nat → Nat} {D : va_G} {cA : Nat → ClassId} {WW WW2 : Nat → qP} {QR : Option qA → qS → Prop} {xs : Nat → Int32} {L : Nat} (S : qSnd l rm_L_law ad D cA R_L b_L_law 8 WW) (Q : qRet (some .boolean) b_L_law WW QR) (Sc : qScr xs L b_L_law WW) (Lc : qLcl l rm_L_law ad D cA R_L b_L_law WW WW2) : qle (k_L_law_831 xs L QR WW WW2) WW 831 :=
  S.iload d_L_law_831 <| S.if_ne d_L_law_833 (by decide) (s_L_law_848 S Q Sc Lc) (s_L_law_836 S Q Sc Lc)
set_option maxRecDepth 8000 in
theorem s_L_law_829 {l : Launch} {ad : Nat → Nat} {D : va_G} {cA : Nat → ClassId} {WW WW2 : Nat → qP} {QR : Option qA → qS → Prop} {xs : Nat → Int32} {L : Nat} (S : qSnd l rm_L_law ad D cA R_L b_L_law 8 WW) (Q : qRet (some .boolean) b_L_law WW QR) (Sc : qScr xs L b_L_law WW) (Lc : qLcl l rm_L_law ad D cA R_L b_L_law WW WW2) : qle (k_L_law_829 xs L QR WW WW2) WW 829 :=
  S.iconst d_L_law_829 (by decide) <| Q.2.1 rfl _ d_L_law_830
set_option maxRecDepth 8000 in
theorem s_L_law_812 {l : Launch} {ad : Nat → Nat} {D : va_G} {cA : Nat → ClassId} {WW WW2 : Nat → qP} {QR : Option qA → qS → Prop} {xs : Nat → Int32} {L : Nat} (S : qSnd l rm_L_law ad D cA R_L b_L_law 8 WW) (Q : qRet (some .boolean) b_L_law WW QR) (Sc : qScr xs L b_L_law WW) (Lc : qLcl l rm_L_law ad D cA R_L b_L_law WW WW2) : qle (k_L_law_812 xs L QR WW WW2) WW 812 :=
  S.istore d_L_law_812 (by decide) <| S.aload_n d_L_law_814 rfl <| sc_L_120 S (by decide) d_L_law_815 <| S.istore d_L_law_818 (by decide) <| S.aload_n d_L_law_820 rfl <| sc_L_81 S (by decide) d_L_law_821 <| S.iload d_L_law_824 <| S.icmp_eq d_L_law_826 (by decide) (s_L_law_831 S Q Sc Lc) (s_L_law_829 S Q Sc Lc)
set_option maxRecDepth 8000 in
theorem s_L_law_807 {l : Launch} {ad : Nat → Nat} {D : va_G} {cA : Nat → ClassId} {WW WW2 : Nat → qP} {QR : Option qA → qS → Prop} {xs : Nat → Int32} {L : Nat} (S : qSnd l rm_L_law ad D cA R_L b_L_law 8 WW) (Q : qRet (some .boolean) b_L_law WW QR) (Sc : qScr xs L b_L_law WW) (Lc : qLcl l rm_L_law ad D cA R_L b_L_law WW WW2) : qle (k_L_law_807 xs L QR WW WW2) WW 807 :=
  S.aload_n d_L_law_807 rfl <| S.aload_n d_L_law_808 rfl <| sl_L_118 Lc (by decide) d_L_law_809
set_option maxRecDepth 8000 in
theorem s_L_law_804 {l : Launch} {ad : Nat → Nat} {D : va_G} {cA : Nat → ClassId} {WW WW2 : Nat → qP} {QR : Option qA → qS → Prop} {xs : Nat → Int32} {L : Nat} (S : qSnd l rm_L_law ad D cA R_L b_L_law 8 WW) (Q : qRet (some .boolean) b_L_law WW QR) (Sc : qScr xs L b_L_law WW) (Lc : qLcl l rm_L_law ad D cA R_L b_L_law WW WW2) : qle (k_L_law_804 xs L QR WW WW2) WW 804 :=
  S.goto d_L_law_804 (by decide) (s_L_law_1071 S Q Sc Lc)
set_option maxRecDepth 8000 in
theorem s_L_law_802 {l : Launch} {ad : Nat → Nat} {D : va_G} {cA : Nat → ClassId} {WW WW2 : Nat → qP} {QR : Option qA → qS → Prop} {xs : Nat → Int32} {L : Nat} (S : qSnd l rm_L_law ad D cA R_L b_L_law 8 WW) (Q : qRet (some .boolean) b_L_law WW QR) (Sc : qScr xs L b_L_law WW) (Lc : qLcl l rm_L_law ad D cA R_L b_L_law WW WW2) : qle (k_L_law_802 xs L QR WW WW2) WW 802 :=
  S.iconst d_L_law_802 (by decide) <| Q.2.1 rfl _ d_L_law_803
set_option maxRecDepth 8000 in
theorem s_L_law_775 {l : Launch} {ad : Nat → Nat} {D : va_G} {cA : Nat → ClassId} {WW WW2 : Nat → qP} {QR : Option qA → qS → Prop} {xs : Nat → Int32} {L : Nat} (S : qSnd l rm_L_law ad D cA R_L b_L_law 8 WW) (Q : qRet (some .boolean) b_L_law WW QR) (Sc : qScr xs L b_L_law WW) (Lc : qLcl l rm_L_law ad D cA R_L b_L_law WW WW2) : qle (k_L_law_775 xs L QR WW WW2) WW 775 :=
  S.istore d_L_law_775 (by decide) <| S.aload_n d_L_law_777 rfl <| S.aload_n d_L_law_778 rfl <| S.iload d_L_law_779 <| S.iconst d_L_law_781 (by decide) <| S.iadd d_L_law_782 <| Sc.2 _ _ d_L_law_783 <| S.aload_n d_L_law_784 rfl <| S.iload d_L_law_785 <| S.iconst d_L_law_787 (by decide) <| S.iadd d_L_law_788 <| Sc.2 _ _ d_L_law_789 <| sc_L_117 S (by decide) d_L_law_790 <| S.aload_n d_L_law_793 rfl <| sc_L_81 S (by decide) d_L_law_794 <| S.iload d_L_law_797 <| S.icmp_eq d_L_law_799 (by decide) (s_L_law_804 S Q Sc Lc) (s_L_law_802 S Q Sc Lc)
set_option maxRecDepth 8000 in
theorem s_L_law_759 {l : Launch} {ad : Nat → Nat} {D : va_G} {cA : Nat → ClassId} {WW WW2 : Nat → qP} {QR : Option qA → qS → Prop} {xs : Nat → Int32} {L : Nat} (S : qSnd l rm_L_law ad D cA R_L b_L_law 8 WW) (Q : qRet (some .boolean) b_L_law WW QR) (Sc : qScr xs L b_L_law WW) (Lc : qLcl l rm_L_law ad D cA R_L b_L_law WW WW2) : qle (k_L_law_759 xs L QR WW WW2) WW 759 :=
  S.aload_n d_L_law_759 rfl <| S.aload_n d_L_law_760 rfl <| S.iload d_L_law_761 <| S.iconst d_L_law_763 (by decide) <| S.iadd d_L_law_764 <| Sc.2 _ _ d_L_law_765 <| S.aload_n d_L_law_766 rfl <| S.iload d_L_law_767 <| S.iconst d_L_law_769 (by decide) <| S.iadd d_L_law_770 <| Sc.2 _ _ d_L_law_771 <| sl_L_115 Lc (by decide) d_L_law_772
set_option maxRecDepth 8000 in
theorem s_L_law_756 {l : Launch} {ad : Nat → Nat} {D : va_G} {cA : Nat → ClassId} {WW WW2 : Nat → qP} {QR : Option qA → qS → Prop} {xs : Nat → Int32} {L : Nat} (S : qSnd l rm_L_law ad D cA R_L b_L_law 8 WW) (Q : qRet (some .boolean) b_L_law WW QR) (Sc : qScr xs L b_L_law WW) (Lc : qLcl l rm_L_law ad D cA R_L b_L_law WW WW2) : qle (k_L_law_756 xs L QR WW WW2) WW 756 :=
  S.goto d_L_law_756 (by decide) (s_L_law_1071 S Q Sc Lc)
set_option maxRecDepth 8000 in
theorem s_L_law_754 {l : Launch} {ad : Nat → Nat} {D : va_G} {cA : Nat → ClassId} {WW WW2 : Nat → qP} {QR : Option qA → qS → Prop} {xs : Nat → Int32} {L : Nat} (S : qSnd l rm_L_law ad D cA R_L b_L_law 8 WW) (Q : qRet (some .boolean) b_L_law WW QR) (Sc : qScr xs L b_L_law WW) (Lc : qLcl l rm_L_law ad D cA R_L b_L_law WW WW2) : qle (k_L_law_754 xs L QR WW WW2) WW 754 :=
  S.iconst d_L_law_754 (by decide) <| Q.2.1 rfl _ d_L_law_755
set_option maxRecDepth 8000 in
theorem s_L_law_733 {l : Launch} {ad : Nat → Nat} {D : va_G} {cA : Nat → ClassId} {WW WW2 : Nat → qP} {QR : Option qA → qS → Prop} {xs : Nat → Int32} {L : Nat} (S : qSnd l rm_L_law ad D cA R_L b_L_law 8 WW) (Q : qRet (some .boolean) b_L_law WW QR) (Sc : qScr xs L b_L_law WW) (Lc : qLcl l rm_L_law ad D cA R_L b_L_law WW WW2) : qle (k_L_law_733 xs L QR WW WW2) WW 733 :=
  S.istore d_L_law_733 (by decide) <| S.aload_n d_L_law_735 rfl <| S.aload_n d_L_law_736 rfl <| S.iload d_L_law_737 <| S.iconst d_L_law_739 (by decide) <| S.iadd d_L_law_740 <| Sc.2 _ _ d_L_law_741 <| sc_L_114 S (by decide) d_L_law_742 <| S.aload_n d_L_law_745 rfl <| sc_L_81 S (by decide) d_L_law_746 <| S.iload d_L_law_749 <| S.icmp_eq d_L_law_751 (by decide) (s_L_law_756 S Q Sc Lc) (s_L_law_754 S Q Sc Lc)
set_option maxRecDepth 8000 in
theorem s_L_law_723 {l : Launch} {ad : Nat → Nat} {D : va_G} {cA : Nat → ClassId} {WW WW2 : Nat → qP} {QR : Option qA → qS → Prop} {xs : Nat → Int32} {L : Nat} (S : qSnd l rm_L_law ad D cA R_L b_L_law 8 WW) (Q : qRet (some .boolean) b_L_law WW QR) (Sc : qScr xs L b_L_law WW) (Lc : qLcl l rm_L_law ad D cA R_L b_L_law WW WW2) : qle (k_L_law_723 xs L QR WW WW2) WW 723 :=
  S.aload_n d_L_law_723 rfl <| S.aload_n d_L_law_724 rfl <| S.iload d_L_law_725 <| S.iconst d_L_law_727 (by decide) <| S.iadd d_L_law_728 <| Sc.2 _ _ d_L_law_729 <| sl_L_111 Lc (by decide) d_L_law_730
set_option maxRecDepth 8000 in
theorem s_L_law_720 {l : Launch} {ad : Nat → Nat} {D : va_G} {cA : Nat → ClassId} {WW WW2 : Nat → qP} {QR : Option qA → qS → Prop} {xs : Nat → Int32} {L : Nat} (S : qSnd l rm_L_law ad D cA R_L b_L_law 8 WW) (Q : qRet (some .boolean) b_L_law WW QR) (Sc : qScr xs L b_L_law WW) (Lc : qLcl l rm_L_law ad D cA R_L b_L_law WW WW2) : qle (k_L_law_720 xs L QR WW WW2) WW 720 :=
  S.goto d_L_law_720 (by decide) (s_L_law_1071 S Q Sc Lc)
set_option maxRecDepth 8000 in
theorem s_L_law_718 {l : Launch} {ad : Nat → Nat} {D : va_G} {cA : Nat → ClassId} {WW WW2 : Nat → qP} {QR : Option qA → qS → Prop} {xs : Nat → Int32} {L : Nat} (S : qSnd l rm_L_law ad D cA R_L b_L_law 8 WW) (Q : qRet (some .boolean) b_L_law WW QR) (Sc : qScr xs L b_L_law WW) (Lc : qLcl l rm_L_law ad D cA R_L b_L_law WW WW2) : qle (k_L_law_718 xs L QR WW WW2) WW 718 :=
  S.iconst d_L_law_718 (by decide) <| Q.2.1 rfl _ d_L_law_719
set_option maxRecDepth 8000 in
theorem s_L_law_691 {l : Launch} {ad : Nat → Nat} {D : va_G} {cA : Nat → ClassId} {WW WW2 : Nat → qP} {QR : Option qA → qS → Prop} {xs : Nat → Int32} {L : Nat} (S : qSnd l rm_L_law ad D cA R_L b_L_law 8 WW) (Q : qRet (some .boolean) b_L_law WW QR) (Sc : qScr xs L b_L_law WW) (Lc : qLcl l rm_L_law ad D cA R_L b_L_law WW WW2) : qle (k_L_law_691 xs L QR WW WW2) WW 691 :=
  S.istore d_L_law_691 (by decide) <| S.aload_n d_L_law_693 rfl <| S.aload_n d_L_law_694 rfl <| S.iload d_L_law_695 <| S.iconst d_L_law_697 (by decide) <| S.iadd d_L_law_698 <| Sc.2 _ _ d_L_law_699 <| S.aload_n d_L_law_700 rfl <| S.iload d_L_law_701 <| S.iconst d_L_law_703 (by decide) <| S.iadd d_L_law_704 <| Sc.2 _ _ d_L_law_705 <| sc_L_110 S (by decide) d_L_law_706 <| S.aload_n d_L_law_709 rfl <| sc_L_81 S (by decide) d_L_law_710 <| S.iload d_L_law_713 <| S.icmp_eq d_L_law_715 (by decide) (s_L_law_720 S Q Sc Lc) (s_L_law_718 S Q Sc Lc)
set_option maxRecDepth 8000 in
theorem s_L_law_675 {l : Launch} {ad : Nat → Nat} {D : va_G} {cA : Nat → ClassId} {WW WW2 : Nat → qP} {QR : Option qA → qS → Prop} {xs : Nat → Int32} {L : Nat} (S : qSnd l rm_L_law ad D cA R_L b_L_law 8 WW) (Q : qRet (some .boolean) b_L_law WW QR) (Sc : qScr xs L b_L_law WW) (Lc : qLcl l rm_L_law ad D cA R_L b_L_law WW WW2) : qle (k_L_law_675 xs L QR WW WW2) WW 675 :=
  S.aload_n d_L_law_675 rfl <| S.aload_n d_L_law_676 rfl <| S.iload d_L_law_677 <| S.iconst d_L_law_679 (by decide) <| S.iadd d_L_law_680 <| Sc.2 _ _ d_L_law_681 <| S.aload_n d_L_law_682 rfl <| S.iload d_L_law_683 <| S.iconst d_L_law_685 (by decide) <| S.iadd d_L_law_686 <| Sc.2 _ _ d_L_law_687 <| sl_L_107 Lc (by decide) d_L_law_688
set_option maxRecDepth 8000 in
theorem s_L_law_672 {l : Launch} {ad : Nat → Nat} {D : va_G} {cA : Nat → ClassId} {WW WW2 : Nat → qP} {QR : Option qA → qS → Prop} {xs : Nat → Int32} {L : Nat} (S : qSnd l rm_L_law ad D cA R_L b_L_law 8 WW) (Q : qRet (some .boolean) b_L_law WW QR) (Sc : qScr xs L b_L_law WW) (Lc : qLcl l rm_L_law ad D cA R_L b_L_law WW WW2) : qle (k_L_law_672 xs L QR WW WW2) WW 672 :=
  S.goto d_L_law_672 (by decide) (s_L_law_1071 S Q Sc Lc)
set_option maxRecDepth 8000 in
theorem s_L_law_670 {l : Launch} {ad : Nat → Nat} {D : va_G} {cA : Nat → ClassId} {WW WW2 : Nat → qP} {QR : Option qA → qS → Prop} {xs : Nat → Int32} {L : Nat} (S : qSnd l rm_L_law ad D cA R_L b_L_law 8 WW) (Q : qRet (some .boolean) b_L_law WW QR) (Sc : qScr xs L b_L_law WW) (Lc : qLcl l rm_L_law ad D cA R_L b_L_law WW WW2) : qle (k_L_law_670 xs L QR WW WW2) WW 670 :=
  S.iconst d_L_law_670 (by decide) <| Q.2.1 rfl _ d_L_law_671
set_option maxRecDepth 8000 in
theorem s_L_law_660 {l : Launch} {ad : Nat → Nat} {D : va_G} {cA : Nat → ClassId} {WW WW2 : Nat → qP} {QR : Option qA → qS → Prop} {xs : Nat → Int32} {L : Nat} (S : qSnd l rm_L_law ad D cA R_L b_L_law 8 WW) (Q : qRet (some .boolean) b_L_law WW QR) (Sc : qScr xs L b_L_law WW) (Lc : qLcl l rm_L_law ad D cA R_L b_L_law WW WW2) : qle (k_L_law_660 xs L QR WW WW2) WW 660 :=
  S.aload_n d_L_law_660 rfl <| S.iconst d_L_law_661 (by decide) <| S.jald d_L_law_662 <| S.iload d_L_law_663 <| S.i2l d_L_law_665 <| S.lcmp_eq d_L_law_666 d_L_law_667 (by decide) (s_L_law_672 S Q Sc Lc) (s_L_law_670 S Q Sc Lc)
set_option maxRecDepth 8000 in
theorem s_L_law_655 {l : Launch} {ad : Nat → Nat} {D : va_G} {cA : Nat → ClassId} {WW WW2 : Nat → qP} {QR : Option qA → qS → Prop} {xs : Nat → Int32} {L : Nat} (S : qSnd l rm_L_law ad D cA R_L b_L_law 8 WW) (Q : qRet (some .boolean) b_L_law WW QR) (Sc : qScr xs L b_L_law WW) (Lc : qLcl l rm_L_law ad D cA R_L b_L_law WW WW2) : qle (k_L_law_655 xs L QR WW WW2) WW 655 :=
  S.iload d_L_law_655 <| S.if_ne d_L_law_657 (by decide) (s_L_law_672 S Q Sc Lc) (s_L_law_660 S Q Sc Lc)
set_option maxRecDepth 8000 in
theorem s_L_law_653 {l : Launch} {ad : Nat → Nat} {D : va_G} {cA : Nat → ClassId} {WW WW2 : Nat → qP} {QR : Option qA → qS → Prop} {xs : Nat → Int32} {L : Nat} (S : qSnd l rm_L_law ad D cA R_L b_L_law 8 WW) (Q : qRet (some .boolean) b_L_law WW QR) (Sc : qScr xs L b_L_law WW) (Lc : qLcl l rm_L_law ad D cA R_L b_L_law WW WW2) : qle (k_L_law_653 xs L QR WW WW2) WW 653 :=
  S.iconst d_L_law_653 (by decide) <| Q.2.1 rfl _ d_L_law_654
set_option maxRecDepth 8000 in
theorem s_L_law_636 {l : Launch} {ad : Nat → Nat} {D : va_G} {cA : Nat → ClassId} {WW WW2 : Nat → qP} {QR : Option qA → qS → Prop} {xs : Nat → Int32} {L : Nat} (S : qSnd l rm_L_law ad D cA R_L b_L_law 8 WW) (Q : qRet (some .boolean) b_L_law WW QR) (Sc : qScr xs L b_L_law WW) (Lc : qLcl l rm_L_law ad D cA R_L b_L_law WW WW2) : qle (k_L_law_636 xs L QR WW WW2) WW 636 :=
  S.istore d_L_law_636 (by decide) <| S.aload_n d_L_law_638 rfl <| sc_L_106 S (by decide) d_L_law_639 <| S.istore d_L_law_642 (by decide) <| S.aload_n d_L_law_644 rfl <| sc_L_81 S (by decide) d_L_law_645 <| S.iload d_L_law_648 <| S.icmp_eq d_L_law_650 (by decide) (s_L_law_655 S Q Sc Lc) (s_L_law_653 S Q Sc Lc)
set_option maxRecDepth 8000 in
theorem s_L_law_631 {l : Launch} {ad : Nat → Nat} {D : va_G} {cA : Nat → ClassId} {WW WW2 : Nat → qP} {QR : Option qA → qS → Prop} {xs : Nat → Int32} {L : Nat} (S : qSnd l rm_L_law ad D cA R_L b_L_law 8 WW) (Q : qRet (some .boolean) b_L_law WW QR) (Sc : qScr xs L b_L_law WW) (Lc : qLcl l rm_L_law ad D cA R_L b_L_law WW WW2) : qle (k_L_law_631 xs L QR WW WW2) WW 631 :=
  S.aload_n d_L_law_631 rfl <| S.aload_n d_L_law_632 rfl <| sl_L_103 Lc (by decide) d_L_law_633
set_option maxRecDepth 8000 in
theorem s_L_law_628 {l : Launch} {ad : Nat → Nat} {D : va_G} {cA : Nat → ClassId} {WW WW2 : Nat → qP} {QR : Option qA → qS → Prop} {xs : Nat → Int32} {L : Nat} (S : qSnd l rm_L_law ad D cA R_L b_L_law 8 WW) (Q : qRet (some .boolean) b_L_law WW QR) (Sc : qScr xs L b_L_law WW) (Lc : qLcl l rm_L_law ad D cA R_L b_L_law WW WW2) : qle (k_L_law_628 xs L QR WW WW2) WW 628 :=
  S.goto d_L_law_628 (by decide) (s_L_law_1071 S Q Sc Lc)
set_option maxRecDepth 8000 in
theorem s_L_law_626 {l : Launch} {ad : Nat → Nat} {D : va_G} {cA : Nat → ClassId} {WW WW2 : Nat → qP} {QR : Option qA → qS → Prop} {xs : Nat → Int32} {L : Nat} (S : qSnd l rm_L_law ad D cA R_L b_L_law 8 WW) (Q : qRet (some .boolean) b_L_law WW QR) (Sc : qScr xs L b_L_law WW) (Lc : qLcl l rm_L_law ad D cA R_L b_L_law WW WW2) : qle (k_L_law_626 xs L QR WW WW2) WW 626 :=
  S.iconst d_L_law_626 (by decide) <| Q.2.1 rfl _ d_L_law_627
set_option maxRecDepth 8000 in
theorem s_L_law_622 {l : Launch} {ad : Nat → Nat} {D : va_G} {cA : Nat → ClassId} {WW WW2 : Nat → qP} {QR : Option qA → qS → Prop} {xs : Nat → Int32} {L : Nat} (S : qSnd l rm_L_law ad D cA R_L b_L_law 8 WW) (Q : qRet (some .boolean) b_L_law WW QR) (Sc : qScr xs L b_L_law WW) (Lc : qLcl l rm_L_law ad D cA R_L b_L_law WW WW2) : qle (k_L_law_622 xs L QR WW WW2) WW 622 :=
  S.lcmp_eq d_L_law_622 d_L_law_623 (by decide) (s_L_law_628 S Q Sc Lc) (s_L_law_626 S Q Sc Lc)
set_option maxRecDepth 8000 in
theorem s_L_law_621 {l : Launch} {ad : Nat → Nat} {D : va_G} {cA : Nat → ClassId} {WW WW2 : Nat → qP} {QR : Option qA → qS → Prop} {xs : Nat → Int32} {L : Nat} (S : qSnd l rm_L_law ad D cA R_L b_L_law 8 WW) (Q : qRet (some .boolean) b_L_law WW QR) (Sc : qScr xs L b_L_law WW) (Lc : qLcl l rm_L_law ad D cA R_L b_L_law WW WW2) : qle (k_L_law_621 xs L QR WW WW2) WW 621 :=
  S.lconst d_L_law_621 (by decide) <| (s_L_law_622 S Q Sc Lc)
set_option maxRecDepth 8000 in
theorem s_L_law_617 {l : Launch} {ad : Nat → Nat} {D : va_G} {cA : Nat → ClassId} {WW WW2 : Nat → qP} {QR : Option qA → qS → Prop} {xs : Nat → Int32} {L : Nat} (S : qSnd l rm_L_law ad D cA R_L b_L_law 8 WW) (Q : qRet (some .boolean) b_L_law WW QR) (Sc : qScr xs L b_L_law WW) (Lc : qLcl l rm_L_law ad D cA R_L b_L_law WW WW2) : qle (k_L_law_617 xs L QR WW WW2) WW 617 :=
  S.lconst d_L_law_617 (by decide) <| S.goto d_L_law_618 (by decide) (s_L_law_622 S Q Sc Lc)
set_option maxRecDepth 8000 in
theorem s_L_law_609 {l : Launch} {ad : Nat → Nat} {D : va_G} {cA : Nat → ClassId} {WW WW2 : Nat → qP} {QR : Option qA → qS → Prop} {xs : Nat → Int32} {L : Nat} (S : qSnd l rm_L_law ad D cA R_L b_L_law 8 WW) (Q : qRet (some .boolean) b_L_law WW QR) (Sc : qScr xs L b_L_law WW) (Lc : qLcl l rm_L_law ad D cA R_L b_L_law WW WW2) : qle (k_L_law_609 xs L QR WW WW2) WW 609 :=
  S.aload_n d_L_law_609 rfl <| S.iconst d_L_law_610 (by decide) <| S.jald d_L_law_611 <| S.iload d_L_law_612 <| S.if_eq d_L_law_614 (by decide) (s_L_law_621 S Q Sc Lc) (s_L_law_617 S Q Sc Lc)
set_option maxRecDepth 8000 in
theorem s_L_law_604 {l : Launch} {ad : Nat → Nat} {D : va_G} {cA : Nat → ClassId} {WW WW2 : Nat → qP} {QR : Option qA → qS → Prop} {xs : Nat → Int32} {L : Nat} (S : qSnd l rm_L_law ad D cA R_L b_L_law 8 WW) (Q : qRet (some .boolean) b_L_law WW QR) (Sc : qScr xs L b_L_law WW) (Lc : qLcl l rm_L_law ad D cA R_L b_L_law WW WW2) : qle (k_L_law_604 xs L QR WW WW2) WW 604 :=
  S.iload d_L_law_604 <| S.if_ne d_L_law_606 (by decide) (s_L_law_628 S Q Sc Lc) (s_L_law_609 S Q Sc Lc)
set_option maxRecDepth 8000 in
theorem s_L_law_602 {l : Launch} {ad : Nat → Nat} {D : va_G} {cA : Nat → ClassId} {WW WW2 : Nat → qP} {QR : Option qA → qS → Prop} {xs : Nat → Int32} {L : Nat} (S : qSnd l rm_L_law ad D cA R_L b_L_law 8 WW) (Q : qRet (some .boolean) b_L_law WW QR) (Sc : qScr xs L b_L_law WW) (Lc : qLcl l rm_L_law ad D cA R_L b_L_law WW WW2) : qle (k_L_law_602 xs L QR WW WW2) WW 602 :=
  S.iconst d_L_law_602 (by decide) <| Q.2.1 rfl _ d_L_law_603
set_option maxRecDepth 8000 in
theorem s_L_law_579 {l : Launch} {ad : Nat → Nat} {D : va_G} {cA : Nat → ClassId} {WW WW2 : Nat → qP} {QR : Option qA → qS → Prop} {xs : Nat → Int32} {L : Nat} (S : qSnd l rm_L_law ad D cA R_L b_L_law 8 WW) (Q : qRet (some .boolean) b_L_law WW QR) (Sc : qScr xs L b_L_law WW) (Lc : qLcl l rm_L_law ad D cA R_L b_L_law WW WW2) : qle (k_L_law_579 xs L QR WW WW2) WW 579 :=
  S.istore d_L_law_579 (by decide) <| S.aload_n d_L_law_581 rfl <| S.aload_n d_L_law_582 rfl <| S.iload d_L_law_583 <| S.iconst d_L_law_585 (by decide) <| S.iadd d_L_law_586 <| Sc.2 _ _ d_L_law_587 <| sc_L_102 S (by decide) d_L_law_588 <| S.istore d_L_law_591 (by decide) <| S.aload_n d_L_law_593 rfl <| sc_L_81 S (by decide) d_L_law_594 <| S.iload d_L_law_597 <| S.icmp_eq d_L_law_599 (by decide) (s_L_law_604 S Q Sc Lc) (s_L_law_602 S Q Sc Lc)
set_option maxRecDepth 8000 in
theorem s_L_law_568 {l : Launch} {ad : Nat → Nat} {D : va_G} {cA : Nat → ClassId} {WW WW2 : Nat → qP} {QR : Option qA → qS → Prop} {xs : Nat → Int32} {L : Nat} (S : qSnd l rm_L_law ad D cA R_L b_L_law 8 WW) (Q : qRet (some .boolean) b_L_law WW QR) (Sc : qScr xs L b_L_law WW) (Lc : qLcl l rm_L_law ad D cA R_L b_L_law WW WW2) : qle (k_L_law_568 xs L QR WW WW2) WW 568 :=
  S.aload_n d_L_law_568 rfl <| S.aload_n d_L_law_569 rfl <| S.iload d_L_law_570 <| S.iconst d_L_law_572 (by decide) <| S.iadd d_L_law_573 <| Sc.2 _ _ d_L_law_574 <| S.aload_n d_L_law_575 rfl <| sl_L_100 Lc (by decide) d_L_law_576
set_option maxRecDepth 8000 in
theorem s_L_law_565 {l : Launch} {ad : Nat → Nat} {D : va_G} {cA : Nat → ClassId} {WW WW2 : Nat → qP} {QR : Option qA → qS → Prop} {xs : Nat → Int32} {L : Nat} (S : qSnd l rm_L_law ad D cA R_L b_L_law 8 WW) (Q : qRet (some .boolean) b_L_law WW QR) (Sc : qScr xs L b_L_law WW) (Lc : qLcl l rm_L_law ad D cA R_L b_L_law WW WW2) : qle (k_L_law_565 xs L QR WW WW2) WW 565 :=
  S.goto d_L_law_565 (by decide) (s_L_law_1071 S Q Sc Lc)
set_option maxRecDepth 8000 in
theorem s_L_law_563 {l : Launch} {ad : Nat → Nat} {D : va_G} {cA : Nat → ClassId} {WW WW2 : Nat → qP} {QR : Option qA → qS → Prop} {xs : Nat → Int32} {L : Nat} (S : qSnd l rm_L_law ad D cA R_L b_L_law 8 WW) (Q : qRet (some .boolean) b_L_law WW QR) (Sc : qScr xs L b_L_law WW) (Lc : qLcl l rm_L_law ad D cA R_L b_L_law WW WW2) : qle (k_L_law_563 xs L QR WW WW2) WW 563 :=
  S.iconst d_L_law_563 (by decide) <| Q.2.1 rfl _ d_L_law_564
set_option maxRecDepth 8000 in
theorem s_L_law_518 {l : Launch} {ad : Nat → Nat} {D : va_G} {cA : Nat → ClassId} {WW WW2 : Nat → qP} {QR : Option qA → qS → Prop} {xs : Nat → Int32} {L : Nat} (S : qSnd l rm_L_law ad D cA R_L b_L_law 8 WW) (Q : qRet (some .boolean) b_L_law WW QR) (Sc : qScr xs L b_L_law WW) (Lc : qLcl l rm_L_law ad D cA R_L b_L_law WW WW2) : qle (k_L_law_518 xs L QR WW WW2) WW 518 :=
  S.istore d_L_law_518 (by decide) <| S.aload_n d_L_law_520 rfl <| S.aload_n d_L_law_521 rfl <| S.iload d_L_law_522 <| S.iconst d_L_law_524 (by decide) <| S.iadd d_L_law_525 <| Sc.2 _ _ d_L_law_526 <| S.aload_n d_L_law_527 rfl <| S.iload d_L_law_528 <| S.iconst d_L_law_530 (by decide) <| S.iadd d_L_law_531 <| Sc.2 _ _ d_L_law_532 <| S.aload_n d_L_law_533 rfl <| S.iload d_L_law_534 <| S.iconst d_L_law_536 (by decide) <| S.iadd d_L_law_537 <| Sc.2 _ _ d_L_law_538 <| S.aload_n d_L_law_539 rfl <| S.iload d_L_law_540 <| S.iconst d_L_law_542 (by decide) <| S.iadd d_L_law_543 <| Sc.2 _ _ d_L_law_544 <| S.aload_n d_L_law_545 rfl <| S.iload d_L_law_546 <| S.iconst d_L_law_548 (by decide) <| S.iadd d_L_law_549 <| Sc.2 _ _ d_L_law_550 <| sc_L_99 S (by decide) d_L_law_551 <| S.aload_n d_L_law_554 rfl <| sc_L_81 S (by decide) d_L_law_555 <| S.iload d_L_law_558 <| S.icmp_eq d_L_law_560 (by decide) (s_L_law_565 S Q Sc Lc) (s_L_law_563 S Q Sc Lc)
set_option maxRecDepth 8000 in
theorem s_L_law_484 {l : Launch} {ad : Nat → Nat} {D : va_G} {cA : Nat → ClassId} {WW WW2 : Nat → qP} {QR : Option qA → qS → Prop} {xs : Nat → Int32} {L : Nat} (S : qSnd l rm_L_law ad D cA R_L b_L_law 8 WW) (Q : qRet (some .boolean) b_L_law WW QR) (Sc : qScr xs L b_L_law WW) (Lc : qLcl l rm_L_law ad D cA R_L b_L_law WW WW2) : qle (k_L_law_484 xs L QR WW WW2) WW 484 :=
  S.aload_n d_L_law_484 rfl <| S.aload_n d_L_law_485 rfl <| S.iload d_L_law_486 <| S.iconst d_L_law_488 (by decide) <| S.iadd d_L_law_489 <| Sc.2 _ _ d_L_law_490 <| S.aload_n d_L_law_491 rfl <| S.iload d_L_law_492 <| S.iconst d_L_law_494 (by decide) <| S.iadd d_L_law_495 <| Sc.2 _ _ d_L_law_496 <| S.aload_n d_L_law_497 rfl <| S.iload d_L_law_498 <| S.iconst d_L_law_500 (by decide) <| S.iadd d_L_law_501 <| Sc.2 _ _ d_L_law_502 <| S.aload_n d_L_law_503 rfl <| S.iload d_L_law_504 <| S.iconst d_L_law_506 (by decide) <| S.iadd d_L_law_507 <| Sc.2 _ _ d_L_law_508 <| S.aload_n d_L_law_509 rfl <| S.iload d_L_law_510 <| S.iconst d_L_law_512 (by decide) <| S.iadd d_L_law_513 <| Sc.2 _ _ d_L_law_514 <| sl_L_96 Lc (by decide) d_L_law_515
set_option maxRecDepth 8000 in
theorem s_L_law_481 {l : Launch} {ad : Nat → Nat} {D : va_G} {cA : Nat → ClassId} {WW WW2 : Nat → qP} {QR : Option qA → qS → Prop} {xs : Nat → Int32} {L : Nat} (S : qSnd l rm_L_law ad D cA R_L b_L_law 8 WW) (Q : qRet (some .boolean) b_L_law WW QR) (Sc : qScr xs L b_L_law WW) (Lc : qLcl l rm_L_law ad D cA R_L b_L_law WW WW2) : qle (k_L_law_481 xs L QR WW WW2) WW 481 :=
  S.goto d_L_law_481 (by decide) (s_L_law_1071 S Q Sc Lc)
set_option maxRecDepth 8000 in
theorem s_L_law_479 {l : Launch} {ad : Nat → Nat} {D : va_G} {cA : Nat → ClassId} {WW WW2 : Nat → qP} {QR : Option qA → qS → Prop} {xs : Nat → Int32} {L : Nat} (S : qSnd l rm_L_law ad D cA R_L b_L_law 8 WW) (Q : qRet (some .boolean) b_L_law WW QR) (Sc : qScr xs L b_L_law WW) (Lc : qLcl l rm_L_law ad D cA R_L b_L_law WW WW2) : qle (k_L_law_479 xs L QR WW WW2) WW 479 :=
  S.iconst d_L_law_479 (by decide) <| Q.2.1 rfl _ d_L_law_480
set_option maxRecDepth 8000 in
theorem s_L_law_469 {l : Launch} {ad : Nat → Nat} {D : va_G} {cA : Nat → ClassId} {WW WW2 : Nat → qP} {QR : Option qA → qS → Prop} {xs : Nat → Int32} {L : Nat} (S : qSnd l rm_L_law ad D cA R_L b_L_law 8 WW) (Q : qRet (some .boolean) b_L_law WW QR) (Sc : qScr xs L b_L_law WW) (Lc : qLcl l rm_L_law ad D cA R_L b_L_law WW WW2) : qle (k_L_law_469 xs L QR WW WW2) WW 469 :=
  S.aload_n d_L_law_469 rfl <| S.iconst d_L_law_470 (by decide) <| S.jald d_L_law_471 <| S.iload d_L_law_472 <| S.i2l d_L_law_474 <| S.lcmp_eq d_L_law_475 d_L_law_476 (by decide) (s_L_law_481 S Q Sc Lc) (s_L_law_479 S Q Sc Lc)
set_option maxRecDepth 8000 in
theorem s_L_law_464 {l : Launch} {ad : Nat → Nat} {D : va_G} {cA : Nat → ClassId} {WW WW2 : Nat → qP} {QR : Option qA → qS → Prop} {xs : Nat → Int32} {L : Nat} (S : qSnd l rm_L_law ad D cA R_L b_L_law 8 WW) (Q : qRet (some .boolean) b_L_law WW QR) (Sc : qScr xs L b_L_law WW) (Lc : qLcl l rm_L_law ad D cA R_L b_L_law WW WW2) : qle (k_L_law_464 xs L QR WW WW2) WW 464 :=
  S.iload d_L_law_464 <| S.if_ne d_L_law_466 (by decide) (s_L_law_481 S Q Sc Lc) (s_L_law_469 S Q Sc Lc)
set_option maxRecDepth 8000 in
theorem s_L_law_462 {l : Launch} {ad : Nat → Nat} {D : va_G} {cA : Nat → ClassId} {WW WW2 : Nat → qP} {QR : Option qA → qS → Prop} {xs : Nat → Int32} {L : Nat} (S : qSnd l rm_L_law ad D cA R_L b_L_law 8 WW) (Q : qRet (some .boolean) b_L_law WW QR) (Sc : qScr xs L b_L_law WW) (Lc : qLcl l rm_L_law ad D cA R_L b_L_law WW WW2) : qle (k_L_law_462 xs L QR WW WW2) WW 462 :=
  S.iconst d_L_law_462 (by decide) <| Q.2.1 rfl _ d_L_law_463
set_option maxRecDepth 8000 in
theorem s_L_law_433 {l : Launch} {ad : Nat → Nat} {D : va_G} {cA : Nat → ClassId} {WW WW2 : Nat → qP} {QR : Option qA → qS → Prop} {xs : Nat → Int32} {L : Nat} (S : qSnd l rm_L_law ad D cA R_L b_L_law 8 WW) (Q : qRet (some .boolean) b_L_law WW QR) (Sc : qScr xs L b_L_law WW) (Lc : qLcl l rm_L_law ad D cA R_L b_L_law WW WW2) : qle (k_L_law_433 xs L QR WW WW2) WW 433 :=
  S.istore d_L_law_433 (by decide) <| S.aload_n d_L_law_435 rfl <| S.aload_n d_L_law_436 rfl <| S.iload d_L_law_437 <| S.iconst d_L_law_439 (by decide) <| S.iadd d_L_law_440 <| Sc.2 _ _ d_L_law_441 <| S.aload_n d_L_law_442 rfl <| S.iload d_L_law_443 <| S.iconst d_L_law_445 (by decide) <| S.iadd d_L_law_446 <| Sc.2 _ _ d_L_law_447 <| sc_L_95 S (by decide) d_L_law_448 <| S.istore d_L_law_451 (by decide) <| S.aload_n d_L_law_453 rfl <| sc_L_81 S (by decide) d_L_law_454 <| S.iload d_L_law_457 <| S.icmp_eq d_L_law_459 (by decide) (s_L_law_464 S Q Sc Lc) (s_L_law_462 S Q Sc Lc)
set_option maxRecDepth 8000 in
theorem s_L_law_416 {l : Launch} {ad : Nat → Nat} {D : va_G} {cA : Nat → ClassId} {WW WW2 : Nat → qP} {QR : Option qA → qS → Prop} {xs : Nat → Int32} {L : Nat} (S : qSnd l rm_L_law ad D cA R_L b_L_law 8 WW) (Q : qRet (some .boolean) b_L_law WW QR) (Sc : qScr xs L b_L_law WW) (Lc : qLcl l rm_L_law ad D cA R_L b_L_law WW WW2) : qle (k_L_law_416 xs L QR WW WW2) WW 416 :=
  S.aload_n d_L_law_416 rfl <| S.aload_n d_L_law_417 rfl <| S.iload d_L_law_418 <| S.iconst d_L_law_420 (by decide) <| S.iadd d_L_law_421 <| Sc.2 _ _ d_L_law_422 <| S.aload_n d_L_law_423 rfl <| S.iload d_L_law_424 <| S.iconst d_L_law_426 (by decide) <| S.iadd d_L_law_427 <| Sc.2 _ _ d_L_law_428 <| S.aload_n d_L_law_429 rfl <| sl_L_92 Lc (by decide) d_L_law_430
set_option maxRecDepth 8000 in
theorem s_L_law_413 {l : Launch} {ad : Nat → Nat} {D : va_G} {cA : Nat → ClassId} {WW WW2 : Nat → qP} {QR : Option qA → qS → Prop} {xs : Nat → Int32} {L : Nat} (S : qSnd l rm_L_law ad D cA R_L b_L_law 8 WW) (Q : qRet (some .boolean) b_L_law WW QR) (Sc : qScr xs L b_L_law WW) (Lc : qLcl l rm_L_law ad D cA R_L b_L_law WW WW2) : qle (k_L_law_413 xs L QR WW WW2) WW 413 :=
  S.goto d_L_law_413 (by decide) (s_L_law_1071 S Q Sc Lc)
set_option maxRecDepth 8000 in
theorem s_L_law_411 {l : Launch} {ad : Nat → Nat} {D : va_G} {cA : Nat → ClassId} {WW WW2 : Nat → qP} {QR : Option qA → qS → Prop} {xs : Nat → Int32} {L : Nat} (S : qSnd l rm_L_law ad D cA R_L b_L_law 8 WW) (Q : qRet (some .boolean) b_L_law WW QR) (Sc : qScr xs L b_L_law WW) (Lc : qLcl l rm_L_law ad D cA R_L b_L_law WW WW2) : qle (k_L_law_411 xs L QR WW WW2) WW 411 :=
  S.iconst d_L_law_411 (by decide) <| Q.2.1 rfl _ d_L_law_412
set_option maxRecDepth 8000 in
theorem s_L_law_401 {l : Launch} {ad : Nat → Nat} {D : va_G} {cA : Nat → ClassId} {WW WW2 : Nat → qP} {QR : Option qA → qS → Prop} {xs : Nat → Int32} {L : Nat} (S : qSnd l rm_L_law ad D cA R_L b_L_law 8 WW) (Q : qRet (some .boolean) b_L_law WW QR) (Sc : qScr xs L b_L_law WW) (Lc : qLcl l rm_L_law ad D cA R_L b_L_law WW WW2) : qle (k_L_law_401 xs L QR WW WW2) WW 401 :=
  S.aload_n d_L_law_401 rfl <| S.iconst d_L_law_402 (by decide) <| S.jald d_L_law_403 <| S.iload d_L_law_404 <| S.i2l d_L_law_406 <| S.lcmp_eq d_L_law_407 d_L_law_408 (by decide) (s_L_law_413 S Q Sc Lc) (s_L_law_411 S Q Sc Lc)
set_option maxRecDepth 8000 in
theorem s_L_law_396 {l : Launch} {ad : Nat → Nat} {D : va_G} {cA : Nat → ClassId} {WW WW2 : Nat → qP} {QR : Option qA → qS → Prop} {xs : Nat → Int32} {L : Nat} (S : qSnd l rm_L_law ad D cA R_L b_L_law 8 WW) (Q : qRet (some .boolean) b_L_law WW QR) (Sc : qScr xs L b_L_law WW) (Lc : qLcl l rm_L_law ad D cA R_L b_L_law WW WW2) : qle (k_L_law_396 xs L QR WW WW2) WW 396 :=
  S.iload d_L_law_396 <| S.if_ne d_L_law_398 (by decide) (s_L_law_413 S Q Sc Lc) (s_L_law_401 S Q Sc Lc)
set_option maxRecDepth 8000 in
theorem s_L_law_394 {l : Launch} {ad : Nat → Nat} {D : va_G} {cA : Nat → ClassId} {WW WW2 : Nat → qP} {QR : Option qA → qS → Prop} {xs : Nat → Int32} {L : Nat} (S : qSnd l rm_L_law ad D cA R_L b_L_law 8 WW) (Q : qRet (some .boolean) b_L_law WW QR) (Sc : qScr xs L b_L_law WW) (Lc : qLcl l rm_L_law ad D cA R_L b_L_law WW WW2) : qle (k_L_law_394 xs L QR WW WW2) WW 394 :=
  S.iconst d_L_law_394 (by decide) <| Q.2.1 rfl _ d_L_law_395
set_option maxRecDepth 8000 in
theorem s_L_law_349 {l : Launch} {ad : Nat → Nat} {D : va_G} {cA : Nat → ClassId} {WW WW2 : Nat → qP} {QR : Option qA → qS → Prop} {xs : Nat → Int32} {L : Nat} (S : qSnd l rm_L_law ad D cA R_L b_L_law 8 WW) (Q : qRet (some .boolean) b_L_law WW QR) (Sc : qScr xs L b_L_law WW) (Lc : qLcl l rm_L_law ad D cA R_L b_L_law WW WW2) : qle (k_L_law_349 xs L QR WW WW2) WW 349 :=
  S.istore d_L_law_349 (by decide) <| S.aload_n d_L_law_351 rfl <| S.aload_n d_L_law_352 rfl <| S.iload d_L_law_353 <| S.iconst d_L_law_355 (by decide) <| S.iadd d_L_law_356 <| Sc.2 _ _ d_L_law_357 <| S.aload_n d_L_law_358 rfl <| S.iload d_L_law_359 <| S.iconst d_L_law_361 (by decide) <| S.iadd d_L_law_362 <| Sc.2 _ _ d_L_law_363 <| S.i2l d_L_law_364 <| S.bipush d_L_law_365 (by decide) <| S.lshl d_L_law_367 <| S.aload_n d_L_law_368 rfl <| S.iload d_L_law_369 <| S.iconst d_L_law_371 (by decide) <| S.iadd d_L_law_372 <| Sc.2 _ _ d_L_law_373 <| S.i2l d_L_law_374 <| S.ldc2 d_L_law_375 (lw_at 991 (by decide +kernel) rfl) (by decide) <| S.land d_L_law_378 <| S.lor d_L_law_379 <| sc_L_91 S (by decide) d_L_law_380 <| S.istore d_L_law_383 (by decide) <| S.aload_n d_L_law_385 rfl <| sc_L_81 S (by decide) d_L_law_386 <| S.iload d_L_law_389 <| S.icmp_eq d_L_law_391 (by decide) (s_L_law_396 S Q Sc Lc) (s_L_law_394 S Q Sc Lc)
set_option maxRecDepth 8000 in
theorem s_L_law_316 {l : Launch} {ad : Nat → Nat} {D : va_G} {cA : Nat → ClassId} {WW WW2 : Nat → qP} {QR : Option qA → qS → Prop} {xs : Nat → Int32} {L : Nat} (S : qSnd l rm_L_law ad D cA R_L b_L_law 8 WW) (Q : qRet (some .boolean) b_L_law WW QR) (Sc : qScr xs L b_L_law WW) (Lc : qLcl l rm_L_law ad D cA R_L b_L_law WW WW2) : qle (k_L_law_316 xs L QR WW WW2) WW 316 :=
  S.aload_n d_L_law_316 rfl <| S.aload_n d_L_law_317 rfl <| S.iload d_L_law_318 <| S.iconst d_L_law_320 (by decide) <| S.iadd d_L_law_321 <| Sc.2 _ _ d_L_law_322 <| S.aload_n d_L_law_323 rfl <| S.iload d_L_law_324 <| S.iconst d_L_law_326 (by decide) <| S.iadd d_L_law_327 <| Sc.2 _ _ d_L_law_328 <| S.i2l d_L_law_329 <| S.bipush d_L_law_330 (by decide) <| S.lshl d_L_law_332 <| S.aload_n d_L_law_333 rfl <| S.iload d_L_law_334 <| S.iconst d_L_law_336 (by decide) <| S.iadd d_L_law_337 <| Sc.2 _ _ d_L_law_338 <| S.i2l d_L_law_339 <| S.ldc2 d_L_law_340 (lw_at 991 (by decide +kernel) rfl) (by decide) <| S.land d_L_law_343 <| S.lor d_L_law_344 <| S.aload_n d_L_law_345 rfl <| sl_L_88 Lc (by decide) d_L_law_346
set_option maxRecDepth 8000 in
theorem s_L_law_313 {l : Launch} {ad : Nat → Nat} {D : va_G} {cA : Nat → ClassId} {WW WW2 : Nat → qP} {QR : Option qA → qS → Prop} {xs : Nat → Int32} {L : Nat} (S : qSnd l rm_L_law ad D cA R_L b_L_law 8 WW) (Q : qRet (some .boolean) b_L_law WW QR) (Sc : qScr xs L b_L_law WW) (Lc : qLcl l rm_L_law ad D cA R_L b_L_law WW WW2) : qle (k_L_law_313 xs L QR WW WW2) WW 313 :=
  S.goto d_L_law_313 (by decide) (s_L_law_1071 S Q Sc Lc)
set_option maxRecDepth 8000 in
theorem s_L_law_311 {l : Launch} {ad : Nat → Nat} {D : va_G} {cA : Nat → ClassId} {WW WW2 : Nat → qP} {QR : Option qA → qS → Prop} {xs : Nat → Int32} {L : Nat} (S : qSnd l rm_L_law ad D cA R_L b_L_law 8 WW) (Q : qRet (some .boolean) b_L_law WW QR) (Sc : qScr xs L b_L_law WW) (Lc : qLcl l rm_L_law ad D cA R_L b_L_law WW WW2) : qle (k_L_law_311 xs L QR WW WW2) WW 311 :=
  S.iconst d_L_law_311 (by decide) <| Q.2.1 rfl _ d_L_law_312
set_option maxRecDepth 8000 in
theorem s_L_law_301 {l : Launch} {ad : Nat → Nat} {D : va_G} {cA : Nat → ClassId} {WW WW2 : Nat → qP} {QR : Option qA → qS → Prop} {xs : Nat → Int32} {L : Nat} (S : qSnd l rm_L_law ad D cA R_L b_L_law 8 WW) (Q : qRet (some .boolean) b_L_law WW QR) (Sc : qScr xs L b_L_law WW) (Lc : qLcl l rm_L_law ad D cA R_L b_L_law WW WW2) : qle (k_L_law_301 xs L QR WW WW2) WW 301 :=
  S.aload_n d_L_law_301 rfl <| S.iconst d_L_law_302 (by decide) <| S.jald d_L_law_303 <| S.iload d_L_law_304 <| S.i2l d_L_law_306 <| S.lcmp_eq d_L_law_307 d_L_law_308 (by decide) (s_L_law_313 S Q Sc Lc) (s_L_law_311 S Q Sc Lc)
set_option maxRecDepth 8000 in
theorem s_L_law_296 {l : Launch} {ad : Nat → Nat} {D : va_G} {cA : Nat → ClassId} {WW WW2 : Nat → qP} {QR : Option qA → qS → Prop} {xs : Nat → Int32} {L : Nat} (S : qSnd l rm_L_law ad D cA R_L b_L_law 8 WW) (Q : qRet (some .boolean) b_L_law WW QR) (Sc : qScr xs L b_L_law WW) (Lc : qLcl l rm_L_law ad D cA R_L b_L_law WW WW2) : qle (k_L_law_296 xs L QR WW WW2) WW 296 :=
  S.iload d_L_law_296 <| S.if_ne d_L_law_298 (by decide) (s_L_law_313 S Q Sc Lc) (s_L_law_301 S Q Sc Lc)
set_option maxRecDepth 8000 in
theorem s_L_law_294 {l : Launch} {ad : Nat → Nat} {D : va_G} {cA : Nat → ClassId} {WW WW2 : Nat → qP} {QR : Option qA → qS → Prop} {xs : Nat → Int32} {L : Nat} (S : qSnd l rm_L_law ad D cA R_L b_L_law 8 WW) (Q : qRet (some .boolean) b_L_law WW QR) (Sc : qScr xs L b_L_law WW) (Lc : qLcl l rm_L_law ad D cA R_L b_L_law WW WW2) : qle (k_L_law_294 xs L QR WW WW2) WW 294 :=
  S.iconst d_L_law_294 (by decide) <| Q.2.1 rfl _ d_L_law_295
set_option maxRecDepth 8000 in
theorem s_L_law_271 {l : Launch} {ad : Nat → Nat} {D : va_G} {cA : Nat → ClassId} {WW WW2 : Nat → qP} {QR : Option qA → qS → Prop} {xs : Nat → Int32} {L : Nat} (S : qSnd l rm_L_law ad D cA R_L b_L_law 8 WW) (Q : qRet (some .boolean) b_L_law WW QR) (Sc : qScr xs L b_L_law WW) (Lc : qLcl l rm_L_law ad D cA R_L b_L_law WW WW2) : qle (k_L_law_271 xs L QR WW WW2) WW 271 :=
  S.istore d_L_law_271 (by decide) <| S.aload_n d_L_law_273 rfl <| S.aload_n d_L_law_274 rfl <| S.iload d_L_law_275 <| S.iconst d_L_law_277 (by decide) <| S.iadd d_L_law_278 <| Sc.2 _ _ d_L_law_279 <| sc_L_87 S (by decide) d_L_law_280 <| S.istore d_L_law_283 (by decide) <| S.aload_n d_L_law_285 rfl <| sc_L_81 S (by decide) d_L_law_286 <| S.iload d_L_law_289 <| S.icmp_eq d_L_law_291 (by decide) (s_L_law_296 S Q Sc Lc) (s_L_law_294 S Q Sc Lc)
set_option maxRecDepth 8000 in
theorem s_L_law_260 {l : Launch} {ad : Nat → Nat} {D : va_G} {cA : Nat → ClassId} {WW WW2 : Nat → qP} {QR : Option qA → qS → Prop} {xs : Nat → Int32} {L : Nat} (S : qSnd l rm_L_law ad D cA R_L b_L_law 8 WW) (Q : qRet (some .boolean) b_L_law WW QR) (Sc : qScr xs L b_L_law WW) (Lc : qLcl l rm_L_law ad D cA R_L b_L_law WW WW2) : qle (k_L_law_260 xs L QR WW WW2) WW 260 :=
  S.aload_n d_L_law_260 rfl <| S.aload_n d_L_law_261 rfl <| S.iload d_L_law_262 <| S.iconst d_L_law_264 (by decide) <| S.iadd d_L_law_265 <| Sc.2 _ _ d_L_law_266 <| S.aload_n d_L_law_267 rfl <| sl_L_84 Lc (by decide) d_L_law_268
set_option maxRecDepth 8000 in
theorem s_L_law_257 {l : Launch} {ad : Nat → Nat} {D : va_G} {cA : Nat → ClassId} {WW WW2 : Nat → qP} {QR : Option qA → qS → Prop} {xs : Nat → Int32} {L : Nat} (S : qSnd l rm_L_law ad D cA R_L b_L_law 8 WW) (Q : qRet (some .boolean) b_L_law WW QR) (Sc : qScr xs L b_L_law WW) (Lc : qLcl l rm_L_law ad D cA R_L b_L_law WW WW2) : qle (k_L_law_257 xs L QR WW WW2) WW 257 :=
  S.goto d_L_law_257 (by decide) (s_L_law_1071 S Q Sc Lc)
set_option maxRecDepth 8000 in
theorem s_L_law_255 {l : Launch} {ad : Nat → Nat} {D : va_G} {cA : Nat → ClassId} {WW WW2 : Nat → qP} {QR : Option qA → qS → Prop} {xs : Nat → Int32} {L : Nat} (S : qSnd l rm_L_law ad D cA R_L b_L_law 8 WW) (Q : qRet (some .boolean) b_L_law WW QR) (Sc : qScr xs L b_L_law WW) (Lc : qLcl l rm_L_law ad D cA R_L b_L_law WW WW2) : qle (k_L_law_255 xs L QR WW WW2) WW 255 :=
  S.iconst d_L_law_255 (by decide) <| Q.2.1 rfl _ d_L_law_256
set_option maxRecDepth 8000 in
theorem s_L_law_245 {l : Launch} {ad : Nat → Nat} {D : va_G} {cA : Nat → ClassId} {WW WW2 : Nat → qP} {QR : Option qA → qS → Prop} {xs : Nat → Int32} {L : Nat} (S : qSnd l rm_L_law ad D cA R_L b_L_law 8 WW) (Q : qRet (some .boolean) b_L_law WW QR) (Sc : qScr xs L b_L_law WW) (Lc : qLcl l rm_L_law ad D cA R_L b_L_law WW WW2) : qle (k_L_law_245 xs L QR WW WW2) WW 245 :=
  S.aload_n d_L_law_245 rfl <| S.iconst d_L_law_246 (by decide) <| S.jald d_L_law_247 <| S.iload d_L_law_248 <| S.i2l d_L_law_250 <| S.lcmp_eq d_L_law_251 d_L_law_252 (by decide) (s_L_law_257 S Q Sc Lc) (s_L_law_255 S Q Sc Lc)
set_option maxRecDepth 8000 in
theorem s_L_law_240 {l : Launch} {ad : Nat → Nat} {D : va_G} {cA : Nat → ClassId} {WW WW2 : Nat → qP} {QR : Option qA → qS → Prop} {xs : Nat → Int32} {L : Nat} (S : qSnd l rm_L_law ad D cA R_L b_L_law 8 WW) (Q : qRet (some .boolean) b_L_law WW QR) (Sc : qScr xs L b_L_law WW) (Lc : qLcl l rm_L_law ad D cA R_L b_L_law WW WW2) : qle (k_L_law_240 xs L QR WW WW2) WW 240 :=
  S.iload d_L_law_240 <| S.if_ne d_L_law_242 (by decide) (s_L_law_257 S Q Sc Lc) (s_L_law_245 S Q Sc Lc)
set_option maxRecDepth 8000 in
theorem s_L_law_238 {l : Launch} {ad : Nat → Nat} {D : va_G} {cA : Nat → ClassId} {WW WW2 : Nat → qP} {QR : Option qA → qS → Prop} {xs : Nat → Int32} {L : Nat} (S : qSnd l rm_L_law ad D cA R_L b_L_law 8 WW) (Q : qRet (some .boolean) b_L_law WW QR) (Sc : qScr xs L b_L_law WW) (Lc : qLcl l rm_L_law ad D cA R_L b_L_law WW WW2) : qle (k_L_law_238 xs L QR WW WW2) WW 238 :=
  S.iconst d_L_law_238 (by decide) <| Q.2.1 rfl _ d_L_law_239
set_option maxRecDepth 8000 in
theorem s_L_law_171 {l : Launch} {ad : Nat → Nat} {D : va_G} {cA : Nat → ClassId} {WW WW2 : Nat → qP} {QR : Option qA → qS → Prop} {xs : Nat → Int32} {L : Nat} (S : qSnd l rm_L_law ad D cA R_L b_L_law 8 WW) (Q : qRet (some .boolean) b_L_law WW QR) (Sc : qScr xs L b_L_law WW) (Lc : qLcl l rm_L_law ad D cA R_L b_L_law WW WW2) : qle (k_L_law_171 xs L QR WW WW2) WW 171 :=
  S.istore d_L_law_171 (by decide) <| S.aload_n d_L_law_173 rfl <| S.aload_n d_L_law_174 rfl <| S.iload d_L_law_175 <| S.iconst d_L_law_177 (by decide) <| S.iadd d_L_law_178 <| Sc.2 _ _ d_L_law_179 <| S.aload_n d_L_law_180 rfl <| S.iload d_L_law_181 <| S.iconst d_L_law_183 (by decide) <| S.iadd d_L_law_184 <| Sc.2 _ _ d_L_law_185 <| S.i2l d_L_law_186 <| S.bipush d_L_law_187 (by decide) <| S.lshl d_L_law_189 <| S.aload_n d_L_law_190 rfl <| S.iload d_L_law_191 <| S.iconst d_L_law_193 (by decide) <| S.iadd d_L_law_194 <| Sc.2 _ _ d_L_law_195 <| S.i2l d_L_law_196 <| S.ldc2 d_L_law_197 (lw_at 991 (by decide +kernel) rfl) (by decide) <| S.land d_L_law_200 <| S.lor d_L_law_201 <| S.aload_n d_L_law_202 rfl <| S.iload d_L_law_203 <| S.iconst d_L_law_205 (by decide) <| S.iadd d_L_law_206 <| Sc.2 _ _ d_L_law_207 <| S.i2l d_L_law_208 <| S.bipush d_L_law_209 (by decide) <| S.lshl d_L_law_211 <| S.aload_n d_L_law_212 rfl <| S.iload d_L_law_213 <| S.iconst d_L_law_215 (by decide) <| S.iadd d_L_law_216 <| Sc.2 _ _ d_L_law_217 <| S.i2l d_L_law_218 <| S.ldc2 d_L_law_219 (lw_at 991 (by decide +kernel) rfl) (by decide) <| S.land d_L_law_222 <| S.lor d_L_law_223 <| sc_L_80 S (by decide) d_L_law_224 <| S.istore d_L_law_227 (by decide) <| S.aload_n d_L_law_229 rfl <| sc_L_81 S (by decide) d_L_law_230 <| S.iload d_L_law_233 <| S.icmp_eq d_L_law_235 (by decide) (s_L_law_240 S Q Sc Lc) (s_L_law_238 S Q Sc Lc)
set_option maxRecDepth 8000 in
theorem s_L_law_116 {l : Launch} {ad : Nat → Nat} {D : va_G} {cA : Nat → ClassId} {WW WW2 : Nat → qP} {QR : Option qA → qS → Prop} {xs : Nat → Int32} {L : Nat} (S : qSnd l rm_L_law ad D cA R_L b_L_law 8 WW) (Q : qRet (some .boolean) b_L_law WW QR) (Sc : qScr xs L b_L_law WW) (Lc : qLcl l rm_L_law ad D cA R_L b_L_law WW WW2) : qle (k_L_law_116 xs L QR WW WW2) WW 116 :=
  S.aload_n d_L_law_116 rfl <| S.aload_n d_L_law_117 rfl <| S.iload d_L_law_118 <| S.iconst d_L_law_120 (by decide) <| S.iadd d_L_law_121 <| Sc.2 _ _ d_L_law_122 <| S.aload_n d_L_law_123 rfl <| S.iload d_L_law_124 <| S.iconst d_L_law_126 (by decide) <| S.iadd d_L_law_127 <| Sc.2 _ _ d_L_law_128 <| S.i2l d_L_law_129 <| S.bipush d_L_law_130 (by decide) <| S.lshl d_L_law_132 <| S.aload_n d_L_law_133 rfl <| S.iload d_L_law_134 <| S.iconst d_L_law_136 (by decide) <| S.iadd d_L_law_137 <| Sc.2 _ _ d_L_law_138 <| S.i2l d_L_law_139 <| S.ldc2 d_L_law_140 (lw_at 991 (by decide +kernel) rfl) (by decide) <| S.land d_L_law_143 <| S.lor d_L_law_144 <| S.aload_n d_L_law_145 rfl <| S.iload d_L_law_146 <| S.iconst d_L_law_148 (by decide) <| S.iadd d_L_law_149 <| Sc.2 _ _ d_L_law_150 <| S.i2l d_L_law_151 <| S.bipush d_L_law_152 (by decide) <| S.lshl d_L_law_154 <| S.aload_n d_L_law_155 rfl <| S.iload d_L_law_156 <| S.iconst d_L_law_158 (by decide) <| S.iadd d_L_law_159 <| Sc.2 _ _ d_L_law_160 <| S.i2l d_L_law_161 <| S.ldc2 d_L_law_162 (lw_at 991 (by decide +kernel) rfl) (by decide) <| S.land d_L_law_165 <| S.lor d_L_law_166 <| S.aload_n d_L_law_167 rfl <| sl_L_75 Lc (by decide) d_L_law_168
set_option maxRecDepth 8000 in
theorem s_L_law_33 {l : Launch} {ad : Nat → Nat} {D : va_G} {cA : Nat → ClassId} {WW WW2 : Nat → qP} {QR : Option qA → qS → Prop} {xs : Nat → Int32} {L : Nat} (S : qSnd l rm_L_law ad D cA R_L b_L_law 8 WW) (Q : qRet (some .boolean) b_L_law WW QR) (Sc : qScr xs L b_L_law WW) (Lc : qLcl l rm_L_law ad D cA R_L b_L_law WW WW2) : qle (k_L_law_33 xs L QR WW WW2) WW 33 :=
  S.aload_n d_L_law_33 rfl <| S.iload d_L_law_34 <| Sc.2 _ _ d_L_law_36 <| S.bipush d_L_law_37 (by decide) <| S.iand d_L_law_39 <| S.sw d_L_law_40 (by decide) (⟨⟨116, by decide, (s_L_law_116 S Q Sc Lc)⟩, ⟨⟨260, by decide, (s_L_law_260 S Q Sc Lc)⟩, ⟨⟨316, by decide, (s_L_law_316 S Q Sc Lc)⟩, ⟨⟨416, by decide, (s_L_law_416 S Q Sc Lc)⟩, ⟨⟨484, by decide, (s_L_law_484 S Q Sc Lc)⟩, ⟨⟨568, by decide, (s_L_law_568 S Q Sc Lc)⟩, ⟨⟨631, by decide, (s_L_law_631 S Q Sc Lc)⟩, ⟨⟨675, by decide, (s_L_law_675 S Q Sc Lc)⟩, ⟨⟨723, by decide, (s_L_law_723 S Q Sc Lc)⟩, ⟨⟨759, by decide, (s_L_law_759 S Q Sc Lc)⟩, ⟨⟨807, by decide, (s_L_law_807 S Q Sc Lc)⟩, ⟨⟨851, by decide, (s_L_law_851 S Q Sc Lc)⟩, ⟨⟨946, by decide, (s_L_law_946 S Q Sc Lc)⟩, ⟨⟨1002, by decide, (s_L_law_1002 S Q Sc Lc)⟩, ⟨⟨1058, by decide, (s_L_law_1058 S Q Sc Lc)⟩, trivial⟩⟩⟩⟩⟩⟩⟩⟩⟩⟩⟩⟩⟩⟩⟩) (by decide) (s_L_law_1071 S Q Sc Lc)
set_option maxRecDepth 8000 in
theorem s_L_law_23 {l : Launch} {ad : Nat → Nat} {D : va_G} {cA : Nat → ClassId} {WW WW2 : Nat → qP} {QR : Option qA → qS → Prop} {xs : Nat → Int32} {L : Nat} (S : qSnd l rm_L_law ad D cA R_L b_L_law 8 WW) (Q : qRet (some .boolean) b_L_law WW QR) (Sc : qScr xs L b_L_law WW) (Lc : qLcl l rm_L_law ad D cA R_L b_L_law WW WW2) : qle (k_L_law_23 xs L QR WW WW2) WW 23 :=
  S.iload d_L_law_23 <| S.aload_n d_L_law_25 rfl <| Sc.1 _ _ d_L_law_26 <| S.bipush d_L_law_27 (by decide) <| S.isub d_L_law_29 <| S.icmp_gt d_L_law_30 (by decide) (s_L_law_1077 S Q Sc Lc) (s_L_law_33 S Q Sc Lc)

