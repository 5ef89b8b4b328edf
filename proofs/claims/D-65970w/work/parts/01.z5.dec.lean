abbrev b_D_call : ByteArray := prog_3_method_3_code
def y_D_call : MethodName := ⟨"ShuffleMillModel", "call", "(IZZJ[JII)Z"⟩
theorem d_D_call_0 : decode b_D_call 0 = .ok (.iconst 0, 1) := by decide +kernel
theorem d_D_call_1 : decode b_D_call 1 = .ok (.istore 9, 2) := by decide +kernel
theorem d_D_call_3 : decode b_D_call 3 = .ok (.iconst 0, 1) := by decide +kernel
theorem d_D_call_4 : decode b_D_call 4 = .ok (.istore 10, 2) := by decide +kernel
theorem d_D_call_6 : decode b_D_call 6 = .ok (.iload 7, 2) := by decide +kernel
theorem d_D_call_8 : decode b_D_call 8 = .ok (.istore 11, 2) := by decide +kernel
theorem d_D_call_10 : decode b_D_call 10 = .ok (.aload_n 0, 1) := by decide +kernel
theorem d_D_call_11 : decode b_D_call 11 = .ok (.iconst 0, 1) := by decide +kernel
theorem d_D_call_12 : decode b_D_call 12 = .ok (.putfield 91, 3) := by decide +kernel
theorem d_D_call_15 : decode b_D_call 15 = .ok (.iconst 0, 1) := by decide +kernel
theorem d_D_call_16 : decode b_D_call 16 = .ok (.istore 12, 2) := by decide +kernel
theorem d_D_call_18 : decode b_D_call 18 = .ok (.iload 12, 2) := by decide +kernel
theorem d_D_call_20 : decode b_D_call 20 = .ok (.iconst 4, 1) := by decide +kernel
theorem d_D_call_21 : decode b_D_call 21 = .ok (.if_icmp .ge 17, 3) := by decide +kernel
theorem d_D_call_24 : decode b_D_call 24 = .ok (.aload_n 0, 1) := by decide +kernel
theorem d_D_call_25 : decode b_D_call 25 = .ok (.getfield 78, 3) := by decide +kernel
theorem d_D_call_28 : decode b_D_call 28 = .ok (.iload 12, 2) := by decide +kernel
theorem d_D_call_30 : decode b_D_call 30 = .ok (.lconst 0, 1) := by decide +kernel
theorem d_D_call_31 : decode b_D_call 31 = .ok (.lastore, 1) := by decide +kernel
theorem d_D_call_32 : decode b_D_call 32 = .ok (.iinc 12 1, 3) := by decide +kernel
theorem d_D_call_35 : decode b_D_call 35 = .ok (.goto (-17), 3) := by decide +kernel
theorem d_D_call_38 : decode b_D_call 38 = .ok (.iconst 0, 1) := by decide +kernel
theorem d_D_call_39 : decode b_D_call 39 = .ok (.istore 12, 2) := by decide +kernel
theorem d_D_call_41 : decode b_D_call 41 = .ok (.iload 10, 2) := by decide +kernel
theorem d_D_call_43 : decode b_D_call 43 = .ok (.aload_n 0, 1) := by decide +kernel
theorem d_D_call_44 : decode b_D_call 44 = .ok (.getfield 23, 3) := by decide +kernel
theorem d_D_call_47 : decode b_D_call 47 = .ok (.iload_n 1, 1) := by decide +kernel
theorem d_D_call_48 : decode b_D_call 48 = .ok (.iaload, 1) := by decide +kernel
theorem d_D_call_49 : decode b_D_call 49 = .ok (.if_icmp .ge 678, 3) := by decide +kernel
theorem d_D_call_52 : decode b_D_call 52 = .ok (.iload 12, 2) := by decide +kernel
theorem d_D_call_54 : decode b_D_call 54 = .ok (.sipush 400, 3) := by decide +kernel
theorem d_D_call_57 : decode b_D_call 57 = .ok (.if_icmp .ne 5, 3) := by decide +kernel
theorem d_D_call_60 : decode b_D_call 60 = .ok (.iconst 0, 1) := by decide +kernel
theorem d_D_call_61 : decode b_D_call 61 = .ok (.ireturn, 1) := by decide +kernel
theorem d_D_call_62 : decode b_D_call 62 = .ok (.aload_n 0, 1) := by decide +kernel
theorem d_D_call_63 : decode b_D_call 63 = .ok (.getfield 20, 3) := by decide +kernel
theorem d_D_call_66 : decode b_D_call 66 = .ok (.bipush 40, 2) := by decide +kernel
theorem d_D_call_68 : decode b_D_call 68 = .ok (.iload_n 1, 1) := by decide +kernel
theorem d_D_call_69 : decode b_D_call 69 = .ok (.imul, 1) := by decide +kernel
theorem d_D_call_70 : decode b_D_call 70 = .ok (.iload 10, 2) := by decide +kernel
theorem d_D_call_72 : decode b_D_call 72 = .ok (.iadd, 1) := by decide +kernel
theorem d_D_call_73 : decode b_D_call 73 = .ok (.iaload, 1) := by decide +kernel
theorem d_D_call_74 : decode b_D_call 74 = .ok (.istore 13, 2) := by decide +kernel
theorem d_D_call_76 : decode b_D_call 76 = .ok (.aload_n 0, 1) := by decide +kernel
theorem d_D_call_77 : decode b_D_call 77 = .ok (.getfield 29, 3) := by decide +kernel
theorem d_D_call_80 : decode b_D_call 80 = .ok (.bipush 40, 2) := by decide +kernel
theorem d_D_call_82 : decode b_D_call 82 = .ok (.iload_n 1, 1) := by decide +kernel
theorem d_D_call_83 : decode b_D_call 83 = .ok (.imul, 1) := by decide +kernel
theorem d_D_call_84 : decode b_D_call 84 = .ok (.iload 10, 2) := by decide +kernel
theorem d_D_call_86 : decode b_D_call 86 = .ok (.iadd, 1) := by decide +kernel
theorem d_D_call_87 : decode b_D_call 87 = .ok (.laload, 1) := by decide +kernel
theorem d_D_call_88 : decode b_D_call 88 = .ok (.lstore 14, 2) := by decide +kernel
theorem d_D_call_90 : decode b_D_call 90 = .ok (.iload 13, 2) := by decide +kernel
theorem d_D_call_92 : decode b_D_call 92 = .ok (.bipush 6, 2) := by decide +kernel
theorem d_D_call_94 : decode b_D_call 94 = .ok (.if_icmp .lt 10, 3) := by decide +kernel
theorem d_D_call_97 : decode b_D_call 97 = .ok (.iload 13, 2) := by decide +kernel
theorem d_D_call_99 : decode b_D_call 99 = .ok (.bipush 11, 2) := by decide +kernel
theorem d_D_call_101 : decode b_D_call 101 = .ok (.if_icmp .le 21, 3) := by decide +kernel
theorem d_D_call_104 : decode b_D_call 104 = .ok (.iload 13, 2) := by decide +kernel
theorem d_D_call_106 : decode b_D_call 106 = .ok (.bipush 14, 2) := by decide +kernel
theorem d_D_call_108 : decode b_D_call 108 = .ok (.if_icmp .eq 14, 3) := by decide +kernel
theorem d_D_call_111 : decode b_D_call 111 = .ok (.iload 13, 2) := by decide +kernel
theorem d_D_call_113 : decode b_D_call 113 = .ok (.bipush 17, 2) := by decide +kernel
theorem d_D_call_115 : decode b_D_call 115 = .ok (.if_icmp .ne 11, 3) := by decide +kernel
theorem d_D_call_118 : decode b_D_call 118 = .ok (.iload_n 3, 1) := by decide +kernel
theorem d_D_call_119 : decode b_D_call 119 = .ok (.ifCond .ne 7, 3) := by decide +kernel
theorem d_D_call_122 : decode b_D_call 122 = .ok (.iconst 2, 1) := by decide +kernel
theorem d_D_call_123 : decode b_D_call 123 = .ok (.goto 42, 3) := by decide +kernel
theorem d_D_call_126 : decode b_D_call 126 = .ok (.iload 13, 2) := by decide +kernel
theorem d_D_call_128 : decode b_D_call 128 = .ok (.iconst 5, 1) := by decide +kernel
theorem d_D_call_129 : decode b_D_call 129 = .ok (.if_icmp .eq 31, 3) := by decide +kernel
theorem d_D_call_132 : decode b_D_call 132 = .ok (.iload 13, 2) := by decide +kernel
theorem d_D_call_134 : decode b_D_call 134 = .ok (.bipush 12, 2) := by decide +kernel
theorem d_D_call_136 : decode b_D_call 136 = .ok (.if_icmp .eq 24, 3) := by decide +kernel
theorem d_D_call_139 : decode b_D_call 139 = .ok (.iload 13, 2) := by decide +kernel
theorem d_D_call_141 : decode b_D_call 141 = .ok (.bipush 13, 2) := by decide +kernel
theorem d_D_call_143 : decode b_D_call 143 = .ok (.if_icmp .eq 17, 3) := by decide +kernel
theorem d_D_call_146 : decode b_D_call 146 = .ok (.iload 13, 2) := by decide +kernel
theorem d_D_call_148 : decode b_D_call 148 = .ok (.bipush 16, 2) := by decide +kernel
theorem d_D_call_150 : decode b_D_call 150 = .ok (.if_icmp .eq 10, 3) := by decide +kernel
theorem d_D_call_153 : decode b_D_call 153 = .ok (.iload 13, 2) := by decide +kernel
theorem d_D_call_155 : decode b_D_call 155 = .ok (.bipush 17, 2) := by decide +kernel
theorem d_D_call_157 : decode b_D_call 157 = .ok (.if_icmp .ne 7, 3) := by decide +kernel
theorem d_D_call_160 : decode b_D_call 160 = .ok (.iconst 1, 1) := by decide +kernel
theorem d_D_call_161 : decode b_D_call 161 = .ok (.goto 4, 3) := by decide +kernel
theorem d_D_call_164 : decode b_D_call 164 = .ok (.iconst 0, 1) := by decide +kernel
theorem d_D_call_165 : decode b_D_call 165 = .ok (.istore 16, 2) := by decide +kernel
theorem d_D_call_167 : decode b_D_call 167 = .ok (.iload 9, 2) := by decide +kernel
theorem d_D_call_169 : decode b_D_call 169 = .ok (.iload 16, 2) := by decide +kernel
theorem d_D_call_171 : decode b_D_call 171 = .ok (.if_icmp .lt 23, 3) := by decide +kernel
theorem d_D_call_174 : decode b_D_call 174 = .ok (.iload 13, 2) := by decide +kernel
theorem d_D_call_176 : decode b_D_call 176 = .ok (.iconst 4, 1) := by decide +kernel
theorem d_D_call_177 : decode b_D_call 177 = .ok (.if_icmp .le 10, 3) := by decide +kernel
theorem d_D_call_180 : decode b_D_call 180 = .ok (.iload 13, 2) := by decide +kernel
theorem d_D_call_182 : decode b_D_call 182 = .ok (.bipush 12, 2) := by decide +kernel
theorem d_D_call_184 : decode b_D_call 184 = .ok (.if_icmp .ne 12, 3) := by decide +kernel
theorem d_D_call_187 : decode b_D_call 187 = .ok (.iload 9, 2) := by decide +kernel
theorem d_D_call_189 : decode b_D_call 189 = .ok (.bipush 12, 2) := by decide +kernel
theorem d_D_call_191 : decode b_D_call 191 = .ok (.if_icmp .ne 5, 3) := by decide +kernel
theorem d_D_call_194 : decode b_D_call 194 = .ok (.iconst 0, 1) := by decide +kernel
theorem d_D_call_195 : decode b_D_call 195 = .ok (.ireturn, 1) := by decide +kernel
theorem d_D_call_196 : decode b_D_call 196 = .ok (.iinc 10 1, 3) := by decide +kernel
theorem d_D_call_199 : decode b_D_call 199 = .ok (.iload 9, 2) := by decide +kernel
theorem d_D_call_201 : decode b_D_call 201 = .ok (.ifCond .le 15, 3) := by decide +kernel
theorem d_D_call_204 : decode b_D_call 204 = .ok (.aload_n 0, 1) := by decide +kernel
theorem d_D_call_205 : decode b_D_call 205 = .ok (.getfield 75, 3) := by decide +kernel
theorem d_D_call_208 : decode b_D_call 208 = .ok (.iload 9, 2) := by decide +kernel
theorem d_D_call_210 : decode b_D_call 210 = .ok (.iconst 1, 1) := by decide +kernel
theorem d_D_call_211 : decode b_D_call 211 = .ok (.isub, 1) := by decide +kernel
theorem d_D_call_212 : decode b_D_call 212 = .ok (.laload, 1) := by decide +kernel
theorem d_D_call_213 : decode b_D_call 213 = .ok (.goto 4, 3) := by decide +kernel
theorem d_D_call_216 : decode b_D_call 216 = .ok (.lconst 0, 1) := by decide +kernel
theorem d_D_call_217 : decode b_D_call 217 = .ok (.lstore 17, 2) := by decide +kernel
theorem d_D_call_219 : decode b_D_call 219 = .ok (.iload 9, 2) := by decide +kernel
theorem d_D_call_221 : decode b_D_call 221 = .ok (.iconst 1, 1) := by decide +kernel
theorem d_D_call_222 : decode b_D_call 222 = .ok (.if_icmp .le 15, 3) := by decide +kernel
theorem d_D_call_225 : decode b_D_call 225 = .ok (.aload_n 0, 1) := by decide +kernel
theorem d_D_call_226 : decode b_D_call 226 = .ok (.getfield 75, 3) := by decide +kernel
theorem d_D_call_229 : decode b_D_call 229 = .ok (.iload 9, 2) := by decide +kernel
theorem d_D_call_231 : decode b_D_call 231 = .ok (.iconst 2, 1) := by decide +kernel
theorem d_D_call_232 : decode b_D_call 232 = .ok (.isub, 1) := by decide +kernel
theorem d_D_call_233 : decode b_D_call 233 = .ok (.laload, 1) := by decide +kernel
theorem d_D_call_234 : decode b_D_call 234 = .ok (.goto 4, 3) := by decide +kernel
theorem d_D_call_237 : decode b_D_call 237 = .ok (.lconst 0, 1) := by decide +kernel
theorem d_D_call_238 : decode b_D_call 238 = .ok (.lstore 19, 2) := by decide +kernel
theorem d_D_call_240 : decode b_D_call 240 = .ok (.iload 13, 2) := by decide +kernel
theorem d_D_call_242 : decode b_D_call 242 = .ok (.tableswitch 360 0 18 #[90, 105, 120, 154, 183, 204, 360, 360, 360, 360, 360, 360, 225, 240, 246, 271, 279, 297, 358], 90) := by decide +kernel
theorem d_D_call_332 : decode b_D_call 332 = .ok (.aload_n 0, 1) := by decide +kernel
theorem d_D_call_333 : decode b_D_call 333 = .ok (.getfield 75, 3) := by decide +kernel
theorem d_D_call_336 : decode b_D_call 336 = .ok (.iload 9, 2) := by decide +kernel
theorem d_D_call_338 : decode b_D_call 338 = .ok (.iinc 9 1, 3) := by decide +kernel
theorem d_D_call_341 : decode b_D_call 341 = .ok (.lload 14, 2) := by decide +kernel
theorem d_D_call_343 : decode b_D_call 343 = .ok (.lastore, 1) := by decide +kernel
theorem d_D_call_344 : decode b_D_call 344 = .ok (.goto 377, 3) := by decide +kernel
theorem d_D_call_347 : decode b_D_call 347 = .ok (.aload_n 0, 1) := by decide +kernel
theorem d_D_call_348 : decode b_D_call 348 = .ok (.getfield 75, 3) := by decide +kernel
theorem d_D_call_351 : decode b_D_call 351 = .ok (.iload 9, 2) := by decide +kernel
theorem d_D_call_353 : decode b_D_call 353 = .ok (.iinc 9 1, 3) := by decide +kernel
theorem d_D_call_356 : decode b_D_call 356 = .ok (.lload 4, 2) := by decide +kernel
theorem d_D_call_358 : decode b_D_call 358 = .ok (.lastore, 1) := by decide +kernel
theorem d_D_call_359 : decode b_D_call 359 = .ok (.goto 362, 3) := by decide +kernel
theorem d_D_call_362 : decode b_D_call 362 = .ok (.iload 11, 2) := by decide +kernel
theorem d_D_call_364 : decode b_D_call 364 = .ok (.iload 8, 2) := by decide +kernel
theorem d_D_call_366 : decode b_D_call 366 = .ok (.if_icmp .ne 5, 3) := by decide +kernel
theorem d_D_call_369 : decode b_D_call 369 = .ok (.iconst 0, 1) := by decide +kernel
theorem d_D_call_370 : decode b_D_call 370 = .ok (.ireturn, 1) := by decide +kernel
theorem d_D_call_371 : decode b_D_call 371 = .ok (.aload_n 0, 1) := by decide +kernel
theorem d_D_call_372 : decode b_D_call 372 = .ok (.getfield 75, 3) := by decide +kernel
theorem d_D_call_375 : decode b_D_call 375 = .ok (.iload 9, 2) := by decide +kernel
theorem d_D_call_377 : decode b_D_call 377 = .ok (.iinc 9 1, 3) := by decide +kernel
theorem d_D_call_380 : decode b_D_call 380 = .ok (.aload 6, 2) := by decide +kernel
theorem d_D_call_382 : decode b_D_call 382 = .ok (.iload 11, 2) := by decide +kernel
theorem d_D_call_384 : decode b_D_call 384 = .ok (.laload, 1) := by decide +kernel
theorem d_D_call_385 : decode b_D_call 385 = .ok (.lastore, 1) := by decide +kernel
theorem d_D_call_386 : decode b_D_call 386 = .ok (.iload_n 2, 1) := by decide +kernel
theorem d_D_call_387 : decode b_D_call 387 = .ok (.ifCond .ne 334, 3) := by decide +kernel
theorem d_D_call_390 : decode b_D_call 390 = .ok (.iinc 11 1, 3) := by decide +kernel
theorem d_D_call_393 : decode b_D_call 393 = .ok (.goto 328, 3) := by decide +kernel
theorem d_D_call_396 : decode b_D_call 396 = .ok (.aload_n 0, 1) := by decide +kernel
theorem d_D_call_397 : decode b_D_call 397 = .ok (.getfield 75, 3) := by decide +kernel
theorem d_D_call_400 : decode b_D_call 400 = .ok (.iload 9, 2) := by decide +kernel
theorem d_D_call_402 : decode b_D_call 402 = .ok (.iinc 9 1, 3) := by decide +kernel
theorem d_D_call_405 : decode b_D_call 405 = .ok (.iload_n 2, 1) := by decide +kernel
theorem d_D_call_406 : decode b_D_call 406 = .ok (.ifCond .ne 14, 3) := by decide +kernel
theorem d_D_call_409 : decode b_D_call 409 = .ok (.iload 11, 2) := by decide +kernel
theorem d_D_call_411 : decode b_D_call 411 = .ok (.iload 8, 2) := by decide +kernel
theorem d_D_call_413 : decode b_D_call 413 = .ok (.if_icmp .ge 7, 3) := by decide +kernel
theorem d_D_call_416 : decode b_D_call 416 = .ok (.lconst 1, 1) := by decide +kernel
theorem d_D_call_417 : decode b_D_call 417 = .ok (.goto 4, 3) := by decide +kernel
theorem d_D_call_420 : decode b_D_call 420 = .ok (.lconst 0, 1) := by decide +kernel
theorem d_D_call_421 : decode b_D_call 421 = .ok (.lastore, 1) := by decide +kernel
theorem d_D_call_422 : decode b_D_call 422 = .ok (.goto 299, 3) := by decide +kernel
theorem d_D_call_425 : decode b_D_call 425 = .ok (.aload_n 0, 1) := by decide +kernel
theorem d_D_call_426 : decode b_D_call 426 = .ok (.getfield 75, 3) := by decide +kernel
theorem d_D_call_429 : decode b_D_call 429 = .ok (.iload 9, 2) := by decide +kernel
theorem d_D_call_431 : decode b_D_call 431 = .ok (.iinc 9 1, 3) := by decide +kernel
theorem d_D_call_434 : decode b_D_call 434 = .ok (.aload_n 0, 1) := by decide +kernel
theorem d_D_call_435 : decode b_D_call 435 = .ok (.getfield 78, 3) := by decide +kernel
theorem d_D_call_438 : decode b_D_call 438 = .ok (.lload 14, 2) := by decide +kernel
theorem d_D_call_440 : decode b_D_call 440 = .ok (.l2i, 1) := by decide +kernel
theorem d_D_call_441 : decode b_D_call 441 = .ok (.laload, 1) := by decide +kernel
theorem d_D_call_442 : decode b_D_call 442 = .ok (.lastore, 1) := by decide +kernel
theorem d_D_call_443 : decode b_D_call 443 = .ok (.goto 278, 3) := by decide +kernel
theorem d_D_call_446 : decode b_D_call 446 = .ok (.aload_n 0, 1) := by decide +kernel
theorem d_D_call_447 : decode b_D_call 447 = .ok (.getfield 78, 3) := by decide +kernel
theorem d_D_call_450 : decode b_D_call 450 = .ok (.lload 14, 2) := by decide +kernel
theorem d_D_call_452 : decode b_D_call 452 = .ok (.l2i, 1) := by decide +kernel
theorem d_D_call_453 : decode b_D_call 453 = .ok (.aload_n 0, 1) := by decide +kernel
theorem d_D_call_454 : decode b_D_call 454 = .ok (.getfield 75, 3) := by decide +kernel
theorem d_D_call_457 : decode b_D_call 457 = .ok (.iinc 9 (-1), 3) := by decide +kernel
theorem d_D_call_460 : decode b_D_call 460 = .ok (.iload 9, 2) := by decide +kernel
theorem d_D_call_462 : decode b_D_call 462 = .ok (.laload, 1) := by decide +kernel
theorem d_D_call_463 : decode b_D_call 463 = .ok (.lastore, 1) := by decide +kernel
theorem d_D_call_464 : decode b_D_call 464 = .ok (.goto 257, 3) := by decide +kernel
theorem d_D_call_467 : decode b_D_call 467 = .ok (.aload_n 0, 1) := by decide +kernel
theorem d_D_call_468 : decode b_D_call 468 = .ok (.getfield 75, 3) := by decide +kernel
theorem d_D_call_471 : decode b_D_call 471 = .ok (.iload 9, 2) := by decide +kernel
theorem d_D_call_473 : decode b_D_call 473 = .ok (.iinc 9 1, 3) := by decide +kernel
theorem d_D_call_476 : decode b_D_call 476 = .ok (.lload 17, 2) := by decide +kernel
theorem d_D_call_478 : decode b_D_call 478 = .ok (.lastore, 1) := by decide +kernel
theorem d_D_call_479 : decode b_D_call 479 = .ok (.goto 242, 3) := by decide +kernel
theorem d_D_call_482 : decode b_D_call 482 = .ok (.iinc 9 (-1), 3) := by decide +kernel
theorem d_D_call_485 : decode b_D_call 485 = .ok (.goto 236, 3) := by decide +kernel
theorem d_D_call_488 : decode b_D_call 488 = .ok (.aload_n 0, 1) := by decide +kernel
theorem d_D_call_489 : decode b_D_call 489 = .ok (.getfield 75, 3) := by decide +kernel
theorem d_D_call_492 : decode b_D_call 492 = .ok (.iload 9, 2) := by decide +kernel
theorem d_D_call_494 : decode b_D_call 494 = .ok (.iconst 1, 1) := by decide +kernel
theorem d_D_call_495 : decode b_D_call 495 = .ok (.isub, 1) := by decide +kernel
theorem d_D_call_496 : decode b_D_call 496 = .ok (.lload 19, 2) := by decide +kernel
theorem d_D_call_498 : decode b_D_call 498 = .ok (.lastore, 1) := by decide +kernel
theorem d_D_call_499 : decode b_D_call 499 = .ok (.aload_n 0, 1) := by decide +kernel
theorem d_D_call_500 : decode b_D_call 500 = .ok (.getfield 75, 3) := by decide +kernel
theorem d_D_call_503 : decode b_D_call 503 = .ok (.iload 9, 2) := by decide +kernel
theorem d_D_call_505 : decode b_D_call 505 = .ok (.iconst 2, 1) := by decide +kernel
theorem d_D_call_506 : decode b_D_call 506 = .ok (.isub, 1) := by decide +kernel
theorem d_D_call_507 : decode b_D_call 507 = .ok (.lload 17, 2) := by decide +kernel
theorem d_D_call_509 : decode b_D_call 509 = .ok (.lastore, 1) := by decide +kernel
theorem d_D_call_510 : decode b_D_call 510 = .ok (.goto 211, 3) := by decide +kernel
theorem d_D_call_513 : decode b_D_call 513 = .ok (.lload 14, 2) := by decide +kernel
theorem d_D_call_515 : decode b_D_call 515 = .ok (.l2i, 1) := by decide +kernel
theorem d_D_call_516 : decode b_D_call 516 = .ok (.istore 10, 2) := by decide +kernel
theorem d_D_call_518 : decode b_D_call 518 = .ok (.goto 203, 3) := by decide +kernel
theorem d_D_call_521 : decode b_D_call 521 = .ok (.iinc 9 (-1), 3) := by decide +kernel
theorem d_D_call_524 : decode b_D_call 524 = .ok (.lload 17, 2) := by decide +kernel
theorem d_D_call_526 : decode b_D_call 526 = .ok (.lconst 0, 1) := by decide +kernel
theorem d_D_call_527 : decode b_D_call 527 = .ok (.lcmp, 1) := by decide +kernel
theorem d_D_call_528 : decode b_D_call 528 = .ok (.ifCond .ne 193, 3) := by decide +kernel
theorem d_D_call_531 : decode b_D_call 531 = .ok (.lload 14, 2) := by decide +kernel
theorem d_D_call_533 : decode b_D_call 533 = .ok (.l2i, 1) := by decide +kernel
theorem d_D_call_534 : decode b_D_call 534 = .ok (.istore 10, 2) := by decide +kernel
theorem d_D_call_536 : decode b_D_call 536 = .ok (.goto 185, 3) := by decide +kernel
theorem d_D_call_539 : decode b_D_call 539 = .ok (.aload_n 0, 1) := by decide +kernel
theorem d_D_call_540 : decode b_D_call 540 = .ok (.getfield 91, 3) := by decide +kernel
theorem d_D_call_543 : decode b_D_call 543 = .ok (.iconst 4, 1) := by decide +kernel
theorem d_D_call_544 : decode b_D_call 544 = .ok (.if_icmp .ne 5, 3) := by decide +kernel
theorem d_D_call_547 : decode b_D_call 547 = .ok (.iconst 0, 1) := by decide +kernel
theorem d_D_call_548 : decode b_D_call 548 = .ok (.ireturn, 1) := by decide +kernel
theorem d_D_call_549 : decode b_D_call 549 = .ok (.aload_n 0, 1) := by decide +kernel
theorem d_D_call_550 : decode b_D_call 550 = .ok (.getfield 81, 3) := by decide +kernel
theorem d_D_call_553 : decode b_D_call 553 = .ok (.aload_n 0, 1) := by decide +kernel
theorem d_D_call_554 : decode b_D_call 554 = .ok (.getfield 91, 3) := by decide +kernel
theorem d_D_call_557 : decode b_D_call 557 = .ok (.iload_n 3, 1) := by decide +kernel
theorem d_D_call_558 : decode b_D_call 558 = .ok (.ifCond .eq 8, 3) := by decide +kernel
theorem d_D_call_561 : decode b_D_call 561 = .ok (.lload 4, 2) := by decide +kernel
theorem d_D_call_563 : decode b_D_call 563 = .ok (.goto 5, 3) := by decide +kernel
theorem d_D_call_566 : decode b_D_call 566 = .ok (.lload 19, 2) := by decide +kernel
theorem d_D_call_568 : decode b_D_call 568 = .ok (.lastore, 1) := by decide +kernel
theorem d_D_call_569 : decode b_D_call 569 = .ok (.aload_n 0, 1) := by decide +kernel
theorem d_D_call_570 : decode b_D_call 570 = .ok (.getfield 84, 3) := by decide +kernel
theorem d_D_call_573 : decode b_D_call 573 = .ok (.aload_n 0, 1) := by decide +kernel
theorem d_D_call_574 : decode b_D_call 574 = .ok (.getfield 91, 3) := by decide +kernel
theorem d_D_call_577 : decode b_D_call 577 = .ok (.lload 17, 2) := by decide +kernel
theorem d_D_call_579 : decode b_D_call 579 = .ok (.lastore, 1) := by decide +kernel
theorem d_D_call_580 : decode b_D_call 580 = .ok (.aload_n 0, 1) := by decide +kernel
theorem d_D_call_581 : decode b_D_call 581 = .ok (.dup, 1) := by decide +kernel
theorem d_D_call_582 : decode b_D_call 582 = .ok (.getfield 91, 3) := by decide +kernel
theorem d_D_call_585 : decode b_D_call 585 = .ok (.iconst 1, 1) := by decide +kernel
theorem d_D_call_586 : decode b_D_call 586 = .ok (.iadd, 1) := by decide +kernel
theorem d_D_call_587 : decode b_D_call 587 = .ok (.putfield 91, 3) := by decide +kernel
theorem d_D_call_590 : decode b_D_call 590 = .ok (.iload 9, 2) := by decide +kernel
theorem d_D_call_592 : decode b_D_call 592 = .ok (.iload 16, 2) := by decide +kernel
theorem d_D_call_594 : decode b_D_call 594 = .ok (.isub, 1) := by decide +kernel
theorem d_D_call_595 : decode b_D_call 595 = .ok (.istore 9, 2) := by decide +kernel
theorem d_D_call_597 : decode b_D_call 597 = .ok (.goto 124, 3) := by decide +kernel
theorem d_D_call_600 : decode b_D_call 600 = .ok (.iconst 1, 1) := by decide +kernel
theorem d_D_call_601 : decode b_D_call 601 = .ok (.ireturn, 1) := by decide +kernel
theorem d_D_call_602 : decode b_D_call 602 = .ok (.iload 13, 2) := by decide +kernel
theorem d_D_call_604 : decode b_D_call 604 = .ok (.bipush 9, 2) := by decide +kernel
theorem d_D_call_606 : decode b_D_call 606 = .ok (.if_icmp .ne 12, 3) := by decide +kernel
theorem d_D_call_609 : decode b_D_call 609 = .ok (.lload 17, 2) := by decide +kernel
theorem d_D_call_611 : decode b_D_call 611 = .ok (.lconst 0, 1) := by decide +kernel
theorem d_D_call_612 : decode b_D_call 612 = .ok (.lcmp, 1) := by decide +kernel
theorem d_D_call_613 : decode b_D_call 613 = .ok (.ifCond .ne 5, 3) := by decide +kernel
theorem d_D_call_616 : decode b_D_call 616 = .ok (.iconst 0, 1) := by decide +kernel
theorem d_D_call_617 : decode b_D_call 617 = .ok (.ireturn, 1) := by decide +kernel
theorem d_D_call_618 : decode b_D_call 618 = .ok (.iinc 9 (-1), 3) := by decide +kernel
theorem d_D_call_621 : decode b_D_call 621 = .ok (.aload_n 0, 1) := by decide +kernel
theorem d_D_call_622 : decode b_D_call 622 = .ok (.getfield 75, 3) := by decide +kernel
theorem d_D_call_625 : decode b_D_call 625 = .ok (.iload 9, 2) := by decide +kernel
theorem d_D_call_627 : decode b_D_call 627 = .ok (.iconst 1, 1) := by decide +kernel
theorem d_D_call_628 : decode b_D_call 628 = .ok (.isub, 1) := by decide +kernel
theorem d_D_call_629 : decode b_D_call 629 = .ok (.iload 13, 2) := by decide +kernel
theorem d_D_call_631 : decode b_D_call 631 = .ok (.bipush 6, 2) := by decide +kernel
theorem d_D_call_633 : decode b_D_call 633 = .ok (.if_icmp .ne 11, 3) := by decide +kernel
theorem d_D_call_636 : decode b_D_call 636 = .ok (.lload 19, 2) := by decide +kernel
theorem d_D_call_638 : decode b_D_call 638 = .ok (.lload 17, 2) := by decide +kernel
theorem d_D_call_640 : decode b_D_call 640 = .ok (.ladd, 1) := by decide +kernel
theorem d_D_call_641 : decode b_D_call 641 = .ok (.goto 79, 3) := by decide +kernel
theorem d_D_call_644 : decode b_D_call 644 = .ok (.iload 13, 2) := by decide +kernel
theorem d_D_call_646 : decode b_D_call 646 = .ok (.bipush 7, 2) := by decide +kernel
theorem d_D_call_648 : decode b_D_call 648 = .ok (.if_icmp .ne 11, 3) := by decide +kernel
theorem d_D_call_651 : decode b_D_call 651 = .ok (.lload 19, 2) := by decide +kernel
theorem d_D_call_653 : decode b_D_call 653 = .ok (.lload 17, 2) := by decide +kernel
theorem d_D_call_655 : decode b_D_call 655 = .ok (.lsub, 1) := by decide +kernel
theorem d_D_call_656 : decode b_D_call 656 = .ok (.goto 64, 3) := by decide +kernel
theorem d_D_call_659 : decode b_D_call 659 = .ok (.iload 13, 2) := by decide +kernel
theorem d_D_call_661 : decode b_D_call 661 = .ok (.bipush 8, 2) := by decide +kernel
theorem d_D_call_663 : decode b_D_call 663 = .ok (.if_icmp .ne 11, 3) := by decide +kernel
theorem d_D_call_666 : decode b_D_call 666 = .ok (.lload 19, 2) := by decide +kernel
theorem d_D_call_668 : decode b_D_call 668 = .ok (.lload 17, 2) := by decide +kernel
theorem d_D_call_670 : decode b_D_call 670 = .ok (.lmul, 1) := by decide +kernel
theorem d_D_call_671 : decode b_D_call 671 = .ok (.goto 49, 3) := by decide +kernel
theorem d_D_call_674 : decode b_D_call 674 = .ok (.iload 13, 2) := by decide +kernel
theorem d_D_call_676 : decode b_D_call 676 = .ok (.bipush 9, 2) := by decide +kernel
theorem d_D_call_678 : decode b_D_call 678 = .ok (.if_icmp .ne 11, 3) := by decide +kernel
theorem d_D_call_681 : decode b_D_call 681 = .ok (.lload 19, 2) := by decide +kernel
theorem d_D_call_683 : decode b_D_call 683 = .ok (.lload 17, 2) := by decide +kernel
theorem d_D_call_685 : decode b_D_call 685 = .ok (.ldiv, 1) := by decide +kernel
theorem d_D_call_686 : decode b_D_call 686 = .ok (.goto 34, 3) := by decide +kernel
theorem d_D_call_689 : decode b_D_call 689 = .ok (.iload 13, 2) := by decide +kernel
theorem d_D_call_691 : decode b_D_call 691 = .ok (.bipush 10, 2) := by decide +kernel
theorem d_D_call_693 : decode b_D_call 693 = .ok (.if_icmp .ne 14, 3) := by decide +kernel
theorem d_D_call_696 : decode b_D_call 696 = .ok (.lload 19, 2) := by decide +kernel
theorem d_D_call_698 : decode b_D_call 698 = .ok (.lload 17, 2) := by decide +kernel
theorem d_D_call_700 : decode b_D_call 700 = .ok (.lcmp, 1) := by decide +kernel
theorem d_D_call_701 : decode b_D_call 701 = .ok (.ifCond .ge 18, 3) := by decide +kernel
theorem d_D_call_704 : decode b_D_call 704 = .ok (.goto 11, 3) := by decide +kernel
theorem d_D_call_707 : decode b_D_call 707 = .ok (.lload 19, 2) := by decide +kernel
theorem d_D_call_709 : decode b_D_call 709 = .ok (.lload 17, 2) := by decide +kernel
theorem d_D_call_711 : decode b_D_call 711 = .ok (.lcmp, 1) := by decide +kernel
theorem d_D_call_712 : decode b_D_call 712 = .ok (.ifCond .ne 7, 3) := by decide +kernel
theorem d_D_call_715 : decode b_D_call 715 = .ok (.lconst 1, 1) := by decide +kernel
theorem d_D_call_716 : decode b_D_call 716 = .ok (.goto 4, 3) := by decide +kernel
theorem d_D_call_719 : decode b_D_call 719 = .ok (.lconst 0, 1) := by decide +kernel
theorem d_D_call_720 : decode b_D_call 720 = .ok (.lastore, 1) := by decide +kernel
theorem d_D_call_721 : decode b_D_call 721 = .ok (.iinc 12 1, 3) := by decide +kernel
theorem d_D_call_724 : decode b_D_call 724 = .ok (.goto (-683), 3) := by decide +kernel
theorem d_D_call_727 : decode b_D_call 727 = .ok (.iconst 1, 1) := by decide +kernel
theorem d_D_call_728 : decode b_D_call 728 = .ok (.ireturn, 1) := by decide +kernel
abbrev b_D_sort : ByteArray := prog_3_method_4_code
def y_D_sort : MethodName := ⟨"ShuffleMillModel", "sort", "([J[JII)V"⟩
theorem d_D_sort_0 : decode b_D_sort 0 = .ok (.iload_n 2, 1) := by decide +kernel
theorem d_D_sort_1 : decode b_D_sort 1 = .ok (.iconst 1, 1) := by decide +kernel
theorem d_D_sort_2 : decode b_D_sort 2 = .ok (.iadd, 1) := by decide +kernel
theorem d_D_sort_3 : decode b_D_sort 3 = .ok (.istore 4, 2) := by decide +kernel
theorem d_D_sort_5 : decode b_D_sort 5 = .ok (.iload 4, 2) := by decide +kernel
theorem d_D_sort_7 : decode b_D_sort 7 = .ok (.iload_n 3, 1) := by decide +kernel
theorem d_D_sort_8 : decode b_D_sort 8 = .ok (.if_icmp .ge 81, 3) := by decide +kernel
theorem d_D_sort_11 : decode b_D_sort 11 = .ok (.aload_n 0, 1) := by decide +kernel
theorem d_D_sort_12 : decode b_D_sort 12 = .ok (.iload 4, 2) := by decide +kernel
theorem d_D_sort_14 : decode b_D_sort 14 = .ok (.laload, 1) := by decide +kernel
theorem d_D_sort_15 : decode b_D_sort 15 = .ok (.lstore 5, 2) := by decide +kernel
theorem d_D_sort_17 : decode b_D_sort 17 = .ok (.aload_n 1, 1) := by decide +kernel
theorem d_D_sort_18 : decode b_D_sort 18 = .ok (.iload 4, 2) := by decide +kernel
theorem d_D_sort_20 : decode b_D_sort 20 = .ok (.laload, 1) := by decide +kernel
theorem d_D_sort_21 : decode b_D_sort 21 = .ok (.lstore 7, 2) := by decide +kernel
theorem d_D_sort_23 : decode b_D_sort 23 = .ok (.iload 4, 2) := by decide +kernel
theorem d_D_sort_25 : decode b_D_sort 25 = .ok (.istore 9, 2) := by decide +kernel
theorem d_D_sort_27 : decode b_D_sort 27 = .ok (.iload 9, 2) := by decide +kernel
theorem d_D_sort_29 : decode b_D_sort 29 = .ok (.iload_n 2, 1) := by decide +kernel
theorem d_D_sort_30 : decode b_D_sort 30 = .ok (.if_icmp .le 41, 3) := by decide +kernel
theorem d_D_sort_33 : decode b_D_sort 33 = .ok (.aload_n 0, 1) := by decide +kernel
theorem d_D_sort_34 : decode b_D_sort 34 = .ok (.iload 9, 2) := by decide +kernel
theorem d_D_sort_36 : decode b_D_sort 36 = .ok (.iconst 1, 1) := by decide +kernel
theorem d_D_sort_37 : decode b_D_sort 37 = .ok (.isub, 1) := by decide +kernel
theorem d_D_sort_38 : decode b_D_sort 38 = .ok (.laload, 1) := by decide +kernel
theorem d_D_sort_39 : decode b_D_sort 39 = .ok (.lload 5, 2) := by decide +kernel
theorem d_D_sort_41 : decode b_D_sort 41 = .ok (.lcmp, 1) := by decide +kernel
theorem d_D_sort_42 : decode b_D_sort 42 = .ok (.ifCond .le 29, 3) := by decide +kernel
theorem d_D_sort_45 : decode b_D_sort 45 = .ok (.aload_n 0, 1) := by decide +kernel
theorem d_D_sort_46 : decode b_D_sort 46 = .ok (.iload 9, 2) := by decide +kernel
theorem d_D_sort_48 : decode b_D_sort 48 = .ok (.aload_n 0, 1) := by decide +kernel
theorem d_D_sort_49 : decode b_D_sort 49 = .ok (.iload 9, 2) := by decide +kernel
theorem d_D_sort_51 : decode b_D_sort 51 = .ok (.iconst 1, 1) := by decide +kernel
theorem d_D_sort_52 : decode b_D_sort 52 = .ok (.isub, 1) := by decide +kernel
theorem d_D_sort_53 : decode b_D_sort 53 = .ok (.laload, 1) := by decide +kernel
theorem d_D_sort_54 : decode b_D_sort 54 = .ok (.lastore, 1) := by decide +kernel
theorem d_D_sort_55 : decode b_D_sort 55 = .ok (.aload_n 1, 1) := by decide +kernel
theorem d_D_sort_56 : decode b_D_sort 56 = .ok (.iload 9, 2) := by decide +kernel
theorem d_D_sort_58 : decode b_D_sort 58 = .ok (.aload_n 1, 1) := by decide +kernel
theorem d_D_sort_59 : decode b_D_sort 59 = .ok (.iload 9, 2) := by decide +kernel
theorem d_D_sort_61 : decode b_D_sort 61 = .ok (.iconst 1, 1) := by decide +kernel
theorem d_D_sort_62 : decode b_D_sort 62 = .ok (.isub, 1) := by decide +kernel
theorem d_D_sort_63 : decode b_D_sort 63 = .ok (.laload, 1) := by decide +kernel
theorem d_D_sort_64 : decode b_D_sort 64 = .ok (.lastore, 1) := by decide +kernel
theorem d_D_sort_65 : decode b_D_sort 65 = .ok (.iinc 9 (-1), 3) := by decide +kernel
theorem d_D_sort_68 : decode b_D_sort 68 = .ok (.goto (-41), 3) := by decide +kernel
theorem d_D_sort_71 : decode b_D_sort 71 = .ok (.aload_n 0, 1) := by decide +kernel
theorem d_D_sort_72 : decode b_D_sort 72 = .ok (.iload 9, 2) := by decide +kernel
theorem d_D_sort_74 : decode b_D_sort 74 = .ok (.lload 5, 2) := by decide +kernel
theorem d_D_sort_76 : decode b_D_sort 76 = .ok (.lastore, 1) := by decide +kernel
theorem d_D_sort_77 : decode b_D_sort 77 = .ok (.aload_n 1, 1) := by decide +kernel
theorem d_D_sort_78 : decode b_D_sort 78 = .ok (.iload 9, 2) := by decide +kernel
theorem d_D_sort_80 : decode b_D_sort 80 = .ok (.lload 7, 2) := by decide +kernel
theorem d_D_sort_82 : decode b_D_sort 82 = .ok (.lastore, 1) := by decide +kernel
theorem d_D_sort_83 : decode b_D_sort 83 = .ok (.iinc 4 1, 3) := by decide +kernel
theorem d_D_sort_86 : decode b_D_sort 86 = .ok (.goto (-81), 3) := by decide +kernel
theorem d_D_sort_89 : decode b_D_sort 89 = .ok (.return_, 1) := by decide +kernel
abbrev b_D_mapped : ByteArray := prog_3_method_5_code
def y_D_mapped : MethodName := ⟨"ShuffleMillModel", "mapped", "(III)Z"⟩
theorem d_D_mapped_0 : decode b_D_mapped 0 = .ok (.iconst 0, 1) := by decide +kernel
theorem d_D_mapped_1 : decode b_D_mapped 1 = .ok (.istore 4, 2) := by decide +kernel
theorem d_D_mapped_3 : decode b_D_mapped 3 = .ok (.iload_n 2, 1) := by decide +kernel
theorem d_D_mapped_4 : decode b_D_mapped 4 = .ok (.istore 5, 2) := by decide +kernel
theorem d_D_mapped_6 : decode b_D_mapped 6 = .ok (.iload 5, 2) := by decide +kernel
theorem d_D_mapped_8 : decode b_D_mapped 8 = .ok (.iload_n 3, 1) := by decide +kernel
theorem d_D_mapped_9 : decode b_D_mapped 9 = .ok (.if_icmp .ge 148, 3) := by decide +kernel
theorem d_D_mapped_12 : decode b_D_mapped 12 = .ok (.iload 5, 2) := by decide +kernel
theorem d_D_mapped_14 : decode b_D_mapped 14 = .ok (.aload_n 0, 1) := by decide +kernel
theorem d_D_mapped_15 : decode b_D_mapped 15 = .ok (.getfield 16, 3) := by decide +kernel
theorem d_D_mapped_18 : decode b_D_mapped 18 = .ok (.aload_n 0, 1) := by decide +kernel
theorem d_D_mapped_19 : decode b_D_mapped 19 = .ok (.getfield 35, 3) := by decide +kernel
theorem d_D_mapped_22 : decode b_D_mapped 22 = .ok (.iload_n 1, 1) := by decide +kernel
theorem d_D_mapped_23 : decode b_D_mapped 23 = .ok (.iaload, 1) := by decide +kernel
theorem d_D_mapped_24 : decode b_D_mapped 24 = .ok (.iaload, 1) := by decide +kernel
theorem d_D_mapped_25 : decode b_D_mapped 25 = .ok (.if_icmp .ge 19, 3) := by decide +kernel
theorem d_D_mapped_28 : decode b_D_mapped 28 = .ok (.sipush 300, 3) := by decide +kernel
theorem d_D_mapped_31 : decode b_D_mapped 31 = .ok (.aload_n 0, 1) := by decide +kernel
theorem d_D_mapped_32 : decode b_D_mapped 32 = .ok (.getfield 35, 3) := by decide +kernel
theorem d_D_mapped_35 : decode b_D_mapped 35 = .ok (.iload_n 1, 1) := by decide +kernel
theorem d_D_mapped_36 : decode b_D_mapped 36 = .ok (.iaload, 1) := by decide +kernel
theorem d_D_mapped_37 : decode b_D_mapped 37 = .ok (.imul, 1) := by decide +kernel
theorem d_D_mapped_38 : decode b_D_mapped 38 = .ok (.iload 5, 2) := by decide +kernel
theorem d_D_mapped_40 : decode b_D_mapped 40 = .ok (.iadd, 1) := by decide +kernel
theorem d_D_mapped_41 : decode b_D_mapped 41 = .ok (.goto 28, 3) := by decide +kernel
theorem d_D_mapped_44 : decode b_D_mapped 44 = .ok (.sipush 300, 3) := by decide +kernel
theorem d_D_mapped_47 : decode b_D_mapped 47 = .ok (.aload_n 0, 1) := by decide +kernel
theorem d_D_mapped_48 : decode b_D_mapped 48 = .ok (.getfield 38, 3) := by decide +kernel
theorem d_D_mapped_51 : decode b_D_mapped 51 = .ok (.iload_n 1, 1) := by decide +kernel
theorem d_D_mapped_52 : decode b_D_mapped 52 = .ok (.iaload, 1) := by decide +kernel
theorem d_D_mapped_53 : decode b_D_mapped 53 = .ok (.imul, 1) := by decide +kernel
theorem d_D_mapped_54 : decode b_D_mapped 54 = .ok (.iload 5, 2) := by decide +kernel
theorem d_D_mapped_56 : decode b_D_mapped 56 = .ok (.iadd, 1) := by decide +kernel
theorem d_D_mapped_57 : decode b_D_mapped 57 = .ok (.aload_n 0, 1) := by decide +kernel
theorem d_D_mapped_58 : decode b_D_mapped 58 = .ok (.getfield 16, 3) := by decide +kernel
theorem d_D_mapped_61 : decode b_D_mapped 61 = .ok (.aload_n 0, 1) := by decide +kernel
theorem d_D_mapped_62 : decode b_D_mapped 62 = .ok (.getfield 35, 3) := by decide +kernel
theorem d_D_mapped_65 : decode b_D_mapped 65 = .ok (.iload_n 1, 1) := by decide +kernel
theorem d_D_mapped_66 : decode b_D_mapped 66 = .ok (.iaload, 1) := by decide +kernel
theorem d_D_mapped_67 : decode b_D_mapped 67 = .ok (.iaload, 1) := by decide +kernel
theorem d_D_mapped_68 : decode b_D_mapped 68 = .ok (.isub, 1) := by decide +kernel
theorem d_D_mapped_69 : decode b_D_mapped 69 = .ok (.istore 6, 2) := by decide +kernel
theorem d_D_mapped_71 : decode b_D_mapped 71 = .ok (.aload_n 0, 1) := by decide +kernel
theorem d_D_mapped_72 : decode b_D_mapped 72 = .ok (.iconst 3, 1) := by decide +kernel
theorem d_D_mapped_73 : decode b_D_mapped 73 = .ok (.iload_n 1, 1) := by decide +kernel
theorem d_D_mapped_74 : decode b_D_mapped 74 = .ok (.imul, 1) := by decide +kernel
theorem d_D_mapped_75 : decode b_D_mapped 75 = .ok (.iconst 1, 1) := by decide +kernel
theorem d_D_mapped_76 : decode b_D_mapped 76 = .ok (.iconst 0, 1) := by decide +kernel
theorem d_D_mapped_77 : decode b_D_mapped 77 = .ok (.aload_n 0, 1) := by decide +kernel
theorem d_D_mapped_78 : decode b_D_mapped 78 = .ok (.getfield 9, 3) := by decide +kernel
theorem d_D_mapped_81 : decode b_D_mapped 81 = .ok (.iload 6, 2) := by decide +kernel
theorem d_D_mapped_83 : decode b_D_mapped 83 = .ok (.laload, 1) := by decide +kernel
theorem d_D_mapped_84 : decode b_D_mapped 84 = .ok (.aload_n 0, 1) := by decide +kernel
theorem d_D_mapped_85 : decode b_D_mapped 85 = .ok (.getfield 13, 3) := by decide +kernel
theorem d_D_mapped_88 : decode b_D_mapped 88 = .ok (.iload 6, 2) := by decide +kernel
theorem d_D_mapped_90 : decode b_D_mapped 90 = .ok (.iload 6, 2) := by decide +kernel
theorem d_D_mapped_92 : decode b_D_mapped 92 = .ok (.iconst 1, 1) := by decide +kernel
theorem d_D_mapped_93 : decode b_D_mapped 93 = .ok (.iadd, 1) := by decide +kernel
theorem d_D_mapped_94 : decode b_D_mapped 94 = .ok (.invokevirtual 94, 3) := by decide +kernel
theorem d_D_mapped_97 : decode b_D_mapped 97 = .ok (.ifCond .ne 5, 3) := by decide +kernel
theorem d_D_mapped_100 : decode b_D_mapped 100 = .ok (.iconst 0, 1) := by decide +kernel
theorem d_D_mapped_101 : decode b_D_mapped 101 = .ok (.ireturn, 1) := by decide +kernel
theorem d_D_mapped_102 : decode b_D_mapped 102 = .ok (.iconst 0, 1) := by decide +kernel
theorem d_D_mapped_103 : decode b_D_mapped 103 = .ok (.istore 7, 2) := by decide +kernel
theorem d_D_mapped_105 : decode b_D_mapped 105 = .ok (.iload 7, 2) := by decide +kernel
theorem d_D_mapped_107 : decode b_D_mapped 107 = .ok (.aload_n 0, 1) := by decide +kernel
theorem d_D_mapped_108 : decode b_D_mapped 108 = .ok (.getfield 91, 3) := by decide +kernel
theorem d_D_mapped_111 : decode b_D_mapped 111 = .ok (.if_icmp .ge 40, 3) := by decide +kernel
theorem d_D_mapped_114 : decode b_D_mapped 114 = .ok (.aload_n 0, 1) := by decide +kernel
theorem d_D_mapped_115 : decode b_D_mapped 115 = .ok (.getfield 57, 3) := by decide +kernel
theorem d_D_mapped_118 : decode b_D_mapped 118 = .ok (.iload 4, 2) := by decide +kernel
theorem d_D_mapped_120 : decode b_D_mapped 120 = .ok (.aload_n 0, 1) := by decide +kernel
theorem d_D_mapped_121 : decode b_D_mapped 121 = .ok (.getfield 81, 3) := by decide +kernel
theorem d_D_mapped_124 : decode b_D_mapped 124 = .ok (.iload 7, 2) := by decide +kernel
theorem d_D_mapped_126 : decode b_D_mapped 126 = .ok (.laload, 1) := by decide +kernel
theorem d_D_mapped_127 : decode b_D_mapped 127 = .ok (.lastore, 1) := by decide +kernel
theorem d_D_mapped_128 : decode b_D_mapped 128 = .ok (.aload_n 0, 1) := by decide +kernel
theorem d_D_mapped_129 : decode b_D_mapped 129 = .ok (.getfield 60, 3) := by decide +kernel
theorem d_D_mapped_132 : decode b_D_mapped 132 = .ok (.iload 4, 2) := by decide +kernel
theorem d_D_mapped_134 : decode b_D_mapped 134 = .ok (.aload_n 0, 1) := by decide +kernel
theorem d_D_mapped_135 : decode b_D_mapped 135 = .ok (.getfield 84, 3) := by decide +kernel
theorem d_D_mapped_138 : decode b_D_mapped 138 = .ok (.iload 7, 2) := by decide +kernel
theorem d_D_mapped_140 : decode b_D_mapped 140 = .ok (.laload, 1) := by decide +kernel
theorem d_D_mapped_141 : decode b_D_mapped 141 = .ok (.lastore, 1) := by decide +kernel
theorem d_D_mapped_142 : decode b_D_mapped 142 = .ok (.iinc 4 1, 3) := by decide +kernel
theorem d_D_mapped_145 : decode b_D_mapped 145 = .ok (.iinc 7 1, 3) := by decide +kernel
theorem d_D_mapped_148 : decode b_D_mapped 148 = .ok (.goto (-43), 3) := by decide +kernel
theorem d_D_mapped_151 : decode b_D_mapped 151 = .ok (.iinc 5 1, 3) := by decide +kernel
theorem d_D_mapped_154 : decode b_D_mapped 154 = .ok (.goto (-148), 3) := by decide +kernel
theorem d_D_mapped_157 : decode b_D_mapped 157 = .ok (.aload_n 0, 1) := by decide +kernel
theorem d_D_mapped_158 : decode b_D_mapped 158 = .ok (.getfield 57, 3) := by decide +kernel
theorem d_D_mapped_161 : decode b_D_mapped 161 = .ok (.aload_n 0, 1) := by decide +kernel
theorem d_D_mapped_162 : decode b_D_mapped 162 = .ok (.getfield 60, 3) := by decide +kernel
theorem d_D_mapped_165 : decode b_D_mapped 165 = .ok (.iconst 0, 1) := by decide +kernel
theorem d_D_mapped_166 : decode b_D_mapped 166 = .ok (.iload 4, 2) := by decide +kernel
theorem d_D_mapped_168 : decode b_D_mapped 168 = .ok (.invokestatic 98, 3) := by decide +kernel
theorem d_D_mapped_171 : decode b_D_mapped 171 = .ok (.aload_n 0, 1) := by decide +kernel
theorem d_D_mapped_172 : decode b_D_mapped 172 = .ok (.getfield 23, 3) := by decide +kernel
theorem d_D_mapped_175 : decode b_D_mapped 175 = .ok (.iconst 3, 1) := by decide +kernel
theorem d_D_mapped_176 : decode b_D_mapped 176 = .ok (.iload_n 1, 1) := by decide +kernel
theorem d_D_mapped_177 : decode b_D_mapped 177 = .ok (.imul, 1) := by decide +kernel
theorem d_D_mapped_178 : decode b_D_mapped 178 = .ok (.iconst 1, 1) := by decide +kernel
theorem d_D_mapped_179 : decode b_D_mapped 179 = .ok (.iadd, 1) := by decide +kernel
theorem d_D_mapped_180 : decode b_D_mapped 180 = .ok (.iaload, 1) := by decide +kernel
theorem d_D_mapped_181 : decode b_D_mapped 181 = .ok (.ifCond .ne 39, 3) := by decide +kernel
theorem d_D_mapped_184 : decode b_D_mapped 184 = .ok (.iconst 0, 1) := by decide +kernel
theorem d_D_mapped_185 : decode b_D_mapped 185 = .ok (.istore 5, 2) := by decide +kernel
theorem d_D_mapped_187 : decode b_D_mapped 187 = .ok (.iload 5, 2) := by decide +kernel
theorem d_D_mapped_189 : decode b_D_mapped 189 = .ok (.iload 4, 2) := by decide +kernel
theorem d_D_mapped_191 : decode b_D_mapped 191 = .ok (.if_icmp .ge 27, 3) := by decide +kernel
theorem d_D_mapped_194 : decode b_D_mapped 194 = .ok (.aload_n 0, 1) := by decide +kernel
theorem d_D_mapped_195 : decode b_D_mapped 195 = .ok (.aload_n 0, 1) := by decide +kernel
theorem d_D_mapped_196 : decode b_D_mapped 196 = .ok (.getfield 57, 3) := by decide +kernel
theorem d_D_mapped_199 : decode b_D_mapped 199 = .ok (.iload 5, 2) := by decide +kernel
theorem d_D_mapped_201 : decode b_D_mapped 201 = .ok (.laload, 1) := by decide +kernel
theorem d_D_mapped_202 : decode b_D_mapped 202 = .ok (.aload_n 0, 1) := by decide +kernel
theorem d_D_mapped_203 : decode b_D_mapped 203 = .ok (.getfield 60, 3) := by decide +kernel
theorem d_D_mapped_206 : decode b_D_mapped 206 = .ok (.iload 5, 2) := by decide +kernel
theorem d_D_mapped_208 : decode b_D_mapped 208 = .ok (.laload, 1) := by decide +kernel
theorem d_D_mapped_209 : decode b_D_mapped 209 = .ok (.invokevirtual 102, 3) := by decide +kernel
theorem d_D_mapped_212 : decode b_D_mapped 212 = .ok (.iinc 5 1, 3) := by decide +kernel
theorem d_D_mapped_215 : decode b_D_mapped 215 = .ok (.goto (-28), 3) := by decide +kernel
theorem d_D_mapped_218 : decode b_D_mapped 218 = .ok (.iconst 1, 1) := by decide +kernel
theorem d_D_mapped_219 : decode b_D_mapped 219 = .ok (.ireturn, 1) := by decide +kernel
theorem d_D_mapped_220 : decode b_D_mapped 220 = .ok (.iconst 0, 1) := by decide +kernel
theorem d_D_mapped_221 : decode b_D_mapped 221 = .ok (.istore 5, 2) := by decide +kernel
theorem d_D_mapped_223 : decode b_D_mapped 223 = .ok (.iload 5, 2) := by decide +kernel
theorem d_D_mapped_225 : decode b_D_mapped 225 = .ok (.iload 4, 2) := by decide +kernel
theorem d_D_mapped_227 : decode b_D_mapped 227 = .ok (.if_icmp .ge 112, 3) := by decide +kernel
theorem d_D_mapped_230 : decode b_D_mapped 230 = .ok (.iload 5, 2) := by decide +kernel
theorem d_D_mapped_232 : decode b_D_mapped 232 = .ok (.istore 6, 2) := by decide +kernel
theorem d_D_mapped_234 : decode b_D_mapped 234 = .ok (.iload 6, 2) := by decide +kernel
theorem d_D_mapped_236 : decode b_D_mapped 236 = .ok (.iload 4, 2) := by decide +kernel
theorem d_D_mapped_238 : decode b_D_mapped 238 = .ok (.if_icmp .ge 27, 3) := by decide +kernel
theorem d_D_mapped_241 : decode b_D_mapped 241 = .ok (.aload_n 0, 1) := by decide +kernel
theorem d_D_mapped_242 : decode b_D_mapped 242 = .ok (.getfield 57, 3) := by decide +kernel
theorem d_D_mapped_245 : decode b_D_mapped 245 = .ok (.iload 6, 2) := by decide +kernel
theorem d_D_mapped_247 : decode b_D_mapped 247 = .ok (.laload, 1) := by decide +kernel
theorem d_D_mapped_248 : decode b_D_mapped 248 = .ok (.aload_n 0, 1) := by decide +kernel
theorem d_D_mapped_249 : decode b_D_mapped 249 = .ok (.getfield 57, 3) := by decide +kernel
theorem d_D_mapped_252 : decode b_D_mapped 252 = .ok (.iload 5, 2) := by decide +kernel
theorem d_D_mapped_254 : decode b_D_mapped 254 = .ok (.laload, 1) := by decide +kernel
theorem d_D_mapped_255 : decode b_D_mapped 255 = .ok (.lcmp, 1) := by decide +kernel
theorem d_D_mapped_256 : decode b_D_mapped 256 = .ok (.ifCond .ne 9, 3) := by decide +kernel
theorem d_D_mapped_259 : decode b_D_mapped 259 = .ok (.iinc 6 1, 3) := by decide +kernel
theorem d_D_mapped_262 : decode b_D_mapped 262 = .ok (.goto (-28), 3) := by decide +kernel
theorem d_D_mapped_265 : decode b_D_mapped 265 = .ok (.aload_n 0, 1) := by decide +kernel
theorem d_D_mapped_266 : decode b_D_mapped 266 = .ok (.iconst 3, 1) := by decide +kernel
theorem d_D_mapped_267 : decode b_D_mapped 267 = .ok (.iload_n 1, 1) := by decide +kernel
theorem d_D_mapped_268 : decode b_D_mapped 268 = .ok (.imul, 1) := by decide +kernel
theorem d_D_mapped_269 : decode b_D_mapped 269 = .ok (.iconst 1, 1) := by decide +kernel
theorem d_D_mapped_270 : decode b_D_mapped 270 = .ok (.iadd, 1) := by decide +kernel
theorem d_D_mapped_271 : decode b_D_mapped 271 = .ok (.iconst 0, 1) := by decide +kernel
theorem d_D_mapped_272 : decode b_D_mapped 272 = .ok (.iconst 1, 1) := by decide +kernel
theorem d_D_mapped_273 : decode b_D_mapped 273 = .ok (.aload_n 0, 1) := by decide +kernel
theorem d_D_mapped_274 : decode b_D_mapped 274 = .ok (.getfield 57, 3) := by decide +kernel
theorem d_D_mapped_277 : decode b_D_mapped 277 = .ok (.iload 5, 2) := by decide +kernel
theorem d_D_mapped_279 : decode b_D_mapped 279 = .ok (.laload, 1) := by decide +kernel
theorem d_D_mapped_280 : decode b_D_mapped 280 = .ok (.aload_n 0, 1) := by decide +kernel
theorem d_D_mapped_281 : decode b_D_mapped 281 = .ok (.getfield 60, 3) := by decide +kernel
theorem d_D_mapped_284 : decode b_D_mapped 284 = .ok (.iload 5, 2) := by decide +kernel
theorem d_D_mapped_286 : decode b_D_mapped 286 = .ok (.iload 6, 2) := by decide +kernel
theorem d_D_mapped_288 : decode b_D_mapped 288 = .ok (.invokevirtual 94, 3) := by decide +kernel
theorem d_D_mapped_291 : decode b_D_mapped 291 = .ok (.ifCond .ne 5, 3) := by decide +kernel
theorem d_D_mapped_294 : decode b_D_mapped 294 = .ok (.iconst 0, 1) := by decide +kernel
theorem d_D_mapped_295 : decode b_D_mapped 295 = .ok (.ireturn, 1) := by decide +kernel
theorem d_D_mapped_296 : decode b_D_mapped 296 = .ok (.iconst 0, 1) := by decide +kernel
theorem d_D_mapped_297 : decode b_D_mapped 297 = .ok (.istore 7, 2) := by decide +kernel
theorem d_D_mapped_299 : decode b_D_mapped 299 = .ok (.iload 7, 2) := by decide +kernel
theorem d_D_mapped_301 : decode b_D_mapped 301 = .ok (.aload_n 0, 1) := by decide +kernel
theorem d_D_mapped_302 : decode b_D_mapped 302 = .ok (.getfield 91, 3) := by decide +kernel
theorem d_D_mapped_305 : decode b_D_mapped 305 = .ok (.if_icmp .ge 27, 3) := by decide +kernel
theorem d_D_mapped_308 : decode b_D_mapped 308 = .ok (.aload_n 0, 1) := by decide +kernel
theorem d_D_mapped_309 : decode b_D_mapped 309 = .ok (.aload_n 0, 1) := by decide +kernel
theorem d_D_mapped_310 : decode b_D_mapped 310 = .ok (.getfield 81, 3) := by decide +kernel
theorem d_D_mapped_313 : decode b_D_mapped 313 = .ok (.iload 7, 2) := by decide +kernel
theorem d_D_mapped_315 : decode b_D_mapped 315 = .ok (.laload, 1) := by decide +kernel
theorem d_D_mapped_316 : decode b_D_mapped 316 = .ok (.aload_n 0, 1) := by decide +kernel
theorem d_D_mapped_317 : decode b_D_mapped 317 = .ok (.getfield 84, 3) := by decide +kernel
theorem d_D_mapped_320 : decode b_D_mapped 320 = .ok (.iload 7, 2) := by decide +kernel
theorem d_D_mapped_322 : decode b_D_mapped 322 = .ok (.laload, 1) := by decide +kernel
theorem d_D_mapped_323 : decode b_D_mapped 323 = .ok (.invokevirtual 102, 3) := by decide +kernel
theorem d_D_mapped_326 : decode b_D_mapped 326 = .ok (.iinc 7 1, 3) := by decide +kernel
theorem d_D_mapped_329 : decode b_D_mapped 329 = .ok (.goto (-30), 3) := by decide +kernel
theorem d_D_mapped_332 : decode b_D_mapped 332 = .ok (.iload 6, 2) := by decide +kernel
theorem d_D_mapped_334 : decode b_D_mapped 334 = .ok (.istore 5, 2) := by decide +kernel
theorem d_D_mapped_336 : decode b_D_mapped 336 = .ok (.goto (-113), 3) := by decide +kernel
theorem d_D_mapped_339 : decode b_D_mapped 339 = .ok (.iconst 1, 1) := by decide +kernel
theorem d_D_mapped_340 : decode b_D_mapped 340 = .ok (.ireturn, 1) := by decide +kernel
abbrev b_D_pair : ByteArray := prog_3_method_6_code
def y_D_pair : MethodName := ⟨"ShuffleMillModel", "pair", "(JJ)V"⟩
theorem d_D_pair_0 : decode b_D_pair 0 = .ok (.aload_n 0, 1) := by decide +kernel
theorem d_D_pair_1 : decode b_D_pair 1 = .ok (.getfield 106, 3) := by decide +kernel
theorem d_D_pair_4 : decode b_D_pair 4 = .ok (.aload_n 0, 1) := by decide +kernel
theorem d_D_pair_5 : decode b_D_pair 5 = .ok (.getfield 63, 3) := by decide +kernel
theorem d_D_pair_8 : decode b_D_pair 8 = .ok (.arraylength, 1) := by decide +kernel
theorem d_D_pair_9 : decode b_D_pair 9 = .ok (.if_icmp .ge 23, 3) := by decide +kernel
theorem d_D_pair_12 : decode b_D_pair 12 = .ok (.aload_n 0, 1) := by decide +kernel
theorem d_D_pair_13 : decode b_D_pair 13 = .ok (.getfield 63, 3) := by decide +kernel
theorem d_D_pair_16 : decode b_D_pair 16 = .ok (.aload_n 0, 1) := by decide +kernel
theorem d_D_pair_17 : decode b_D_pair 17 = .ok (.getfield 106, 3) := by decide +kernel
theorem d_D_pair_20 : decode b_D_pair 20 = .ok (.lload_n 1, 1) := by decide +kernel
theorem d_D_pair_21 : decode b_D_pair 21 = .ok (.lastore, 1) := by decide +kernel
theorem d_D_pair_22 : decode b_D_pair 22 = .ok (.aload_n 0, 1) := by decide +kernel
theorem d_D_pair_23 : decode b_D_pair 23 = .ok (.getfield 66, 3) := by decide +kernel
theorem d_D_pair_26 : decode b_D_pair 26 = .ok (.aload_n 0, 1) := by decide +kernel
theorem d_D_pair_27 : decode b_D_pair 27 = .ok (.getfield 106, 3) := by decide +kernel
theorem d_D_pair_30 : decode b_D_pair 30 = .ok (.lload_n 3, 1) := by decide +kernel
theorem d_D_pair_31 : decode b_D_pair 31 = .ok (.lastore, 1) := by decide +kernel
theorem d_D_pair_32 : decode b_D_pair 32 = .ok (.aload_n 0, 1) := by decide +kernel
theorem d_D_pair_33 : decode b_D_pair 33 = .ok (.dup, 1) := by decide +kernel
theorem d_D_pair_34 : decode b_D_pair 34 = .ok (.getfield 106, 3) := by decide +kernel
theorem d_D_pair_37 : decode b_D_pair 37 = .ok (.iconst 1, 1) := by decide +kernel
theorem d_D_pair_38 : decode b_D_pair 38 = .ok (.iadd, 1) := by decide +kernel
theorem d_D_pair_39 : decode b_D_pair 39 = .ok (.putfield 106, 3) := by decide +kernel
theorem d_D_pair_42 : decode b_D_pair 42 = .ok (.return_, 1) := by decide +kernel
abbrev b_D_worked : ByteArray := prog_3_method_7_code
def y_D_worked : MethodName := ⟨"ShuffleMillModel", "worked", "(I)Z"⟩
theorem d_D_worked_0 : decode b_D_worked 0 = .ok (.aload_n 0, 1) := by decide +kernel
theorem d_D_worked_1 : decode b_D_worked 1 = .ok (.getfield 16, 3) := by decide +kernel
theorem d_D_worked_4 : decode b_D_worked 4 = .ok (.aload_n 0, 1) := by decide +kernel
theorem d_D_worked_5 : decode b_D_worked 5 = .ok (.getfield 35, 3) := by decide +kernel
theorem d_D_worked_8 : decode b_D_worked 8 = .ok (.iload_n 1, 1) := by decide +kernel
theorem d_D_worked_9 : decode b_D_worked 9 = .ok (.iaload, 1) := by decide +kernel
theorem d_D_worked_10 : decode b_D_worked 10 = .ok (.iaload, 1) := by decide +kernel
theorem d_D_worked_11 : decode b_D_worked 11 = .ok (.aload_n 0, 1) := by decide +kernel
theorem d_D_worked_12 : decode b_D_worked 12 = .ok (.getfield 38, 3) := by decide +kernel
theorem d_D_worked_15 : decode b_D_worked 15 = .ok (.iload_n 1, 1) := by decide +kernel
theorem d_D_worked_16 : decode b_D_worked 16 = .ok (.iaload, 1) := by decide +kernel
theorem d_D_worked_17 : decode b_D_worked 17 = .ok (.ifCond .ge 7, 3) := by decide +kernel
theorem d_D_worked_20 : decode b_D_worked 20 = .ok (.iconst 0, 1) := by decide +kernel
theorem d_D_worked_21 : decode b_D_worked 21 = .ok (.goto 14, 3) := by decide +kernel
theorem d_D_worked_24 : decode b_D_worked 24 = .ok (.aload_n 0, 1) := by decide +kernel
theorem d_D_worked_25 : decode b_D_worked 25 = .ok (.getfield 16, 3) := by decide +kernel
theorem d_D_worked_28 : decode b_D_worked 28 = .ok (.aload_n 0, 1) := by decide +kernel
theorem d_D_worked_29 : decode b_D_worked 29 = .ok (.getfield 38, 3) := by decide +kernel
theorem d_D_worked_32 : decode b_D_worked 32 = .ok (.iload_n 1, 1) := by decide +kernel
theorem d_D_worked_33 : decode b_D_worked 33 = .ok (.iaload, 1) := by decide +kernel
theorem d_D_worked_34 : decode b_D_worked 34 = .ok (.iaload, 1) := by decide +kernel
theorem d_D_worked_35 : decode b_D_worked 35 = .ok (.iadd, 1) := by decide +kernel
theorem d_D_worked_36 : decode b_D_worked 36 = .ok (.istore_n 2, 1) := by decide +kernel
theorem d_D_worked_37 : decode b_D_worked 37 = .ok (.iconst 0, 1) := by decide +kernel
theorem d_D_worked_38 : decode b_D_worked 38 = .ok (.istore_n 3, 1) := by decide +kernel
theorem d_D_worked_39 : decode b_D_worked 39 = .ok (.aload_n 0, 1) := by decide +kernel
theorem d_D_worked_40 : decode b_D_worked 40 = .ok (.iconst 0, 1) := by decide +kernel
theorem d_D_worked_41 : decode b_D_worked 41 = .ok (.putfield 106, 3) := by decide +kernel
theorem d_D_worked_44 : decode b_D_worked 44 = .ok (.iconst 0, 1) := by decide +kernel
theorem d_D_worked_45 : decode b_D_worked 45 = .ok (.istore 4, 2) := by decide +kernel
theorem d_D_worked_47 : decode b_D_worked 47 = .ok (.iload 4, 2) := by decide +kernel
theorem d_D_worked_49 : decode b_D_worked 49 = .ok (.iload_n 2, 1) := by decide +kernel
theorem d_D_worked_50 : decode b_D_worked 50 = .ok (.if_icmp .ge 30, 3) := by decide +kernel
theorem d_D_worked_53 : decode b_D_worked 53 = .ok (.aload_n 0, 1) := by decide +kernel
theorem d_D_worked_54 : decode b_D_worked 54 = .ok (.iload_n 1, 1) := by decide +kernel
theorem d_D_worked_55 : decode b_D_worked 55 = .ok (.iload 4, 2) := by decide +kernel
theorem d_D_worked_57 : decode b_D_worked 57 = .ok (.iload_n 2, 1) := by decide +kernel
theorem d_D_worked_58 : decode b_D_worked 58 = .ok (.iload 4, 2) := by decide +kernel
theorem d_D_worked_60 : decode b_D_worked 60 = .ok (.bipush 16, 2) := by decide +kernel
theorem d_D_worked_62 : decode b_D_worked 62 = .ok (.iadd, 1) := by decide +kernel
theorem d_D_worked_63 : decode b_D_worked 63 = .ok (.invokestatic 109, 3) := by decide +kernel
theorem d_D_worked_66 : decode b_D_worked 66 = .ok (.invokevirtual 115, 3) := by decide +kernel
theorem d_D_worked_69 : decode b_D_worked 69 = .ok (.ifCond .ne 5, 3) := by decide +kernel
theorem d_D_worked_72 : decode b_D_worked 72 = .ok (.iconst 0, 1) := by decide +kernel
theorem d_D_worked_73 : decode b_D_worked 73 = .ok (.ireturn, 1) := by decide +kernel
theorem d_D_worked_74 : decode b_D_worked 74 = .ok (.iinc 4 16, 3) := by decide +kernel
theorem d_D_worked_77 : decode b_D_worked 77 = .ok (.goto (-30), 3) := by decide +kernel
theorem d_D_worked_80 : decode b_D_worked 80 = .ok (.aload_n 0, 1) := by decide +kernel
theorem d_D_worked_81 : decode b_D_worked 81 = .ok (.getfield 106, 3) := by decide +kernel
theorem d_D_worked_84 : decode b_D_worked 84 = .ok (.sipush 1000, 3) := by decide +kernel
theorem d_D_worked_87 : decode b_D_worked 87 = .ok (.if_icmp .le 5, 3) := by decide +kernel
theorem d_D_worked_90 : decode b_D_worked 90 = .ok (.iconst 0, 1) := by decide +kernel
theorem d_D_worked_91 : decode b_D_worked 91 = .ok (.ireturn, 1) := by decide +kernel
theorem d_D_worked_92 : decode b_D_worked 92 = .ok (.aload_n 0, 1) := by decide +kernel
theorem d_D_worked_93 : decode b_D_worked 93 = .ok (.getfield 63, 3) := by decide +kernel
theorem d_D_worked_96 : decode b_D_worked 96 = .ok (.aload_n 0, 1) := by decide +kernel
theorem d_D_worked_97 : decode b_D_worked 97 = .ok (.getfield 66, 3) := by decide +kernel
theorem d_D_worked_100 : decode b_D_worked 100 = .ok (.iconst 0, 1) := by decide +kernel
theorem d_D_worked_101 : decode b_D_worked 101 = .ok (.aload_n 0, 1) := by decide +kernel
theorem d_D_worked_102 : decode b_D_worked 102 = .ok (.getfield 106, 3) := by decide +kernel
theorem d_D_worked_105 : decode b_D_worked 105 = .ok (.invokestatic 98, 3) := by decide +kernel
theorem d_D_worked_108 : decode b_D_worked 108 = .ok (.iconst 0, 1) := by decide +kernel
theorem d_D_worked_109 : decode b_D_worked 109 = .ok (.istore 4, 2) := by decide +kernel
theorem d_D_worked_111 : decode b_D_worked 111 = .ok (.iload 4, 2) := by decide +kernel
theorem d_D_worked_113 : decode b_D_worked 113 = .ok (.aload_n 0, 1) := by decide +kernel
theorem d_D_worked_114 : decode b_D_worked 114 = .ok (.getfield 44, 3) := by decide +kernel
theorem d_D_worked_117 : decode b_D_worked 117 = .ok (.iload_n 1, 1) := by decide +kernel
theorem d_D_worked_118 : decode b_D_worked 118 = .ok (.iaload, 1) := by decide +kernel
theorem d_D_worked_119 : decode b_D_worked 119 = .ok (.if_icmp .ge 167, 3) := by decide +kernel
theorem d_D_worked_122 : decode b_D_worked 122 = .ok (.iconst 0, 1) := by decide +kernel
theorem d_D_worked_123 : decode b_D_worked 123 = .ok (.istore 5, 2) := by decide +kernel
theorem d_D_worked_125 : decode b_D_worked 125 = .ok (.iload 5, 2) := by decide +kernel
theorem d_D_worked_127 : decode b_D_worked 127 = .ok (.aload_n 0, 1) := by decide +kernel
theorem d_D_worked_128 : decode b_D_worked 128 = .ok (.getfield 106, 3) := by decide +kernel
theorem d_D_worked_131 : decode b_D_worked 131 = .ok (.if_icmp .ge 149, 3) := by decide +kernel
theorem d_D_worked_134 : decode b_D_worked 134 = .ok (.iload 5, 2) := by decide +kernel
theorem d_D_worked_136 : decode b_D_worked 136 = .ok (.istore 6, 2) := by decide +kernel
theorem d_D_worked_138 : decode b_D_worked 138 = .ok (.iload 6, 2) := by decide +kernel
theorem d_D_worked_140 : decode b_D_worked 140 = .ok (.aload_n 0, 1) := by decide +kernel
theorem d_D_worked_141 : decode b_D_worked 141 = .ok (.getfield 106, 3) := by decide +kernel
theorem d_D_worked_144 : decode b_D_worked 144 = .ok (.if_icmp .ge 27, 3) := by decide +kernel
theorem d_D_worked_147 : decode b_D_worked 147 = .ok (.aload_n 0, 1) := by decide +kernel
theorem d_D_worked_148 : decode b_D_worked 148 = .ok (.getfield 63, 3) := by decide +kernel
theorem d_D_worked_151 : decode b_D_worked 151 = .ok (.iload 6, 2) := by decide +kernel
theorem d_D_worked_153 : decode b_D_worked 153 = .ok (.laload, 1) := by decide +kernel
theorem d_D_worked_154 : decode b_D_worked 154 = .ok (.aload_n 0, 1) := by decide +kernel
theorem d_D_worked_155 : decode b_D_worked 155 = .ok (.getfield 63, 3) := by decide +kernel
theorem d_D_worked_158 : decode b_D_worked 158 = .ok (.iload 5, 2) := by decide +kernel
theorem d_D_worked_160 : decode b_D_worked 160 = .ok (.laload, 1) := by decide +kernel
theorem d_D_worked_161 : decode b_D_worked 161 = .ok (.lcmp, 1) := by decide +kernel
theorem d_D_worked_162 : decode b_D_worked 162 = .ok (.ifCond .ne 9, 3) := by decide +kernel
theorem d_D_worked_165 : decode b_D_worked 165 = .ok (.iinc 6 1, 3) := by decide +kernel
theorem d_D_worked_168 : decode b_D_worked 168 = .ok (.goto (-30), 3) := by decide +kernel
theorem d_D_worked_171 : decode b_D_worked 171 = .ok (.aload_n 0, 1) := by decide +kernel
theorem d_D_worked_172 : decode b_D_worked 172 = .ok (.getfield 63, 3) := by decide +kernel
theorem d_D_worked_175 : decode b_D_worked 175 = .ok (.iload 5, 2) := by decide +kernel
theorem d_D_worked_177 : decode b_D_worked 177 = .ok (.laload, 1) := by decide +kernel
theorem d_D_worked_178 : decode b_D_worked 178 = .ok (.aload_n 0, 1) := by decide +kernel
theorem d_D_worked_179 : decode b_D_worked 179 = .ok (.getfield 44, 3) := by decide +kernel
theorem d_D_worked_182 : decode b_D_worked 182 = .ok (.iload_n 1, 1) := by decide +kernel
theorem d_D_worked_183 : decode b_D_worked 183 = .ok (.iaload, 1) := by decide +kernel
theorem d_D_worked_184 : decode b_D_worked 184 = .ok (.i2l, 1) := by decide +kernel
theorem d_D_worked_185 : decode b_D_worked 185 = .ok (.invokestatic 119, 3) := by decide +kernel
theorem d_D_worked_188 : decode b_D_worked 188 = .ok (.iload 4, 2) := by decide +kernel
theorem d_D_worked_190 : decode b_D_worked 190 = .ok (.i2l, 1) := by decide +kernel
theorem d_D_worked_191 : decode b_D_worked 191 = .ok (.lcmp, 1) := by decide +kernel
theorem d_D_worked_192 : decode b_D_worked 192 = .ok (.ifCond .ne 81, 3) := by decide +kernel
theorem d_D_worked_195 : decode b_D_worked 195 = .ok (.aload_n 0, 1) := by decide +kernel
theorem d_D_worked_196 : decode b_D_worked 196 = .ok (.iconst 3, 1) := by decide +kernel
theorem d_D_worked_197 : decode b_D_worked 197 = .ok (.iload_n 1, 1) := by decide +kernel
theorem d_D_worked_198 : decode b_D_worked 198 = .ok (.imul, 1) := by decide +kernel
theorem d_D_worked_199 : decode b_D_worked 199 = .ok (.iconst 2, 1) := by decide +kernel
theorem d_D_worked_200 : decode b_D_worked 200 = .ok (.iadd, 1) := by decide +kernel
theorem d_D_worked_201 : decode b_D_worked 201 = .ok (.iconst 0, 1) := by decide +kernel
theorem d_D_worked_202 : decode b_D_worked 202 = .ok (.iconst 0, 1) := by decide +kernel
theorem d_D_worked_203 : decode b_D_worked 203 = .ok (.aload_n 0, 1) := by decide +kernel
theorem d_D_worked_204 : decode b_D_worked 204 = .ok (.getfield 63, 3) := by decide +kernel
theorem d_D_worked_207 : decode b_D_worked 207 = .ok (.iload 5, 2) := by decide +kernel
theorem d_D_worked_209 : decode b_D_worked 209 = .ok (.laload, 1) := by decide +kernel
theorem d_D_worked_210 : decode b_D_worked 210 = .ok (.aload_n 0, 1) := by decide +kernel
theorem d_D_worked_211 : decode b_D_worked 211 = .ok (.getfield 66, 3) := by decide +kernel
theorem d_D_worked_214 : decode b_D_worked 214 = .ok (.iload 5, 2) := by decide +kernel
theorem d_D_worked_216 : decode b_D_worked 216 = .ok (.iload 6, 2) := by decide +kernel
theorem d_D_worked_218 : decode b_D_worked 218 = .ok (.invokevirtual 94, 3) := by decide +kernel
theorem d_D_worked_221 : decode b_D_worked 221 = .ok (.ifCond .ne 5, 3) := by decide +kernel
theorem d_D_worked_224 : decode b_D_worked 224 = .ok (.iconst 0, 1) := by decide +kernel
theorem d_D_worked_225 : decode b_D_worked 225 = .ok (.ireturn, 1) := by decide +kernel
theorem d_D_worked_226 : decode b_D_worked 226 = .ok (.iconst 0, 1) := by decide +kernel
theorem d_D_worked_227 : decode b_D_worked 227 = .ok (.istore 7, 2) := by decide +kernel
theorem d_D_worked_229 : decode b_D_worked 229 = .ok (.iload 7, 2) := by decide +kernel
theorem d_D_worked_231 : decode b_D_worked 231 = .ok (.aload_n 0, 1) := by decide +kernel
theorem d_D_worked_232 : decode b_D_worked 232 = .ok (.getfield 91, 3) := by decide +kernel
theorem d_D_worked_235 : decode b_D_worked 235 = .ok (.if_icmp .ge 38, 3) := by decide +kernel
theorem d_D_worked_238 : decode b_D_worked 238 = .ok (.aload_n 0, 1) := by decide +kernel
theorem d_D_worked_239 : decode b_D_worked 239 = .ok (.getfield 69, 3) := by decide +kernel
theorem d_D_worked_242 : decode b_D_worked 242 = .ok (.iload_n 3, 1) := by decide +kernel
theorem d_D_worked_243 : decode b_D_worked 243 = .ok (.aload_n 0, 1) := by decide +kernel
theorem d_D_worked_244 : decode b_D_worked 244 = .ok (.getfield 81, 3) := by decide +kernel
theorem d_D_worked_247 : decode b_D_worked 247 = .ok (.iload 7, 2) := by decide +kernel
theorem d_D_worked_249 : decode b_D_worked 249 = .ok (.laload, 1) := by decide +kernel
theorem d_D_worked_250 : decode b_D_worked 250 = .ok (.lastore, 1) := by decide +kernel
theorem d_D_worked_251 : decode b_D_worked 251 = .ok (.aload_n 0, 1) := by decide +kernel
theorem d_D_worked_252 : decode b_D_worked 252 = .ok (.getfield 72, 3) := by decide +kernel
theorem d_D_worked_255 : decode b_D_worked 255 = .ok (.iload_n 3, 1) := by decide +kernel
theorem d_D_worked_256 : decode b_D_worked 256 = .ok (.aload_n 0, 1) := by decide +kernel
theorem d_D_worked_257 : decode b_D_worked 257 = .ok (.getfield 84, 3) := by decide +kernel
theorem d_D_worked_260 : decode b_D_worked 260 = .ok (.iload 7, 2) := by decide +kernel
theorem d_D_worked_262 : decode b_D_worked 262 = .ok (.laload, 1) := by decide +kernel
theorem d_D_worked_263 : decode b_D_worked 263 = .ok (.lastore, 1) := by decide +kernel
theorem d_D_worked_264 : decode b_D_worked 264 = .ok (.iinc 3 1, 3) := by decide +kernel
theorem d_D_worked_267 : decode b_D_worked 267 = .ok (.iinc 7 1, 3) := by decide +kernel
theorem d_D_worked_270 : decode b_D_worked 270 = .ok (.goto (-41), 3) := by decide +kernel
theorem d_D_worked_273 : decode b_D_worked 273 = .ok (.iload 6, 2) := by decide +kernel
theorem d_D_worked_275 : decode b_D_worked 275 = .ok (.istore 5, 2) := by decide +kernel
theorem d_D_worked_277 : decode b_D_worked 277 = .ok (.goto (-152), 3) := by decide +kernel
theorem d_D_worked_280 : decode b_D_worked 280 = .ok (.iinc 4 1, 3) := by decide +kernel
theorem d_D_worked_283 : decode b_D_worked 283 = .ok (.goto (-172), 3) := by decide +kernel
theorem d_D_worked_286 : decode b_D_worked 286 = .ok (.iload_n 3, 1) := by decide +kernel
theorem d_D_worked_287 : decode b_D_worked 287 = .ok (.sipush 300, 3) := by decide +kernel
theorem d_D_worked_290 : decode b_D_worked 290 = .ok (.if_icmp .le 5, 3) := by decide +kernel
theorem d_D_worked_293 : decode b_D_worked 293 = .ok (.iconst 0, 1) := by decide +kernel
theorem d_D_worked_294 : decode b_D_worked 294 = .ok (.ireturn, 1) := by decide +kernel
theorem d_D_worked_295 : decode b_D_worked 295 = .ok (.aload_n 0, 1) := by decide +kernel
theorem d_D_worked_296 : decode b_D_worked 296 = .ok (.getfield 41, 3) := by decide +kernel
theorem d_D_worked_299 : decode b_D_worked 299 = .ok (.iload_n 1, 1) := by decide +kernel
theorem d_D_worked_300 : decode b_D_worked 300 = .ok (.iaload, 1) := by decide +kernel
theorem d_D_worked_301 : decode b_D_worked 301 = .ok (.istore 4, 2) := by decide +kernel
theorem d_D_worked_303 : decode b_D_worked 303 = .ok (.aload_n 0, 1) := by decide +kernel
theorem d_D_worked_304 : decode b_D_worked 304 = .ok (.getfield 16, 3) := by decide +kernel
theorem d_D_worked_307 : decode b_D_worked 307 = .ok (.iload 4, 2) := by decide +kernel
theorem d_D_worked_309 : decode b_D_worked 309 = .ok (.iload_n 3, 1) := by decide +kernel
theorem d_D_worked_310 : decode b_D_worked 310 = .ok (.iastore, 1) := by decide +kernel
theorem d_D_worked_311 : decode b_D_worked 311 = .ok (.aload_n 0, 1) := by decide +kernel
theorem d_D_worked_312 : decode b_D_worked 312 = .ok (.getfield 69, 3) := by decide +kernel
theorem d_D_worked_315 : decode b_D_worked 315 = .ok (.iconst 0, 1) := by decide +kernel
theorem d_D_worked_316 : decode b_D_worked 316 = .ok (.aload_n 0, 1) := by decide +kernel
theorem d_D_worked_317 : decode b_D_worked 317 = .ok (.getfield 9, 3) := by decide +kernel
theorem d_D_worked_320 : decode b_D_worked 320 = .ok (.sipush 300, 3) := by decide +kernel
theorem d_D_worked_323 : decode b_D_worked 323 = .ok (.iload 4, 2) := by decide +kernel
theorem d_D_worked_325 : decode b_D_worked 325 = .ok (.imul, 1) := by decide +kernel
theorem d_D_worked_326 : decode b_D_worked 326 = .ok (.iload_n 3, 1) := by decide +kernel
theorem d_D_worked_327 : decode b_D_worked 327 = .ok (.invokestatic 123, 3) := by decide +kernel
theorem d_D_worked_330 : decode b_D_worked 330 = .ok (.aload_n 0, 1) := by decide +kernel
theorem d_D_worked_331 : decode b_D_worked 331 = .ok (.getfield 72, 3) := by decide +kernel
theorem d_D_worked_334 : decode b_D_worked 334 = .ok (.iconst 0, 1) := by decide +kernel
theorem d_D_worked_335 : decode b_D_worked 335 = .ok (.aload_n 0, 1) := by decide +kernel
theorem d_D_worked_336 : decode b_D_worked 336 = .ok (.getfield 13, 3) := by decide +kernel
theorem d_D_worked_339 : decode b_D_worked 339 = .ok (.sipush 300, 3) := by decide +kernel
theorem d_D_worked_342 : decode b_D_worked 342 = .ok (.iload 4, 2) := by decide +kernel
theorem d_D_worked_344 : decode b_D_worked 344 = .ok (.imul, 1) := by decide +kernel
theorem d_D_worked_345 : decode b_D_worked 345 = .ok (.iload_n 3, 1) := by decide +kernel
theorem d_D_worked_346 : decode b_D_worked 346 = .ok (.invokestatic 123, 3) := by decide +kernel
theorem d_D_worked_349 : decode b_D_worked 349 = .ok (.iconst 1, 1) := by decide +kernel
theorem d_D_worked_350 : decode b_D_worked 350 = .ok (.ireturn, 1) := by decide +kernel
abbrev b_D_isInput : ByteArray := prog_3_method_8_code
def y_D_isInput : MethodName := ⟨"ShuffleMillModel", "isInput", "(II)Z"⟩
theorem d_D_isInput_0 : decode b_D_isInput 0 = .ok (.aload_n 0, 1) := by decide +kernel
theorem d_D_isInput_1 : decode b_D_isInput 1 = .ok (.getfield 35, 3) := by decide +kernel
theorem d_D_isInput_4 : decode b_D_isInput 4 = .ok (.iload_n 1, 1) := by decide +kernel
theorem d_D_isInput_5 : decode b_D_isInput 5 = .ok (.iaload, 1) := by decide +kernel
theorem d_D_isInput_6 : decode b_D_isInput 6 = .ok (.iload_n 2, 1) := by decide +kernel
theorem d_D_isInput_7 : decode b_D_isInput 7 = .ok (.if_icmp .eq 13, 3) := by decide +kernel
theorem d_D_isInput_10 : decode b_D_isInput 10 = .ok (.aload_n 0, 1) := by decide +kernel
theorem d_D_isInput_11 : decode b_D_isInput 11 = .ok (.getfield 38, 3) := by decide +kernel
theorem d_D_isInput_14 : decode b_D_isInput 14 = .ok (.iload_n 1, 1) := by decide +kernel
theorem d_D_isInput_15 : decode b_D_isInput 15 = .ok (.iaload, 1) := by decide +kernel
theorem d_D_isInput_16 : decode b_D_isInput 16 = .ok (.iload_n 2, 1) := by decide +kernel
theorem d_D_isInput_17 : decode b_D_isInput 17 = .ok (.if_icmp .ne 7, 3) := by decide +kernel
theorem d_D_isInput_20 : decode b_D_isInput 20 = .ok (.iconst 1, 1) := by decide +kernel
theorem d_D_isInput_21 : decode b_D_isInput 21 = .ok (.goto 4, 3) := by decide +kernel
theorem d_D_isInput_24 : decode b_D_isInput 24 = .ok (.iconst 0, 1) := by decide +kernel
theorem d_D_isInput_25 : decode b_D_isInput 25 = .ok (.ireturn, 1) := by decide +kernel
