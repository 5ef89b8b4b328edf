abbrev b_D_isChain : ByteArray := prog_3_method_9_code
def y_D_isChain : MethodName := ⟨"ShuffleMillModel", "isChain", "()Z"⟩
theorem d_D_isChain_0 : decode b_D_isChain 0 = .ok (.aload_n 0, 1) := by decide +kernel
theorem d_D_isChain_1 : decode b_D_isChain 1 = .ok (.iconst 0, 1) := by decide +kernel
theorem d_D_isChain_2 : decode b_D_isChain 2 = .ok (.putfield 129, 3) := by decide +kernel
theorem d_D_isChain_5 : decode b_D_isChain 5 = .ok (.iconst 0, 1) := by decide +kernel
theorem d_D_isChain_6 : decode b_D_isChain 6 = .ok (.istore_n 1, 1) := by decide +kernel
theorem d_D_isChain_7 : decode b_D_isChain 7 = .ok (.iload_n 1, 1) := by decide +kernel
theorem d_D_isChain_8 : decode b_D_isChain 8 = .ok (.bipush 8, 2) := by decide +kernel
theorem d_D_isChain_10 : decode b_D_isChain 10 = .ok (.if_icmp .ge 102, 3) := by decide +kernel
theorem d_D_isChain_13 : decode b_D_isChain 13 = .ok (.aload_n 0, 1) := by decide +kernel
theorem d_D_isChain_14 : decode b_D_isChain 14 = .ok (.getfield 54, 3) := by decide +kernel
theorem d_D_isChain_17 : decode b_D_isChain 17 = .ok (.iload_n 1, 1) := by decide +kernel
theorem d_D_isChain_18 : decode b_D_isChain 18 = .ok (.aload_n 0, 1) := by decide +kernel
theorem d_D_isChain_19 : decode b_D_isChain 19 = .ok (.getfield 50, 3) := by decide +kernel
theorem d_D_isChain_22 : decode b_D_isChain 22 = .ok (.iload_n 1, 1) := by decide +kernel
theorem d_D_isChain_23 : decode b_D_isChain 23 = .ok (.baload, 1) := by decide +kernel
theorem d_D_isChain_24 : decode b_D_isChain 24 = .ok (.ifCond .ne 7, 3) := by decide +kernel
theorem d_D_isChain_27 : decode b_D_isChain 27 = .ok (.iconst 1, 1) := by decide +kernel
theorem d_D_isChain_28 : decode b_D_isChain 28 = .ok (.goto 4, 3) := by decide +kernel
theorem d_D_isChain_31 : decode b_D_isChain 31 = .ok (.iconst 0, 1) := by decide +kernel
theorem d_D_isChain_32 : decode b_D_isChain 32 = .ok (.bastore, 1) := by decide +kernel
theorem d_D_isChain_33 : decode b_D_isChain 33 = .ok (.iconst 0, 1) := by decide +kernel
theorem d_D_isChain_34 : decode b_D_isChain 34 = .ok (.istore_n 2, 1) := by decide +kernel
theorem d_D_isChain_35 : decode b_D_isChain 35 = .ok (.iload_n 2, 1) := by decide +kernel
theorem d_D_isChain_36 : decode b_D_isChain 36 = .ok (.bipush 8, 2) := by decide +kernel
theorem d_D_isChain_38 : decode b_D_isChain 38 = .ok (.if_icmp .ge 68, 3) := by decide +kernel
theorem d_D_isChain_41 : decode b_D_isChain 41 = .ok (.aload_n 0, 1) := by decide +kernel
theorem d_D_isChain_42 : decode b_D_isChain 42 = .ok (.getfield 50, 3) := by decide +kernel
theorem d_D_isChain_45 : decode b_D_isChain 45 = .ok (.iload_n 2, 1) := by decide +kernel
theorem d_D_isChain_46 : decode b_D_isChain 46 = .ok (.baload, 1) := by decide +kernel
theorem d_D_isChain_47 : decode b_D_isChain 47 = .ok (.ifCond .eq 53, 3) := by decide +kernel
theorem d_D_isChain_50 : decode b_D_isChain 50 = .ok (.aload_n 0, 1) := by decide +kernel
theorem d_D_isChain_51 : decode b_D_isChain 51 = .ok (.getfield 50, 3) := by decide +kernel
theorem d_D_isChain_54 : decode b_D_isChain 54 = .ok (.iload_n 1, 1) := by decide +kernel
theorem d_D_isChain_55 : decode b_D_isChain 55 = .ok (.baload, 1) := by decide +kernel
theorem d_D_isChain_56 : decode b_D_isChain 56 = .ok (.ifCond .eq 44, 3) := by decide +kernel
theorem d_D_isChain_59 : decode b_D_isChain 59 = .ok (.iload_n 2, 1) := by decide +kernel
theorem d_D_isChain_60 : decode b_D_isChain 60 = .ok (.iload_n 1, 1) := by decide +kernel
theorem d_D_isChain_61 : decode b_D_isChain 61 = .ok (.if_icmp .ge 18, 3) := by decide +kernel
theorem d_D_isChain_64 : decode b_D_isChain 64 = .ok (.aload_n 0, 1) := by decide +kernel
theorem d_D_isChain_65 : decode b_D_isChain 65 = .ok (.getfield 41, 3) := by decide +kernel
theorem d_D_isChain_68 : decode b_D_isChain 68 = .ok (.iload_n 2, 1) := by decide +kernel
theorem d_D_isChain_69 : decode b_D_isChain 69 = .ok (.iaload, 1) := by decide +kernel
theorem d_D_isChain_70 : decode b_D_isChain 70 = .ok (.aload_n 0, 1) := by decide +kernel
theorem d_D_isChain_71 : decode b_D_isChain 71 = .ok (.getfield 41, 3) := by decide +kernel
theorem d_D_isChain_74 : decode b_D_isChain 74 = .ok (.iload_n 1, 1) := by decide +kernel
theorem d_D_isChain_75 : decode b_D_isChain 75 = .ok (.iaload, 1) := by decide +kernel
theorem d_D_isChain_76 : decode b_D_isChain 76 = .ok (.if_icmp .eq 22, 3) := by decide +kernel
theorem d_D_isChain_79 : decode b_D_isChain 79 = .ok (.iload_n 2, 1) := by decide +kernel
theorem d_D_isChain_80 : decode b_D_isChain 80 = .ok (.iload_n 1, 1) := by decide +kernel
theorem d_D_isChain_81 : decode b_D_isChain 81 = .ok (.if_icmp .ne 19, 3) := by decide +kernel
theorem d_D_isChain_84 : decode b_D_isChain 84 = .ok (.aload_n 0, 1) := by decide +kernel
theorem d_D_isChain_85 : decode b_D_isChain 85 = .ok (.iload_n 1, 1) := by decide +kernel
theorem d_D_isChain_86 : decode b_D_isChain 86 = .ok (.aload_n 0, 1) := by decide +kernel
theorem d_D_isChain_87 : decode b_D_isChain 87 = .ok (.getfield 41, 3) := by decide +kernel
theorem d_D_isChain_90 : decode b_D_isChain 90 = .ok (.iload_n 1, 1) := by decide +kernel
theorem d_D_isChain_91 : decode b_D_isChain 91 = .ok (.iaload, 1) := by decide +kernel
theorem d_D_isChain_92 : decode b_D_isChain 92 = .ok (.invokevirtual 132, 3) := by decide +kernel
theorem d_D_isChain_95 : decode b_D_isChain 95 = .ok (.ifCond .eq 5, 3) := by decide +kernel
theorem d_D_isChain_98 : decode b_D_isChain 98 = .ok (.iconst 0, 1) := by decide +kernel
theorem d_D_isChain_99 : decode b_D_isChain 99 = .ok (.ireturn, 1) := by decide +kernel
theorem d_D_isChain_100 : decode b_D_isChain 100 = .ok (.iinc 2 1, 3) := by decide +kernel
theorem d_D_isChain_103 : decode b_D_isChain 103 = .ok (.goto (-68), 3) := by decide +kernel
theorem d_D_isChain_106 : decode b_D_isChain 106 = .ok (.iinc 1 1, 3) := by decide +kernel
theorem d_D_isChain_109 : decode b_D_isChain 109 = .ok (.goto (-102), 3) := by decide +kernel
theorem d_D_isChain_112 : decode b_D_isChain 112 = .ok (.iconst (-1), 1) := by decide +kernel
theorem d_D_isChain_113 : decode b_D_isChain 113 = .ok (.istore_n 1, 1) := by decide +kernel
theorem d_D_isChain_114 : decode b_D_isChain 114 = .ok (.iconst 0, 1) := by decide +kernel
theorem d_D_isChain_115 : decode b_D_isChain 115 = .ok (.istore_n 2, 1) := by decide +kernel
theorem d_D_isChain_116 : decode b_D_isChain 116 = .ok (.bipush 7, 2) := by decide +kernel
theorem d_D_isChain_118 : decode b_D_isChain 118 = .ok (.istore_n 3, 1) := by decide +kernel
theorem d_D_isChain_119 : decode b_D_isChain 119 = .ok (.iload_n 3, 1) := by decide +kernel
theorem d_D_isChain_120 : decode b_D_isChain 120 = .ok (.ifCond .lt 77, 3) := by decide +kernel
theorem d_D_isChain_123 : decode b_D_isChain 123 = .ok (.aload_n 0, 1) := by decide +kernel
theorem d_D_isChain_124 : decode b_D_isChain 124 = .ok (.getfield 54, 3) := by decide +kernel
theorem d_D_isChain_127 : decode b_D_isChain 127 = .ok (.iload_n 3, 1) := by decide +kernel
theorem d_D_isChain_128 : decode b_D_isChain 128 = .ok (.baload, 1) := by decide +kernel
theorem d_D_isChain_129 : decode b_D_isChain 129 = .ok (.ifCond .eq 6, 3) := by decide +kernel
theorem d_D_isChain_132 : decode b_D_isChain 132 = .ok (.goto 59, 3) := by decide +kernel
theorem d_D_isChain_135 : decode b_D_isChain 135 = .ok (.iconst 1, 1) := by decide +kernel
theorem d_D_isChain_136 : decode b_D_isChain 136 = .ok (.istore_n 2, 1) := by decide +kernel
theorem d_D_isChain_137 : decode b_D_isChain 137 = .ok (.iconst 1, 1) := by decide +kernel
theorem d_D_isChain_138 : decode b_D_isChain 138 = .ok (.istore 4, 2) := by decide +kernel
theorem d_D_isChain_140 : decode b_D_isChain 140 = .ok (.iconst 0, 1) := by decide +kernel
theorem d_D_isChain_141 : decode b_D_isChain 141 = .ok (.istore 5, 2) := by decide +kernel
theorem d_D_isChain_143 : decode b_D_isChain 143 = .ok (.iload 5, 2) := by decide +kernel
theorem d_D_isChain_145 : decode b_D_isChain 145 = .ok (.bipush 8, 2) := by decide +kernel
theorem d_D_isChain_147 : decode b_D_isChain 147 = .ok (.if_icmp .ge 37, 3) := by decide +kernel
theorem d_D_isChain_150 : decode b_D_isChain 150 = .ok (.aload_n 0, 1) := by decide +kernel
theorem d_D_isChain_151 : decode b_D_isChain 151 = .ok (.getfield 54, 3) := by decide +kernel
theorem d_D_isChain_154 : decode b_D_isChain 154 = .ok (.iload 5, 2) := by decide +kernel
theorem d_D_isChain_156 : decode b_D_isChain 156 = .ok (.baload, 1) := by decide +kernel
theorem d_D_isChain_157 : decode b_D_isChain 157 = .ok (.ifCond .ne 21, 3) := by decide +kernel
theorem d_D_isChain_160 : decode b_D_isChain 160 = .ok (.aload_n 0, 1) := by decide +kernel
theorem d_D_isChain_161 : decode b_D_isChain 161 = .ok (.iload_n 3, 1) := by decide +kernel
theorem d_D_isChain_162 : decode b_D_isChain 162 = .ok (.aload_n 0, 1) := by decide +kernel
theorem d_D_isChain_163 : decode b_D_isChain 163 = .ok (.getfield 41, 3) := by decide +kernel
theorem d_D_isChain_166 : decode b_D_isChain 166 = .ok (.iload 5, 2) := by decide +kernel
theorem d_D_isChain_168 : decode b_D_isChain 168 = .ok (.iaload, 1) := by decide +kernel
theorem d_D_isChain_169 : decode b_D_isChain 169 = .ok (.invokevirtual 132, 3) := by decide +kernel
theorem d_D_isChain_172 : decode b_D_isChain 172 = .ok (.ifCond .eq 6, 3) := by decide +kernel
theorem d_D_isChain_175 : decode b_D_isChain 175 = .ok (.iconst 0, 1) := by decide +kernel
theorem d_D_isChain_176 : decode b_D_isChain 176 = .ok (.istore 4, 2) := by decide +kernel
theorem d_D_isChain_178 : decode b_D_isChain 178 = .ok (.iinc 5 1, 3) := by decide +kernel
theorem d_D_isChain_181 : decode b_D_isChain 181 = .ok (.goto (-38), 3) := by decide +kernel
theorem d_D_isChain_184 : decode b_D_isChain 184 = .ok (.iload 4, 2) := by decide +kernel
theorem d_D_isChain_186 : decode b_D_isChain 186 = .ok (.ifCond .eq 5, 3) := by decide +kernel
theorem d_D_isChain_189 : decode b_D_isChain 189 = .ok (.iload_n 3, 1) := by decide +kernel
theorem d_D_isChain_190 : decode b_D_isChain 190 = .ok (.istore_n 1, 1) := by decide +kernel
theorem d_D_isChain_191 : decode b_D_isChain 191 = .ok (.iinc 3 (-1), 3) := by decide +kernel
theorem d_D_isChain_194 : decode b_D_isChain 194 = .ok (.goto (-75), 3) := by decide +kernel
theorem d_D_isChain_197 : decode b_D_isChain 197 = .ok (.iload_n 1, 1) := by decide +kernel
theorem d_D_isChain_198 : decode b_D_isChain 198 = .ok (.ifCond .ge 13, 3) := by decide +kernel
theorem d_D_isChain_201 : decode b_D_isChain 201 = .ok (.iload_n 2, 1) := by decide +kernel
theorem d_D_isChain_202 : decode b_D_isChain 202 = .ok (.ifCond .ne 7, 3) := by decide +kernel
theorem d_D_isChain_205 : decode b_D_isChain 205 = .ok (.iconst 1, 1) := by decide +kernel
theorem d_D_isChain_206 : decode b_D_isChain 206 = .ok (.goto 4, 3) := by decide +kernel
theorem d_D_isChain_209 : decode b_D_isChain 209 = .ok (.iconst 0, 1) := by decide +kernel
theorem d_D_isChain_210 : decode b_D_isChain 210 = .ok (.ireturn, 1) := by decide +kernel
theorem d_D_isChain_211 : decode b_D_isChain 211 = .ok (.aload_n 0, 1) := by decide +kernel
theorem d_D_isChain_212 : decode b_D_isChain 212 = .ok (.getfield 47, 3) := by decide +kernel
theorem d_D_isChain_215 : decode b_D_isChain 215 = .ok (.aload_n 0, 1) := by decide +kernel
theorem d_D_isChain_216 : decode b_D_isChain 216 = .ok (.getfield 129, 3) := by decide +kernel
theorem d_D_isChain_219 : decode b_D_isChain 219 = .ok (.iload_n 1, 1) := by decide +kernel
theorem d_D_isChain_220 : decode b_D_isChain 220 = .ok (.iastore, 1) := by decide +kernel
theorem d_D_isChain_221 : decode b_D_isChain 221 = .ok (.aload_n 0, 1) := by decide +kernel
theorem d_D_isChain_222 : decode b_D_isChain 222 = .ok (.dup, 1) := by decide +kernel
theorem d_D_isChain_223 : decode b_D_isChain 223 = .ok (.getfield 129, 3) := by decide +kernel
theorem d_D_isChain_226 : decode b_D_isChain 226 = .ok (.iconst 1, 1) := by decide +kernel
theorem d_D_isChain_227 : decode b_D_isChain 227 = .ok (.iadd, 1) := by decide +kernel
theorem d_D_isChain_228 : decode b_D_isChain 228 = .ok (.putfield 129, 3) := by decide +kernel
theorem d_D_isChain_231 : decode b_D_isChain 231 = .ok (.aload_n 0, 1) := by decide +kernel
theorem d_D_isChain_232 : decode b_D_isChain 232 = .ok (.getfield 54, 3) := by decide +kernel
theorem d_D_isChain_235 : decode b_D_isChain 235 = .ok (.iload_n 1, 1) := by decide +kernel
theorem d_D_isChain_236 : decode b_D_isChain 236 = .ok (.iconst 1, 1) := by decide +kernel
theorem d_D_isChain_237 : decode b_D_isChain 237 = .ok (.bastore, 1) := by decide +kernel
theorem d_D_isChain_238 : decode b_D_isChain 238 = .ok (.goto (-126), 3) := by decide +kernel
abbrev b_D_in : ByteArray := prog_3_method_10_code
def y_D_in : MethodName := ⟨"ShuffleMillModel", "in", "(III)Z"⟩
theorem d_D_in_0 : decode b_D_in 0 = .ok (.iload_n 0, 1) := by decide +kernel
theorem d_D_in_1 : decode b_D_in 1 = .ok (.iload_n 1, 1) := by decide +kernel
theorem d_D_in_2 : decode b_D_in 2 = .ok (.if_icmp .lt 12, 3) := by decide +kernel
theorem d_D_in_5 : decode b_D_in 5 = .ok (.iload_n 0, 1) := by decide +kernel
theorem d_D_in_6 : decode b_D_in 6 = .ok (.iload_n 2, 1) := by decide +kernel
theorem d_D_in_7 : decode b_D_in 7 = .ok (.if_icmp .gt 7, 3) := by decide +kernel
theorem d_D_in_10 : decode b_D_in 10 = .ok (.iconst 1, 1) := by decide +kernel
theorem d_D_in_11 : decode b_D_in 11 = .ok (.goto 4, 3) := by decide +kernel
theorem d_D_in_14 : decode b_D_in 14 = .ok (.iconst 0, 1) := by decide +kernel
theorem d_D_in_15 : decode b_D_in 15 = .ok (.ireturn, 1) := by decide +kernel
abbrev b_D_record : ByteArray := prog_3_method_11_code
def y_D_record : MethodName := ⟨"ShuffleMillModel", "record", "(IJJ)I"⟩
theorem d_D_record_0 : decode b_D_record 0 = .ok (.aload_n 0, 1) := by decide +kernel
theorem d_D_record_1 : decode b_D_record 1 = .ok (.iload_n 1, 1) := by decide +kernel
theorem d_D_record_2 : decode b_D_record 2 = .ok (.iconst 0, 1) := by decide +kernel
theorem d_D_record_3 : decode b_D_record 3 = .ok (.bipush 15, 2) := by decide +kernel
theorem d_D_record_5 : decode b_D_record 5 = .ok (.invokestatic 136, 3) := by decide +kernel
theorem d_D_record_8 : decode b_D_record 8 = .ok (.ifCond .ne 7, 3) := by decide +kernel
theorem d_D_record_11 : decode b_D_record 11 = .ok (.iconst 1, 1) := by decide +kernel
theorem d_D_record_12 : decode b_D_record 12 = .ok (.goto 27, 3) := by decide +kernel
theorem d_D_record_15 : decode b_D_record 15 = .ok (.aload_n 0, 1) := by decide +kernel
theorem d_D_record_16 : decode b_D_record 16 = .ok (.getfield 16, 3) := by decide +kernel
theorem d_D_record_19 : decode b_D_record 19 = .ok (.iload_n 1, 1) := by decide +kernel
theorem d_D_record_20 : decode b_D_record 20 = .ok (.iaload, 1) := by decide +kernel
theorem d_D_record_21 : decode b_D_record 21 = .ok (.sipush 300, 3) := by decide +kernel
theorem d_D_record_24 : decode b_D_record 24 = .ok (.if_icmp .eq 10, 3) := by decide +kernel
theorem d_D_record_27 : decode b_D_record 27 = .ok (.aload_n 0, 1) := by decide +kernel
theorem d_D_record_28 : decode b_D_record 28 = .ok (.getfield 139, 3) := by decide +kernel
theorem d_D_record_31 : decode b_D_record 31 = .ok (.ifCond .eq 7, 3) := by decide +kernel
theorem d_D_record_34 : decode b_D_record 34 = .ok (.iconst 2, 1) := by decide +kernel
theorem d_D_record_35 : decode b_D_record 35 = .ok (.goto 4, 3) := by decide +kernel
theorem d_D_record_38 : decode b_D_record 38 = .ok (.iconst 0, 1) := by decide +kernel
theorem d_D_record_39 : decode b_D_record 39 = .ok (.putfield 87, 3) := by decide +kernel
theorem d_D_record_42 : decode b_D_record 42 = .ok (.aload_n 0, 1) := by decide +kernel
theorem d_D_record_43 : decode b_D_record 43 = .ok (.getfield 87, 3) := by decide +kernel
theorem d_D_record_46 : decode b_D_record 46 = .ok (.ifCond .le 5, 3) := by decide +kernel
theorem d_D_record_49 : decode b_D_record 49 = .ok (.iconst 0, 1) := by decide +kernel
theorem d_D_record_50 : decode b_D_record 50 = .ok (.ireturn, 1) := by decide +kernel
theorem d_D_record_51 : decode b_D_record 51 = .ok (.aload_n 0, 1) := by decide +kernel
theorem d_D_record_52 : decode b_D_record 52 = .ok (.getfield 9, 3) := by decide +kernel
theorem d_D_record_55 : decode b_D_record 55 = .ok (.sipush 300, 3) := by decide +kernel
theorem d_D_record_58 : decode b_D_record 58 = .ok (.iload_n 1, 1) := by decide +kernel
theorem d_D_record_59 : decode b_D_record 59 = .ok (.imul, 1) := by decide +kernel
theorem d_D_record_60 : decode b_D_record 60 = .ok (.aload_n 0, 1) := by decide +kernel
theorem d_D_record_61 : decode b_D_record 61 = .ok (.getfield 16, 3) := by decide +kernel
theorem d_D_record_64 : decode b_D_record 64 = .ok (.iload_n 1, 1) := by decide +kernel
theorem d_D_record_65 : decode b_D_record 65 = .ok (.iaload, 1) := by decide +kernel
theorem d_D_record_66 : decode b_D_record 66 = .ok (.iadd, 1) := by decide +kernel
theorem d_D_record_67 : decode b_D_record 67 = .ok (.lload_n 2, 1) := by decide +kernel
theorem d_D_record_68 : decode b_D_record 68 = .ok (.lastore, 1) := by decide +kernel
theorem d_D_record_69 : decode b_D_record 69 = .ok (.aload_n 0, 1) := by decide +kernel
theorem d_D_record_70 : decode b_D_record 70 = .ok (.getfield 13, 3) := by decide +kernel
theorem d_D_record_73 : decode b_D_record 73 = .ok (.sipush 300, 3) := by decide +kernel
theorem d_D_record_76 : decode b_D_record 76 = .ok (.iload_n 1, 1) := by decide +kernel
theorem d_D_record_77 : decode b_D_record 77 = .ok (.imul, 1) := by decide +kernel
theorem d_D_record_78 : decode b_D_record 78 = .ok (.aload_n 0, 1) := by decide +kernel
theorem d_D_record_79 : decode b_D_record 79 = .ok (.getfield 16, 3) := by decide +kernel
theorem d_D_record_82 : decode b_D_record 82 = .ok (.iload_n 1, 1) := by decide +kernel
theorem d_D_record_83 : decode b_D_record 83 = .ok (.iaload, 1) := by decide +kernel
theorem d_D_record_84 : decode b_D_record 84 = .ok (.iadd, 1) := by decide +kernel
theorem d_D_record_85 : decode b_D_record 85 = .ok (.lload 4, 2) := by decide +kernel
theorem d_D_record_87 : decode b_D_record 87 = .ok (.lastore, 1) := by decide +kernel
theorem d_D_record_88 : decode b_D_record 88 = .ok (.aload_n 0, 1) := by decide +kernel
theorem d_D_record_89 : decode b_D_record 89 = .ok (.getfield 16, 3) := by decide +kernel
theorem d_D_record_92 : decode b_D_record 92 = .ok (.iload_n 1, 1) := by decide +kernel
theorem d_D_record_93 : decode b_D_record 93 = .ok (.dup2, 1) := by decide +kernel
theorem d_D_record_94 : decode b_D_record 94 = .ok (.iaload, 1) := by decide +kernel
theorem d_D_record_95 : decode b_D_record 95 = .ok (.iconst 1, 1) := by decide +kernel
theorem d_D_record_96 : decode b_D_record 96 = .ok (.iadd, 1) := by decide +kernel
theorem d_D_record_97 : decode b_D_record 97 = .ok (.iastore, 1) := by decide +kernel
theorem d_D_record_98 : decode b_D_record 98 = .ok (.aload_n 0, 1) := by decide +kernel
theorem d_D_record_99 : decode b_D_record 99 = .ok (.getfield 16, 3) := by decide +kernel
theorem d_D_record_102 : decode b_D_record 102 = .ok (.iload_n 1, 1) := by decide +kernel
theorem d_D_record_103 : decode b_D_record 103 = .ok (.iaload, 1) := by decide +kernel
theorem d_D_record_104 : decode b_D_record 104 = .ok (.ireturn, 1) := by decide +kernel
abbrev b_D_clear : ByteArray := prog_3_method_12_code
def y_D_clear : MethodName := ⟨"ShuffleMillModel", "clear", "(I)I"⟩
theorem d_D_clear_0 : decode b_D_clear 0 = .ok (.aload_n 0, 1) := by decide +kernel
theorem d_D_clear_1 : decode b_D_clear 1 = .ok (.iload_n 1, 1) := by decide +kernel
theorem d_D_clear_2 : decode b_D_clear 2 = .ok (.iconst 0, 1) := by decide +kernel
theorem d_D_clear_3 : decode b_D_clear 3 = .ok (.bipush 15, 2) := by decide +kernel
theorem d_D_clear_5 : decode b_D_clear 5 = .ok (.invokestatic 136, 3) := by decide +kernel
theorem d_D_clear_8 : decode b_D_clear 8 = .ok (.ifCond .ne 7, 3) := by decide +kernel
theorem d_D_clear_11 : decode b_D_clear 11 = .ok (.iconst 1, 1) := by decide +kernel
theorem d_D_clear_12 : decode b_D_clear 12 = .ok (.goto 15, 3) := by decide +kernel
theorem d_D_clear_15 : decode b_D_clear 15 = .ok (.aload_n 0, 1) := by decide +kernel
theorem d_D_clear_16 : decode b_D_clear 16 = .ok (.getfield 139, 3) := by decide +kernel
theorem d_D_clear_19 : decode b_D_clear 19 = .ok (.ifCond .eq 7, 3) := by decide +kernel
theorem d_D_clear_22 : decode b_D_clear 22 = .ok (.iconst 2, 1) := by decide +kernel
theorem d_D_clear_23 : decode b_D_clear 23 = .ok (.goto 4, 3) := by decide +kernel
theorem d_D_clear_26 : decode b_D_clear 26 = .ok (.iconst 0, 1) := by decide +kernel
theorem d_D_clear_27 : decode b_D_clear 27 = .ok (.putfield 87, 3) := by decide +kernel
theorem d_D_clear_30 : decode b_D_clear 30 = .ok (.aload_n 0, 1) := by decide +kernel
theorem d_D_clear_31 : decode b_D_clear 31 = .ok (.getfield 87, 3) := by decide +kernel
theorem d_D_clear_34 : decode b_D_clear 34 = .ok (.ifCond .le 5, 3) := by decide +kernel
theorem d_D_clear_37 : decode b_D_clear 37 = .ok (.iconst 0, 1) := by decide +kernel
theorem d_D_clear_38 : decode b_D_clear 38 = .ok (.ireturn, 1) := by decide +kernel
theorem d_D_clear_39 : decode b_D_clear 39 = .ok (.aload_n 0, 1) := by decide +kernel
theorem d_D_clear_40 : decode b_D_clear 40 = .ok (.getfield 16, 3) := by decide +kernel
theorem d_D_clear_43 : decode b_D_clear 43 = .ok (.iload_n 1, 1) := by decide +kernel
theorem d_D_clear_44 : decode b_D_clear 44 = .ok (.iaload, 1) := by decide +kernel
theorem d_D_clear_45 : decode b_D_clear 45 = .ok (.istore_n 2, 1) := by decide +kernel
theorem d_D_clear_46 : decode b_D_clear 46 = .ok (.aload_n 0, 1) := by decide +kernel
theorem d_D_clear_47 : decode b_D_clear 47 = .ok (.getfield 16, 3) := by decide +kernel
theorem d_D_clear_50 : decode b_D_clear 50 = .ok (.iload_n 1, 1) := by decide +kernel
theorem d_D_clear_51 : decode b_D_clear 51 = .ok (.iconst 0, 1) := by decide +kernel
theorem d_D_clear_52 : decode b_D_clear 52 = .ok (.iastore, 1) := by decide +kernel
theorem d_D_clear_53 : decode b_D_clear 53 = .ok (.iload_n 2, 1) := by decide +kernel
theorem d_D_clear_54 : decode b_D_clear 54 = .ok (.ireturn, 1) := by decide +kernel
abbrev b_D_code : ByteArray := prog_3_method_13_code
def y_D_code : MethodName := ⟨"ShuffleMillModel", "code", "(IJ)I"⟩
theorem d_D_code_0 : decode b_D_code 0 = .ok (.iload_n 1, 1) := by decide +kernel
theorem d_D_code_1 : decode b_D_code 1 = .ok (.iconst 0, 1) := by decide +kernel
theorem d_D_code_2 : decode b_D_code 2 = .ok (.bipush 18, 2) := by decide +kernel
theorem d_D_code_4 : decode b_D_code 4 = .ok (.invokestatic 136, 3) := by decide +kernel
theorem d_D_code_7 : decode b_D_code 7 = .ok (.ifCond .eq 57, 3) := by decide +kernel
theorem d_D_code_10 : decode b_D_code 10 = .ok (.iload_n 1, 1) := by decide +kernel
theorem d_D_code_11 : decode b_D_code 11 = .ok (.iconst 4, 1) := by decide +kernel
theorem d_D_code_12 : decode b_D_code 12 = .ok (.if_icmp .eq 8, 3) := by decide +kernel
theorem d_D_code_15 : decode b_D_code 15 = .ok (.iload_n 1, 1) := by decide +kernel
theorem d_D_code_16 : decode b_D_code 16 = .ok (.iconst 5, 1) := by decide +kernel
theorem d_D_code_17 : decode b_D_code 17 = .ok (.if_icmp .ne 17, 3) := by decide +kernel
theorem d_D_code_20 : decode b_D_code 20 = .ok (.lload_n 2, 1) := by decide +kernel
theorem d_D_code_21 : decode b_D_code 21 = .ok (.lconst 0, 1) := by decide +kernel
theorem d_D_code_22 : decode b_D_code 22 = .ok (.lcmp, 1) := by decide +kernel
theorem d_D_code_23 : decode b_D_code 23 = .ok (.ifCond .lt 41, 3) := by decide +kernel
theorem d_D_code_26 : decode b_D_code 26 = .ok (.lload_n 2, 1) := by decide +kernel
theorem d_D_code_27 : decode b_D_code 27 = .ok (.ldc2_w 143, 3) := by decide +kernel
theorem d_D_code_30 : decode b_D_code 30 = .ok (.lcmp, 1) := by decide +kernel
theorem d_D_code_31 : decode b_D_code 31 = .ok (.ifCond .gt 33, 3) := by decide +kernel
theorem d_D_code_34 : decode b_D_code 34 = .ok (.iload_n 1, 1) := by decide +kernel
theorem d_D_code_35 : decode b_D_code 35 = .ok (.bipush 15, 2) := by decide +kernel
theorem d_D_code_37 : decode b_D_code 37 = .ok (.if_icmp .eq 9, 3) := by decide +kernel
theorem d_D_code_40 : decode b_D_code 40 = .ok (.iload_n 1, 1) := by decide +kernel
theorem d_D_code_41 : decode b_D_code 41 = .ok (.bipush 16, 2) := by decide +kernel
theorem d_D_code_43 : decode b_D_code 43 = .ok (.if_icmp .ne 17, 3) := by decide +kernel
theorem d_D_code_46 : decode b_D_code 46 = .ok (.lload_n 2, 1) := by decide +kernel
theorem d_D_code_47 : decode b_D_code 47 = .ok (.lconst 0, 1) := by decide +kernel
theorem d_D_code_48 : decode b_D_code 48 = .ok (.lcmp, 1) := by decide +kernel
theorem d_D_code_49 : decode b_D_code 49 = .ok (.ifCond .lt 15, 3) := by decide +kernel
theorem d_D_code_52 : decode b_D_code 52 = .ok (.lload_n 2, 1) := by decide +kernel
theorem d_D_code_53 : decode b_D_code 53 = .ok (.ldc2_w 145, 3) := by decide +kernel
theorem d_D_code_56 : decode b_D_code 56 = .ok (.lcmp, 1) := by decide +kernel
theorem d_D_code_57 : decode b_D_code 57 = .ok (.ifCond .gt 7, 3) := by decide +kernel
theorem d_D_code_60 : decode b_D_code 60 = .ok (.iconst 1, 1) := by decide +kernel
theorem d_D_code_61 : decode b_D_code 61 = .ok (.goto 4, 3) := by decide +kernel
theorem d_D_code_64 : decode b_D_code 64 = .ok (.iconst 0, 1) := by decide +kernel
theorem d_D_code_65 : decode b_D_code 65 = .ok (.istore 4, 2) := by decide +kernel
theorem d_D_code_67 : decode b_D_code 67 = .ok (.aload_n 0, 1) := by decide +kernel
theorem d_D_code_68 : decode b_D_code 68 = .ok (.iload 4, 2) := by decide +kernel
theorem d_D_code_70 : decode b_D_code 70 = .ok (.ifCond .ne 7, 3) := by decide +kernel
theorem d_D_code_73 : decode b_D_code 73 = .ok (.iconst 1, 1) := by decide +kernel
theorem d_D_code_74 : decode b_D_code 74 = .ok (.goto 24, 3) := by decide +kernel
theorem d_D_code_77 : decode b_D_code 77 = .ok (.aload_n 0, 1) := by decide +kernel
theorem d_D_code_78 : decode b_D_code 78 = .ok (.getfield 147, 3) := by decide +kernel
theorem d_D_code_81 : decode b_D_code 81 = .ok (.bipush 40, 2) := by decide +kernel
theorem d_D_code_83 : decode b_D_code 83 = .ok (.if_icmp .eq 10, 3) := by decide +kernel
theorem d_D_code_86 : decode b_D_code 86 = .ok (.aload_n 0, 1) := by decide +kernel
theorem d_D_code_87 : decode b_D_code 87 = .ok (.getfield 139, 3) := by decide +kernel
theorem d_D_code_90 : decode b_D_code 90 = .ok (.ifCond .eq 7, 3) := by decide +kernel
theorem d_D_code_93 : decode b_D_code 93 = .ok (.iconst 2, 1) := by decide +kernel
theorem d_D_code_94 : decode b_D_code 94 = .ok (.goto 4, 3) := by decide +kernel
theorem d_D_code_97 : decode b_D_code 97 = .ok (.iconst 0, 1) := by decide +kernel
theorem d_D_code_98 : decode b_D_code 98 = .ok (.putfield 87, 3) := by decide +kernel
theorem d_D_code_101 : decode b_D_code 101 = .ok (.aload_n 0, 1) := by decide +kernel
theorem d_D_code_102 : decode b_D_code 102 = .ok (.getfield 87, 3) := by decide +kernel
theorem d_D_code_105 : decode b_D_code 105 = .ok (.ifCond .le 5, 3) := by decide +kernel
theorem d_D_code_108 : decode b_D_code 108 = .ok (.iconst 0, 1) := by decide +kernel
theorem d_D_code_109 : decode b_D_code 109 = .ok (.ireturn, 1) := by decide +kernel
theorem d_D_code_110 : decode b_D_code 110 = .ok (.aload_n 0, 1) := by decide +kernel
theorem d_D_code_111 : decode b_D_code 111 = .ok (.getfield 26, 3) := by decide +kernel
theorem d_D_code_114 : decode b_D_code 114 = .ok (.aload_n 0, 1) := by decide +kernel
theorem d_D_code_115 : decode b_D_code 115 = .ok (.getfield 147, 3) := by decide +kernel
theorem d_D_code_118 : decode b_D_code 118 = .ok (.iload_n 1, 1) := by decide +kernel
theorem d_D_code_119 : decode b_D_code 119 = .ok (.iastore, 1) := by decide +kernel
theorem d_D_code_120 : decode b_D_code 120 = .ok (.aload_n 0, 1) := by decide +kernel
theorem d_D_code_121 : decode b_D_code 121 = .ok (.getfield 32, 3) := by decide +kernel
theorem d_D_code_124 : decode b_D_code 124 = .ok (.aload_n 0, 1) := by decide +kernel
theorem d_D_code_125 : decode b_D_code 125 = .ok (.getfield 147, 3) := by decide +kernel
theorem d_D_code_128 : decode b_D_code 128 = .ok (.lload_n 2, 1) := by decide +kernel
theorem d_D_code_129 : decode b_D_code 129 = .ok (.lastore, 1) := by decide +kernel
theorem d_D_code_130 : decode b_D_code 130 = .ok (.aload_n 0, 1) := by decide +kernel
theorem d_D_code_131 : decode b_D_code 131 = .ok (.dup, 1) := by decide +kernel
theorem d_D_code_132 : decode b_D_code 132 = .ok (.getfield 147, 3) := by decide +kernel
theorem d_D_code_135 : decode b_D_code 135 = .ok (.iconst 1, 1) := by decide +kernel
theorem d_D_code_136 : decode b_D_code 136 = .ok (.iadd, 1) := by decide +kernel
theorem d_D_code_137 : decode b_D_code 137 = .ok (.putfield 147, 3) := by decide +kernel
theorem d_D_code_140 : decode b_D_code 140 = .ok (.aload_n 0, 1) := by decide +kernel
theorem d_D_code_141 : decode b_D_code 141 = .ok (.getfield 147, 3) := by decide +kernel
theorem d_D_code_144 : decode b_D_code 144 = .ok (.ireturn, 1) := by decide +kernel
abbrev b_D_program : ByteArray := prog_3_method_14_code
def y_D_program : MethodName := ⟨"ShuffleMillModel", "program", "(II)I"⟩
theorem d_D_program_0 : decode b_D_program 0 = .ok (.iload_n 2, 1) := by decide +kernel
theorem d_D_program_1 : decode b_D_program 1 = .ok (.iconst 0, 1) := by decide +kernel
theorem d_D_program_2 : decode b_D_program 2 = .ok (.iconst 2, 1) := by decide +kernel
theorem d_D_program_3 : decode b_D_program 3 = .ok (.invokestatic 136, 3) := by decide +kernel
theorem d_D_program_6 : decode b_D_program 6 = .ok (.ifCond .eq 19, 3) := by decide +kernel
theorem d_D_program_9 : decode b_D_program 9 = .ok (.aload_n 0, 1) := by decide +kernel
theorem d_D_program_10 : decode b_D_program 10 = .ok (.getfield 147, 3) := by decide +kernel
theorem d_D_program_13 : decode b_D_program 13 = .ok (.ifCond .gt 8, 3) := by decide +kernel
theorem d_D_program_16 : decode b_D_program 16 = .ok (.iload_n 2, 1) := by decide +kernel
theorem d_D_program_17 : decode b_D_program 17 = .ok (.iconst 1, 1) := by decide +kernel
theorem d_D_program_18 : decode b_D_program 18 = .ok (.if_icmp .ne 7, 3) := by decide +kernel
theorem d_D_program_21 : decode b_D_program 21 = .ok (.iconst 1, 1) := by decide +kernel
theorem d_D_program_22 : decode b_D_program 22 = .ok (.goto 4, 3) := by decide +kernel
theorem d_D_program_25 : decode b_D_program 25 = .ok (.iconst 0, 1) := by decide +kernel
theorem d_D_program_26 : decode b_D_program 26 = .ok (.istore_n 3, 1) := by decide +kernel
theorem d_D_program_27 : decode b_D_program 27 = .ok (.iconst 0, 1) := by decide +kernel
theorem d_D_program_28 : decode b_D_program 28 = .ok (.istore 4, 2) := by decide +kernel
theorem d_D_program_30 : decode b_D_program 30 = .ok (.iload 4, 2) := by decide +kernel
theorem d_D_program_32 : decode b_D_program 32 = .ok (.aload_n 0, 1) := by decide +kernel
theorem d_D_program_33 : decode b_D_program 33 = .ok (.getfield 147, 3) := by decide +kernel
theorem d_D_program_36 : decode b_D_program 36 = .ok (.if_icmp .ge 51, 3) := by decide +kernel
theorem d_D_program_39 : decode b_D_program 39 = .ok (.aload_n 0, 1) := by decide +kernel
theorem d_D_program_40 : decode b_D_program 40 = .ok (.getfield 26, 3) := by decide +kernel
theorem d_D_program_43 : decode b_D_program 43 = .ok (.iload 4, 2) := by decide +kernel
theorem d_D_program_45 : decode b_D_program 45 = .ok (.iaload, 1) := by decide +kernel
theorem d_D_program_46 : decode b_D_program 46 = .ok (.bipush 15, 2) := by decide +kernel
theorem d_D_program_48 : decode b_D_program 48 = .ok (.if_icmp .eq 15, 3) := by decide +kernel
theorem d_D_program_51 : decode b_D_program 51 = .ok (.aload_n 0, 1) := by decide +kernel
theorem d_D_program_52 : decode b_D_program 52 = .ok (.getfield 26, 3) := by decide +kernel
theorem d_D_program_55 : decode b_D_program 55 = .ok (.iload 4, 2) := by decide +kernel
theorem d_D_program_57 : decode b_D_program 57 = .ok (.iaload, 1) := by decide +kernel
theorem d_D_program_58 : decode b_D_program 58 = .ok (.bipush 16, 2) := by decide +kernel
theorem d_D_program_60 : decode b_D_program 60 = .ok (.if_icmp .ne 21, 3) := by decide +kernel
theorem d_D_program_63 : decode b_D_program 63 = .ok (.aload_n 0, 1) := by decide +kernel
theorem d_D_program_64 : decode b_D_program 64 = .ok (.getfield 32, 3) := by decide +kernel
theorem d_D_program_67 : decode b_D_program 67 = .ok (.iload 4, 2) := by decide +kernel
theorem d_D_program_69 : decode b_D_program 69 = .ok (.laload, 1) := by decide +kernel
theorem d_D_program_70 : decode b_D_program 70 = .ok (.aload_n 0, 1) := by decide +kernel
theorem d_D_program_71 : decode b_D_program 71 = .ok (.getfield 147, 3) := by decide +kernel
theorem d_D_program_74 : decode b_D_program 74 = .ok (.i2l, 1) := by decide +kernel
theorem d_D_program_75 : decode b_D_program 75 = .ok (.lcmp, 1) := by decide +kernel
theorem d_D_program_76 : decode b_D_program 76 = .ok (.ifCond .le 5, 3) := by decide +kernel
theorem d_D_program_79 : decode b_D_program 79 = .ok (.iconst 0, 1) := by decide +kernel
theorem d_D_program_80 : decode b_D_program 80 = .ok (.istore_n 3, 1) := by decide +kernel
theorem d_D_program_81 : decode b_D_program 81 = .ok (.iinc 4 1, 3) := by decide +kernel
theorem d_D_program_84 : decode b_D_program 84 = .ok (.goto (-54), 3) := by decide +kernel
theorem d_D_program_87 : decode b_D_program 87 = .ok (.aload_n 0, 1) := by decide +kernel
theorem d_D_program_88 : decode b_D_program 88 = .ok (.iload_n 1, 1) := by decide +kernel
theorem d_D_program_89 : decode b_D_program 89 = .ok (.iconst 0, 1) := by decide +kernel
theorem d_D_program_90 : decode b_D_program 90 = .ok (.bipush 7, 2) := by decide +kernel
theorem d_D_program_92 : decode b_D_program 92 = .ok (.invokestatic 136, 3) := by decide +kernel
theorem d_D_program_95 : decode b_D_program 95 = .ok (.ifCond .ne 7, 3) := by decide +kernel
theorem d_D_program_98 : decode b_D_program 98 = .ok (.iconst 1, 1) := by decide +kernel
theorem d_D_program_99 : decode b_D_program 99 = .ok (.goto 23, 3) := by decide +kernel
theorem d_D_program_102 : decode b_D_program 102 = .ok (.iload_n 3, 1) := by decide +kernel
theorem d_D_program_103 : decode b_D_program 103 = .ok (.ifCond .ne 7, 3) := by decide +kernel
theorem d_D_program_106 : decode b_D_program 106 = .ok (.iconst 2, 1) := by decide +kernel
theorem d_D_program_107 : decode b_D_program 107 = .ok (.goto 15, 3) := by decide +kernel
theorem d_D_program_110 : decode b_D_program 110 = .ok (.aload_n 0, 1) := by decide +kernel
theorem d_D_program_111 : decode b_D_program 111 = .ok (.getfield 139, 3) := by decide +kernel
theorem d_D_program_114 : decode b_D_program 114 = .ok (.ifCond .eq 7, 3) := by decide +kernel
theorem d_D_program_117 : decode b_D_program 117 = .ok (.iconst 3, 1) := by decide +kernel
theorem d_D_program_118 : decode b_D_program 118 = .ok (.goto 4, 3) := by decide +kernel
theorem d_D_program_121 : decode b_D_program 121 = .ok (.iconst 0, 1) := by decide +kernel
theorem d_D_program_122 : decode b_D_program 122 = .ok (.putfield 87, 3) := by decide +kernel
theorem d_D_program_125 : decode b_D_program 125 = .ok (.aload_n 0, 1) := by decide +kernel
theorem d_D_program_126 : decode b_D_program 126 = .ok (.getfield 87, 3) := by decide +kernel
theorem d_D_program_129 : decode b_D_program 129 = .ok (.ifCond .le 5, 3) := by decide +kernel
theorem d_D_program_132 : decode b_D_program 132 = .ok (.iconst 0, 1) := by decide +kernel
theorem d_D_program_133 : decode b_D_program 133 = .ok (.ireturn, 1) := by decide +kernel
theorem d_D_program_134 : decode b_D_program 134 = .ok (.iconst 3, 1) := by decide +kernel
theorem d_D_program_135 : decode b_D_program 135 = .ok (.iload_n 1, 1) := by decide +kernel
theorem d_D_program_136 : decode b_D_program 136 = .ok (.imul, 1) := by decide +kernel
theorem d_D_program_137 : decode b_D_program 137 = .ok (.iload_n 2, 1) := by decide +kernel
theorem d_D_program_138 : decode b_D_program 138 = .ok (.iadd, 1) := by decide +kernel
theorem d_D_program_139 : decode b_D_program 139 = .ok (.istore 4, 2) := by decide +kernel
theorem d_D_program_141 : decode b_D_program 141 = .ok (.aload_n 0, 1) := by decide +kernel
theorem d_D_program_142 : decode b_D_program 142 = .ok (.getfield 147, 3) := by decide +kernel
theorem d_D_program_145 : decode b_D_program 145 = .ok (.istore 5, 2) := by decide +kernel
theorem d_D_program_147 : decode b_D_program 147 = .ok (.iconst 0, 1) := by decide +kernel
theorem d_D_program_148 : decode b_D_program 148 = .ok (.istore 6, 2) := by decide +kernel
theorem d_D_program_150 : decode b_D_program 150 = .ok (.iload 6, 2) := by decide +kernel
theorem d_D_program_152 : decode b_D_program 152 = .ok (.iload 5, 2) := by decide +kernel
theorem d_D_program_154 : decode b_D_program 154 = .ok (.if_icmp .ge 49, 3) := by decide +kernel
theorem d_D_program_157 : decode b_D_program 157 = .ok (.aload_n 0, 1) := by decide +kernel
theorem d_D_program_158 : decode b_D_program 158 = .ok (.getfield 20, 3) := by decide +kernel
theorem d_D_program_161 : decode b_D_program 161 = .ok (.bipush 40, 2) := by decide +kernel
theorem d_D_program_163 : decode b_D_program 163 = .ok (.iload 4, 2) := by decide +kernel
theorem d_D_program_165 : decode b_D_program 165 = .ok (.imul, 1) := by decide +kernel
theorem d_D_program_166 : decode b_D_program 166 = .ok (.iload 6, 2) := by decide +kernel
theorem d_D_program_168 : decode b_D_program 168 = .ok (.iadd, 1) := by decide +kernel
theorem d_D_program_169 : decode b_D_program 169 = .ok (.aload_n 0, 1) := by decide +kernel
theorem d_D_program_170 : decode b_D_program 170 = .ok (.getfield 26, 3) := by decide +kernel
theorem d_D_program_173 : decode b_D_program 173 = .ok (.iload 6, 2) := by decide +kernel
theorem d_D_program_175 : decode b_D_program 175 = .ok (.iaload, 1) := by decide +kernel
theorem d_D_program_176 : decode b_D_program 176 = .ok (.iastore, 1) := by decide +kernel
theorem d_D_program_177 : decode b_D_program 177 = .ok (.aload_n 0, 1) := by decide +kernel
theorem d_D_program_178 : decode b_D_program 178 = .ok (.getfield 29, 3) := by decide +kernel
theorem d_D_program_181 : decode b_D_program 181 = .ok (.bipush 40, 2) := by decide +kernel
theorem d_D_program_183 : decode b_D_program 183 = .ok (.iload 4, 2) := by decide +kernel
theorem d_D_program_185 : decode b_D_program 185 = .ok (.imul, 1) := by decide +kernel
theorem d_D_program_186 : decode b_D_program 186 = .ok (.iload 6, 2) := by decide +kernel
theorem d_D_program_188 : decode b_D_program 188 = .ok (.iadd, 1) := by decide +kernel
theorem d_D_program_189 : decode b_D_program 189 = .ok (.aload_n 0, 1) := by decide +kernel
theorem d_D_program_190 : decode b_D_program 190 = .ok (.getfield 32, 3) := by decide +kernel
theorem d_D_program_193 : decode b_D_program 193 = .ok (.iload 6, 2) := by decide +kernel
theorem d_D_program_195 : decode b_D_program 195 = .ok (.laload, 1) := by decide +kernel
theorem d_D_program_196 : decode b_D_program 196 = .ok (.lastore, 1) := by decide +kernel
theorem d_D_program_197 : decode b_D_program 197 = .ok (.iinc 6 1, 3) := by decide +kernel
theorem d_D_program_200 : decode b_D_program 200 = .ok (.goto (-50), 3) := by decide +kernel
theorem d_D_program_203 : decode b_D_program 203 = .ok (.aload_n 0, 1) := by decide +kernel
theorem d_D_program_204 : decode b_D_program 204 = .ok (.getfield 23, 3) := by decide +kernel
theorem d_D_program_207 : decode b_D_program 207 = .ok (.iload 4, 2) := by decide +kernel
theorem d_D_program_209 : decode b_D_program 209 = .ok (.iload 5, 2) := by decide +kernel
theorem d_D_program_211 : decode b_D_program 211 = .ok (.iastore, 1) := by decide +kernel
theorem d_D_program_212 : decode b_D_program 212 = .ok (.aload_n 0, 1) := by decide +kernel
theorem d_D_program_213 : decode b_D_program 213 = .ok (.iconst 0, 1) := by decide +kernel
theorem d_D_program_214 : decode b_D_program 214 = .ok (.putfield 147, 3) := by decide +kernel
theorem d_D_program_217 : decode b_D_program 217 = .ok (.iload 5, 2) := by decide +kernel
theorem d_D_program_219 : decode b_D_program 219 = .ok (.ireturn, 1) := by decide +kernel
abbrev b_D_job : ByteArray := prog_3_method_15_code
def y_D_job : MethodName := ⟨"ShuffleMillModel", "job", "(IIIII)V"⟩
theorem d_D_job_0 : decode b_D_job 0 = .ok (.aload_n 0, 1) := by decide +kernel
theorem d_D_job_1 : decode b_D_job 1 = .ok (.iload_n 1, 1) := by decide +kernel
theorem d_D_job_2 : decode b_D_job 2 = .ok (.iconst 0, 1) := by decide +kernel
theorem d_D_job_3 : decode b_D_job 3 = .ok (.bipush 7, 2) := by decide +kernel
theorem d_D_job_5 : decode b_D_job 5 = .ok (.invokestatic 136, 3) := by decide +kernel
theorem d_D_job_8 : decode b_D_job 8 = .ok (.ifCond .ne 7, 3) := by decide +kernel
theorem d_D_job_11 : decode b_D_job 11 = .ok (.iconst 1, 1) := by decide +kernel
theorem d_D_job_12 : decode b_D_job 12 = .ok (.goto 85, 3) := by decide +kernel
theorem d_D_job_15 : decode b_D_job 15 = .ok (.iload_n 2, 1) := by decide +kernel
theorem d_D_job_16 : decode b_D_job 16 = .ok (.iconst 0, 1) := by decide +kernel
theorem d_D_job_17 : decode b_D_job 17 = .ok (.bipush 15, 2) := by decide +kernel
theorem d_D_job_19 : decode b_D_job 19 = .ok (.invokestatic 136, 3) := by decide +kernel
theorem d_D_job_22 : decode b_D_job 22 = .ok (.ifCond .eq 35, 3) := by decide +kernel
theorem d_D_job_25 : decode b_D_job 25 = .ok (.iload 4, 2) := by decide +kernel
theorem d_D_job_27 : decode b_D_job 27 = .ok (.iconst 0, 1) := by decide +kernel
theorem d_D_job_28 : decode b_D_job 28 = .ok (.bipush 15, 2) := by decide +kernel
theorem d_D_job_30 : decode b_D_job 30 = .ok (.invokestatic 136, 3) := by decide +kernel
theorem d_D_job_33 : decode b_D_job 33 = .ok (.ifCond .eq 24, 3) := by decide +kernel
theorem d_D_job_36 : decode b_D_job 36 = .ok (.iload_n 3, 1) := by decide +kernel
theorem d_D_job_37 : decode b_D_job 37 = .ok (.iconst (-1), 1) := by decide +kernel
theorem d_D_job_38 : decode b_D_job 38 = .ok (.bipush 15, 2) := by decide +kernel
theorem d_D_job_40 : decode b_D_job 40 = .ok (.invokestatic 136, 3) := by decide +kernel
theorem d_D_job_43 : decode b_D_job 43 = .ok (.ifCond .eq 14, 3) := by decide +kernel
theorem d_D_job_46 : decode b_D_job 46 = .ok (.iload 5, 2) := by decide +kernel
theorem d_D_job_48 : decode b_D_job 48 = .ok (.iconst 1, 1) := by decide +kernel
theorem d_D_job_49 : decode b_D_job 49 = .ok (.bipush 6, 2) := by decide +kernel
theorem d_D_job_51 : decode b_D_job 51 = .ok (.invokestatic 136, 3) := by decide +kernel
theorem d_D_job_54 : decode b_D_job 54 = .ok (.ifCond .ne 7, 3) := by decide +kernel
theorem d_D_job_57 : decode b_D_job 57 = .ok (.iconst 2, 1) := by decide +kernel
theorem d_D_job_58 : decode b_D_job 58 = .ok (.goto 39, 3) := by decide +kernel
theorem d_D_job_61 : decode b_D_job 61 = .ok (.aload_n 0, 1) := by decide +kernel
theorem d_D_job_62 : decode b_D_job 62 = .ok (.getfield 23, 3) := by decide +kernel
theorem d_D_job_65 : decode b_D_job 65 = .ok (.iconst 3, 1) := by decide +kernel
theorem d_D_job_66 : decode b_D_job 66 = .ok (.iload_n 1, 1) := by decide +kernel
theorem d_D_job_67 : decode b_D_job 67 = .ok (.imul, 1) := by decide +kernel
theorem d_D_job_68 : decode b_D_job 68 = .ok (.iaload, 1) := by decide +kernel
theorem d_D_job_69 : decode b_D_job 69 = .ok (.ifCond .eq 23, 3) := by decide +kernel
theorem d_D_job_72 : decode b_D_job 72 = .ok (.aload_n 0, 1) := by decide +kernel
theorem d_D_job_73 : decode b_D_job 73 = .ok (.getfield 23, 3) := by decide +kernel
theorem d_D_job_76 : decode b_D_job 76 = .ok (.iconst 3, 1) := by decide +kernel
theorem d_D_job_77 : decode b_D_job 77 = .ok (.iload_n 1, 1) := by decide +kernel
theorem d_D_job_78 : decode b_D_job 78 = .ok (.imul, 1) := by decide +kernel
theorem d_D_job_79 : decode b_D_job 79 = .ok (.iconst 2, 1) := by decide +kernel
theorem d_D_job_80 : decode b_D_job 80 = .ok (.iadd, 1) := by decide +kernel
theorem d_D_job_81 : decode b_D_job 81 = .ok (.iaload, 1) := by decide +kernel
theorem d_D_job_82 : decode b_D_job 82 = .ok (.ifCond .eq 10, 3) := by decide +kernel
theorem d_D_job_85 : decode b_D_job 85 = .ok (.aload_n 0, 1) := by decide +kernel
theorem d_D_job_86 : decode b_D_job 86 = .ok (.getfield 139, 3) := by decide +kernel
theorem d_D_job_89 : decode b_D_job 89 = .ok (.ifCond .eq 7, 3) := by decide +kernel
theorem d_D_job_92 : decode b_D_job 92 = .ok (.iconst 3, 1) := by decide +kernel
theorem d_D_job_93 : decode b_D_job 93 = .ok (.goto 4, 3) := by decide +kernel
theorem d_D_job_96 : decode b_D_job 96 = .ok (.iconst 0, 1) := by decide +kernel
theorem d_D_job_97 : decode b_D_job 97 = .ok (.putfield 87, 3) := by decide +kernel
theorem d_D_job_100 : decode b_D_job 100 = .ok (.aload_n 0, 1) := by decide +kernel
theorem d_D_job_101 : decode b_D_job 101 = .ok (.getfield 87, 3) := by decide +kernel
theorem d_D_job_104 : decode b_D_job 104 = .ok (.ifCond .le 4, 3) := by decide +kernel
theorem d_D_job_107 : decode b_D_job 107 = .ok (.return_, 1) := by decide +kernel
theorem d_D_job_108 : decode b_D_job 108 = .ok (.aload_n 0, 1) := by decide +kernel
theorem d_D_job_109 : decode b_D_job 109 = .ok (.getfield 50, 3) := by decide +kernel
theorem d_D_job_112 : decode b_D_job 112 = .ok (.iload_n 1, 1) := by decide +kernel
theorem d_D_job_113 : decode b_D_job 113 = .ok (.iconst 1, 1) := by decide +kernel
theorem d_D_job_114 : decode b_D_job 114 = .ok (.bastore, 1) := by decide +kernel
theorem d_D_job_115 : decode b_D_job 115 = .ok (.aload_n 0, 1) := by decide +kernel
theorem d_D_job_116 : decode b_D_job 116 = .ok (.getfield 35, 3) := by decide +kernel
theorem d_D_job_119 : decode b_D_job 119 = .ok (.iload_n 1, 1) := by decide +kernel
theorem d_D_job_120 : decode b_D_job 120 = .ok (.iload_n 2, 1) := by decide +kernel
theorem d_D_job_121 : decode b_D_job 121 = .ok (.iastore, 1) := by decide +kernel
theorem d_D_job_122 : decode b_D_job 122 = .ok (.aload_n 0, 1) := by decide +kernel
theorem d_D_job_123 : decode b_D_job 123 = .ok (.getfield 38, 3) := by decide +kernel
theorem d_D_job_126 : decode b_D_job 126 = .ok (.iload_n 1, 1) := by decide +kernel
theorem d_D_job_127 : decode b_D_job 127 = .ok (.iload_n 3, 1) := by decide +kernel
theorem d_D_job_128 : decode b_D_job 128 = .ok (.iastore, 1) := by decide +kernel
theorem d_D_job_129 : decode b_D_job 129 = .ok (.aload_n 0, 1) := by decide +kernel
theorem d_D_job_130 : decode b_D_job 130 = .ok (.getfield 41, 3) := by decide +kernel
theorem d_D_job_133 : decode b_D_job 133 = .ok (.iload_n 1, 1) := by decide +kernel
theorem d_D_job_134 : decode b_D_job 134 = .ok (.iload 4, 2) := by decide +kernel
theorem d_D_job_136 : decode b_D_job 136 = .ok (.iastore, 1) := by decide +kernel
theorem d_D_job_137 : decode b_D_job 137 = .ok (.aload_n 0, 1) := by decide +kernel
theorem d_D_job_138 : decode b_D_job 138 = .ok (.getfield 44, 3) := by decide +kernel
theorem d_D_job_141 : decode b_D_job 141 = .ok (.iload_n 1, 1) := by decide +kernel
theorem d_D_job_142 : decode b_D_job 142 = .ok (.iload 5, 2) := by decide +kernel
theorem d_D_job_144 : decode b_D_job 144 = .ok (.iastore, 1) := by decide +kernel
theorem d_D_job_145 : decode b_D_job 145 = .ok (.return_, 1) := by decide +kernel
abbrev b_D_drop : ByteArray := prog_3_method_16_code
def y_D_drop : MethodName := ⟨"ShuffleMillModel", "drop", "(I)Z"⟩
theorem d_D_drop_0 : decode b_D_drop 0 = .ok (.aload_n 0, 1) := by decide +kernel
theorem d_D_drop_1 : decode b_D_drop 1 = .ok (.iload_n 1, 1) := by decide +kernel
theorem d_D_drop_2 : decode b_D_drop 2 = .ok (.iconst 0, 1) := by decide +kernel
theorem d_D_drop_3 : decode b_D_drop 3 = .ok (.bipush 7, 2) := by decide +kernel
theorem d_D_drop_5 : decode b_D_drop 5 = .ok (.invokestatic 136, 3) := by decide +kernel
theorem d_D_drop_8 : decode b_D_drop 8 = .ok (.ifCond .ne 7, 3) := by decide +kernel
theorem d_D_drop_11 : decode b_D_drop 11 = .ok (.iconst 1, 1) := by decide +kernel
theorem d_D_drop_12 : decode b_D_drop 12 = .ok (.goto 15, 3) := by decide +kernel
theorem d_D_drop_15 : decode b_D_drop 15 = .ok (.aload_n 0, 1) := by decide +kernel
theorem d_D_drop_16 : decode b_D_drop 16 = .ok (.getfield 139, 3) := by decide +kernel
theorem d_D_drop_19 : decode b_D_drop 19 = .ok (.ifCond .eq 7, 3) := by decide +kernel
theorem d_D_drop_22 : decode b_D_drop 22 = .ok (.iconst 2, 1) := by decide +kernel
theorem d_D_drop_23 : decode b_D_drop 23 = .ok (.goto 4, 3) := by decide +kernel
theorem d_D_drop_26 : decode b_D_drop 26 = .ok (.iconst 0, 1) := by decide +kernel
theorem d_D_drop_27 : decode b_D_drop 27 = .ok (.putfield 87, 3) := by decide +kernel
theorem d_D_drop_30 : decode b_D_drop 30 = .ok (.aload_n 0, 1) := by decide +kernel
theorem d_D_drop_31 : decode b_D_drop 31 = .ok (.getfield 87, 3) := by decide +kernel
theorem d_D_drop_34 : decode b_D_drop 34 = .ok (.ifCond .le 5, 3) := by decide +kernel
theorem d_D_drop_37 : decode b_D_drop 37 = .ok (.iconst 0, 1) := by decide +kernel
theorem d_D_drop_38 : decode b_D_drop 38 = .ok (.ireturn, 1) := by decide +kernel
theorem d_D_drop_39 : decode b_D_drop 39 = .ok (.aload_n 0, 1) := by decide +kernel
theorem d_D_drop_40 : decode b_D_drop 40 = .ok (.getfield 50, 3) := by decide +kernel
theorem d_D_drop_43 : decode b_D_drop 43 = .ok (.iload_n 1, 1) := by decide +kernel
theorem d_D_drop_44 : decode b_D_drop 44 = .ok (.baload, 1) := by decide +kernel
theorem d_D_drop_45 : decode b_D_drop 45 = .ok (.istore_n 2, 1) := by decide +kernel
theorem d_D_drop_46 : decode b_D_drop 46 = .ok (.aload_n 0, 1) := by decide +kernel
theorem d_D_drop_47 : decode b_D_drop 47 = .ok (.getfield 50, 3) := by decide +kernel
theorem d_D_drop_50 : decode b_D_drop 50 = .ok (.iload_n 1, 1) := by decide +kernel
theorem d_D_drop_51 : decode b_D_drop 51 = .ok (.iconst 0, 1) := by decide +kernel
theorem d_D_drop_52 : decode b_D_drop 52 = .ok (.bastore, 1) := by decide +kernel
theorem d_D_drop_53 : decode b_D_drop 53 = .ok (.iload_n 2, 1) := by decide +kernel
theorem d_D_drop_54 : decode b_D_drop 54 = .ok (.ireturn, 1) := by decide +kernel
abbrev b_D_begin : ByteArray := prog_3_method_17_code
def y_D_begin : MethodName := ⟨"ShuffleMillModel", "begin", "()I"⟩
theorem d_D_begin_0 : decode b_D_begin 0 = .ok (.aload_n 0, 1) := by decide +kernel
theorem d_D_begin_1 : decode b_D_begin 1 = .ok (.aload_n 0, 1) := by decide +kernel
theorem d_D_begin_2 : decode b_D_begin 2 = .ok (.getfield 139, 3) := by decide +kernel
theorem d_D_begin_5 : decode b_D_begin 5 = .ok (.ifCond .eq 7, 3) := by decide +kernel
theorem d_D_begin_8 : decode b_D_begin 8 = .ok (.iconst 1, 1) := by decide +kernel
theorem d_D_begin_9 : decode b_D_begin 9 = .ok (.goto 15, 3) := by decide +kernel
theorem d_D_begin_12 : decode b_D_begin 12 = .ok (.aload_n 0, 1) := by decide +kernel
theorem d_D_begin_13 : decode b_D_begin 13 = .ok (.invokevirtual 150, 3) := by decide +kernel
theorem d_D_begin_16 : decode b_D_begin 16 = .ok (.ifCond .ne 7, 3) := by decide +kernel
theorem d_D_begin_19 : decode b_D_begin 19 = .ok (.iconst 2, 1) := by decide +kernel
theorem d_D_begin_20 : decode b_D_begin 20 = .ok (.goto 4, 3) := by decide +kernel
theorem d_D_begin_23 : decode b_D_begin 23 = .ok (.iconst 0, 1) := by decide +kernel
theorem d_D_begin_24 : decode b_D_begin 24 = .ok (.putfield 87, 3) := by decide +kernel
theorem d_D_begin_27 : decode b_D_begin 27 = .ok (.aload_n 0, 1) := by decide +kernel
theorem d_D_begin_28 : decode b_D_begin 28 = .ok (.getfield 87, 3) := by decide +kernel
theorem d_D_begin_31 : decode b_D_begin 31 = .ok (.ifCond .le 5, 3) := by decide +kernel
theorem d_D_begin_34 : decode b_D_begin 34 = .ok (.iconst 0, 1) := by decide +kernel
theorem d_D_begin_35 : decode b_D_begin 35 = .ok (.ireturn, 1) := by decide +kernel
theorem d_D_begin_36 : decode b_D_begin 36 = .ok (.aload_n 0, 1) := by decide +kernel
theorem d_D_begin_37 : decode b_D_begin 37 = .ok (.iconst 1, 1) := by decide +kernel
theorem d_D_begin_38 : decode b_D_begin 38 = .ok (.putfield 139, 3) := by decide +kernel
theorem d_D_begin_41 : decode b_D_begin 41 = .ok (.aload_n 0, 1) := by decide +kernel
theorem d_D_begin_42 : decode b_D_begin 42 = .ok (.dup, 1) := by decide +kernel
theorem d_D_begin_43 : decode b_D_begin 43 = .ok (.getfield 154, 3) := by decide +kernel
theorem d_D_begin_46 : decode b_D_begin 46 = .ok (.iconst 1, 1) := by decide +kernel
theorem d_D_begin_47 : decode b_D_begin 47 = .ok (.iadd, 1) := by decide +kernel
theorem d_D_begin_48 : decode b_D_begin 48 = .ok (.putfield 154, 3) := by decide +kernel
theorem d_D_begin_51 : decode b_D_begin 51 = .ok (.aload_n 0, 1) := by decide +kernel
theorem d_D_begin_52 : decode b_D_begin 52 = .ok (.getfield 129, 3) := by decide +kernel
theorem d_D_begin_55 : decode b_D_begin 55 = .ok (.ireturn, 1) := by decide +kernel
abbrev b_D_tick : ByteArray := prog_3_method_18_code
def y_D_tick : MethodName := ⟨"ShuffleMillModel", "tick", "(II)V"⟩
theorem d_D_tick_0 : decode b_D_tick 0 = .ok (.aload_n 0, 1) := by decide +kernel
theorem d_D_tick_1 : decode b_D_tick 1 = .ok (.iload_n 1, 1) := by decide +kernel
theorem d_D_tick_2 : decode b_D_tick 2 = .ok (.iconst 0, 1) := by decide +kernel
theorem d_D_tick_3 : decode b_D_tick 3 = .ok (.bipush 6, 2) := by decide +kernel
theorem d_D_tick_5 : decode b_D_tick 5 = .ok (.invokestatic 136, 3) := by decide +kernel
theorem d_D_tick_8 : decode b_D_tick 8 = .ok (.ifCond .ne 7, 3) := by decide +kernel
theorem d_D_tick_11 : decode b_D_tick 11 = .ok (.iconst 1, 1) := by decide +kernel
theorem d_D_tick_12 : decode b_D_tick 12 = .ok (.goto 30, 3) := by decide +kernel
theorem d_D_tick_15 : decode b_D_tick 15 = .ok (.iload_n 2, 1) := by decide +kernel
theorem d_D_tick_16 : decode b_D_tick 16 = .ok (.iconst 1, 1) := by decide +kernel
theorem d_D_tick_17 : decode b_D_tick 17 = .ok (.sipush 200, 3) := by decide +kernel
theorem d_D_tick_20 : decode b_D_tick 20 = .ok (.invokestatic 136, 3) := by decide +kernel
theorem d_D_tick_23 : decode b_D_tick 23 = .ok (.ifCond .ne 7, 3) := by decide +kernel
theorem d_D_tick_26 : decode b_D_tick 26 = .ok (.iconst 2, 1) := by decide +kernel
theorem d_D_tick_27 : decode b_D_tick 27 = .ok (.goto 15, 3) := by decide +kernel
theorem d_D_tick_30 : decode b_D_tick 30 = .ok (.aload_n 0, 1) := by decide +kernel
theorem d_D_tick_31 : decode b_D_tick 31 = .ok (.getfield 139, 3) := by decide +kernel
theorem d_D_tick_34 : decode b_D_tick 34 = .ok (.ifCond .ne 7, 3) := by decide +kernel
theorem d_D_tick_37 : decode b_D_tick 37 = .ok (.iconst 3, 1) := by decide +kernel
theorem d_D_tick_38 : decode b_D_tick 38 = .ok (.goto 4, 3) := by decide +kernel
theorem d_D_tick_41 : decode b_D_tick 41 = .ok (.iconst 0, 1) := by decide +kernel
theorem d_D_tick_42 : decode b_D_tick 42 = .ok (.putfield 87, 3) := by decide +kernel
theorem d_D_tick_45 : decode b_D_tick 45 = .ok (.return_, 1) := by decide +kernel
abbrev b_D_crash : ByteArray := prog_3_method_19_code
def y_D_crash : MethodName := ⟨"ShuffleMillModel", "crash", "(I)V"⟩
theorem d_D_crash_0 : decode b_D_crash 0 = .ok (.aload_n 0, 1) := by decide +kernel
theorem d_D_crash_1 : decode b_D_crash 1 = .ok (.iload_n 1, 1) := by decide +kernel
theorem d_D_crash_2 : decode b_D_crash 2 = .ok (.iconst 0, 1) := by decide +kernel
theorem d_D_crash_3 : decode b_D_crash 3 = .ok (.bipush 6, 2) := by decide +kernel
theorem d_D_crash_5 : decode b_D_crash 5 = .ok (.invokestatic 136, 3) := by decide +kernel
theorem d_D_crash_8 : decode b_D_crash 8 = .ok (.ifCond .ne 7, 3) := by decide +kernel
theorem d_D_crash_11 : decode b_D_crash 11 = .ok (.iconst 1, 1) := by decide +kernel
theorem d_D_crash_12 : decode b_D_crash 12 = .ok (.goto 15, 3) := by decide +kernel
theorem d_D_crash_15 : decode b_D_crash 15 = .ok (.aload_n 0, 1) := by decide +kernel
theorem d_D_crash_16 : decode b_D_crash 16 = .ok (.getfield 139, 3) := by decide +kernel
theorem d_D_crash_19 : decode b_D_crash 19 = .ok (.ifCond .ne 7, 3) := by decide +kernel
theorem d_D_crash_22 : decode b_D_crash 22 = .ok (.iconst 2, 1) := by decide +kernel
theorem d_D_crash_23 : decode b_D_crash 23 = .ok (.goto 4, 3) := by decide +kernel
theorem d_D_crash_26 : decode b_D_crash 26 = .ok (.iconst 0, 1) := by decide +kernel
theorem d_D_crash_27 : decode b_D_crash 27 = .ok (.putfield 87, 3) := by decide +kernel
theorem d_D_crash_30 : decode b_D_crash 30 = .ok (.return_, 1) := by decide +kernel
abbrev b_D_line : ByteArray := prog_3_method_20_code
def y_D_line : MethodName := ⟨"ShuffleMillModel", "line", "(II)V"⟩
theorem d_D_line_0 : decode b_D_line 0 = .ok (.aload_n 0, 1) := by decide +kernel
theorem d_D_line_1 : decode b_D_line 1 = .ok (.aload_n 0, 1) := by decide +kernel
theorem d_D_line_2 : decode b_D_line 2 = .ok (.getfield 139, 3) := by decide +kernel
theorem d_D_line_5 : decode b_D_line 5 = .ok (.ifCond .eq 7, 3) := by decide +kernel
theorem d_D_line_8 : decode b_D_line 8 = .ok (.iconst 0, 1) := by decide +kernel
theorem d_D_line_9 : decode b_D_line 9 = .ok (.goto 4, 3) := by decide +kernel
theorem d_D_line_12 : decode b_D_line 12 = .ok (.iconst 1, 1) := by decide +kernel
theorem d_D_line_13 : decode b_D_line 13 = .ok (.putfield 87, 3) := by decide +kernel
theorem d_D_line_16 : decode b_D_line 16 = .ok (.return_, 1) := by decide +kernel
abbrev b_D_finish : ByteArray := prog_3_method_21_code
def y_D_finish : MethodName := ⟨"ShuffleMillModel", "finish", "()I"⟩
theorem d_D_finish_0 : decode b_D_finish 0 = .ok (.aload_n 0, 1) := by decide +kernel
theorem d_D_finish_1 : decode b_D_finish 1 = .ok (.aload_n 0, 1) := by decide +kernel
theorem d_D_finish_2 : decode b_D_finish 2 = .ok (.getfield 139, 3) := by decide +kernel
theorem d_D_finish_5 : decode b_D_finish 5 = .ok (.ifCond .eq 7, 3) := by decide +kernel
theorem d_D_finish_8 : decode b_D_finish 8 = .ok (.iconst 0, 1) := by decide +kernel
theorem d_D_finish_9 : decode b_D_finish 9 = .ok (.goto 4, 3) := by decide +kernel
theorem d_D_finish_12 : decode b_D_finish 12 = .ok (.iconst 1, 1) := by decide +kernel
theorem d_D_finish_13 : decode b_D_finish 13 = .ok (.putfield 87, 3) := by decide +kernel
theorem d_D_finish_16 : decode b_D_finish 16 = .ok (.aload_n 0, 1) := by decide +kernel
theorem d_D_finish_17 : decode b_D_finish 17 = .ok (.getfield 87, 3) := by decide +kernel
theorem d_D_finish_20 : decode b_D_finish 20 = .ok (.ifCond .le 5, 3) := by decide +kernel
theorem d_D_finish_23 : decode b_D_finish 23 = .ok (.iconst 0, 1) := by decide +kernel
theorem d_D_finish_24 : decode b_D_finish 24 = .ok (.ireturn, 1) := by decide +kernel
theorem d_D_finish_25 : decode b_D_finish 25 = .ok (.aload_n 0, 1) := by decide +kernel
theorem d_D_finish_26 : decode b_D_finish 26 = .ok (.iconst 0, 1) := by decide +kernel
theorem d_D_finish_27 : decode b_D_finish 27 = .ok (.putfield 139, 3) := by decide +kernel
theorem d_D_finish_30 : decode b_D_finish 30 = .ok (.iconst 0, 1) := by decide +kernel
theorem d_D_finish_31 : decode b_D_finish 31 = .ok (.istore_n 1, 1) := by decide +kernel
theorem d_D_finish_32 : decode b_D_finish 32 = .ok (.iload_n 1, 1) := by decide +kernel
theorem d_D_finish_33 : decode b_D_finish 33 = .ok (.aload_n 0, 1) := by decide +kernel
theorem d_D_finish_34 : decode b_D_finish 34 = .ok (.getfield 129, 3) := by decide +kernel
theorem d_D_finish_37 : decode b_D_finish 37 = .ok (.if_icmp .ge 29, 3) := by decide +kernel
theorem d_D_finish_40 : decode b_D_finish 40 = .ok (.aload_n 0, 1) := by decide +kernel
theorem d_D_finish_41 : decode b_D_finish 41 = .ok (.aload_n 0, 1) := by decide +kernel
theorem d_D_finish_42 : decode b_D_finish 42 = .ok (.getfield 47, 3) := by decide +kernel
theorem d_D_finish_45 : decode b_D_finish 45 = .ok (.iload_n 1, 1) := by decide +kernel
theorem d_D_finish_46 : decode b_D_finish 46 = .ok (.iaload, 1) := by decide +kernel
theorem d_D_finish_47 : decode b_D_finish 47 = .ok (.invokevirtual 157, 3) := by decide +kernel
theorem d_D_finish_50 : decode b_D_finish 50 = .ok (.ifCond .ne 10, 3) := by decide +kernel
theorem d_D_finish_53 : decode b_D_finish 53 = .ok (.aload_n 0, 1) := by decide +kernel
theorem d_D_finish_54 : decode b_D_finish 54 = .ok (.getfield 47, 3) := by decide +kernel
theorem d_D_finish_57 : decode b_D_finish 57 = .ok (.iload_n 1, 1) := by decide +kernel
theorem d_D_finish_58 : decode b_D_finish 58 = .ok (.iaload, 1) := by decide +kernel
theorem d_D_finish_59 : decode b_D_finish 59 = .ok (.ireturn, 1) := by decide +kernel
theorem d_D_finish_60 : decode b_D_finish 60 = .ok (.iinc 1 1, 3) := by decide +kernel
theorem d_D_finish_63 : decode b_D_finish 63 = .ok (.goto (-31), 3) := by decide +kernel
theorem d_D_finish_66 : decode b_D_finish 66 = .ok (.iconst (-1), 1) := by decide +kernel
theorem d_D_finish_67 : decode b_D_finish 67 = .ok (.ireturn, 1) := by decide +kernel
abbrev b_D_told : ByteArray := prog_3_method_22_code
def y_D_told : MethodName := ⟨"ShuffleMillModel", "told", "(IIZ)J"⟩
theorem d_D_told_0 : decode b_D_told 0 = .ok (.aload_n 0, 1) := by decide +kernel
theorem d_D_told_1 : decode b_D_told 1 = .ok (.iload_n 1, 1) := by decide +kernel
theorem d_D_told_2 : decode b_D_told 2 = .ok (.iconst 0, 1) := by decide +kernel
theorem d_D_told_3 : decode b_D_told 3 = .ok (.bipush 15, 2) := by decide +kernel
theorem d_D_told_5 : decode b_D_told 5 = .ok (.invokestatic 136, 3) := by decide +kernel
theorem d_D_told_8 : decode b_D_told 8 = .ok (.ifCond .ne 7, 3) := by decide +kernel
theorem d_D_told_11 : decode b_D_told 11 = .ok (.iconst 1, 1) := by decide +kernel
theorem d_D_told_12 : decode b_D_told 12 = .ok (.goto 35, 3) := by decide +kernel
theorem d_D_told_15 : decode b_D_told 15 = .ok (.aload_n 0, 1) := by decide +kernel
theorem d_D_told_16 : decode b_D_told 16 = .ok (.getfield 139, 3) := by decide +kernel
theorem d_D_told_19 : decode b_D_told 19 = .ok (.ifCond .eq 7, 3) := by decide +kernel
theorem d_D_told_22 : decode b_D_told 22 = .ok (.iconst 2, 1) := by decide +kernel
theorem d_D_told_23 : decode b_D_told 23 = .ok (.goto 24, 3) := by decide +kernel
theorem d_D_told_26 : decode b_D_told 26 = .ok (.iload_n 2, 1) := by decide +kernel
theorem d_D_told_27 : decode b_D_told 27 = .ok (.iconst 0, 1) := by decide +kernel
theorem d_D_told_28 : decode b_D_told 28 = .ok (.aload_n 0, 1) := by decide +kernel
theorem d_D_told_29 : decode b_D_told 29 = .ok (.getfield 16, 3) := by decide +kernel
theorem d_D_told_32 : decode b_D_told 32 = .ok (.iload_n 1, 1) := by decide +kernel
theorem d_D_told_33 : decode b_D_told 33 = .ok (.iaload, 1) := by decide +kernel
theorem d_D_told_34 : decode b_D_told 34 = .ok (.iconst 1, 1) := by decide +kernel
theorem d_D_told_35 : decode b_D_told 35 = .ok (.isub, 1) := by decide +kernel
theorem d_D_told_36 : decode b_D_told 36 = .ok (.invokestatic 136, 3) := by decide +kernel
theorem d_D_told_39 : decode b_D_told 39 = .ok (.ifCond .ne 7, 3) := by decide +kernel
theorem d_D_told_42 : decode b_D_told 42 = .ok (.iconst 1, 1) := by decide +kernel
theorem d_D_told_43 : decode b_D_told 43 = .ok (.goto 4, 3) := by decide +kernel
theorem d_D_told_46 : decode b_D_told 46 = .ok (.iconst 0, 1) := by decide +kernel
theorem d_D_told_47 : decode b_D_told 47 = .ok (.putfield 87, 3) := by decide +kernel
theorem d_D_told_50 : decode b_D_told 50 = .ok (.aload_n 0, 1) := by decide +kernel
theorem d_D_told_51 : decode b_D_told 51 = .ok (.getfield 87, 3) := by decide +kernel
theorem d_D_told_54 : decode b_D_told 54 = .ok (.ifCond .le 5, 3) := by decide +kernel
theorem d_D_told_57 : decode b_D_told 57 = .ok (.lconst 0, 1) := by decide +kernel
theorem d_D_told_58 : decode b_D_told 58 = .ok (.lreturn, 1) := by decide +kernel
theorem d_D_told_59 : decode b_D_told 59 = .ok (.iload_n 3, 1) := by decide +kernel
theorem d_D_told_60 : decode b_D_told 60 = .ok (.ifCond .eq 18, 3) := by decide +kernel
theorem d_D_told_63 : decode b_D_told 63 = .ok (.aload_n 0, 1) := by decide +kernel
theorem d_D_told_64 : decode b_D_told 64 = .ok (.getfield 13, 3) := by decide +kernel
theorem d_D_told_67 : decode b_D_told 67 = .ok (.sipush 300, 3) := by decide +kernel
theorem d_D_told_70 : decode b_D_told 70 = .ok (.iload_n 1, 1) := by decide +kernel
theorem d_D_told_71 : decode b_D_told 71 = .ok (.imul, 1) := by decide +kernel
theorem d_D_told_72 : decode b_D_told 72 = .ok (.iload_n 2, 1) := by decide +kernel
theorem d_D_told_73 : decode b_D_told 73 = .ok (.iadd, 1) := by decide +kernel
theorem d_D_told_74 : decode b_D_told 74 = .ok (.laload, 1) := by decide +kernel
theorem d_D_told_75 : decode b_D_told 75 = .ok (.goto 15, 3) := by decide +kernel
theorem d_D_told_78 : decode b_D_told 78 = .ok (.aload_n 0, 1) := by decide +kernel
theorem d_D_told_79 : decode b_D_told 79 = .ok (.getfield 9, 3) := by decide +kernel
theorem d_D_told_82 : decode b_D_told 82 = .ok (.sipush 300, 3) := by decide +kernel
theorem d_D_told_85 : decode b_D_told 85 = .ok (.iload_n 1, 1) := by decide +kernel
theorem d_D_told_86 : decode b_D_told 86 = .ok (.imul, 1) := by decide +kernel
theorem d_D_told_87 : decode b_D_told 87 = .ok (.iload_n 2, 1) := by decide +kernel
theorem d_D_told_88 : decode b_D_told 88 = .ok (.iadd, 1) := by decide +kernel
theorem d_D_told_89 : decode b_D_told 89 = .ok (.laload, 1) := by decide +kernel
theorem d_D_told_90 : decode b_D_told 90 = .ok (.lreturn, 1) := by decide +kernel
abbrev b_D_size : ByteArray := prog_3_method_23_code
def y_D_size : MethodName := ⟨"ShuffleMillModel", "size", "(I)I"⟩
theorem d_D_size_0 : decode b_D_size 0 = .ok (.aload_n 0, 1) := by decide +kernel
theorem d_D_size_1 : decode b_D_size 1 = .ok (.iload_n 1, 1) := by decide +kernel
theorem d_D_size_2 : decode b_D_size 2 = .ok (.iconst 0, 1) := by decide +kernel
theorem d_D_size_3 : decode b_D_size 3 = .ok (.bipush 15, 2) := by decide +kernel
theorem d_D_size_5 : decode b_D_size 5 = .ok (.invokestatic 136, 3) := by decide +kernel
theorem d_D_size_8 : decode b_D_size 8 = .ok (.ifCond .ne 7, 3) := by decide +kernel
theorem d_D_size_11 : decode b_D_size 11 = .ok (.iconst 1, 1) := by decide +kernel
theorem d_D_size_12 : decode b_D_size 12 = .ok (.goto 15, 3) := by decide +kernel
theorem d_D_size_15 : decode b_D_size 15 = .ok (.aload_n 0, 1) := by decide +kernel
theorem d_D_size_16 : decode b_D_size 16 = .ok (.getfield 139, 3) := by decide +kernel
theorem d_D_size_19 : decode b_D_size 19 = .ok (.ifCond .eq 7, 3) := by decide +kernel
theorem d_D_size_22 : decode b_D_size 22 = .ok (.iconst 2, 1) := by decide +kernel
theorem d_D_size_23 : decode b_D_size 23 = .ok (.goto 4, 3) := by decide +kernel
theorem d_D_size_26 : decode b_D_size 26 = .ok (.iconst 0, 1) := by decide +kernel
theorem d_D_size_27 : decode b_D_size 27 = .ok (.putfield 87, 3) := by decide +kernel
theorem d_D_size_30 : decode b_D_size 30 = .ok (.aload_n 0, 1) := by decide +kernel
theorem d_D_size_31 : decode b_D_size 31 = .ok (.getfield 87, 3) := by decide +kernel
theorem d_D_size_34 : decode b_D_size 34 = .ok (.ifCond .le 7, 3) := by decide +kernel
theorem d_D_size_37 : decode b_D_size 37 = .ok (.iconst 0, 1) := by decide +kernel
theorem d_D_size_38 : decode b_D_size 38 = .ok (.goto 9, 3) := by decide +kernel
theorem d_D_size_41 : decode b_D_size 41 = .ok (.aload_n 0, 1) := by decide +kernel
theorem d_D_size_42 : decode b_D_size 42 = .ok (.getfield 16, 3) := by decide +kernel
theorem d_D_size_45 : decode b_D_size 45 = .ok (.iload_n 1, 1) := by decide +kernel
theorem d_D_size_46 : decode b_D_size 46 = .ok (.iaload, 1) := by decide +kernel
theorem d_D_size_47 : decode b_D_size 47 = .ok (.ireturn, 1) := by decide +kernel
abbrev b_D_count : ByteArray := prog_3_method_24_code
def y_D_count : MethodName := ⟨"ShuffleMillModel", "count", "(I)I"⟩
theorem d_D_count_0 : decode b_D_count 0 = .ok (.iload_n 1, 1) := by decide +kernel
theorem d_D_count_1 : decode b_D_count 1 = .ok (.bipush 10, 2) := by decide +kernel
theorem d_D_count_3 : decode b_D_count 3 = .ok (.irem, 1) := by decide +kernel
theorem d_D_count_4 : decode b_D_count 4 = .ok (.istore_n 2, 1) := by decide +kernel
theorem d_D_count_5 : decode b_D_count 5 = .ok (.aload_n 0, 1) := by decide +kernel
theorem d_D_count_6 : decode b_D_count 6 = .ok (.iload_n 1, 1) := by decide +kernel
theorem d_D_count_7 : decode b_D_count 7 = .ok (.iconst 0, 1) := by decide +kernel
theorem d_D_count_8 : decode b_D_count 8 = .ok (.iconst 3, 1) := by decide +kernel
theorem d_D_count_9 : decode b_D_count 9 = .ok (.invokestatic 136, 3) := by decide +kernel
theorem d_D_count_12 : decode b_D_count 12 = .ok (.ifCond .ne 47, 3) := by decide +kernel
theorem d_D_count_15 : decode b_D_count 15 = .ok (.iload_n 1, 1) := by decide +kernel
theorem d_D_count_16 : decode b_D_count 16 = .ok (.bipush 10, 2) := by decide +kernel
theorem d_D_count_18 : decode b_D_count 18 = .ok (.bipush 17, 2) := by decide +kernel
theorem d_D_count_20 : decode b_D_count 20 = .ok (.invokestatic 136, 3) := by decide +kernel
theorem d_D_count_23 : decode b_D_count 23 = .ok (.ifCond .ne 36, 3) := by decide +kernel
theorem d_D_count_26 : decode b_D_count 26 = .ok (.iload_n 1, 1) := by decide +kernel
theorem d_D_count_27 : decode b_D_count 27 = .ok (.bipush 20, 2) := by decide +kernel
theorem d_D_count_29 : decode b_D_count 29 = .ok (.bipush 27, 2) := by decide +kernel
theorem d_D_count_31 : decode b_D_count 31 = .ok (.invokestatic 136, 3) := by decide +kernel
theorem d_D_count_34 : decode b_D_count 34 = .ok (.ifCond .ne 25, 3) := by decide +kernel
theorem d_D_count_37 : decode b_D_count 37 = .ok (.iload_n 1, 1) := by decide +kernel
theorem d_D_count_38 : decode b_D_count 38 = .ok (.bipush 30, 2) := by decide +kernel
theorem d_D_count_40 : decode b_D_count 40 = .ok (.bipush 37, 2) := by decide +kernel
theorem d_D_count_42 : decode b_D_count 42 = .ok (.invokestatic 136, 3) := by decide +kernel
theorem d_D_count_45 : decode b_D_count 45 = .ok (.ifCond .ne 14, 3) := by decide +kernel
theorem d_D_count_48 : decode b_D_count 48 = .ok (.iload_n 1, 1) := by decide +kernel
theorem d_D_count_49 : decode b_D_count 49 = .ok (.bipush 40, 2) := by decide +kernel
theorem d_D_count_51 : decode b_D_count 51 = .ok (.bipush 47, 2) := by decide +kernel
theorem d_D_count_53 : decode b_D_count 53 = .ok (.invokestatic 136, 3) := by decide +kernel
theorem d_D_count_56 : decode b_D_count 56 = .ok (.ifCond .eq 7, 3) := by decide +kernel
theorem d_D_count_59 : decode b_D_count 59 = .ok (.iconst 0, 1) := by decide +kernel
theorem d_D_count_60 : decode b_D_count 60 = .ok (.goto 4, 3) := by decide +kernel
theorem d_D_count_63 : decode b_D_count 63 = .ok (.iconst 1, 1) := by decide +kernel
theorem d_D_count_64 : decode b_D_count 64 = .ok (.putfield 87, 3) := by decide +kernel
theorem d_D_count_67 : decode b_D_count 67 = .ok (.aload_n 0, 1) := by decide +kernel
theorem d_D_count_68 : decode b_D_count 68 = .ok (.getfield 87, 3) := by decide +kernel
theorem d_D_count_71 : decode b_D_count 71 = .ok (.ifCond .le 5, 3) := by decide +kernel
theorem d_D_count_74 : decode b_D_count 74 = .ok (.iconst 0, 1) := by decide +kernel
theorem d_D_count_75 : decode b_D_count 75 = .ok (.ireturn, 1) := by decide +kernel
theorem d_D_count_76 : decode b_D_count 76 = .ok (.iload_n 1, 1) := by decide +kernel
theorem d_D_count_77 : decode b_D_count 77 = .ok (.bipush 20, 2) := by decide +kernel
theorem d_D_count_79 : decode b_D_count 79 = .ok (.if_icmp .lt 19, 3) := by decide +kernel
theorem d_D_count_82 : decode b_D_count 82 = .ok (.aload_n 0, 1) := by decide +kernel
theorem d_D_count_83 : decode b_D_count 83 = .ok (.getfield 23, 3) := by decide +kernel
theorem d_D_count_86 : decode b_D_count 86 = .ok (.iconst 3, 1) := by decide +kernel
theorem d_D_count_87 : decode b_D_count 87 = .ok (.iload_n 2, 1) := by decide +kernel
theorem d_D_count_88 : decode b_D_count 88 = .ok (.imul, 1) := by decide +kernel
theorem d_D_count_89 : decode b_D_count 89 = .ok (.iload_n 1, 1) := by decide +kernel
theorem d_D_count_90 : decode b_D_count 90 = .ok (.bipush 10, 2) := by decide +kernel
theorem d_D_count_92 : decode b_D_count 92 = .ok (.idiv, 1) := by decide +kernel
theorem d_D_count_93 : decode b_D_count 93 = .ok (.iadd, 1) := by decide +kernel
theorem d_D_count_94 : decode b_D_count 94 = .ok (.iconst 2, 1) := by decide +kernel
theorem d_D_count_95 : decode b_D_count 95 = .ok (.isub, 1) := by decide +kernel
theorem d_D_count_96 : decode b_D_count 96 = .ok (.iaload, 1) := by decide +kernel
theorem d_D_count_97 : decode b_D_count 97 = .ok (.ireturn, 1) := by decide +kernel
theorem d_D_count_98 : decode b_D_count 98 = .ok (.iload_n 1, 1) := by decide +kernel
theorem d_D_count_99 : decode b_D_count 99 = .ok (.bipush 10, 2) := by decide +kernel
theorem d_D_count_101 : decode b_D_count 101 = .ok (.if_icmp .lt 18, 3) := by decide +kernel
theorem d_D_count_104 : decode b_D_count 104 = .ok (.aload_n 0, 1) := by decide +kernel
theorem d_D_count_105 : decode b_D_count 105 = .ok (.getfield 50, 3) := by decide +kernel
theorem d_D_count_108 : decode b_D_count 108 = .ok (.iload_n 2, 1) := by decide +kernel
theorem d_D_count_109 : decode b_D_count 109 = .ok (.baload, 1) := by decide +kernel
theorem d_D_count_110 : decode b_D_count 110 = .ok (.ifCond .eq 7, 3) := by decide +kernel
theorem d_D_count_113 : decode b_D_count 113 = .ok (.iconst 1, 1) := by decide +kernel
theorem d_D_count_114 : decode b_D_count 114 = .ok (.goto 4, 3) := by decide +kernel
theorem d_D_count_117 : decode b_D_count 117 = .ok (.iconst 0, 1) := by decide +kernel
theorem d_D_count_118 : decode b_D_count 118 = .ok (.ireturn, 1) := by decide +kernel
theorem d_D_count_119 : decode b_D_count 119 = .ok (.iconst 0, 1) := by decide +kernel
theorem d_D_count_120 : decode b_D_count 120 = .ok (.istore_n 3, 1) := by decide +kernel
theorem d_D_count_121 : decode b_D_count 121 = .ok (.iconst 0, 1) := by decide +kernel
theorem d_D_count_122 : decode b_D_count 122 = .ok (.istore 4, 2) := by decide +kernel
theorem d_D_count_124 : decode b_D_count 124 = .ok (.iload 4, 2) := by decide +kernel
theorem d_D_count_126 : decode b_D_count 126 = .ok (.bipush 8, 2) := by decide +kernel
theorem d_D_count_128 : decode b_D_count 128 = .ok (.if_icmp .ge 22, 3) := by decide +kernel
theorem d_D_count_131 : decode b_D_count 131 = .ok (.aload_n 0, 1) := by decide +kernel
theorem d_D_count_132 : decode b_D_count 132 = .ok (.getfield 50, 3) := by decide +kernel
theorem d_D_count_135 : decode b_D_count 135 = .ok (.iload 4, 2) := by decide +kernel
theorem d_D_count_137 : decode b_D_count 137 = .ok (.baload, 1) := by decide +kernel
theorem d_D_count_138 : decode b_D_count 138 = .ok (.ifCond .eq 6, 3) := by decide +kernel
theorem d_D_count_141 : decode b_D_count 141 = .ok (.iinc 3 1, 3) := by decide +kernel
theorem d_D_count_144 : decode b_D_count 144 = .ok (.iinc 4 1, 3) := by decide +kernel
theorem d_D_count_147 : decode b_D_count 147 = .ok (.goto (-23), 3) := by decide +kernel
theorem d_D_count_150 : decode b_D_count 150 = .ok (.iload_n 1, 1) := by decide +kernel
theorem d_D_count_151 : decode b_D_count 151 = .ok (.ifCond .ne 18, 3) := by decide +kernel
theorem d_D_count_154 : decode b_D_count 154 = .ok (.aload_n 0, 1) := by decide +kernel
theorem d_D_count_155 : decode b_D_count 155 = .ok (.getfield 139, 3) := by decide +kernel
theorem d_D_count_158 : decode b_D_count 158 = .ok (.ifCond .eq 7, 3) := by decide +kernel
theorem d_D_count_161 : decode b_D_count 161 = .ok (.iconst 1, 1) := by decide +kernel
theorem d_D_count_162 : decode b_D_count 162 = .ok (.goto 32, 3) := by decide +kernel
theorem d_D_count_165 : decode b_D_count 165 = .ok (.iconst 0, 1) := by decide +kernel
theorem d_D_count_166 : decode b_D_count 166 = .ok (.goto 28, 3) := by decide +kernel
theorem d_D_count_169 : decode b_D_count 169 = .ok (.iload_n 1, 1) := by decide +kernel
theorem d_D_count_170 : decode b_D_count 170 = .ok (.iconst 1, 1) := by decide +kernel
theorem d_D_count_171 : decode b_D_count 171 = .ok (.if_icmp .ne 7, 3) := by decide +kernel
theorem d_D_count_174 : decode b_D_count 174 = .ok (.iload_n 3, 1) := by decide +kernel
theorem d_D_count_175 : decode b_D_count 175 = .ok (.goto 19, 3) := by decide +kernel
theorem d_D_count_178 : decode b_D_count 178 = .ok (.iload_n 1, 1) := by decide +kernel
theorem d_D_count_179 : decode b_D_count 179 = .ok (.iconst 2, 1) := by decide +kernel
theorem d_D_count_180 : decode b_D_count 180 = .ok (.if_icmp .ne 10, 3) := by decide +kernel
theorem d_D_count_183 : decode b_D_count 183 = .ok (.aload_n 0, 1) := by decide +kernel
theorem d_D_count_184 : decode b_D_count 184 = .ok (.getfield 147, 3) := by decide +kernel
theorem d_D_count_187 : decode b_D_count 187 = .ok (.goto 7, 3) := by decide +kernel
theorem d_D_count_190 : decode b_D_count 190 = .ok (.aload_n 0, 1) := by decide +kernel
theorem d_D_count_191 : decode b_D_count 191 = .ok (.getfield 154, 3) := by decide +kernel
theorem d_D_count_194 : decode b_D_count 194 = .ok (.ireturn, 1) := by decide +kernel
abbrev b_D_check : ByteArray := prog_3_method_25_code
def y_D_check : MethodName := ⟨"ShuffleMillModel", "check", "()I"⟩
theorem d_D_check_0 : decode b_D_check 0 = .ok (.aload_n 0, 1) := by decide +kernel
theorem d_D_check_1 : decode b_D_check 1 = .ok (.iconst 0, 1) := by decide +kernel
theorem d_D_check_2 : decode b_D_check 2 = .ok (.putfield 87, 3) := by decide +kernel
theorem d_D_check_5 : decode b_D_check 5 = .ok (.iconst 0, 1) := by decide +kernel
theorem d_D_check_6 : decode b_D_check 6 = .ok (.ireturn, 1) := by decide +kernel
