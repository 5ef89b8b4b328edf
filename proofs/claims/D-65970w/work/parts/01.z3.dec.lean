abbrev b_M_answers : ByteArray := prog_1_method_50_code
def y_M_answers : MethodName := ⟨"ShuffleMill", "answers", "(IIIII)V"⟩
theorem d_M_answers_0 : decode b_M_answers 0 = .ok (.aload_n 0, 1) := by decide +kernel
theorem d_M_answers_1 : decode b_M_answers 1 = .ok (.getfield 120, 3) := by decide +kernel
theorem d_M_answers_4 : decode b_M_answers 4 = .ok (.iload_n 1, 1) := by decide +kernel
theorem d_M_answers_5 : decode b_M_answers 5 = .ok (.bipush 38, 2) := by decide +kernel
theorem d_M_answers_7 : decode b_M_answers 7 = .ok (.imul, 1) := by decide +kernel
theorem d_M_answers_8 : decode b_M_answers 8 = .ok (.iload_n 2, 1) := by decide +kernel
theorem d_M_answers_9 : decode b_M_answers 9 = .ok (.iadd, 1) := by decide +kernel
theorem d_M_answers_10 : decode b_M_answers 10 = .ok (.iaload, 1) := by decide +kernel
theorem d_M_answers_11 : decode b_M_answers 11 = .ok (.iconst (-1), 1) := by decide +kernel
theorem d_M_answers_12 : decode b_M_answers 12 = .ok (.if_icmp .ne 4, 3) := by decide +kernel
theorem d_M_answers_15 : decode b_M_answers 15 = .ok (.return_, 1) := by decide +kernel
theorem d_M_answers_16 : decode b_M_answers 16 = .ok (.iload_n 1, 1) := by decide +kernel
theorem d_M_answers_17 : decode b_M_answers 17 = .ok (.sipush 1000, 3) := by decide +kernel
theorem d_M_answers_20 : decode b_M_answers 20 = .ok (.imul, 1) := by decide +kernel
theorem d_M_answers_21 : decode b_M_answers 21 = .ok (.aload_n 0, 1) := by decide +kernel
theorem d_M_answers_22 : decode b_M_answers 22 = .ok (.getfield 120, 3) := by decide +kernel
theorem d_M_answers_25 : decode b_M_answers 25 = .ok (.iload_n 1, 1) := by decide +kernel
theorem d_M_answers_26 : decode b_M_answers 26 = .ok (.bipush 38, 2) := by decide +kernel
theorem d_M_answers_28 : decode b_M_answers 28 = .ok (.imul, 1) := by decide +kernel
theorem d_M_answers_29 : decode b_M_answers 29 = .ok (.iload_n 2, 1) := by decide +kernel
theorem d_M_answers_30 : decode b_M_answers 30 = .ok (.iadd, 1) := by decide +kernel
theorem d_M_answers_31 : decode b_M_answers 31 = .ok (.iaload, 1) := by decide +kernel
theorem d_M_answers_32 : decode b_M_answers 32 = .ok (.iadd, 1) := by decide +kernel
theorem d_M_answers_33 : decode b_M_answers 33 = .ok (.istore 6, 2) := by decide +kernel
theorem d_M_answers_35 : decode b_M_answers 35 = .ok (.iconst 0, 1) := by decide +kernel
theorem d_M_answers_36 : decode b_M_answers 36 = .ok (.istore 7, 2) := by decide +kernel
theorem d_M_answers_38 : decode b_M_answers 38 = .ok (.iconst 0, 1) := by decide +kernel
theorem d_M_answers_39 : decode b_M_answers 39 = .ok (.istore 8, 2) := by decide +kernel
theorem d_M_answers_41 : decode b_M_answers 41 = .ok (.iconst 0, 1) := by decide +kernel
theorem d_M_answers_42 : decode b_M_answers 42 = .ok (.istore 9, 2) := by decide +kernel
theorem d_M_answers_44 : decode b_M_answers 44 = .ok (.aload_n 0, 1) := by decide +kernel
theorem d_M_answers_45 : decode b_M_answers 45 = .ok (.iload 5, 2) := by decide +kernel
theorem d_M_answers_47 : decode b_M_answers 47 = .ok (.bipush 6, 2) := by decide +kernel
theorem d_M_answers_49 : decode b_M_answers 49 = .ok (.iload_n 2, 1) := by decide +kernel
theorem d_M_answers_50 : decode b_M_answers 50 = .ok (.iload 4, 2) := by decide +kernel
theorem d_M_answers_52 : decode b_M_answers 52 = .ok (.iconst 0, 1) := by decide +kernel
theorem d_M_answers_53 : decode b_M_answers 53 = .ok (.iconst 0, 1) := by decide +kernel
theorem d_M_answers_54 : decode b_M_answers 54 = .ok (.invokevirtual 295, 3) := by decide +kernel
theorem d_M_answers_57 : decode b_M_answers 57 = .ok (.istore 10, 2) := by decide +kernel
theorem d_M_answers_59 : decode b_M_answers 59 = .ok (.iconst 0, 1) := by decide +kernel
theorem d_M_answers_60 : decode b_M_answers 60 = .ok (.istore 11, 2) := by decide +kernel
theorem d_M_answers_62 : decode b_M_answers 62 = .ok (.iload 11, 2) := by decide +kernel
theorem d_M_answers_64 : decode b_M_answers 64 = .ok (.aload_n 0, 1) := by decide +kernel
theorem d_M_answers_65 : decode b_M_answers 65 = .ok (.getfield 123, 3) := by decide +kernel
theorem d_M_answers_68 : decode b_M_answers 68 = .ok (.iload_n 1, 1) := by decide +kernel
theorem d_M_answers_69 : decode b_M_answers 69 = .ok (.bipush 38, 2) := by decide +kernel
theorem d_M_answers_71 : decode b_M_answers 71 = .ok (.imul, 1) := by decide +kernel
theorem d_M_answers_72 : decode b_M_answers 72 = .ok (.iload_n 2, 1) := by decide +kernel
theorem d_M_answers_73 : decode b_M_answers 73 = .ok (.iadd, 1) := by decide +kernel
theorem d_M_answers_74 : decode b_M_answers 74 = .ok (.iaload, 1) := by decide +kernel
theorem d_M_answers_75 : decode b_M_answers 75 = .ok (.if_icmp .ge 102, 3) := by decide +kernel
theorem d_M_answers_78 : decode b_M_answers 78 = .ok (.aload_n 0, 1) := by decide +kernel
theorem d_M_answers_79 : decode b_M_answers 79 = .ok (.aload_n 0, 1) := by decide +kernel
theorem d_M_answers_80 : decode b_M_answers 80 = .ok (.getfield 129, 3) := by decide +kernel
theorem d_M_answers_83 : decode b_M_answers 83 = .ok (.iload 6, 2) := by decide +kernel
theorem d_M_answers_85 : decode b_M_answers 85 = .ok (.iload 11, 2) := by decide +kernel
theorem d_M_answers_87 : decode b_M_answers 87 = .ok (.iadd, 1) := by decide +kernel
theorem d_M_answers_88 : decode b_M_answers 88 = .ok (.laload, 1) := by decide +kernel
theorem d_M_answers_89 : decode b_M_answers 89 = .ok (.invokevirtual 415, 3) := by decide +kernel
theorem d_M_answers_92 : decode b_M_answers 92 = .ok (.iload_n 3, 1) := by decide +kernel
theorem d_M_answers_93 : decode b_M_answers 93 = .ok (.if_icmp .eq 6, 3) := by decide +kernel
theorem d_M_answers_96 : decode b_M_answers 96 = .ok (.goto 75, 3) := by decide +kernel
theorem d_M_answers_99 : decode b_M_answers 99 = .ok (.iload 7, 2) := by decide +kernel
theorem d_M_answers_101 : decode b_M_answers 101 = .ok (.iload 4, 2) := by decide +kernel
theorem d_M_answers_103 : decode b_M_answers 103 = .ok (.if_icmp .lt 65, 3) := by decide +kernel
theorem d_M_answers_106 : decode b_M_answers 106 = .ok (.iload 8, 2) := by decide +kernel
theorem d_M_answers_108 : decode b_M_answers 108 = .ok (.bipush 8, 2) := by decide +kernel
theorem d_M_answers_110 : decode b_M_answers 110 = .ok (.if_icmp .ne 9, 3) := by decide +kernel
theorem d_M_answers_113 : decode b_M_answers 113 = .ok (.iconst 1, 1) := by decide +kernel
theorem d_M_answers_114 : decode b_M_answers 114 = .ok (.istore 9, 2) := by decide +kernel
theorem d_M_answers_116 : decode b_M_answers 116 = .ok (.goto 52, 3) := by decide +kernel
theorem d_M_answers_119 : decode b_M_answers 119 = .ok (.aload_n 0, 1) := by decide +kernel
theorem d_M_answers_120 : decode b_M_answers 120 = .ok (.getfield 99, 3) := by decide +kernel
theorem d_M_answers_123 : decode b_M_answers 123 = .ok (.iload 10, 2) := by decide +kernel
theorem d_M_answers_125 : decode b_M_answers 125 = .ok (.bipush 8, 2) := by decide +kernel
theorem d_M_answers_127 : decode b_M_answers 127 = .ok (.imul, 1) := by decide +kernel
theorem d_M_answers_128 : decode b_M_answers 128 = .ok (.iload 8, 2) := by decide +kernel
theorem d_M_answers_130 : decode b_M_answers 130 = .ok (.iadd, 1) := by decide +kernel
theorem d_M_answers_131 : decode b_M_answers 131 = .ok (.aload_n 0, 1) := by decide +kernel
theorem d_M_answers_132 : decode b_M_answers 132 = .ok (.getfield 129, 3) := by decide +kernel
theorem d_M_answers_135 : decode b_M_answers 135 = .ok (.iload 6, 2) := by decide +kernel
theorem d_M_answers_137 : decode b_M_answers 137 = .ok (.iload 11, 2) := by decide +kernel
theorem d_M_answers_139 : decode b_M_answers 139 = .ok (.iadd, 1) := by decide +kernel
theorem d_M_answers_140 : decode b_M_answers 140 = .ok (.laload, 1) := by decide +kernel
theorem d_M_answers_141 : decode b_M_answers 141 = .ok (.lastore, 1) := by decide +kernel
theorem d_M_answers_142 : decode b_M_answers 142 = .ok (.aload_n 0, 1) := by decide +kernel
theorem d_M_answers_143 : decode b_M_answers 143 = .ok (.getfield 102, 3) := by decide +kernel
theorem d_M_answers_146 : decode b_M_answers 146 = .ok (.iload 10, 2) := by decide +kernel
theorem d_M_answers_148 : decode b_M_answers 148 = .ok (.bipush 8, 2) := by decide +kernel
theorem d_M_answers_150 : decode b_M_answers 150 = .ok (.imul, 1) := by decide +kernel
theorem d_M_answers_151 : decode b_M_answers 151 = .ok (.iload 8, 2) := by decide +kernel
theorem d_M_answers_153 : decode b_M_answers 153 = .ok (.iadd, 1) := by decide +kernel
theorem d_M_answers_154 : decode b_M_answers 154 = .ok (.aload_n 0, 1) := by decide +kernel
theorem d_M_answers_155 : decode b_M_answers 155 = .ok (.getfield 132, 3) := by decide +kernel
theorem d_M_answers_158 : decode b_M_answers 158 = .ok (.iload 6, 2) := by decide +kernel
theorem d_M_answers_160 : decode b_M_answers 160 = .ok (.iload 11, 2) := by decide +kernel
theorem d_M_answers_162 : decode b_M_answers 162 = .ok (.iadd, 1) := by decide +kernel
theorem d_M_answers_163 : decode b_M_answers 163 = .ok (.laload, 1) := by decide +kernel
theorem d_M_answers_164 : decode b_M_answers 164 = .ok (.lastore, 1) := by decide +kernel
theorem d_M_answers_165 : decode b_M_answers 165 = .ok (.iinc 8 1, 3) := by decide +kernel
theorem d_M_answers_168 : decode b_M_answers 168 = .ok (.iinc 7 1, 3) := by decide +kernel
theorem d_M_answers_171 : decode b_M_answers 171 = .ok (.iinc 11 1, 3) := by decide +kernel
theorem d_M_answers_174 : decode b_M_answers 174 = .ok (.goto (-112), 3) := by decide +kernel
theorem d_M_answers_177 : decode b_M_answers 177 = .ok (.aload_n 0, 1) := by decide +kernel
theorem d_M_answers_178 : decode b_M_answers 178 = .ok (.getfield 96, 3) := by decide +kernel
theorem d_M_answers_181 : decode b_M_answers 181 = .ok (.iload 10, 2) := by decide +kernel
theorem d_M_answers_183 : decode b_M_answers 183 = .ok (.bipush 6, 2) := by decide +kernel
theorem d_M_answers_185 : decode b_M_answers 185 = .ok (.imul, 1) := by decide +kernel
theorem d_M_answers_186 : decode b_M_answers 186 = .ok (.iconst 4, 1) := by decide +kernel
theorem d_M_answers_187 : decode b_M_answers 187 = .ok (.iadd, 1) := by decide +kernel
theorem d_M_answers_188 : decode b_M_answers 188 = .ok (.iconst 2, 1) := by decide +kernel
theorem d_M_answers_189 : decode b_M_answers 189 = .ok (.iload 8, 2) := by decide +kernel
theorem d_M_answers_191 : decode b_M_answers 191 = .ok (.imul, 1) := by decide +kernel
theorem d_M_answers_192 : decode b_M_answers 192 = .ok (.iload 9, 2) := by decide +kernel
theorem d_M_answers_194 : decode b_M_answers 194 = .ok (.ifCond .eq 7, 3) := by decide +kernel
theorem d_M_answers_197 : decode b_M_answers 197 = .ok (.iconst 1, 1) := by decide +kernel
theorem d_M_answers_198 : decode b_M_answers 198 = .ok (.goto 4, 3) := by decide +kernel
theorem d_M_answers_201 : decode b_M_answers 201 = .ok (.iconst 0, 1) := by decide +kernel
theorem d_M_answers_202 : decode b_M_answers 202 = .ok (.iadd, 1) := by decide +kernel
theorem d_M_answers_203 : decode b_M_answers 203 = .ok (.iastore, 1) := by decide +kernel
theorem d_M_answers_204 : decode b_M_answers 204 = .ok (.aload_n 0, 1) := by decide +kernel
theorem d_M_answers_205 : decode b_M_answers 205 = .ok (.getfield 96, 3) := by decide +kernel
theorem d_M_answers_208 : decode b_M_answers 208 = .ok (.iload 10, 2) := by decide +kernel
theorem d_M_answers_210 : decode b_M_answers 210 = .ok (.bipush 6, 2) := by decide +kernel
theorem d_M_answers_212 : decode b_M_answers 212 = .ok (.imul, 1) := by decide +kernel
theorem d_M_answers_213 : decode b_M_answers 213 = .ok (.iconst 5, 1) := by decide +kernel
theorem d_M_answers_214 : decode b_M_answers 214 = .ok (.iadd, 1) := by decide +kernel
theorem d_M_answers_215 : decode b_M_answers 215 = .ok (.iload_n 3, 1) := by decide +kernel
theorem d_M_answers_216 : decode b_M_answers 216 = .ok (.iastore, 1) := by decide +kernel
theorem d_M_answers_217 : decode b_M_answers 217 = .ok (.aload_n 0, 1) := by decide +kernel
theorem d_M_answers_218 : decode b_M_answers 218 = .ok (.invokevirtual 299, 3) := by decide +kernel
theorem d_M_answers_221 : decode b_M_answers 221 = .ok (.return_, 1) := by decide +kernel
abbrev b_M_gets : ByteArray := prog_1_method_51_code
def y_M_gets : MethodName := ⟨"ShuffleMill", "gets", "(I)V"⟩
theorem d_M_gets_0 : decode b_M_gets 0 = .ok (.aload_n 0, 1) := by decide +kernel
theorem d_M_gets_1 : decode b_M_gets 1 = .ok (.getfield 138, 3) := by decide +kernel
theorem d_M_gets_4 : decode b_M_gets 4 = .ok (.iload_n 1, 1) := by decide +kernel
theorem d_M_gets_5 : decode b_M_gets 5 = .ok (.iaload, 1) := by decide +kernel
theorem d_M_gets_6 : decode b_M_gets 6 = .ok (.bipush 38, 2) := by decide +kernel
theorem d_M_gets_8 : decode b_M_gets 8 = .ok (.if_icmp .lt 36, 3) := by decide +kernel
theorem d_M_gets_11 : decode b_M_gets 11 = .ok (.aload_n 0, 1) := by decide +kernel
theorem d_M_gets_12 : decode b_M_gets 12 = .ok (.getfield 105, 3) := by decide +kernel
theorem d_M_gets_15 : decode b_M_gets 15 = .ok (.iconst 5, 1) := by decide +kernel
theorem d_M_gets_16 : decode b_M_gets 16 = .ok (.iaload, 1) := by decide +kernel
theorem d_M_gets_17 : decode b_M_gets 17 = .ok (.aload_n 0, 1) := by decide +kernel
theorem d_M_gets_18 : decode b_M_gets 18 = .ok (.getfield 138, 3) := by decide +kernel
theorem d_M_gets_21 : decode b_M_gets 21 = .ok (.iload_n 1, 1) := by decide +kernel
theorem d_M_gets_22 : decode b_M_gets 22 = .ok (.iaload, 1) := by decide +kernel
theorem d_M_gets_23 : decode b_M_gets 23 = .ok (.bipush 38, 2) := by decide +kernel
theorem d_M_gets_25 : decode b_M_gets 25 = .ok (.isub, 1) := by decide +kernel
theorem d_M_gets_26 : decode b_M_gets 26 = .ok (.if_icmp .ne 18, 3) := by decide +kernel
theorem d_M_gets_29 : decode b_M_gets 29 = .ok (.aload_n 0, 1) := by decide +kernel
theorem d_M_gets_30 : decode b_M_gets 30 = .ok (.getfield 105, 3) := by decide +kernel
theorem d_M_gets_33 : decode b_M_gets 33 = .ok (.iconst 2, 1) := by decide +kernel
theorem d_M_gets_34 : decode b_M_gets 34 = .ok (.iaload, 1) := by decide +kernel
theorem d_M_gets_35 : decode b_M_gets 35 = .ok (.aload_n 0, 1) := by decide +kernel
theorem d_M_gets_36 : decode b_M_gets 36 = .ok (.getfield 144, 3) := by decide +kernel
theorem d_M_gets_39 : decode b_M_gets 39 = .ok (.iload_n 1, 1) := by decide +kernel
theorem d_M_gets_40 : decode b_M_gets 40 = .ok (.iaload, 1) := by decide +kernel
theorem d_M_gets_41 : decode b_M_gets 41 = .ok (.if_icmp .eq 4, 3) := by decide +kernel
theorem d_M_gets_44 : decode b_M_gets 44 = .ok (.return_, 1) := by decide +kernel
theorem d_M_gets_45 : decode b_M_gets 45 = .ok (.aload_n 0, 1) := by decide +kernel
theorem d_M_gets_46 : decode b_M_gets 46 = .ok (.getfield 180, 3) := by decide +kernel
theorem d_M_gets_49 : decode b_M_gets 49 = .ok (.iload_n 1, 1) := by decide +kernel
theorem d_M_gets_50 : decode b_M_gets 50 = .ok (.bipush 39, 2) := by decide +kernel
theorem d_M_gets_52 : decode b_M_gets 52 = .ok (.imul, 1) := by decide +kernel
theorem d_M_gets_53 : decode b_M_gets 53 = .ok (.aload_n 0, 1) := by decide +kernel
theorem d_M_gets_54 : decode b_M_gets 54 = .ok (.getfield 144, 3) := by decide +kernel
theorem d_M_gets_57 : decode b_M_gets 57 = .ok (.iload_n 1, 1) := by decide +kernel
theorem d_M_gets_58 : decode b_M_gets 58 = .ok (.iaload, 1) := by decide +kernel
theorem d_M_gets_59 : decode b_M_gets 59 = .ok (.iadd, 1) := by decide +kernel
theorem d_M_gets_60 : decode b_M_gets 60 = .ok (.iaload, 1) := by decide +kernel
theorem d_M_gets_61 : decode b_M_gets 61 = .ok (.istore_n 2, 1) := by decide +kernel
theorem d_M_gets_62 : decode b_M_gets 62 = .ok (.aload_n 0, 1) := by decide +kernel
theorem d_M_gets_63 : decode b_M_gets 63 = .ok (.getfield 105, 3) := by decide +kernel
theorem d_M_gets_66 : decode b_M_gets 66 = .ok (.iconst 3, 1) := by decide +kernel
theorem d_M_gets_67 : decode b_M_gets 67 = .ok (.iaload, 1) := by decide +kernel
theorem d_M_gets_68 : decode b_M_gets 68 = .ok (.aload_n 0, 1) := by decide +kernel
theorem d_M_gets_69 : decode b_M_gets 69 = .ok (.getfield 177, 3) := by decide +kernel
theorem d_M_gets_72 : decode b_M_gets 72 = .ok (.iload_n 1, 1) := by decide +kernel
theorem d_M_gets_73 : decode b_M_gets 73 = .ok (.iaload, 1) := by decide +kernel
theorem d_M_gets_74 : decode b_M_gets 74 = .ok (.iload_n 2, 1) := by decide +kernel
theorem d_M_gets_75 : decode b_M_gets 75 = .ok (.isub, 1) := by decide +kernel
theorem d_M_gets_76 : decode b_M_gets 76 = .ok (.if_icmp .eq 4, 3) := by decide +kernel
theorem d_M_gets_79 : decode b_M_gets 79 = .ok (.return_, 1) := by decide +kernel
theorem d_M_gets_80 : decode b_M_gets 80 = .ok (.aload_n 0, 1) := by decide +kernel
theorem d_M_gets_81 : decode b_M_gets 81 = .ok (.getfield 105, 3) := by decide +kernel
theorem d_M_gets_84 : decode b_M_gets 84 = .ok (.iconst 4, 1) := by decide +kernel
theorem d_M_gets_85 : decode b_M_gets 85 = .ok (.iaload, 1) := by decide +kernel
theorem d_M_gets_86 : decode b_M_gets 86 = .ok (.iconst 1, 1) := by decide +kernel
theorem d_M_gets_87 : decode b_M_gets 87 = .ok (.ishr, 1) := by decide +kernel
theorem d_M_gets_88 : decode b_M_gets 88 = .ok (.istore_n 3, 1) := by decide +kernel
theorem d_M_gets_89 : decode b_M_gets 89 = .ok (.iconst 0, 1) := by decide +kernel
theorem d_M_gets_90 : decode b_M_gets 90 = .ok (.istore 4, 2) := by decide +kernel
theorem d_M_gets_92 : decode b_M_gets 92 = .ok (.iload 4, 2) := by decide +kernel
theorem d_M_gets_94 : decode b_M_gets 94 = .ok (.iload_n 3, 1) := by decide +kernel
theorem d_M_gets_95 : decode b_M_gets 95 = .ok (.if_icmp .ge 67, 3) := by decide +kernel
theorem d_M_gets_98 : decode b_M_gets 98 = .ok (.aload_n 0, 1) := by decide +kernel
theorem d_M_gets_99 : decode b_M_gets 99 = .ok (.getfield 183, 3) := by decide +kernel
theorem d_M_gets_102 : decode b_M_gets 102 = .ok (.iload_n 1, 1) := by decide +kernel
theorem d_M_gets_103 : decode b_M_gets 103 = .ok (.sipush 1000, 3) := by decide +kernel
theorem d_M_gets_106 : decode b_M_gets 106 = .ok (.imul, 1) := by decide +kernel
theorem d_M_gets_107 : decode b_M_gets 107 = .ok (.aload_n 0, 1) := by decide +kernel
theorem d_M_gets_108 : decode b_M_gets 108 = .ok (.getfield 177, 3) := by decide +kernel
theorem d_M_gets_111 : decode b_M_gets 111 = .ok (.iload_n 1, 1) := by decide +kernel
theorem d_M_gets_112 : decode b_M_gets 112 = .ok (.iaload, 1) := by decide +kernel
theorem d_M_gets_113 : decode b_M_gets 113 = .ok (.iadd, 1) := by decide +kernel
theorem d_M_gets_114 : decode b_M_gets 114 = .ok (.aload_n 0, 1) := by decide +kernel
theorem d_M_gets_115 : decode b_M_gets 115 = .ok (.getfield 108, 3) := by decide +kernel
theorem d_M_gets_118 : decode b_M_gets 118 = .ok (.iload 4, 2) := by decide +kernel
theorem d_M_gets_120 : decode b_M_gets 120 = .ok (.laload, 1) := by decide +kernel
theorem d_M_gets_121 : decode b_M_gets 121 = .ok (.lastore, 1) := by decide +kernel
theorem d_M_gets_122 : decode b_M_gets 122 = .ok (.aload_n 0, 1) := by decide +kernel
theorem d_M_gets_123 : decode b_M_gets 123 = .ok (.getfield 186, 3) := by decide +kernel
theorem d_M_gets_126 : decode b_M_gets 126 = .ok (.iload_n 1, 1) := by decide +kernel
theorem d_M_gets_127 : decode b_M_gets 127 = .ok (.sipush 1000, 3) := by decide +kernel
theorem d_M_gets_130 : decode b_M_gets 130 = .ok (.imul, 1) := by decide +kernel
theorem d_M_gets_131 : decode b_M_gets 131 = .ok (.aload_n 0, 1) := by decide +kernel
theorem d_M_gets_132 : decode b_M_gets 132 = .ok (.getfield 177, 3) := by decide +kernel
theorem d_M_gets_135 : decode b_M_gets 135 = .ok (.iload_n 1, 1) := by decide +kernel
theorem d_M_gets_136 : decode b_M_gets 136 = .ok (.iaload, 1) := by decide +kernel
theorem d_M_gets_137 : decode b_M_gets 137 = .ok (.iadd, 1) := by decide +kernel
theorem d_M_gets_138 : decode b_M_gets 138 = .ok (.aload_n 0, 1) := by decide +kernel
theorem d_M_gets_139 : decode b_M_gets 139 = .ok (.getfield 111, 3) := by decide +kernel
theorem d_M_gets_142 : decode b_M_gets 142 = .ok (.iload 4, 2) := by decide +kernel
theorem d_M_gets_144 : decode b_M_gets 144 = .ok (.laload, 1) := by decide +kernel
theorem d_M_gets_145 : decode b_M_gets 145 = .ok (.lastore, 1) := by decide +kernel
theorem d_M_gets_146 : decode b_M_gets 146 = .ok (.aload_n 0, 1) := by decide +kernel
theorem d_M_gets_147 : decode b_M_gets 147 = .ok (.getfield 177, 3) := by decide +kernel
theorem d_M_gets_150 : decode b_M_gets 150 = .ok (.iload_n 1, 1) := by decide +kernel
theorem d_M_gets_151 : decode b_M_gets 151 = .ok (.dup2, 1) := by decide +kernel
theorem d_M_gets_152 : decode b_M_gets 152 = .ok (.iaload, 1) := by decide +kernel
theorem d_M_gets_153 : decode b_M_gets 153 = .ok (.iconst 1, 1) := by decide +kernel
theorem d_M_gets_154 : decode b_M_gets 154 = .ok (.iadd, 1) := by decide +kernel
theorem d_M_gets_155 : decode b_M_gets 155 = .ok (.iastore, 1) := by decide +kernel
theorem d_M_gets_156 : decode b_M_gets 156 = .ok (.iinc 4 1, 3) := by decide +kernel
theorem d_M_gets_159 : decode b_M_gets 159 = .ok (.goto (-67), 3) := by decide +kernel
theorem d_M_gets_162 : decode b_M_gets 162 = .ok (.aload_n 0, 1) := by decide +kernel
theorem d_M_gets_163 : decode b_M_gets 163 = .ok (.getfield 147, 3) := by decide +kernel
theorem d_M_gets_166 : decode b_M_gets 166 = .ok (.iload_n 1, 1) := by decide +kernel
theorem d_M_gets_167 : decode b_M_gets 167 = .ok (.iconst 0, 1) := by decide +kernel
theorem d_M_gets_168 : decode b_M_gets 168 = .ok (.iastore, 1) := by decide +kernel
theorem d_M_gets_169 : decode b_M_gets 169 = .ok (.aload_n 0, 1) := by decide +kernel
theorem d_M_gets_170 : decode b_M_gets 170 = .ok (.getfield 150, 3) := by decide +kernel
theorem d_M_gets_173 : decode b_M_gets 173 = .ok (.iload_n 1, 1) := by decide +kernel
theorem d_M_gets_174 : decode b_M_gets 174 = .ok (.iconst 0, 1) := by decide +kernel
theorem d_M_gets_175 : decode b_M_gets 175 = .ok (.iastore, 1) := by decide +kernel
theorem d_M_gets_176 : decode b_M_gets 176 = .ok (.aload_n 0, 1) := by decide +kernel
theorem d_M_gets_177 : decode b_M_gets 177 = .ok (.getfield 105, 3) := by decide +kernel
theorem d_M_gets_180 : decode b_M_gets 180 = .ok (.iconst 4, 1) := by decide +kernel
theorem d_M_gets_181 : decode b_M_gets 181 = .ok (.iaload, 1) := by decide +kernel
theorem d_M_gets_182 : decode b_M_gets 182 = .ok (.iconst 1, 1) := by decide +kernel
theorem d_M_gets_183 : decode b_M_gets 183 = .ok (.iand, 1) := by decide +kernel
theorem d_M_gets_184 : decode b_M_gets 184 = .ok (.iconst 1, 1) := by decide +kernel
theorem d_M_gets_185 : decode b_M_gets 185 = .ok (.if_icmp .ne 4, 3) := by decide +kernel
theorem d_M_gets_188 : decode b_M_gets 188 = .ok (.return_, 1) := by decide +kernel
theorem d_M_gets_189 : decode b_M_gets 189 = .ok (.aload_n 0, 1) := by decide +kernel
theorem d_M_gets_190 : decode b_M_gets 190 = .ok (.getfield 144, 3) := by decide +kernel
theorem d_M_gets_193 : decode b_M_gets 193 = .ok (.iload_n 1, 1) := by decide +kernel
theorem d_M_gets_194 : decode b_M_gets 194 = .ok (.dup2, 1) := by decide +kernel
theorem d_M_gets_195 : decode b_M_gets 195 = .ok (.iaload, 1) := by decide +kernel
theorem d_M_gets_196 : decode b_M_gets 196 = .ok (.iconst 1, 1) := by decide +kernel
theorem d_M_gets_197 : decode b_M_gets 197 = .ok (.iadd, 1) := by decide +kernel
theorem d_M_gets_198 : decode b_M_gets 198 = .ok (.iastore, 1) := by decide +kernel
theorem d_M_gets_199 : decode b_M_gets 199 = .ok (.aload_n 0, 1) := by decide +kernel
theorem d_M_gets_200 : decode b_M_gets 200 = .ok (.getfield 180, 3) := by decide +kernel
theorem d_M_gets_203 : decode b_M_gets 203 = .ok (.iload_n 1, 1) := by decide +kernel
theorem d_M_gets_204 : decode b_M_gets 204 = .ok (.bipush 39, 2) := by decide +kernel
theorem d_M_gets_206 : decode b_M_gets 206 = .ok (.imul, 1) := by decide +kernel
theorem d_M_gets_207 : decode b_M_gets 207 = .ok (.aload_n 0, 1) := by decide +kernel
theorem d_M_gets_208 : decode b_M_gets 208 = .ok (.getfield 144, 3) := by decide +kernel
theorem d_M_gets_211 : decode b_M_gets 211 = .ok (.iload_n 1, 1) := by decide +kernel
theorem d_M_gets_212 : decode b_M_gets 212 = .ok (.iaload, 1) := by decide +kernel
theorem d_M_gets_213 : decode b_M_gets 213 = .ok (.iadd, 1) := by decide +kernel
theorem d_M_gets_214 : decode b_M_gets 214 = .ok (.aload_n 0, 1) := by decide +kernel
theorem d_M_gets_215 : decode b_M_gets 215 = .ok (.getfield 177, 3) := by decide +kernel
theorem d_M_gets_218 : decode b_M_gets 218 = .ok (.iload_n 1, 1) := by decide +kernel
theorem d_M_gets_219 : decode b_M_gets 219 = .ok (.iaload, 1) := by decide +kernel
theorem d_M_gets_220 : decode b_M_gets 220 = .ok (.iastore, 1) := by decide +kernel
theorem d_M_gets_221 : decode b_M_gets 221 = .ok (.return_, 1) := by decide +kernel
abbrev b_M_reduces : ByteArray := prog_1_method_52_code
def y_M_reduces : MethodName := ⟨"ShuffleMill", "reduces", "(I)V"⟩
theorem d_M_reduces_0 : decode b_M_reduces 0 = .ok (.aload_n 0, 1) := by decide +kernel
theorem d_M_reduces_1 : decode b_M_reduces 1 = .ok (.getfield 138, 3) := by decide +kernel
theorem d_M_reduces_4 : decode b_M_reduces 4 = .ok (.iload_n 1, 1) := by decide +kernel
theorem d_M_reduces_5 : decode b_M_reduces 5 = .ok (.iaload, 1) := by decide +kernel
theorem d_M_reduces_6 : decode b_M_reduces 6 = .ok (.bipush 38, 2) := by decide +kernel
theorem d_M_reduces_8 : decode b_M_reduces 8 = .ok (.isub, 1) := by decide +kernel
theorem d_M_reduces_9 : decode b_M_reduces 9 = .ok (.istore_n 2, 1) := by decide +kernel
theorem d_M_reduces_10 : decode b_M_reduces 10 = .ok (.aload_n 0, 1) := by decide +kernel
theorem d_M_reduces_11 : decode b_M_reduces 11 = .ok (.getfield 81, 3) := by decide +kernel
theorem d_M_reduces_14 : decode b_M_reduces 14 = .ok (.iload_n 2, 1) := by decide +kernel
theorem d_M_reduces_15 : decode b_M_reduces 15 = .ok (.iaload, 1) := by decide +kernel
theorem d_M_reduces_16 : decode b_M_reduces 16 = .ok (.aload_n 0, 1) := by decide +kernel
theorem d_M_reduces_17 : decode b_M_reduces 17 = .ok (.getfield 270, 3) := by decide +kernel
theorem d_M_reduces_20 : decode b_M_reduces 20 = .ok (.if_icmp .ne 16, 3) := by decide +kernel
theorem d_M_reduces_23 : decode b_M_reduces 23 = .ok (.aload_n 0, 1) := by decide +kernel
theorem d_M_reduces_24 : decode b_M_reduces 24 = .ok (.iload_n 1, 1) := by decide +kernel
theorem d_M_reduces_25 : decode b_M_reduces 25 = .ok (.aload_n 0, 1) := by decide +kernel
theorem d_M_reduces_26 : decode b_M_reduces 26 = .ok (.getfield 138, 3) := by decide +kernel
theorem d_M_reduces_29 : decode b_M_reduces 29 = .ok (.iload_n 1, 1) := by decide +kernel
theorem d_M_reduces_30 : decode b_M_reduces 30 = .ok (.iaload, 1) := by decide +kernel
theorem d_M_reduces_31 : decode b_M_reduces 31 = .ok (.iconst 0, 1) := by decide +kernel
theorem d_M_reduces_32 : decode b_M_reduces 32 = .ok (.invokevirtual 372, 3) := by decide +kernel
theorem d_M_reduces_35 : decode b_M_reduces 35 = .ok (.return_, 1) := by decide +kernel
theorem d_M_reduces_36 : decode b_M_reduces 36 = .ok (.aload_n 0, 1) := by decide +kernel
theorem d_M_reduces_37 : decode b_M_reduces 37 = .ok (.getfield 144, 3) := by decide +kernel
theorem d_M_reduces_40 : decode b_M_reduces 40 = .ok (.iload_n 1, 1) := by decide +kernel
theorem d_M_reduces_41 : decode b_M_reduces 41 = .ok (.iaload, 1) := by decide +kernel
theorem d_M_reduces_42 : decode b_M_reduces 42 = .ok (.ifCond .ne 13, 3) := by decide +kernel
theorem d_M_reduces_45 : decode b_M_reduces 45 = .ok (.aload_n 0, 1) := by decide +kernel
theorem d_M_reduces_46 : decode b_M_reduces 46 = .ok (.getfield 180, 3) := by decide +kernel
theorem d_M_reduces_49 : decode b_M_reduces 49 = .ok (.iload_n 1, 1) := by decide +kernel
theorem d_M_reduces_50 : decode b_M_reduces 50 = .ok (.bipush 39, 2) := by decide +kernel
theorem d_M_reduces_52 : decode b_M_reduces 52 = .ok (.imul, 1) := by decide +kernel
theorem d_M_reduces_53 : decode b_M_reduces 53 = .ok (.iconst 0, 1) := by decide +kernel
theorem d_M_reduces_54 : decode b_M_reduces 54 = .ok (.iastore, 1) := by decide +kernel
theorem d_M_reduces_55 : decode b_M_reduces 55 = .ok (.aload_n 0, 1) := by decide +kernel
theorem d_M_reduces_56 : decode b_M_reduces 56 = .ok (.getfield 144, 3) := by decide +kernel
theorem d_M_reduces_59 : decode b_M_reduces 59 = .ok (.iload_n 1, 1) := by decide +kernel
theorem d_M_reduces_60 : decode b_M_reduces 60 = .ok (.iaload, 1) := by decide +kernel
theorem d_M_reduces_61 : decode b_M_reduces 61 = .ok (.aload_n 0, 1) := by decide +kernel
theorem d_M_reduces_62 : decode b_M_reduces 62 = .ok (.invokevirtual 329, 3) := by decide +kernel
theorem d_M_reduces_65 : decode b_M_reduces 65 = .ok (.if_icmp .ge 146, 3) := by decide +kernel
theorem d_M_reduces_68 : decode b_M_reduces 68 = .ok (.aload_n 0, 1) := by decide +kernel
theorem d_M_reduces_69 : decode b_M_reduces 69 = .ok (.getfield 66, 3) := by decide +kernel
theorem d_M_reduces_72 : decode b_M_reduces 72 = .ok (.aload_n 0, 1) := by decide +kernel
theorem d_M_reduces_73 : decode b_M_reduces 73 = .ok (.getfield 144, 3) := by decide +kernel
theorem d_M_reduces_76 : decode b_M_reduces 76 = .ok (.iload_n 1, 1) := by decide +kernel
theorem d_M_reduces_77 : decode b_M_reduces 77 = .ok (.iaload, 1) := by decide +kernel
theorem d_M_reduces_78 : decode b_M_reduces 78 = .ok (.iaload, 1) := by decide +kernel
theorem d_M_reduces_79 : decode b_M_reduces 79 = .ok (.istore_n 3, 1) := by decide +kernel
theorem d_M_reduces_80 : decode b_M_reduces 80 = .ok (.iload_n 3, 1) := by decide +kernel
theorem d_M_reduces_81 : decode b_M_reduces 81 = .ok (.iconst (-1), 1) := by decide +kernel
theorem d_M_reduces_82 : decode b_M_reduces 82 = .ok (.if_icmp .ne 9, 3) := by decide +kernel
theorem d_M_reduces_85 : decode b_M_reduces 85 = .ok (.aload_n 0, 1) := by decide +kernel
theorem d_M_reduces_86 : decode b_M_reduces 86 = .ok (.iload_n 1, 1) := by decide +kernel
theorem d_M_reduces_87 : decode b_M_reduces 87 = .ok (.invokevirtual 347, 3) := by decide +kernel
theorem d_M_reduces_90 : decode b_M_reduces 90 = .ok (.return_, 1) := by decide +kernel
theorem d_M_reduces_91 : decode b_M_reduces 91 = .ok (.aload_n 0, 1) := by decide +kernel
theorem d_M_reduces_92 : decode b_M_reduces 92 = .ok (.getfield 147, 3) := by decide +kernel
theorem d_M_reduces_95 : decode b_M_reduces 95 = .ok (.iload_n 1, 1) := by decide +kernel
theorem d_M_reduces_96 : decode b_M_reduces 96 = .ok (.iaload, 1) := by decide +kernel
theorem d_M_reduces_97 : decode b_M_reduces 97 = .ok (.ifCond .eq 14, 3) := by decide +kernel
theorem d_M_reduces_100 : decode b_M_reduces 100 = .ok (.aload_n 0, 1) := by decide +kernel
theorem d_M_reduces_101 : decode b_M_reduces 101 = .ok (.getfield 147, 3) := by decide +kernel
theorem d_M_reduces_104 : decode b_M_reduces 104 = .ok (.iload_n 1, 1) := by decide +kernel
theorem d_M_reduces_105 : decode b_M_reduces 105 = .ok (.iaload, 1) := by decide +kernel
theorem d_M_reduces_106 : decode b_M_reduces 106 = .ok (.bipush 12, 2) := by decide +kernel
theorem d_M_reduces_108 : decode b_M_reduces 108 = .ok (.if_icmp .le 92, 3) := by decide +kernel
theorem d_M_reduces_111 : decode b_M_reduces 111 = .ok (.aload_n 0, 1) := by decide +kernel
theorem d_M_reduces_112 : decode b_M_reduces 112 = .ok (.iload_n 3, 1) := by decide +kernel
theorem d_M_reduces_113 : decode b_M_reduces 113 = .ok (.iconst 5, 1) := by decide +kernel
theorem d_M_reduces_114 : decode b_M_reduces 114 = .ok (.aload_n 0, 1) := by decide +kernel
theorem d_M_reduces_115 : decode b_M_reduces 115 = .ok (.getfield 144, 3) := by decide +kernel
theorem d_M_reduces_118 : decode b_M_reduces 118 = .ok (.iload_n 1, 1) := by decide +kernel
theorem d_M_reduces_119 : decode b_M_reduces 119 = .ok (.iaload, 1) := by decide +kernel
theorem d_M_reduces_120 : decode b_M_reduces 120 = .ok (.iload_n 2, 1) := by decide +kernel
theorem d_M_reduces_121 : decode b_M_reduces 121 = .ok (.aload_n 0, 1) := by decide +kernel
theorem d_M_reduces_122 : decode b_M_reduces 122 = .ok (.getfield 177, 3) := by decide +kernel
theorem d_M_reduces_125 : decode b_M_reduces 125 = .ok (.iload_n 1, 1) := by decide +kernel
theorem d_M_reduces_126 : decode b_M_reduces 126 = .ok (.iaload, 1) := by decide +kernel
theorem d_M_reduces_127 : decode b_M_reduces 127 = .ok (.aload_n 0, 1) := by decide +kernel
theorem d_M_reduces_128 : decode b_M_reduces 128 = .ok (.getfield 180, 3) := by decide +kernel
theorem d_M_reduces_131 : decode b_M_reduces 131 = .ok (.iload_n 1, 1) := by decide +kernel
theorem d_M_reduces_132 : decode b_M_reduces 132 = .ok (.bipush 39, 2) := by decide +kernel
theorem d_M_reduces_134 : decode b_M_reduces 134 = .ok (.imul, 1) := by decide +kernel
theorem d_M_reduces_135 : decode b_M_reduces 135 = .ok (.aload_n 0, 1) := by decide +kernel
theorem d_M_reduces_136 : decode b_M_reduces 136 = .ok (.getfield 144, 3) := by decide +kernel
theorem d_M_reduces_139 : decode b_M_reduces 139 = .ok (.iload_n 1, 1) := by decide +kernel
theorem d_M_reduces_140 : decode b_M_reduces 140 = .ok (.iaload, 1) := by decide +kernel
theorem d_M_reduces_141 : decode b_M_reduces 141 = .ok (.iadd, 1) := by decide +kernel
theorem d_M_reduces_142 : decode b_M_reduces 142 = .ok (.iaload, 1) := by decide +kernel
theorem d_M_reduces_143 : decode b_M_reduces 143 = .ok (.isub, 1) := by decide +kernel
theorem d_M_reduces_144 : decode b_M_reduces 144 = .ok (.iload_n 1, 1) := by decide +kernel
theorem d_M_reduces_145 : decode b_M_reduces 145 = .ok (.invokevirtual 341, 3) := by decide +kernel
theorem d_M_reduces_148 : decode b_M_reduces 148 = .ok (.aload_n 0, 1) := by decide +kernel
theorem d_M_reduces_149 : decode b_M_reduces 149 = .ok (.getfield 147, 3) := by decide +kernel
theorem d_M_reduces_152 : decode b_M_reduces 152 = .ok (.iload_n 1, 1) := by decide +kernel
theorem d_M_reduces_153 : decode b_M_reduces 153 = .ok (.iconst 0, 1) := by decide +kernel
theorem d_M_reduces_154 : decode b_M_reduces 154 = .ok (.iastore, 1) := by decide +kernel
theorem d_M_reduces_155 : decode b_M_reduces 155 = .ok (.aload_n 0, 1) := by decide +kernel
theorem d_M_reduces_156 : decode b_M_reduces 156 = .ok (.getfield 150, 3) := by decide +kernel
theorem d_M_reduces_159 : decode b_M_reduces 159 = .ok (.iload_n 1, 1) := by decide +kernel
theorem d_M_reduces_160 : decode b_M_reduces 160 = .ok (.dup2, 1) := by decide +kernel
theorem d_M_reduces_161 : decode b_M_reduces 161 = .ok (.iaload, 1) := by decide +kernel
theorem d_M_reduces_162 : decode b_M_reduces 162 = .ok (.iconst 1, 1) := by decide +kernel
theorem d_M_reduces_163 : decode b_M_reduces 163 = .ok (.iadd, 1) := by decide +kernel
theorem d_M_reduces_164 : decode b_M_reduces 164 = .ok (.iastore, 1) := by decide +kernel
theorem d_M_reduces_165 : decode b_M_reduces 165 = .ok (.aload_n 0, 1) := by decide +kernel
theorem d_M_reduces_166 : decode b_M_reduces 166 = .ok (.getfield 150, 3) := by decide +kernel
theorem d_M_reduces_169 : decode b_M_reduces 169 = .ok (.iload_n 1, 1) := by decide +kernel
theorem d_M_reduces_170 : decode b_M_reduces 170 = .ok (.iaload, 1) := by decide +kernel
theorem d_M_reduces_171 : decode b_M_reduces 171 = .ok (.bipush 12, 2) := by decide +kernel
theorem d_M_reduces_173 : decode b_M_reduces 173 = .ok (.if_icmp .ne 27, 3) := by decide +kernel
theorem d_M_reduces_176 : decode b_M_reduces 176 = .ok (.aload_n 0, 1) := by decide +kernel
theorem d_M_reduces_177 : decode b_M_reduces 177 = .ok (.bipush 6, 2) := by decide +kernel
theorem d_M_reduces_179 : decode b_M_reduces 179 = .ok (.bipush 7, 2) := by decide +kernel
theorem d_M_reduces_181 : decode b_M_reduces 181 = .ok (.aload_n 0, 1) := by decide +kernel
theorem d_M_reduces_182 : decode b_M_reduces 182 = .ok (.getfield 144, 3) := by decide +kernel
theorem d_M_reduces_185 : decode b_M_reduces 185 = .ok (.iload_n 1, 1) := by decide +kernel
theorem d_M_reduces_186 : decode b_M_reduces 186 = .ok (.iaload, 1) := by decide +kernel
theorem d_M_reduces_187 : decode b_M_reduces 187 = .ok (.iload_n 3, 1) := by decide +kernel
theorem d_M_reduces_188 : decode b_M_reduces 188 = .ok (.iconst 0, 1) := by decide +kernel
theorem d_M_reduces_189 : decode b_M_reduces 189 = .ok (.iconst 0, 1) := by decide +kernel
theorem d_M_reduces_190 : decode b_M_reduces 190 = .ok (.invokevirtual 341, 3) := by decide +kernel
theorem d_M_reduces_193 : decode b_M_reduces 193 = .ok (.aload_n 0, 1) := by decide +kernel
theorem d_M_reduces_194 : decode b_M_reduces 194 = .ok (.getfield 150, 3) := by decide +kernel
theorem d_M_reduces_197 : decode b_M_reduces 197 = .ok (.iload_n 1, 1) := by decide +kernel
theorem d_M_reduces_198 : decode b_M_reduces 198 = .ok (.iconst 0, 1) := by decide +kernel
theorem d_M_reduces_199 : decode b_M_reduces 199 = .ok (.iastore, 1) := by decide +kernel
theorem d_M_reduces_200 : decode b_M_reduces 200 = .ok (.aload_n 0, 1) := by decide +kernel
theorem d_M_reduces_201 : decode b_M_reduces 201 = .ok (.getfield 147, 3) := by decide +kernel
theorem d_M_reduces_204 : decode b_M_reduces 204 = .ok (.iload_n 1, 1) := by decide +kernel
theorem d_M_reduces_205 : decode b_M_reduces 205 = .ok (.dup2, 1) := by decide +kernel
theorem d_M_reduces_206 : decode b_M_reduces 206 = .ok (.iaload, 1) := by decide +kernel
theorem d_M_reduces_207 : decode b_M_reduces 207 = .ok (.iconst 1, 1) := by decide +kernel
theorem d_M_reduces_208 : decode b_M_reduces 208 = .ok (.iadd, 1) := by decide +kernel
theorem d_M_reduces_209 : decode b_M_reduces 209 = .ok (.iastore, 1) := by decide +kernel
theorem d_M_reduces_210 : decode b_M_reduces 210 = .ok (.return_, 1) := by decide +kernel
theorem d_M_reduces_211 : decode b_M_reduces 211 = .ok (.aload_n 0, 1) := by decide +kernel
theorem d_M_reduces_212 : decode b_M_reduces 212 = .ok (.iload_n 1, 1) := by decide +kernel
theorem d_M_reduces_213 : decode b_M_reduces 213 = .ok (.iload_n 2, 1) := by decide +kernel
theorem d_M_reduces_214 : decode b_M_reduces 214 = .ok (.invokevirtual 419, 3) := by decide +kernel
theorem d_M_reduces_217 : decode b_M_reduces 217 = .ok (.return_, 1) := by decide +kernel
abbrev b_M_write : ByteArray := prog_1_method_53_code
def y_M_write : MethodName := ⟨"ShuffleMill", "write", "(II)V"⟩
theorem d_M_write_0 : decode b_M_write 0 = .ok (.aload_n 0, 1) := by decide +kernel
theorem d_M_write_1 : decode b_M_write 1 = .ok (.aload_n 0, 1) := by decide +kernel
theorem d_M_write_2 : decode b_M_write 2 = .ok (.getfield 183, 3) := by decide +kernel
theorem d_M_write_5 : decode b_M_write 5 = .ok (.aload_n 0, 1) := by decide +kernel
theorem d_M_write_6 : decode b_M_write 6 = .ok (.getfield 186, 3) := by decide +kernel
theorem d_M_write_9 : decode b_M_write 9 = .ok (.iload_n 1, 1) := by decide +kernel
theorem d_M_write_10 : decode b_M_write 10 = .ok (.sipush 1000, 3) := by decide +kernel
theorem d_M_write_13 : decode b_M_write 13 = .ok (.imul, 1) := by decide +kernel
theorem d_M_write_14 : decode b_M_write 14 = .ok (.aload_n 0, 1) := by decide +kernel
theorem d_M_write_15 : decode b_M_write 15 = .ok (.getfield 180, 3) := by decide +kernel
theorem d_M_write_18 : decode b_M_write 18 = .ok (.iload_n 1, 1) := by decide +kernel
theorem d_M_write_19 : decode b_M_write 19 = .ok (.bipush 39, 2) := by decide +kernel
theorem d_M_write_21 : decode b_M_write 21 = .ok (.imul, 1) := by decide +kernel
theorem d_M_write_22 : decode b_M_write 22 = .ok (.aload_n 0, 1) := by decide +kernel
theorem d_M_write_23 : decode b_M_write 23 = .ok (.invokevirtual 329, 3) := by decide +kernel
theorem d_M_write_26 : decode b_M_write 26 = .ok (.invokevirtual 391, 3) := by decide +kernel
theorem d_M_write_29 : decode b_M_write 29 = .ok (.istore_n 3, 1) := by decide +kernel
theorem d_M_write_30 : decode b_M_write 30 = .ok (.iconst 0, 1) := by decide +kernel
theorem d_M_write_31 : decode b_M_write 31 = .ok (.istore 4, 2) := by decide +kernel
theorem d_M_write_33 : decode b_M_write 33 = .ok (.iconst 0, 1) := by decide +kernel
theorem d_M_write_34 : decode b_M_write 34 = .ok (.istore 5, 2) := by decide +kernel
theorem d_M_write_36 : decode b_M_write 36 = .ok (.iload 5, 2) := by decide +kernel
theorem d_M_write_38 : decode b_M_write 38 = .ok (.iload_n 3, 1) := by decide +kernel
theorem d_M_write_39 : decode b_M_write 39 = .ok (.if_icmp .ge 118, 3) := by decide +kernel
theorem d_M_write_42 : decode b_M_write 42 = .ok (.aload_n 0, 1) := by decide +kernel
theorem d_M_write_43 : decode b_M_write 43 = .ok (.iload 5, 2) := by decide +kernel
theorem d_M_write_45 : decode b_M_write 45 = .ok (.iload_n 3, 1) := by decide +kernel
theorem d_M_write_46 : decode b_M_write 46 = .ok (.invokevirtual 399, 3) := by decide +kernel
theorem d_M_write_49 : decode b_M_write 49 = .ok (.istore 6, 2) := by decide +kernel
theorem d_M_write_51 : decode b_M_write 51 = .ok (.aload_n 0, 1) := by decide +kernel
theorem d_M_write_52 : decode b_M_write 52 = .ok (.aload_n 0, 1) := by decide +kernel
theorem d_M_write_53 : decode b_M_write 53 = .ok (.invokevirtual 256, 3) := by decide +kernel
theorem d_M_write_56 : decode b_M_write 56 = .ok (.iconst 3, 1) := by decide +kernel
theorem d_M_write_57 : decode b_M_write 57 = .ok (.imul, 1) := by decide +kernel
theorem d_M_write_58 : decode b_M_write 58 = .ok (.iconst 2, 1) := by decide +kernel
theorem d_M_write_59 : decode b_M_write 59 = .ok (.iadd, 1) := by decide +kernel
theorem d_M_write_60 : decode b_M_write 60 = .ok (.iload 5, 2) := by decide +kernel
theorem d_M_write_62 : decode b_M_write 62 = .ok (.iload 6, 2) := by decide +kernel
theorem d_M_write_64 : decode b_M_write 64 = .ok (.invokevirtual 403, 3) := by decide +kernel
theorem d_M_write_67 : decode b_M_write 67 = .ok (.ifCond .eq 16, 3) := by decide +kernel
theorem d_M_write_70 : decode b_M_write 70 = .ok (.iload 4, 2) := by decide +kernel
theorem d_M_write_72 : decode b_M_write 72 = .ok (.aload_n 0, 1) := by decide +kernel
theorem d_M_write_73 : decode b_M_write 73 = .ok (.getfield 215, 3) := by decide +kernel
theorem d_M_write_76 : decode b_M_write 76 = .ok (.iadd, 1) := by decide +kernel
theorem d_M_write_77 : decode b_M_write 77 = .ok (.sipush 300, 3) := by decide +kernel
theorem d_M_write_80 : decode b_M_write 80 = .ok (.if_icmp .le 9, 3) := by decide +kernel
theorem d_M_write_83 : decode b_M_write 83 = .ok (.aload_n 0, 1) := by decide +kernel
theorem d_M_write_84 : decode b_M_write 84 = .ok (.iload_n 1, 1) := by decide +kernel
theorem d_M_write_85 : decode b_M_write 85 = .ok (.invokevirtual 388, 3) := by decide +kernel
theorem d_M_write_88 : decode b_M_write 88 = .ok (.return_, 1) := by decide +kernel
theorem d_M_write_89 : decode b_M_write 89 = .ok (.iconst 0, 1) := by decide +kernel
theorem d_M_write_90 : decode b_M_write 90 = .ok (.istore 7, 2) := by decide +kernel
theorem d_M_write_92 : decode b_M_write 92 = .ok (.iload 7, 2) := by decide +kernel
theorem d_M_write_94 : decode b_M_write 94 = .ok (.aload_n 0, 1) := by decide +kernel
theorem d_M_write_95 : decode b_M_write 95 = .ok (.getfield 215, 3) := by decide +kernel
theorem d_M_write_98 : decode b_M_write 98 = .ok (.if_icmp .ge 52, 3) := by decide +kernel
theorem d_M_write_101 : decode b_M_write 101 = .ok (.aload_n 0, 1) := by decide +kernel
theorem d_M_write_102 : decode b_M_write 102 = .ok (.getfield 87, 3) := by decide +kernel
theorem d_M_write_105 : decode b_M_write 105 = .ok (.iload_n 2, 1) := by decide +kernel
theorem d_M_write_106 : decode b_M_write 106 = .ok (.sipush 300, 3) := by decide +kernel
theorem d_M_write_109 : decode b_M_write 109 = .ok (.imul, 1) := by decide +kernel
theorem d_M_write_110 : decode b_M_write 110 = .ok (.iload 4, 2) := by decide +kernel
theorem d_M_write_112 : decode b_M_write 112 = .ok (.iadd, 1) := by decide +kernel
theorem d_M_write_113 : decode b_M_write 113 = .ok (.aload_n 0, 1) := by decide +kernel
theorem d_M_write_114 : decode b_M_write 114 = .ok (.getfield 57, 3) := by decide +kernel
theorem d_M_write_117 : decode b_M_write 117 = .ok (.iload 7, 2) := by decide +kernel
theorem d_M_write_119 : decode b_M_write 119 = .ok (.laload, 1) := by decide +kernel
theorem d_M_write_120 : decode b_M_write 120 = .ok (.lastore, 1) := by decide +kernel
theorem d_M_write_121 : decode b_M_write 121 = .ok (.aload_n 0, 1) := by decide +kernel
theorem d_M_write_122 : decode b_M_write 122 = .ok (.getfield 90, 3) := by decide +kernel
theorem d_M_write_125 : decode b_M_write 125 = .ok (.iload_n 2, 1) := by decide +kernel
theorem d_M_write_126 : decode b_M_write 126 = .ok (.sipush 300, 3) := by decide +kernel
theorem d_M_write_129 : decode b_M_write 129 = .ok (.imul, 1) := by decide +kernel
theorem d_M_write_130 : decode b_M_write 130 = .ok (.iload 4, 2) := by decide +kernel
theorem d_M_write_132 : decode b_M_write 132 = .ok (.iadd, 1) := by decide +kernel
theorem d_M_write_133 : decode b_M_write 133 = .ok (.aload_n 0, 1) := by decide +kernel
theorem d_M_write_134 : decode b_M_write 134 = .ok (.getfield 60, 3) := by decide +kernel
theorem d_M_write_137 : decode b_M_write 137 = .ok (.iload 7, 2) := by decide +kernel
theorem d_M_write_139 : decode b_M_write 139 = .ok (.laload, 1) := by decide +kernel
theorem d_M_write_140 : decode b_M_write 140 = .ok (.lastore, 1) := by decide +kernel
theorem d_M_write_141 : decode b_M_write 141 = .ok (.iinc 4 1, 3) := by decide +kernel
theorem d_M_write_144 : decode b_M_write 144 = .ok (.iinc 7 1, 3) := by decide +kernel
theorem d_M_write_147 : decode b_M_write 147 = .ok (.goto (-55), 3) := by decide +kernel
theorem d_M_write_150 : decode b_M_write 150 = .ok (.iload 6, 2) := by decide +kernel
theorem d_M_write_152 : decode b_M_write 152 = .ok (.istore 5, 2) := by decide +kernel
theorem d_M_write_154 : decode b_M_write 154 = .ok (.goto (-118), 3) := by decide +kernel
theorem d_M_write_157 : decode b_M_write 157 = .ok (.aload_n 0, 1) := by decide +kernel
theorem d_M_write_158 : decode b_M_write 158 = .ok (.getfield 84, 3) := by decide +kernel
theorem d_M_write_161 : decode b_M_write 161 = .ok (.iload_n 2, 1) := by decide +kernel
theorem d_M_write_162 : decode b_M_write 162 = .ok (.iload 4, 2) := by decide +kernel
theorem d_M_write_164 : decode b_M_write 164 = .ok (.iastore, 1) := by decide +kernel
theorem d_M_write_165 : decode b_M_write 165 = .ok (.aload_n 0, 1) := by decide +kernel
theorem d_M_write_166 : decode b_M_write 166 = .ok (.getfield 81, 3) := by decide +kernel
theorem d_M_write_169 : decode b_M_write 169 = .ok (.iload_n 2, 1) := by decide +kernel
theorem d_M_write_170 : decode b_M_write 170 = .ok (.aload_n 0, 1) := by decide +kernel
theorem d_M_write_171 : decode b_M_write 171 = .ok (.getfield 270, 3) := by decide +kernel
theorem d_M_write_174 : decode b_M_write 174 = .ok (.iastore, 1) := by decide +kernel
theorem d_M_write_175 : decode b_M_write 175 = .ok (.aload_n 0, 1) := by decide +kernel
theorem d_M_write_176 : decode b_M_write 176 = .ok (.iload_n 1, 1) := by decide +kernel
theorem d_M_write_177 : decode b_M_write 177 = .ok (.aload_n 0, 1) := by decide +kernel
theorem d_M_write_178 : decode b_M_write 178 = .ok (.getfield 138, 3) := by decide +kernel
theorem d_M_write_181 : decode b_M_write 181 = .ok (.iload_n 1, 1) := by decide +kernel
theorem d_M_write_182 : decode b_M_write 182 = .ok (.iaload, 1) := by decide +kernel
theorem d_M_write_183 : decode b_M_write 183 = .ok (.iconst 0, 1) := by decide +kernel
theorem d_M_write_184 : decode b_M_write 184 = .ok (.invokevirtual 372, 3) := by decide +kernel
theorem d_M_write_187 : decode b_M_write 187 = .ok (.return_, 1) := by decide +kernel
abbrev b_M_notGoing : ByteArray := prog_1_method_54_code
def y_M_notGoing : MethodName := ⟨"ShuffleMill", "notGoing", "()V"⟩
theorem d_M_notGoing_0 : decode b_M_notGoing 0 = .ok (.aload_n 0, 1) := by decide +kernel
theorem d_M_notGoing_1 : decode b_M_notGoing 1 = .ok (.getfield 422, 3) := by decide +kernel
theorem d_M_notGoing_4 : decode b_M_notGoing 4 = .ok (.ifCond .ne 7, 3) := by decide +kernel
theorem d_M_notGoing_7 : decode b_M_notGoing 7 = .ok (.iconst 1, 1) := by decide +kernel
theorem d_M_notGoing_8 : decode b_M_notGoing 8 = .ok (.goto 4, 3) := by decide +kernel
theorem d_M_notGoing_11 : decode b_M_notGoing 11 = .ok (.iconst 0, 1) := by decide +kernel
theorem d_M_notGoing_12 : decode b_M_notGoing 12 = .ok (.invokestatic 425, 3) := by decide +kernel
theorem d_M_notGoing_15 : decode b_M_notGoing 15 = .ok (.return_, 1) := by decide +kernel
abbrev b_M_isFile : ByteArray := prog_1_method_55_code
def y_M_isFile : MethodName := ⟨"ShuffleMill", "isFile", "(I)V"⟩
theorem d_M_isFile_0 : decode b_M_isFile 0 = .ok (.iload_n 0, 1) := by decide +kernel
theorem d_M_isFile_1 : decode b_M_isFile 1 = .ok (.i2l, 1) := by decide +kernel
theorem d_M_isFile_2 : decode b_M_isFile 2 = .ok (.lconst 0, 1) := by decide +kernel
theorem d_M_isFile_3 : decode b_M_isFile 3 = .ok (.ldc2_w 429, 3) := by decide +kernel
theorem d_M_isFile_6 : decode b_M_isFile 6 = .ok (.invokestatic 431, 3) := by decide +kernel
theorem d_M_isFile_9 : decode b_M_isFile 9 = .ok (.invokestatic 435, 3) := by decide +kernel
theorem d_M_isFile_12 : decode b_M_isFile 12 = .ok (.return_, 1) := by decide +kernel
abbrev b_M_record : ByteArray := prog_1_method_56_code
def y_M_record : MethodName := ⟨"ShuffleMill", "record", "(IJJ)I"⟩
theorem d_M_record_0 : decode b_M_record 0 = .ok (.iload_n 1, 1) := by decide +kernel
theorem d_M_record_1 : decode b_M_record 1 = .ok (.invokestatic 438, 3) := by decide +kernel
theorem d_M_record_4 : decode b_M_record 4 = .ok (.aload_n 0, 1) := by decide +kernel
theorem d_M_record_5 : decode b_M_record 5 = .ok (.getfield 16, 3) := by decide +kernel
theorem d_M_record_8 : decode b_M_record 8 = .ok (.iload_n 1, 1) := by decide +kernel
theorem d_M_record_9 : decode b_M_record 9 = .ok (.iaload, 1) := by decide +kernel
theorem d_M_record_10 : decode b_M_record 10 = .ok (.sipush 300, 3) := by decide +kernel
theorem d_M_record_13 : decode b_M_record 13 = .ok (.if_icmp .ge 14, 3) := by decide +kernel
theorem d_M_record_16 : decode b_M_record 16 = .ok (.aload_n 0, 1) := by decide +kernel
theorem d_M_record_17 : decode b_M_record 17 = .ok (.getfield 422, 3) := by decide +kernel
theorem d_M_record_20 : decode b_M_record 20 = .ok (.ifCond .ne 7, 3) := by decide +kernel
theorem d_M_record_23 : decode b_M_record 23 = .ok (.iconst 1, 1) := by decide +kernel
theorem d_M_record_24 : decode b_M_record 24 = .ok (.goto 4, 3) := by decide +kernel
theorem d_M_record_27 : decode b_M_record 27 = .ok (.iconst 0, 1) := by decide +kernel
theorem d_M_record_28 : decode b_M_record 28 = .ok (.invokestatic 425, 3) := by decide +kernel
theorem d_M_record_31 : decode b_M_record 31 = .ok (.aload_n 0, 1) := by decide +kernel
theorem d_M_record_32 : decode b_M_record 32 = .ok (.getfield 9, 3) := by decide +kernel
theorem d_M_record_35 : decode b_M_record 35 = .ok (.iload_n 1, 1) := by decide +kernel
theorem d_M_record_36 : decode b_M_record 36 = .ok (.sipush 300, 3) := by decide +kernel
theorem d_M_record_39 : decode b_M_record 39 = .ok (.imul, 1) := by decide +kernel
theorem d_M_record_40 : decode b_M_record 40 = .ok (.aload_n 0, 1) := by decide +kernel
theorem d_M_record_41 : decode b_M_record 41 = .ok (.getfield 16, 3) := by decide +kernel
theorem d_M_record_44 : decode b_M_record 44 = .ok (.iload_n 1, 1) := by decide +kernel
theorem d_M_record_45 : decode b_M_record 45 = .ok (.iaload, 1) := by decide +kernel
theorem d_M_record_46 : decode b_M_record 46 = .ok (.iadd, 1) := by decide +kernel
theorem d_M_record_47 : decode b_M_record 47 = .ok (.lload_n 2, 1) := by decide +kernel
theorem d_M_record_48 : decode b_M_record 48 = .ok (.lastore, 1) := by decide +kernel
theorem d_M_record_49 : decode b_M_record 49 = .ok (.aload_n 0, 1) := by decide +kernel
theorem d_M_record_50 : decode b_M_record 50 = .ok (.getfield 13, 3) := by decide +kernel
theorem d_M_record_53 : decode b_M_record 53 = .ok (.iload_n 1, 1) := by decide +kernel
theorem d_M_record_54 : decode b_M_record 54 = .ok (.sipush 300, 3) := by decide +kernel
theorem d_M_record_57 : decode b_M_record 57 = .ok (.imul, 1) := by decide +kernel
theorem d_M_record_58 : decode b_M_record 58 = .ok (.aload_n 0, 1) := by decide +kernel
theorem d_M_record_59 : decode b_M_record 59 = .ok (.getfield 16, 3) := by decide +kernel
theorem d_M_record_62 : decode b_M_record 62 = .ok (.iload_n 1, 1) := by decide +kernel
theorem d_M_record_63 : decode b_M_record 63 = .ok (.iaload, 1) := by decide +kernel
theorem d_M_record_64 : decode b_M_record 64 = .ok (.iadd, 1) := by decide +kernel
theorem d_M_record_65 : decode b_M_record 65 = .ok (.lload 4, 2) := by decide +kernel
theorem d_M_record_67 : decode b_M_record 67 = .ok (.lastore, 1) := by decide +kernel
theorem d_M_record_68 : decode b_M_record 68 = .ok (.aload_n 0, 1) := by decide +kernel
theorem d_M_record_69 : decode b_M_record 69 = .ok (.getfield 16, 3) := by decide +kernel
theorem d_M_record_72 : decode b_M_record 72 = .ok (.iload_n 1, 1) := by decide +kernel
theorem d_M_record_73 : decode b_M_record 73 = .ok (.dup2, 1) := by decide +kernel
theorem d_M_record_74 : decode b_M_record 74 = .ok (.iaload, 1) := by decide +kernel
theorem d_M_record_75 : decode b_M_record 75 = .ok (.iconst 1, 1) := by decide +kernel
theorem d_M_record_76 : decode b_M_record 76 = .ok (.iadd, 1) := by decide +kernel
theorem d_M_record_77 : decode b_M_record 77 = .ok (.iastore, 1) := by decide +kernel
theorem d_M_record_78 : decode b_M_record 78 = .ok (.aload_n 0, 1) := by decide +kernel
theorem d_M_record_79 : decode b_M_record 79 = .ok (.getfield 16, 3) := by decide +kernel
theorem d_M_record_82 : decode b_M_record 82 = .ok (.iload_n 1, 1) := by decide +kernel
theorem d_M_record_83 : decode b_M_record 83 = .ok (.iaload, 1) := by decide +kernel
theorem d_M_record_84 : decode b_M_record 84 = .ok (.ireturn, 1) := by decide +kernel
abbrev b_M_clear : ByteArray := prog_1_method_57_code
def y_M_clear : MethodName := ⟨"ShuffleMill", "clear", "(I)I"⟩
theorem d_M_clear_0 : decode b_M_clear 0 = .ok (.iload_n 1, 1) := by decide +kernel
theorem d_M_clear_1 : decode b_M_clear 1 = .ok (.invokestatic 438, 3) := by decide +kernel
theorem d_M_clear_4 : decode b_M_clear 4 = .ok (.aload_n 0, 1) := by decide +kernel
theorem d_M_clear_5 : decode b_M_clear 5 = .ok (.invokevirtual 441, 3) := by decide +kernel
theorem d_M_clear_8 : decode b_M_clear 8 = .ok (.aload_n 0, 1) := by decide +kernel
theorem d_M_clear_9 : decode b_M_clear 9 = .ok (.getfield 16, 3) := by decide +kernel
theorem d_M_clear_12 : decode b_M_clear 12 = .ok (.iload_n 1, 1) := by decide +kernel
theorem d_M_clear_13 : decode b_M_clear 13 = .ok (.iaload, 1) := by decide +kernel
theorem d_M_clear_14 : decode b_M_clear 14 = .ok (.istore_n 2, 1) := by decide +kernel
theorem d_M_clear_15 : decode b_M_clear 15 = .ok (.aload_n 0, 1) := by decide +kernel
theorem d_M_clear_16 : decode b_M_clear 16 = .ok (.getfield 16, 3) := by decide +kernel
theorem d_M_clear_19 : decode b_M_clear 19 = .ok (.iload_n 1, 1) := by decide +kernel
theorem d_M_clear_20 : decode b_M_clear 20 = .ok (.iconst 0, 1) := by decide +kernel
theorem d_M_clear_21 : decode b_M_clear 21 = .ok (.iastore, 1) := by decide +kernel
theorem d_M_clear_22 : decode b_M_clear 22 = .ok (.iload_n 2, 1) := by decide +kernel
theorem d_M_clear_23 : decode b_M_clear 23 = .ok (.ireturn, 1) := by decide +kernel
abbrev b_M_code : ByteArray := prog_1_method_58_code
def y_M_code : MethodName := ⟨"ShuffleMill", "code", "(IJ)I"⟩
theorem d_M_code_0 : decode b_M_code 0 = .ok (.iload_n 1, 1) := by decide +kernel
theorem d_M_code_1 : decode b_M_code 1 = .ok (.i2l, 1) := by decide +kernel
theorem d_M_code_2 : decode b_M_code 2 = .ok (.lconst 0, 1) := by decide +kernel
theorem d_M_code_3 : decode b_M_code 3 = .ok (.ldc2_w 444, 3) := by decide +kernel
theorem d_M_code_6 : decode b_M_code 6 = .ok (.invokestatic 431, 3) := by decide +kernel
theorem d_M_code_9 : decode b_M_code 9 = .ok (.ifCond .eq 51, 3) := by decide +kernel
theorem d_M_code_12 : decode b_M_code 12 = .ok (.iload_n 1, 1) := by decide +kernel
theorem d_M_code_13 : decode b_M_code 13 = .ok (.iconst 4, 1) := by decide +kernel
theorem d_M_code_14 : decode b_M_code 14 = .ok (.if_icmp .eq 8, 3) := by decide +kernel
theorem d_M_code_17 : decode b_M_code 17 = .ok (.iload_n 1, 1) := by decide +kernel
theorem d_M_code_18 : decode b_M_code 18 = .ok (.iconst 5, 1) := by decide +kernel
theorem d_M_code_19 : decode b_M_code 19 = .ok (.if_icmp .ne 14, 3) := by decide +kernel
theorem d_M_code_22 : decode b_M_code 22 = .ok (.lload_n 2, 1) := by decide +kernel
theorem d_M_code_23 : decode b_M_code 23 = .ok (.lconst 0, 1) := by decide +kernel
theorem d_M_code_24 : decode b_M_code 24 = .ok (.ldc2_w 446, 3) := by decide +kernel
theorem d_M_code_27 : decode b_M_code 27 = .ok (.invokestatic 431, 3) := by decide +kernel
theorem d_M_code_30 : decode b_M_code 30 = .ok (.ifCond .eq 30, 3) := by decide +kernel
theorem d_M_code_33 : decode b_M_code 33 = .ok (.iload_n 1, 1) := by decide +kernel
theorem d_M_code_34 : decode b_M_code 34 = .ok (.bipush 15, 2) := by decide +kernel
theorem d_M_code_36 : decode b_M_code 36 = .ok (.if_icmp .eq 9, 3) := by decide +kernel
theorem d_M_code_39 : decode b_M_code 39 = .ok (.iload_n 1, 1) := by decide +kernel
theorem d_M_code_40 : decode b_M_code 40 = .ok (.bipush 16, 2) := by decide +kernel
theorem d_M_code_42 : decode b_M_code 42 = .ok (.if_icmp .ne 14, 3) := by decide +kernel
theorem d_M_code_45 : decode b_M_code 45 = .ok (.lload_n 2, 1) := by decide +kernel
theorem d_M_code_46 : decode b_M_code 46 = .ok (.lconst 0, 1) := by decide +kernel
theorem d_M_code_47 : decode b_M_code 47 = .ok (.ldc2_w 448, 3) := by decide +kernel
theorem d_M_code_50 : decode b_M_code 50 = .ok (.invokestatic 431, 3) := by decide +kernel
theorem d_M_code_53 : decode b_M_code 53 = .ok (.ifCond .eq 7, 3) := by decide +kernel
theorem d_M_code_56 : decode b_M_code 56 = .ok (.iconst 1, 1) := by decide +kernel
theorem d_M_code_57 : decode b_M_code 57 = .ok (.goto 4, 3) := by decide +kernel
theorem d_M_code_60 : decode b_M_code 60 = .ok (.iconst 0, 1) := by decide +kernel
theorem d_M_code_61 : decode b_M_code 61 = .ok (.invokestatic 450, 3) := by decide +kernel
theorem d_M_code_64 : decode b_M_code 64 = .ok (.aload_n 0, 1) := by decide +kernel
theorem d_M_code_65 : decode b_M_code 65 = .ok (.getfield 453, 3) := by decide +kernel
theorem d_M_code_68 : decode b_M_code 68 = .ok (.bipush 40, 2) := by decide +kernel
theorem d_M_code_70 : decode b_M_code 70 = .ok (.if_icmp .ge 14, 3) := by decide +kernel
theorem d_M_code_73 : decode b_M_code 73 = .ok (.aload_n 0, 1) := by decide +kernel
theorem d_M_code_74 : decode b_M_code 74 = .ok (.getfield 422, 3) := by decide +kernel
theorem d_M_code_77 : decode b_M_code 77 = .ok (.ifCond .ne 7, 3) := by decide +kernel
theorem d_M_code_80 : decode b_M_code 80 = .ok (.iconst 1, 1) := by decide +kernel
theorem d_M_code_81 : decode b_M_code 81 = .ok (.goto 4, 3) := by decide +kernel
theorem d_M_code_84 : decode b_M_code 84 = .ok (.iconst 0, 1) := by decide +kernel
theorem d_M_code_85 : decode b_M_code 85 = .ok (.invokestatic 425, 3) := by decide +kernel
theorem d_M_code_88 : decode b_M_code 88 = .ok (.aload_n 0, 1) := by decide +kernel
theorem d_M_code_89 : decode b_M_code 89 = .ok (.getfield 20, 3) := by decide +kernel
theorem d_M_code_92 : decode b_M_code 92 = .ok (.aload_n 0, 1) := by decide +kernel
theorem d_M_code_93 : decode b_M_code 93 = .ok (.getfield 453, 3) := by decide +kernel
theorem d_M_code_96 : decode b_M_code 96 = .ok (.iload_n 1, 1) := by decide +kernel
theorem d_M_code_97 : decode b_M_code 97 = .ok (.iastore, 1) := by decide +kernel
theorem d_M_code_98 : decode b_M_code 98 = .ok (.aload_n 0, 1) := by decide +kernel
theorem d_M_code_99 : decode b_M_code 99 = .ok (.getfield 23, 3) := by decide +kernel
theorem d_M_code_102 : decode b_M_code 102 = .ok (.aload_n 0, 1) := by decide +kernel
theorem d_M_code_103 : decode b_M_code 103 = .ok (.getfield 453, 3) := by decide +kernel
theorem d_M_code_106 : decode b_M_code 106 = .ok (.lload_n 2, 1) := by decide +kernel
theorem d_M_code_107 : decode b_M_code 107 = .ok (.lastore, 1) := by decide +kernel
theorem d_M_code_108 : decode b_M_code 108 = .ok (.aload_n 0, 1) := by decide +kernel
theorem d_M_code_109 : decode b_M_code 109 = .ok (.dup, 1) := by decide +kernel
theorem d_M_code_110 : decode b_M_code 110 = .ok (.getfield 453, 3) := by decide +kernel
theorem d_M_code_113 : decode b_M_code 113 = .ok (.iconst 1, 1) := by decide +kernel
theorem d_M_code_114 : decode b_M_code 114 = .ok (.iadd, 1) := by decide +kernel
theorem d_M_code_115 : decode b_M_code 115 = .ok (.putfield 453, 3) := by decide +kernel
theorem d_M_code_118 : decode b_M_code 118 = .ok (.aload_n 0, 1) := by decide +kernel
theorem d_M_code_119 : decode b_M_code 119 = .ok (.getfield 453, 3) := by decide +kernel
theorem d_M_code_122 : decode b_M_code 122 = .ok (.ireturn, 1) := by decide +kernel
abbrev b_M_program : ByteArray := prog_1_method_59_code
def y_M_program : MethodName := ⟨"ShuffleMill", "program", "(II)I"⟩
theorem d_M_program_0 : decode b_M_program 0 = .ok (.iload_n 1, 1) := by decide +kernel
theorem d_M_program_1 : decode b_M_program 1 = .ok (.i2l, 1) := by decide +kernel
theorem d_M_program_2 : decode b_M_program 2 = .ok (.lconst 0, 1) := by decide +kernel
theorem d_M_program_3 : decode b_M_program 3 = .ok (.ldc2_w 456, 3) := by decide +kernel
theorem d_M_program_6 : decode b_M_program 6 = .ok (.invokestatic 431, 3) := by decide +kernel
theorem d_M_program_9 : decode b_M_program 9 = .ok (.invokestatic 435, 3) := by decide +kernel
theorem d_M_program_12 : decode b_M_program 12 = .ok (.iload_n 2, 1) := by decide +kernel
theorem d_M_program_13 : decode b_M_program 13 = .ok (.i2l, 1) := by decide +kernel
theorem d_M_program_14 : decode b_M_program 14 = .ok (.lconst 0, 1) := by decide +kernel
theorem d_M_program_15 : decode b_M_program 15 = .ok (.ldc2_w 458, 3) := by decide +kernel
theorem d_M_program_18 : decode b_M_program 18 = .ok (.invokestatic 431, 3) := by decide +kernel
theorem d_M_program_21 : decode b_M_program 21 = .ok (.ifCond .eq 19, 3) := by decide +kernel
theorem d_M_program_24 : decode b_M_program 24 = .ok (.aload_n 0, 1) := by decide +kernel
theorem d_M_program_25 : decode b_M_program 25 = .ok (.getfield 453, 3) := by decide +kernel
theorem d_M_program_28 : decode b_M_program 28 = .ok (.ifCond .gt 8, 3) := by decide +kernel
theorem d_M_program_31 : decode b_M_program 31 = .ok (.iload_n 2, 1) := by decide +kernel
theorem d_M_program_32 : decode b_M_program 32 = .ok (.iconst 1, 1) := by decide +kernel
theorem d_M_program_33 : decode b_M_program 33 = .ok (.if_icmp .ne 7, 3) := by decide +kernel
theorem d_M_program_36 : decode b_M_program 36 = .ok (.iconst 1, 1) := by decide +kernel
theorem d_M_program_37 : decode b_M_program 37 = .ok (.goto 4, 3) := by decide +kernel
theorem d_M_program_40 : decode b_M_program 40 = .ok (.iconst 0, 1) := by decide +kernel
theorem d_M_program_41 : decode b_M_program 41 = .ok (.invokestatic 450, 3) := by decide +kernel
theorem d_M_program_44 : decode b_M_program 44 = .ok (.iconst 0, 1) := by decide +kernel
theorem d_M_program_45 : decode b_M_program 45 = .ok (.istore_n 3, 1) := by decide +kernel
theorem d_M_program_46 : decode b_M_program 46 = .ok (.iload_n 3, 1) := by decide +kernel
theorem d_M_program_47 : decode b_M_program 47 = .ok (.aload_n 0, 1) := by decide +kernel
theorem d_M_program_48 : decode b_M_program 48 = .ok (.getfield 453, 3) := by decide +kernel
theorem d_M_program_51 : decode b_M_program 51 = .ok (.if_icmp .ge 54, 3) := by decide +kernel
theorem d_M_program_54 : decode b_M_program 54 = .ok (.aload_n 0, 1) := by decide +kernel
theorem d_M_program_55 : decode b_M_program 55 = .ok (.getfield 20, 3) := by decide +kernel
theorem d_M_program_58 : decode b_M_program 58 = .ok (.iload_n 3, 1) := by decide +kernel
theorem d_M_program_59 : decode b_M_program 59 = .ok (.iaload, 1) := by decide +kernel
theorem d_M_program_60 : decode b_M_program 60 = .ok (.bipush 15, 2) := by decide +kernel
theorem d_M_program_62 : decode b_M_program 62 = .ok (.if_icmp .eq 14, 3) := by decide +kernel
theorem d_M_program_65 : decode b_M_program 65 = .ok (.aload_n 0, 1) := by decide +kernel
theorem d_M_program_66 : decode b_M_program 66 = .ok (.getfield 20, 3) := by decide +kernel
theorem d_M_program_69 : decode b_M_program 69 = .ok (.iload_n 3, 1) := by decide +kernel
theorem d_M_program_70 : decode b_M_program 70 = .ok (.iaload, 1) := by decide +kernel
theorem d_M_program_71 : decode b_M_program 71 = .ok (.bipush 16, 2) := by decide +kernel
theorem d_M_program_73 : decode b_M_program 73 = .ok (.if_icmp .ne 18, 3) := by decide +kernel
theorem d_M_program_76 : decode b_M_program 76 = .ok (.aload_n 0, 1) := by decide +kernel
theorem d_M_program_77 : decode b_M_program 77 = .ok (.getfield 23, 3) := by decide +kernel
theorem d_M_program_80 : decode b_M_program 80 = .ok (.iload_n 3, 1) := by decide +kernel
theorem d_M_program_81 : decode b_M_program 81 = .ok (.laload, 1) := by decide +kernel
theorem d_M_program_82 : decode b_M_program 82 = .ok (.aload_n 0, 1) := by decide +kernel
theorem d_M_program_83 : decode b_M_program 83 = .ok (.getfield 453, 3) := by decide +kernel
theorem d_M_program_86 : decode b_M_program 86 = .ok (.i2l, 1) := by decide +kernel
theorem d_M_program_87 : decode b_M_program 87 = .ok (.lcmp, 1) := by decide +kernel
theorem d_M_program_88 : decode b_M_program 88 = .ok (.ifCond .gt 7, 3) := by decide +kernel
theorem d_M_program_91 : decode b_M_program 91 = .ok (.iconst 1, 1) := by decide +kernel
theorem d_M_program_92 : decode b_M_program 92 = .ok (.goto 4, 3) := by decide +kernel
theorem d_M_program_95 : decode b_M_program 95 = .ok (.iconst 0, 1) := by decide +kernel
theorem d_M_program_96 : decode b_M_program 96 = .ok (.invokestatic 450, 3) := by decide +kernel
theorem d_M_program_99 : decode b_M_program 99 = .ok (.iinc 3 1, 3) := by decide +kernel
theorem d_M_program_102 : decode b_M_program 102 = .ok (.goto (-56), 3) := by decide +kernel
theorem d_M_program_105 : decode b_M_program 105 = .ok (.aload_n 0, 1) := by decide +kernel
theorem d_M_program_106 : decode b_M_program 106 = .ok (.invokevirtual 441, 3) := by decide +kernel
theorem d_M_program_109 : decode b_M_program 109 = .ok (.iload_n 1, 1) := by decide +kernel
theorem d_M_program_110 : decode b_M_program 110 = .ok (.iconst 3, 1) := by decide +kernel
theorem d_M_program_111 : decode b_M_program 111 = .ok (.imul, 1) := by decide +kernel
theorem d_M_program_112 : decode b_M_program 112 = .ok (.iload_n 2, 1) := by decide +kernel
theorem d_M_program_113 : decode b_M_program 113 = .ok (.iadd, 1) := by decide +kernel
theorem d_M_program_114 : decode b_M_program 114 = .ok (.istore_n 3, 1) := by decide +kernel
theorem d_M_program_115 : decode b_M_program 115 = .ok (.iconst 0, 1) := by decide +kernel
theorem d_M_program_116 : decode b_M_program 116 = .ok (.istore 4, 2) := by decide +kernel
theorem d_M_program_118 : decode b_M_program 118 = .ok (.iload 4, 2) := by decide +kernel
theorem d_M_program_120 : decode b_M_program 120 = .ok (.aload_n 0, 1) := by decide +kernel
theorem d_M_program_121 : decode b_M_program 121 = .ok (.getfield 453, 3) := by decide +kernel
theorem d_M_program_124 : decode b_M_program 124 = .ok (.if_icmp .ge 47, 3) := by decide +kernel
theorem d_M_program_127 : decode b_M_program 127 = .ok (.aload_n 0, 1) := by decide +kernel
theorem d_M_program_128 : decode b_M_program 128 = .ok (.getfield 26, 3) := by decide +kernel
theorem d_M_program_131 : decode b_M_program 131 = .ok (.iload_n 3, 1) := by decide +kernel
theorem d_M_program_132 : decode b_M_program 132 = .ok (.bipush 40, 2) := by decide +kernel
theorem d_M_program_134 : decode b_M_program 134 = .ok (.imul, 1) := by decide +kernel
theorem d_M_program_135 : decode b_M_program 135 = .ok (.iload 4, 2) := by decide +kernel
theorem d_M_program_137 : decode b_M_program 137 = .ok (.iadd, 1) := by decide +kernel
theorem d_M_program_138 : decode b_M_program 138 = .ok (.aload_n 0, 1) := by decide +kernel
theorem d_M_program_139 : decode b_M_program 139 = .ok (.getfield 20, 3) := by decide +kernel
theorem d_M_program_142 : decode b_M_program 142 = .ok (.iload 4, 2) := by decide +kernel
theorem d_M_program_144 : decode b_M_program 144 = .ok (.iaload, 1) := by decide +kernel
theorem d_M_program_145 : decode b_M_program 145 = .ok (.iastore, 1) := by decide +kernel
theorem d_M_program_146 : decode b_M_program 146 = .ok (.aload_n 0, 1) := by decide +kernel
theorem d_M_program_147 : decode b_M_program 147 = .ok (.getfield 29, 3) := by decide +kernel
theorem d_M_program_150 : decode b_M_program 150 = .ok (.iload_n 3, 1) := by decide +kernel
theorem d_M_program_151 : decode b_M_program 151 = .ok (.bipush 40, 2) := by decide +kernel
theorem d_M_program_153 : decode b_M_program 153 = .ok (.imul, 1) := by decide +kernel
theorem d_M_program_154 : decode b_M_program 154 = .ok (.iload 4, 2) := by decide +kernel
theorem d_M_program_156 : decode b_M_program 156 = .ok (.iadd, 1) := by decide +kernel
theorem d_M_program_157 : decode b_M_program 157 = .ok (.aload_n 0, 1) := by decide +kernel
theorem d_M_program_158 : decode b_M_program 158 = .ok (.getfield 23, 3) := by decide +kernel
theorem d_M_program_161 : decode b_M_program 161 = .ok (.iload 4, 2) := by decide +kernel
theorem d_M_program_163 : decode b_M_program 163 = .ok (.laload, 1) := by decide +kernel
theorem d_M_program_164 : decode b_M_program 164 = .ok (.lastore, 1) := by decide +kernel
theorem d_M_program_165 : decode b_M_program 165 = .ok (.iinc 4 1, 3) := by decide +kernel
theorem d_M_program_168 : decode b_M_program 168 = .ok (.goto (-50), 3) := by decide +kernel
theorem d_M_program_171 : decode b_M_program 171 = .ok (.aload_n 0, 1) := by decide +kernel
theorem d_M_program_172 : decode b_M_program 172 = .ok (.getfield 32, 3) := by decide +kernel
theorem d_M_program_175 : decode b_M_program 175 = .ok (.iload_n 3, 1) := by decide +kernel
theorem d_M_program_176 : decode b_M_program 176 = .ok (.aload_n 0, 1) := by decide +kernel
theorem d_M_program_177 : decode b_M_program 177 = .ok (.getfield 453, 3) := by decide +kernel
theorem d_M_program_180 : decode b_M_program 180 = .ok (.iastore, 1) := by decide +kernel
theorem d_M_program_181 : decode b_M_program 181 = .ok (.aload_n 0, 1) := by decide +kernel
theorem d_M_program_182 : decode b_M_program 182 = .ok (.iconst 0, 1) := by decide +kernel
theorem d_M_program_183 : decode b_M_program 183 = .ok (.putfield 453, 3) := by decide +kernel
theorem d_M_program_186 : decode b_M_program 186 = .ok (.aload_n 0, 1) := by decide +kernel
theorem d_M_program_187 : decode b_M_program 187 = .ok (.getfield 32, 3) := by decide +kernel
theorem d_M_program_190 : decode b_M_program 190 = .ok (.iload_n 3, 1) := by decide +kernel
theorem d_M_program_191 : decode b_M_program 191 = .ok (.iaload, 1) := by decide +kernel
theorem d_M_program_192 : decode b_M_program 192 = .ok (.ireturn, 1) := by decide +kernel
abbrev b_M_jobs : ByteArray := prog_1_method_60_code
def y_M_jobs : MethodName := ⟨"ShuffleMill", "job", "(IIIII)V"⟩
theorem d_M_jobs_0 : decode b_M_jobs 0 = .ok (.iload_n 1, 1) := by decide +kernel
theorem d_M_jobs_1 : decode b_M_jobs 1 = .ok (.i2l, 1) := by decide +kernel
theorem d_M_jobs_2 : decode b_M_jobs 2 = .ok (.lconst 0, 1) := by decide +kernel
theorem d_M_jobs_3 : decode b_M_jobs 3 = .ok (.ldc2_w 456, 3) := by decide +kernel
theorem d_M_jobs_6 : decode b_M_jobs 6 = .ok (.invokestatic 431, 3) := by decide +kernel
theorem d_M_jobs_9 : decode b_M_jobs 9 = .ok (.invokestatic 435, 3) := by decide +kernel
theorem d_M_jobs_12 : decode b_M_jobs 12 = .ok (.iload_n 2, 1) := by decide +kernel
theorem d_M_jobs_13 : decode b_M_jobs 13 = .ok (.i2l, 1) := by decide +kernel
theorem d_M_jobs_14 : decode b_M_jobs 14 = .ok (.lconst 0, 1) := by decide +kernel
theorem d_M_jobs_15 : decode b_M_jobs 15 = .ok (.ldc2_w 429, 3) := by decide +kernel
theorem d_M_jobs_18 : decode b_M_jobs 18 = .ok (.invokestatic 431, 3) := by decide +kernel
theorem d_M_jobs_21 : decode b_M_jobs 21 = .ok (.ifCond .eq 47, 3) := by decide +kernel
theorem d_M_jobs_24 : decode b_M_jobs 24 = .ok (.iload_n 3, 1) := by decide +kernel
theorem d_M_jobs_25 : decode b_M_jobs 25 = .ok (.i2l, 1) := by decide +kernel
theorem d_M_jobs_26 : decode b_M_jobs 26 = .ok (.ldc2_w 460, 3) := by decide +kernel
theorem d_M_jobs_29 : decode b_M_jobs 29 = .ok (.ldc2_w 429, 3) := by decide +kernel
theorem d_M_jobs_32 : decode b_M_jobs 32 = .ok (.invokestatic 431, 3) := by decide +kernel
theorem d_M_jobs_35 : decode b_M_jobs 35 = .ok (.ifCond .eq 33, 3) := by decide +kernel
theorem d_M_jobs_38 : decode b_M_jobs 38 = .ok (.iload 4, 2) := by decide +kernel
theorem d_M_jobs_40 : decode b_M_jobs 40 = .ok (.i2l, 1) := by decide +kernel
theorem d_M_jobs_41 : decode b_M_jobs 41 = .ok (.lconst 0, 1) := by decide +kernel
theorem d_M_jobs_42 : decode b_M_jobs 42 = .ok (.ldc2_w 429, 3) := by decide +kernel
theorem d_M_jobs_45 : decode b_M_jobs 45 = .ok (.invokestatic 431, 3) := by decide +kernel
theorem d_M_jobs_48 : decode b_M_jobs 48 = .ok (.ifCond .eq 20, 3) := by decide +kernel
theorem d_M_jobs_51 : decode b_M_jobs 51 = .ok (.iload 5, 2) := by decide +kernel
theorem d_M_jobs_53 : decode b_M_jobs 53 = .ok (.i2l, 1) := by decide +kernel
theorem d_M_jobs_54 : decode b_M_jobs 54 = .ok (.lconst 1, 1) := by decide +kernel
theorem d_M_jobs_55 : decode b_M_jobs 55 = .ok (.ldc2_w 462, 3) := by decide +kernel
theorem d_M_jobs_58 : decode b_M_jobs 58 = .ok (.invokestatic 431, 3) := by decide +kernel
theorem d_M_jobs_61 : decode b_M_jobs 61 = .ok (.ifCond .eq 7, 3) := by decide +kernel
theorem d_M_jobs_64 : decode b_M_jobs 64 = .ok (.iconst 1, 1) := by decide +kernel
theorem d_M_jobs_65 : decode b_M_jobs 65 = .ok (.goto 4, 3) := by decide +kernel
theorem d_M_jobs_68 : decode b_M_jobs 68 = .ok (.iconst 0, 1) := by decide +kernel
theorem d_M_jobs_69 : decode b_M_jobs 69 = .ok (.invokestatic 450, 3) := by decide +kernel
theorem d_M_jobs_72 : decode b_M_jobs 72 = .ok (.aload_n 0, 1) := by decide +kernel
theorem d_M_jobs_73 : decode b_M_jobs 73 = .ok (.getfield 32, 3) := by decide +kernel
theorem d_M_jobs_76 : decode b_M_jobs 76 = .ok (.iload_n 1, 1) := by decide +kernel
theorem d_M_jobs_77 : decode b_M_jobs 77 = .ok (.iconst 3, 1) := by decide +kernel
theorem d_M_jobs_78 : decode b_M_jobs 78 = .ok (.imul, 1) := by decide +kernel
theorem d_M_jobs_79 : decode b_M_jobs 79 = .ok (.iconst 0, 1) := by decide +kernel
theorem d_M_jobs_80 : decode b_M_jobs 80 = .ok (.iadd, 1) := by decide +kernel
theorem d_M_jobs_81 : decode b_M_jobs 81 = .ok (.iaload, 1) := by decide +kernel
theorem d_M_jobs_82 : decode b_M_jobs 82 = .ok (.ifCond .le 27, 3) := by decide +kernel
theorem d_M_jobs_85 : decode b_M_jobs 85 = .ok (.aload_n 0, 1) := by decide +kernel
theorem d_M_jobs_86 : decode b_M_jobs 86 = .ok (.getfield 32, 3) := by decide +kernel
theorem d_M_jobs_89 : decode b_M_jobs 89 = .ok (.iload_n 1, 1) := by decide +kernel
theorem d_M_jobs_90 : decode b_M_jobs 90 = .ok (.iconst 3, 1) := by decide +kernel
theorem d_M_jobs_91 : decode b_M_jobs 91 = .ok (.imul, 1) := by decide +kernel
theorem d_M_jobs_92 : decode b_M_jobs 92 = .ok (.iconst 2, 1) := by decide +kernel
theorem d_M_jobs_93 : decode b_M_jobs 93 = .ok (.iadd, 1) := by decide +kernel
theorem d_M_jobs_94 : decode b_M_jobs 94 = .ok (.iaload, 1) := by decide +kernel
theorem d_M_jobs_95 : decode b_M_jobs 95 = .ok (.ifCond .le 14, 3) := by decide +kernel
theorem d_M_jobs_98 : decode b_M_jobs 98 = .ok (.aload_n 0, 1) := by decide +kernel
theorem d_M_jobs_99 : decode b_M_jobs 99 = .ok (.getfield 422, 3) := by decide +kernel
theorem d_M_jobs_102 : decode b_M_jobs 102 = .ok (.ifCond .ne 7, 3) := by decide +kernel
theorem d_M_jobs_105 : decode b_M_jobs 105 = .ok (.iconst 1, 1) := by decide +kernel
theorem d_M_jobs_106 : decode b_M_jobs 106 = .ok (.goto 4, 3) := by decide +kernel
theorem d_M_jobs_109 : decode b_M_jobs 109 = .ok (.iconst 0, 1) := by decide +kernel
theorem d_M_jobs_110 : decode b_M_jobs 110 = .ok (.invokestatic 425, 3) := by decide +kernel
theorem d_M_jobs_113 : decode b_M_jobs 113 = .ok (.aload_n 0, 1) := by decide +kernel
theorem d_M_jobs_114 : decode b_M_jobs 114 = .ok (.getfield 35, 3) := by decide +kernel
theorem d_M_jobs_117 : decode b_M_jobs 117 = .ok (.iload_n 1, 1) := by decide +kernel
theorem d_M_jobs_118 : decode b_M_jobs 118 = .ok (.iconst 1, 1) := by decide +kernel
theorem d_M_jobs_119 : decode b_M_jobs 119 = .ok (.bastore, 1) := by decide +kernel
theorem d_M_jobs_120 : decode b_M_jobs 120 = .ok (.aload_n 0, 1) := by decide +kernel
theorem d_M_jobs_121 : decode b_M_jobs 121 = .ok (.getfield 39, 3) := by decide +kernel
theorem d_M_jobs_124 : decode b_M_jobs 124 = .ok (.iload_n 1, 1) := by decide +kernel
theorem d_M_jobs_125 : decode b_M_jobs 125 = .ok (.iload_n 2, 1) := by decide +kernel
theorem d_M_jobs_126 : decode b_M_jobs 126 = .ok (.iastore, 1) := by decide +kernel
theorem d_M_jobs_127 : decode b_M_jobs 127 = .ok (.aload_n 0, 1) := by decide +kernel
theorem d_M_jobs_128 : decode b_M_jobs 128 = .ok (.getfield 42, 3) := by decide +kernel
theorem d_M_jobs_131 : decode b_M_jobs 131 = .ok (.iload_n 1, 1) := by decide +kernel
theorem d_M_jobs_132 : decode b_M_jobs 132 = .ok (.iload_n 3, 1) := by decide +kernel
theorem d_M_jobs_133 : decode b_M_jobs 133 = .ok (.iastore, 1) := by decide +kernel
theorem d_M_jobs_134 : decode b_M_jobs 134 = .ok (.aload_n 0, 1) := by decide +kernel
theorem d_M_jobs_135 : decode b_M_jobs 135 = .ok (.getfield 45, 3) := by decide +kernel
theorem d_M_jobs_138 : decode b_M_jobs 138 = .ok (.iload_n 1, 1) := by decide +kernel
theorem d_M_jobs_139 : decode b_M_jobs 139 = .ok (.iload 4, 2) := by decide +kernel
theorem d_M_jobs_141 : decode b_M_jobs 141 = .ok (.iastore, 1) := by decide +kernel
theorem d_M_jobs_142 : decode b_M_jobs 142 = .ok (.aload_n 0, 1) := by decide +kernel
theorem d_M_jobs_143 : decode b_M_jobs 143 = .ok (.getfield 48, 3) := by decide +kernel
theorem d_M_jobs_146 : decode b_M_jobs 146 = .ok (.iload_n 1, 1) := by decide +kernel
theorem d_M_jobs_147 : decode b_M_jobs 147 = .ok (.iload 5, 2) := by decide +kernel
theorem d_M_jobs_149 : decode b_M_jobs 149 = .ok (.iastore, 1) := by decide +kernel
theorem d_M_jobs_150 : decode b_M_jobs 150 = .ok (.return_, 1) := by decide +kernel
