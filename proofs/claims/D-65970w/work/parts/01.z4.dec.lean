abbrev b_M_drop : ByteArray := prog_1_method_61_code
def y_M_drop : MethodName := ⟨"ShuffleMill", "drop", "(I)Z"⟩
theorem d_M_drop_0 : decode b_M_drop 0 = .ok (.iload_n 1, 1) := by decide +kernel
theorem d_M_drop_1 : decode b_M_drop 1 = .ok (.i2l, 1) := by decide +kernel
theorem d_M_drop_2 : decode b_M_drop 2 = .ok (.lconst 0, 1) := by decide +kernel
theorem d_M_drop_3 : decode b_M_drop 3 = .ok (.ldc2_w 456, 3) := by decide +kernel
theorem d_M_drop_6 : decode b_M_drop 6 = .ok (.invokestatic 431, 3) := by decide +kernel
theorem d_M_drop_9 : decode b_M_drop 9 = .ok (.invokestatic 435, 3) := by decide +kernel
theorem d_M_drop_12 : decode b_M_drop 12 = .ok (.aload_n 0, 1) := by decide +kernel
theorem d_M_drop_13 : decode b_M_drop 13 = .ok (.invokevirtual 441, 3) := by decide +kernel
theorem d_M_drop_16 : decode b_M_drop 16 = .ok (.aload_n 0, 1) := by decide +kernel
theorem d_M_drop_17 : decode b_M_drop 17 = .ok (.getfield 35, 3) := by decide +kernel
theorem d_M_drop_20 : decode b_M_drop 20 = .ok (.iload_n 1, 1) := by decide +kernel
theorem d_M_drop_21 : decode b_M_drop 21 = .ok (.baload, 1) := by decide +kernel
theorem d_M_drop_22 : decode b_M_drop 22 = .ok (.istore_n 2, 1) := by decide +kernel
theorem d_M_drop_23 : decode b_M_drop 23 = .ok (.aload_n 0, 1) := by decide +kernel
theorem d_M_drop_24 : decode b_M_drop 24 = .ok (.getfield 35, 3) := by decide +kernel
theorem d_M_drop_27 : decode b_M_drop 27 = .ok (.iload_n 1, 1) := by decide +kernel
theorem d_M_drop_28 : decode b_M_drop 28 = .ok (.iconst 0, 1) := by decide +kernel
theorem d_M_drop_29 : decode b_M_drop 29 = .ok (.bastore, 1) := by decide +kernel
theorem d_M_drop_30 : decode b_M_drop 30 = .ok (.iload_n 2, 1) := by decide +kernel
theorem d_M_drop_31 : decode b_M_drop 31 = .ok (.ireturn, 1) := by decide +kernel
abbrev b_M_waits : ByteArray := prog_1_method_62_code
def y_M_waits : MethodName := ⟨"ShuffleMill", "waits", "(I)Z"⟩
theorem d_M_waits_0 : decode b_M_waits 0 = .ok (.iconst 0, 1) := by decide +kernel
theorem d_M_waits_1 : decode b_M_waits 1 = .ok (.istore_n 2, 1) := by decide +kernel
theorem d_M_waits_2 : decode b_M_waits 2 = .ok (.iload_n 2, 1) := by decide +kernel
theorem d_M_waits_3 : decode b_M_waits 3 = .ok (.bipush 8, 2) := by decide +kernel
theorem d_M_waits_5 : decode b_M_waits 5 = .ok (.if_icmp .ge 98, 3) := by decide +kernel
theorem d_M_waits_8 : decode b_M_waits 8 = .ok (.aload_n 0, 1) := by decide +kernel
theorem d_M_waits_9 : decode b_M_waits 9 = .ok (.getfield 35, 3) := by decide +kernel
theorem d_M_waits_12 : decode b_M_waits 12 = .ok (.iload_n 2, 1) := by decide +kernel
theorem d_M_waits_13 : decode b_M_waits 13 = .ok (.baload, 1) := by decide +kernel
theorem d_M_waits_14 : decode b_M_waits 14 = .ok (.ifCond .eq 83, 3) := by decide +kernel
theorem d_M_waits_17 : decode b_M_waits 17 = .ok (.aload_n 0, 1) := by decide +kernel
theorem d_M_waits_18 : decode b_M_waits 18 = .ok (.getfield 45, 3) := by decide +kernel
theorem d_M_waits_21 : decode b_M_waits 21 = .ok (.iload_n 2, 1) := by decide +kernel
theorem d_M_waits_22 : decode b_M_waits 22 = .ok (.iaload, 1) := by decide +kernel
theorem d_M_waits_23 : decode b_M_waits 23 = .ok (.aload_n 0, 1) := by decide +kernel
theorem d_M_waits_24 : decode b_M_waits 24 = .ok (.getfield 39, 3) := by decide +kernel
theorem d_M_waits_27 : decode b_M_waits 27 = .ok (.iload_n 1, 1) := by decide +kernel
theorem d_M_waits_28 : decode b_M_waits 28 = .ok (.iaload, 1) := by decide +kernel
theorem d_M_waits_29 : decode b_M_waits 29 = .ok (.if_icmp .eq 21, 3) := by decide +kernel
theorem d_M_waits_32 : decode b_M_waits 32 = .ok (.aload_n 0, 1) := by decide +kernel
theorem d_M_waits_33 : decode b_M_waits 33 = .ok (.getfield 45, 3) := by decide +kernel
theorem d_M_waits_36 : decode b_M_waits 36 = .ok (.iload_n 2, 1) := by decide +kernel
theorem d_M_waits_37 : decode b_M_waits 37 = .ok (.iaload, 1) := by decide +kernel
theorem d_M_waits_38 : decode b_M_waits 38 = .ok (.aload_n 0, 1) := by decide +kernel
theorem d_M_waits_39 : decode b_M_waits 39 = .ok (.getfield 42, 3) := by decide +kernel
theorem d_M_waits_42 : decode b_M_waits 42 = .ok (.iload_n 1, 1) := by decide +kernel
theorem d_M_waits_43 : decode b_M_waits 43 = .ok (.iaload, 1) := by decide +kernel
theorem d_M_waits_44 : decode b_M_waits 44 = .ok (.if_icmp .eq 6, 3) := by decide +kernel
theorem d_M_waits_47 : decode b_M_waits 47 = .ok (.goto 50, 3) := by decide +kernel
theorem d_M_waits_50 : decode b_M_waits 50 = .ok (.iconst 0, 1) := by decide +kernel
theorem d_M_waits_51 : decode b_M_waits 51 = .ok (.istore_n 3, 1) := by decide +kernel
theorem d_M_waits_52 : decode b_M_waits 52 = .ok (.iconst 0, 1) := by decide +kernel
theorem d_M_waits_53 : decode b_M_waits 53 = .ok (.istore 4, 2) := by decide +kernel
theorem d_M_waits_55 : decode b_M_waits 55 = .ok (.iload 4, 2) := by decide +kernel
theorem d_M_waits_57 : decode b_M_waits 57 = .ok (.aload_n 0, 1) := by decide +kernel
theorem d_M_waits_58 : decode b_M_waits 58 = .ok (.getfield 264, 3) := by decide +kernel
theorem d_M_waits_61 : decode b_M_waits 61 = .ok (.if_icmp .ge 30, 3) := by decide +kernel
theorem d_M_waits_64 : decode b_M_waits 64 = .ok (.iload_n 3, 1) := by decide +kernel
theorem d_M_waits_65 : decode b_M_waits 65 = .ok (.ifCond .ne 14, 3) := by decide +kernel
theorem d_M_waits_68 : decode b_M_waits 68 = .ok (.aload_n 0, 1) := by decide +kernel
theorem d_M_waits_69 : decode b_M_waits 69 = .ok (.getfield 63, 3) := by decide +kernel
theorem d_M_waits_72 : decode b_M_waits 72 = .ok (.iload 4, 2) := by decide +kernel
theorem d_M_waits_74 : decode b_M_waits 74 = .ok (.iaload, 1) := by decide +kernel
theorem d_M_waits_75 : decode b_M_waits 75 = .ok (.iload_n 2, 1) := by decide +kernel
theorem d_M_waits_76 : decode b_M_waits 76 = .ok (.if_icmp .ne 7, 3) := by decide +kernel
theorem d_M_waits_79 : decode b_M_waits 79 = .ok (.iconst 1, 1) := by decide +kernel
theorem d_M_waits_80 : decode b_M_waits 80 = .ok (.goto 4, 3) := by decide +kernel
theorem d_M_waits_83 : decode b_M_waits 83 = .ok (.iconst 0, 1) := by decide +kernel
theorem d_M_waits_84 : decode b_M_waits 84 = .ok (.istore_n 3, 1) := by decide +kernel
theorem d_M_waits_85 : decode b_M_waits 85 = .ok (.iinc 4 1, 3) := by decide +kernel
theorem d_M_waits_88 : decode b_M_waits 88 = .ok (.goto (-33), 3) := by decide +kernel
theorem d_M_waits_91 : decode b_M_waits 91 = .ok (.iload_n 3, 1) := by decide +kernel
theorem d_M_waits_92 : decode b_M_waits 92 = .ok (.ifCond .ne 5, 3) := by decide +kernel
theorem d_M_waits_95 : decode b_M_waits 95 = .ok (.iconst 1, 1) := by decide +kernel
theorem d_M_waits_96 : decode b_M_waits 96 = .ok (.ireturn, 1) := by decide +kernel
theorem d_M_waits_97 : decode b_M_waits 97 = .ok (.iinc 2 1, 3) := by decide +kernel
theorem d_M_waits_100 : decode b_M_waits 100 = .ok (.goto (-98), 3) := by decide +kernel
theorem d_M_waits_103 : decode b_M_waits 103 = .ok (.iconst 0, 1) := by decide +kernel
theorem d_M_waits_104 : decode b_M_waits 104 = .ok (.ireturn, 1) := by decide +kernel
abbrev b_M_isChained : ByteArray := prog_1_method_63_code
def y_M_isChained : MethodName := ⟨"ShuffleMill", "isChained", "(I)Z"⟩
theorem d_M_isChained_0 : decode b_M_isChained 0 = .ok (.iconst 0, 1) := by decide +kernel
theorem d_M_isChained_1 : decode b_M_isChained 1 = .ok (.istore_n 2, 1) := by decide +kernel
theorem d_M_isChained_2 : decode b_M_isChained 2 = .ok (.iload_n 2, 1) := by decide +kernel
theorem d_M_isChained_3 : decode b_M_isChained 3 = .ok (.aload_n 0, 1) := by decide +kernel
theorem d_M_isChained_4 : decode b_M_isChained 4 = .ok (.getfield 264, 3) := by decide +kernel
theorem d_M_isChained_7 : decode b_M_isChained 7 = .ok (.if_icmp .ge 21, 3) := by decide +kernel
theorem d_M_isChained_10 : decode b_M_isChained 10 = .ok (.aload_n 0, 1) := by decide +kernel
theorem d_M_isChained_11 : decode b_M_isChained 11 = .ok (.getfield 63, 3) := by decide +kernel
theorem d_M_isChained_14 : decode b_M_isChained 14 = .ok (.iload_n 2, 1) := by decide +kernel
theorem d_M_isChained_15 : decode b_M_isChained 15 = .ok (.iaload, 1) := by decide +kernel
theorem d_M_isChained_16 : decode b_M_isChained 16 = .ok (.iload_n 1, 1) := by decide +kernel
theorem d_M_isChained_17 : decode b_M_isChained 17 = .ok (.if_icmp .ne 5, 3) := by decide +kernel
theorem d_M_isChained_20 : decode b_M_isChained 20 = .ok (.iconst 1, 1) := by decide +kernel
theorem d_M_isChained_21 : decode b_M_isChained 21 = .ok (.ireturn, 1) := by decide +kernel
theorem d_M_isChained_22 : decode b_M_isChained 22 = .ok (.iinc 2 1, 3) := by decide +kernel
theorem d_M_isChained_25 : decode b_M_isChained 25 = .ok (.goto (-23), 3) := by decide +kernel
theorem d_M_isChained_28 : decode b_M_isChained 28 = .ok (.iconst 0, 1) := by decide +kernel
theorem d_M_isChained_29 : decode b_M_isChained 29 = .ok (.ireturn, 1) := by decide +kernel
abbrev b_M_begin : ByteArray := prog_1_method_64_code
def y_M_begin : MethodName := ⟨"ShuffleMill", "begin", "()I"⟩
theorem d_M_begin_0 : decode b_M_begin 0 = .ok (.aload_n 0, 1) := by decide +kernel
theorem d_M_begin_1 : decode b_M_begin 1 = .ok (.invokevirtual 441, 3) := by decide +kernel
theorem d_M_begin_4 : decode b_M_begin 4 = .ok (.iconst 0, 1) := by decide +kernel
theorem d_M_begin_5 : decode b_M_begin 5 = .ok (.istore_n 1, 1) := by decide +kernel
theorem d_M_begin_6 : decode b_M_begin 6 = .ok (.aload_n 0, 1) := by decide +kernel
theorem d_M_begin_7 : decode b_M_begin 7 = .ok (.iconst 0, 1) := by decide +kernel
theorem d_M_begin_8 : decode b_M_begin 8 = .ok (.putfield 264, 3) := by decide +kernel
theorem d_M_begin_11 : decode b_M_begin 11 = .ok (.iconst 0, 1) := by decide +kernel
theorem d_M_begin_12 : decode b_M_begin 12 = .ok (.istore_n 2, 1) := by decide +kernel
theorem d_M_begin_13 : decode b_M_begin 13 = .ok (.iload_n 2, 1) := by decide +kernel
theorem d_M_begin_14 : decode b_M_begin 14 = .ok (.bipush 8, 2) := by decide +kernel
theorem d_M_begin_16 : decode b_M_begin 16 = .ok (.if_icmp .ge 69, 3) := by decide +kernel
theorem d_M_begin_19 : decode b_M_begin 19 = .ok (.aload_n 0, 1) := by decide +kernel
theorem d_M_begin_20 : decode b_M_begin 20 = .ok (.getfield 35, 3) := by decide +kernel
theorem d_M_begin_23 : decode b_M_begin 23 = .ok (.iload_n 2, 1) := by decide +kernel
theorem d_M_begin_24 : decode b_M_begin 24 = .ok (.baload, 1) := by decide +kernel
theorem d_M_begin_25 : decode b_M_begin 25 = .ok (.ifCond .ne 6, 3) := by decide +kernel
theorem d_M_begin_28 : decode b_M_begin 28 = .ok (.goto 51, 3) := by decide +kernel
theorem d_M_begin_31 : decode b_M_begin 31 = .ok (.iinc 1 1, 3) := by decide +kernel
theorem d_M_begin_34 : decode b_M_begin 34 = .ok (.iconst 0, 1) := by decide +kernel
theorem d_M_begin_35 : decode b_M_begin 35 = .ok (.istore_n 3, 1) := by decide +kernel
theorem d_M_begin_36 : decode b_M_begin 36 = .ok (.iload_n 3, 1) := by decide +kernel
theorem d_M_begin_37 : decode b_M_begin 37 = .ok (.iload_n 2, 1) := by decide +kernel
theorem d_M_begin_38 : decode b_M_begin 38 = .ok (.if_icmp .ge 41, 3) := by decide +kernel
theorem d_M_begin_41 : decode b_M_begin 41 = .ok (.aload_n 0, 1) := by decide +kernel
theorem d_M_begin_42 : decode b_M_begin 42 = .ok (.getfield 35, 3) := by decide +kernel
theorem d_M_begin_45 : decode b_M_begin 45 = .ok (.iload_n 3, 1) := by decide +kernel
theorem d_M_begin_46 : decode b_M_begin 46 = .ok (.baload, 1) := by decide +kernel
theorem d_M_begin_47 : decode b_M_begin 47 = .ok (.ifCond .eq 26, 3) := by decide +kernel
theorem d_M_begin_50 : decode b_M_begin 50 = .ok (.aload_n 0, 1) := by decide +kernel
theorem d_M_begin_51 : decode b_M_begin 51 = .ok (.getfield 45, 3) := by decide +kernel
theorem d_M_begin_54 : decode b_M_begin 54 = .ok (.iload_n 3, 1) := by decide +kernel
theorem d_M_begin_55 : decode b_M_begin 55 = .ok (.iaload, 1) := by decide +kernel
theorem d_M_begin_56 : decode b_M_begin 56 = .ok (.aload_n 0, 1) := by decide +kernel
theorem d_M_begin_57 : decode b_M_begin 57 = .ok (.getfield 45, 3) := by decide +kernel
theorem d_M_begin_60 : decode b_M_begin 60 = .ok (.iload_n 2, 1) := by decide +kernel
theorem d_M_begin_61 : decode b_M_begin 61 = .ok (.iaload, 1) := by decide +kernel
theorem d_M_begin_62 : decode b_M_begin 62 = .ok (.if_icmp .ne 11, 3) := by decide +kernel
theorem d_M_begin_65 : decode b_M_begin 65 = .ok (.new 464, 3) := by decide +kernel
theorem d_M_begin_68 : decode b_M_begin 68 = .ok (.dup, 1) := by decide +kernel
theorem d_M_begin_69 : decode b_M_begin 69 = .ok (.invokespecial 466, 3) := by decide +kernel
theorem d_M_begin_72 : decode b_M_begin 72 = .ok (.athrow, 1) := by decide +kernel
theorem d_M_begin_73 : decode b_M_begin 73 = .ok (.iinc 3 1, 3) := by decide +kernel
theorem d_M_begin_76 : decode b_M_begin 76 = .ok (.goto (-40), 3) := by decide +kernel
theorem d_M_begin_79 : decode b_M_begin 79 = .ok (.iinc 2 1, 3) := by decide +kernel
theorem d_M_begin_82 : decode b_M_begin 82 = .ok (.goto (-69), 3) := by decide +kernel
theorem d_M_begin_85 : decode b_M_begin 85 = .ok (.iconst 1, 1) := by decide +kernel
theorem d_M_begin_86 : decode b_M_begin 86 = .ok (.istore_n 2, 1) := by decide +kernel
theorem d_M_begin_87 : decode b_M_begin 87 = .ok (.iload_n 2, 1) := by decide +kernel
theorem d_M_begin_88 : decode b_M_begin 88 = .ok (.ifCond .eq 84, 3) := by decide +kernel
theorem d_M_begin_91 : decode b_M_begin 91 = .ok (.iconst 0, 1) := by decide +kernel
theorem d_M_begin_92 : decode b_M_begin 92 = .ok (.istore_n 3, 1) := by decide +kernel
theorem d_M_begin_93 : decode b_M_begin 93 = .ok (.iload_n 3, 1) := by decide +kernel
theorem d_M_begin_94 : decode b_M_begin 94 = .ok (.bipush 8, 2) := by decide +kernel
theorem d_M_begin_96 : decode b_M_begin 96 = .ok (.if_icmp .ge 34, 3) := by decide +kernel
theorem d_M_begin_99 : decode b_M_begin 99 = .ok (.aload_n 0, 1) := by decide +kernel
theorem d_M_begin_100 : decode b_M_begin 100 = .ok (.getfield 35, 3) := by decide +kernel
theorem d_M_begin_103 : decode b_M_begin 103 = .ok (.iload_n 3, 1) := by decide +kernel
theorem d_M_begin_104 : decode b_M_begin 104 = .ok (.baload, 1) := by decide +kernel
theorem d_M_begin_105 : decode b_M_begin 105 = .ok (.ifCond .eq 19, 3) := by decide +kernel
theorem d_M_begin_108 : decode b_M_begin 108 = .ok (.aload_n 0, 1) := by decide +kernel
theorem d_M_begin_109 : decode b_M_begin 109 = .ok (.iload_n 3, 1) := by decide +kernel
theorem d_M_begin_110 : decode b_M_begin 110 = .ok (.invokevirtual 467, 3) := by decide +kernel
theorem d_M_begin_113 : decode b_M_begin 113 = .ok (.ifCond .ne 11, 3) := by decide +kernel
theorem d_M_begin_116 : decode b_M_begin 116 = .ok (.aload_n 0, 1) := by decide +kernel
theorem d_M_begin_117 : decode b_M_begin 117 = .ok (.iload_n 3, 1) := by decide +kernel
theorem d_M_begin_118 : decode b_M_begin 118 = .ok (.invokevirtual 470, 3) := by decide +kernel
theorem d_M_begin_121 : decode b_M_begin 121 = .ok (.ifCond .eq 9, 3) := by decide +kernel
theorem d_M_begin_124 : decode b_M_begin 124 = .ok (.iinc 3 1, 3) := by decide +kernel
theorem d_M_begin_127 : decode b_M_begin 127 = .ok (.goto (-34), 3) := by decide +kernel
theorem d_M_begin_130 : decode b_M_begin 130 = .ok (.iload_n 3, 1) := by decide +kernel
theorem d_M_begin_131 : decode b_M_begin 131 = .ok (.bipush 8, 2) := by decide +kernel
theorem d_M_begin_133 : decode b_M_begin 133 = .ok (.if_icmp .ge 7, 3) := by decide +kernel
theorem d_M_begin_136 : decode b_M_begin 136 = .ok (.iconst 1, 1) := by decide +kernel
theorem d_M_begin_137 : decode b_M_begin 137 = .ok (.goto 4, 3) := by decide +kernel
theorem d_M_begin_140 : decode b_M_begin 140 = .ok (.iconst 0, 1) := by decide +kernel
theorem d_M_begin_141 : decode b_M_begin 141 = .ok (.istore_n 2, 1) := by decide +kernel
theorem d_M_begin_142 : decode b_M_begin 142 = .ok (.iload_n 2, 1) := by decide +kernel
theorem d_M_begin_143 : decode b_M_begin 143 = .ok (.ifCond .ne 6, 3) := by decide +kernel
theorem d_M_begin_146 : decode b_M_begin 146 = .ok (.goto (-59), 3) := by decide +kernel
theorem d_M_begin_149 : decode b_M_begin 149 = .ok (.aload_n 0, 1) := by decide +kernel
theorem d_M_begin_150 : decode b_M_begin 150 = .ok (.getfield 63, 3) := by decide +kernel
theorem d_M_begin_153 : decode b_M_begin 153 = .ok (.aload_n 0, 1) := by decide +kernel
theorem d_M_begin_154 : decode b_M_begin 154 = .ok (.getfield 264, 3) := by decide +kernel
theorem d_M_begin_157 : decode b_M_begin 157 = .ok (.iload_n 3, 1) := by decide +kernel
theorem d_M_begin_158 : decode b_M_begin 158 = .ok (.iastore, 1) := by decide +kernel
theorem d_M_begin_159 : decode b_M_begin 159 = .ok (.aload_n 0, 1) := by decide +kernel
theorem d_M_begin_160 : decode b_M_begin 160 = .ok (.dup, 1) := by decide +kernel
theorem d_M_begin_161 : decode b_M_begin 161 = .ok (.getfield 264, 3) := by decide +kernel
theorem d_M_begin_164 : decode b_M_begin 164 = .ok (.iconst 1, 1) := by decide +kernel
theorem d_M_begin_165 : decode b_M_begin 165 = .ok (.iadd, 1) := by decide +kernel
theorem d_M_begin_166 : decode b_M_begin 166 = .ok (.putfield 264, 3) := by decide +kernel
theorem d_M_begin_169 : decode b_M_begin 169 = .ok (.goto (-82), 3) := by decide +kernel
theorem d_M_begin_172 : decode b_M_begin 172 = .ok (.aload_n 0, 1) := by decide +kernel
theorem d_M_begin_173 : decode b_M_begin 173 = .ok (.getfield 264, 3) := by decide +kernel
theorem d_M_begin_176 : decode b_M_begin 176 = .ok (.iload_n 1, 1) := by decide +kernel
theorem d_M_begin_177 : decode b_M_begin 177 = .ok (.if_icmp .ge 11, 3) := by decide +kernel
theorem d_M_begin_180 : decode b_M_begin 180 = .ok (.new 464, 3) := by decide +kernel
theorem d_M_begin_183 : decode b_M_begin 183 = .ok (.dup, 1) := by decide +kernel
theorem d_M_begin_184 : decode b_M_begin 184 = .ok (.invokespecial 466, 3) := by decide +kernel
theorem d_M_begin_187 : decode b_M_begin 187 = .ok (.athrow, 1) := by decide +kernel
theorem d_M_begin_188 : decode b_M_begin 188 = .ok (.aload_n 0, 1) := by decide +kernel
theorem d_M_begin_189 : decode b_M_begin 189 = .ok (.dup, 1) := by decide +kernel
theorem d_M_begin_190 : decode b_M_begin 190 = .ok (.getfield 473, 3) := by decide +kernel
theorem d_M_begin_193 : decode b_M_begin 193 = .ok (.iconst 1, 1) := by decide +kernel
theorem d_M_begin_194 : decode b_M_begin 194 = .ok (.iadd, 1) := by decide +kernel
theorem d_M_begin_195 : decode b_M_begin 195 = .ok (.putfield 473, 3) := by decide +kernel
theorem d_M_begin_198 : decode b_M_begin 198 = .ok (.aload_n 0, 1) := by decide +kernel
theorem d_M_begin_199 : decode b_M_begin 199 = .ok (.iconst 1, 1) := by decide +kernel
theorem d_M_begin_200 : decode b_M_begin 200 = .ok (.putfield 422, 3) := by decide +kernel
theorem d_M_begin_203 : decode b_M_begin 203 = .ok (.aload_n 0, 1) := by decide +kernel
theorem d_M_begin_204 : decode b_M_begin 204 = .ok (.iconst 1, 1) := by decide +kernel
theorem d_M_begin_205 : decode b_M_begin 205 = .ok (.putfield 267, 3) := by decide +kernel
theorem d_M_begin_208 : decode b_M_begin 208 = .ok (.aload_n 0, 1) := by decide +kernel
theorem d_M_begin_209 : decode b_M_begin 209 = .ok (.iconst (-1), 1) := by decide +kernel
theorem d_M_begin_210 : decode b_M_begin 210 = .ok (.putfield 276, 3) := by decide +kernel
theorem d_M_begin_213 : decode b_M_begin 213 = .ok (.aload_n 0, 1) := by decide +kernel
theorem d_M_begin_214 : decode b_M_begin 214 = .ok (.iconst 0, 1) := by decide +kernel
theorem d_M_begin_215 : decode b_M_begin 215 = .ok (.putfield 253, 3) := by decide +kernel
theorem d_M_begin_218 : decode b_M_begin 218 = .ok (.aload_n 0, 1) := by decide +kernel
theorem d_M_begin_219 : decode b_M_begin 219 = .ok (.iconst 0, 1) := by decide +kernel
theorem d_M_begin_220 : decode b_M_begin 220 = .ok (.putfield 279, 3) := by decide +kernel
theorem d_M_begin_223 : decode b_M_begin 223 = .ok (.aload_n 0, 1) := by decide +kernel
theorem d_M_begin_224 : decode b_M_begin 224 = .ok (.iconst 0, 1) := by decide +kernel
theorem d_M_begin_225 : decode b_M_begin 225 = .ok (.putfield 285, 3) := by decide +kernel
theorem d_M_begin_228 : decode b_M_begin 228 = .ok (.aload_n 0, 1) := by decide +kernel
theorem d_M_begin_229 : decode b_M_begin 229 = .ok (.iconst 0, 1) := by decide +kernel
theorem d_M_begin_230 : decode b_M_begin 230 = .ok (.putfield 288, 3) := by decide +kernel
theorem d_M_begin_233 : decode b_M_begin 233 = .ok (.aload_n 0, 1) := by decide +kernel
theorem d_M_begin_234 : decode b_M_begin 234 = .ok (.iconst 0, 1) := by decide +kernel
theorem d_M_begin_235 : decode b_M_begin 235 = .ok (.putfield 305, 3) := by decide +kernel
theorem d_M_begin_238 : decode b_M_begin 238 = .ok (.iconst 0, 1) := by decide +kernel
theorem d_M_begin_239 : decode b_M_begin 239 = .ok (.istore_n 3, 1) := by decide +kernel
theorem d_M_begin_240 : decode b_M_begin 240 = .ok (.iload_n 3, 1) := by decide +kernel
theorem d_M_begin_241 : decode b_M_begin 241 = .ok (.bipush 6, 2) := by decide +kernel
theorem d_M_begin_243 : decode b_M_begin 243 = .ok (.if_icmp .ge 16, 3) := by decide +kernel
theorem d_M_begin_246 : decode b_M_begin 246 = .ok (.aload_n 0, 1) := by decide +kernel
theorem d_M_begin_247 : decode b_M_begin 247 = .ok (.getfield 135, 3) := by decide +kernel
theorem d_M_begin_250 : decode b_M_begin 250 = .ok (.iload_n 3, 1) := by decide +kernel
theorem d_M_begin_251 : decode b_M_begin 251 = .ok (.iconst 0, 1) := by decide +kernel
theorem d_M_begin_252 : decode b_M_begin 252 = .ok (.bastore, 1) := by decide +kernel
theorem d_M_begin_253 : decode b_M_begin 253 = .ok (.iinc 3 1, 3) := by decide +kernel
theorem d_M_begin_256 : decode b_M_begin 256 = .ok (.goto (-16), 3) := by decide +kernel
theorem d_M_begin_259 : decode b_M_begin 259 = .ok (.aload_n 0, 1) := by decide +kernel
theorem d_M_begin_260 : decode b_M_begin 260 = .ok (.invokevirtual 335, 3) := by decide +kernel
theorem d_M_begin_263 : decode b_M_begin 263 = .ok (.aload_n 0, 1) := by decide +kernel
theorem d_M_begin_264 : decode b_M_begin 264 = .ok (.getfield 264, 3) := by decide +kernel
theorem d_M_begin_267 : decode b_M_begin 267 = .ok (.ireturn, 1) := by decide +kernel
abbrev b_M_one : ByteArray := prog_1_method_65_code
def y_M_one : MethodName := ⟨"ShuffleMill", "one", "(I)V"⟩
theorem d_M_one_0 : decode b_M_one 0 = .ok (.aload_n 0, 1) := by decide +kernel
theorem d_M_one_1 : decode b_M_one 1 = .ok (.getfield 267, 3) := by decide +kernel
theorem d_M_one_4 : decode b_M_one 4 = .ok (.ifCond .ne 4, 3) := by decide +kernel
theorem d_M_one_7 : decode b_M_one 7 = .ok (.return_, 1) := by decide +kernel
theorem d_M_one_8 : decode b_M_one 8 = .ok (.iload_n 1, 1) := by decide +kernel
theorem d_M_one_9 : decode b_M_one 9 = .ok (.bipush 6, 2) := by decide +kernel
theorem d_M_one_11 : decode b_M_one 11 = .ok (.if_icmp .ne 10, 3) := by decide +kernel
theorem d_M_one_14 : decode b_M_one 14 = .ok (.aload_n 0, 1) := by decide +kernel
theorem d_M_one_15 : decode b_M_one 15 = .ok (.invokevirtual 476, 3) := by decide +kernel
theorem d_M_one_18 : decode b_M_one 18 = .ok (.goto 8, 3) := by decide +kernel
theorem d_M_one_21 : decode b_M_one 21 = .ok (.aload_n 0, 1) := by decide +kernel
theorem d_M_one_22 : decode b_M_one 22 = .ok (.iload_n 1, 1) := by decide +kernel
theorem d_M_one_23 : decode b_M_one 23 = .ok (.invokevirtual 479, 3) := by decide +kernel
theorem d_M_one_26 : decode b_M_one 26 = .ok (.return_, 1) := by decide +kernel
abbrev b_M_tick : ByteArray := prog_1_method_66_code
def y_M_tick : MethodName := ⟨"ShuffleMill", "tick", "(II)V"⟩
theorem d_M_tick_0 : decode b_M_tick 0 = .ok (.iload_n 1, 1) := by decide +kernel
theorem d_M_tick_1 : decode b_M_tick 1 = .ok (.i2l, 1) := by decide +kernel
theorem d_M_tick_2 : decode b_M_tick 2 = .ok (.lconst 0, 1) := by decide +kernel
theorem d_M_tick_3 : decode b_M_tick 3 = .ok (.ldc2_w 462, 3) := by decide +kernel
theorem d_M_tick_6 : decode b_M_tick 6 = .ok (.invokestatic 431, 3) := by decide +kernel
theorem d_M_tick_9 : decode b_M_tick 9 = .ok (.invokestatic 435, 3) := by decide +kernel
theorem d_M_tick_12 : decode b_M_tick 12 = .ok (.iload_n 2, 1) := by decide +kernel
theorem d_M_tick_13 : decode b_M_tick 13 = .ok (.i2l, 1) := by decide +kernel
theorem d_M_tick_14 : decode b_M_tick 14 = .ok (.lconst 1, 1) := by decide +kernel
theorem d_M_tick_15 : decode b_M_tick 15 = .ok (.ldc2_w 482, 3) := by decide +kernel
theorem d_M_tick_18 : decode b_M_tick 18 = .ok (.invokestatic 431, 3) := by decide +kernel
theorem d_M_tick_21 : decode b_M_tick 21 = .ok (.invokestatic 450, 3) := by decide +kernel
theorem d_M_tick_24 : decode b_M_tick 24 = .ok (.aload_n 0, 1) := by decide +kernel
theorem d_M_tick_25 : decode b_M_tick 25 = .ok (.getfield 422, 3) := by decide +kernel
theorem d_M_tick_28 : decode b_M_tick 28 = .ok (.invokestatic 425, 3) := by decide +kernel
theorem d_M_tick_31 : decode b_M_tick 31 = .ok (.iconst 0, 1) := by decide +kernel
theorem d_M_tick_32 : decode b_M_tick 32 = .ok (.istore_n 3, 1) := by decide +kernel
theorem d_M_tick_33 : decode b_M_tick 33 = .ok (.iload_n 3, 1) := by decide +kernel
theorem d_M_tick_34 : decode b_M_tick 34 = .ok (.iload_n 2, 1) := by decide +kernel
theorem d_M_tick_35 : decode b_M_tick 35 = .ok (.if_icmp .ge 14, 3) := by decide +kernel
theorem d_M_tick_38 : decode b_M_tick 38 = .ok (.aload_n 0, 1) := by decide +kernel
theorem d_M_tick_39 : decode b_M_tick 39 = .ok (.iload_n 1, 1) := by decide +kernel
theorem d_M_tick_40 : decode b_M_tick 40 = .ok (.invokevirtual 484, 3) := by decide +kernel
theorem d_M_tick_43 : decode b_M_tick 43 = .ok (.iinc 3 1, 3) := by decide +kernel
theorem d_M_tick_46 : decode b_M_tick 46 = .ok (.goto (-13), 3) := by decide +kernel
theorem d_M_tick_49 : decode b_M_tick 49 = .ok (.return_, 1) := by decide +kernel
abbrev b_M_crash : ByteArray := prog_1_method_67_code
def y_M_crash : MethodName := ⟨"ShuffleMill", "crash", "(I)V"⟩
theorem d_M_crash_0 : decode b_M_crash 0 = .ok (.iload_n 1, 1) := by decide +kernel
theorem d_M_crash_1 : decode b_M_crash 1 = .ok (.i2l, 1) := by decide +kernel
theorem d_M_crash_2 : decode b_M_crash 2 = .ok (.lconst 0, 1) := by decide +kernel
theorem d_M_crash_3 : decode b_M_crash 3 = .ok (.ldc2_w 462, 3) := by decide +kernel
theorem d_M_crash_6 : decode b_M_crash 6 = .ok (.invokestatic 431, 3) := by decide +kernel
theorem d_M_crash_9 : decode b_M_crash 9 = .ok (.invokestatic 435, 3) := by decide +kernel
theorem d_M_crash_12 : decode b_M_crash 12 = .ok (.aload_n 0, 1) := by decide +kernel
theorem d_M_crash_13 : decode b_M_crash 13 = .ok (.getfield 422, 3) := by decide +kernel
theorem d_M_crash_16 : decode b_M_crash 16 = .ok (.invokestatic 425, 3) := by decide +kernel
theorem d_M_crash_19 : decode b_M_crash 19 = .ok (.iload_n 1, 1) := by decide +kernel
theorem d_M_crash_20 : decode b_M_crash 20 = .ok (.bipush 6, 2) := by decide +kernel
theorem d_M_crash_22 : decode b_M_crash 22 = .ok (.if_icmp .ne 11, 3) := by decide +kernel
theorem d_M_crash_25 : decode b_M_crash 25 = .ok (.aload_n 0, 1) := by decide +kernel
theorem d_M_crash_26 : decode b_M_crash 26 = .ok (.iconst 0, 1) := by decide +kernel
theorem d_M_crash_27 : decode b_M_crash 27 = .ok (.putfield 273, 3) := by decide +kernel
theorem d_M_crash_30 : decode b_M_crash 30 = .ok (.goto 10, 3) := by decide +kernel
theorem d_M_crash_33 : decode b_M_crash 33 = .ok (.aload_n 0, 1) := by decide +kernel
theorem d_M_crash_34 : decode b_M_crash 34 = .ok (.getfield 135, 3) := by decide +kernel
theorem d_M_crash_37 : decode b_M_crash 37 = .ok (.iload_n 1, 1) := by decide +kernel
theorem d_M_crash_38 : decode b_M_crash 38 = .ok (.iconst 0, 1) := by decide +kernel
theorem d_M_crash_39 : decode b_M_crash 39 = .ok (.bastore, 1) := by decide +kernel
theorem d_M_crash_40 : decode b_M_crash 40 = .ok (.return_, 1) := by decide +kernel
abbrev b_M_line : ByteArray := prog_1_method_68_code
def y_M_line : MethodName := ⟨"ShuffleMill", "line", "(II)V"⟩
theorem d_M_line_0 : decode b_M_line 0 = .ok (.aload_n 0, 1) := by decide +kernel
theorem d_M_line_1 : decode b_M_line 1 = .ok (.getfield 422, 3) := by decide +kernel
theorem d_M_line_4 : decode b_M_line 4 = .ok (.invokestatic 425, 3) := by decide +kernel
theorem d_M_line_7 : decode b_M_line 7 = .ok (.aload_n 0, 1) := by decide +kernel
theorem d_M_line_8 : decode b_M_line 8 = .ok (.iload_n 1, 1) := by decide +kernel
theorem d_M_line_9 : decode b_M_line 9 = .ok (.ldc_w 487, 3) := by decide +kernel
theorem d_M_line_12 : decode b_M_line 12 = .ok (.iand, 1) := by decide +kernel
theorem d_M_line_13 : decode b_M_line 13 = .ok (.putfield 285, 3) := by decide +kernel
theorem d_M_line_16 : decode b_M_line 16 = .ok (.aload_n 0, 1) := by decide +kernel
theorem d_M_line_17 : decode b_M_line 17 = .ok (.iload_n 2, 1) := by decide +kernel
theorem d_M_line_18 : decode b_M_line 18 = .ok (.ldc_w 487, 3) := by decide +kernel
theorem d_M_line_21 : decode b_M_line 21 = .ok (.iand, 1) := by decide +kernel
theorem d_M_line_22 : decode b_M_line 22 = .ok (.putfield 288, 3) := by decide +kernel
theorem d_M_line_25 : decode b_M_line 25 = .ok (.return_, 1) := by decide +kernel
abbrev b_M_finish : ByteArray := prog_1_method_69_code
def y_M_finish : MethodName := ⟨"ShuffleMill", "finish", "()I"⟩
theorem d_M_finish_0 : decode b_M_finish 0 = .ok (.aload_n 0, 1) := by decide +kernel
theorem d_M_finish_1 : decode b_M_finish 1 = .ok (.getfield 422, 3) := by decide +kernel
theorem d_M_finish_4 : decode b_M_finish 4 = .ok (.invokestatic 425, 3) := by decide +kernel
theorem d_M_finish_7 : decode b_M_finish 7 = .ok (.aload_n 0, 1) := by decide +kernel
theorem d_M_finish_8 : decode b_M_finish 8 = .ok (.iconst 0, 1) := by decide +kernel
theorem d_M_finish_9 : decode b_M_finish 9 = .ok (.putfield 285, 3) := by decide +kernel
theorem d_M_finish_12 : decode b_M_finish 12 = .ok (.aload_n 0, 1) := by decide +kernel
theorem d_M_finish_13 : decode b_M_finish 13 = .ok (.iconst 0, 1) := by decide +kernel
theorem d_M_finish_14 : decode b_M_finish 14 = .ok (.putfield 288, 3) := by decide +kernel
theorem d_M_finish_17 : decode b_M_finish 17 = .ok (.aload_n 0, 1) := by decide +kernel
theorem d_M_finish_18 : decode b_M_finish 18 = .ok (.getfield 267, 3) := by decide +kernel
theorem d_M_finish_21 : decode b_M_finish 21 = .ok (.ifCond .eq 25, 3) := by decide +kernel
theorem d_M_finish_24 : decode b_M_finish 24 = .ok (.iconst 0, 1) := by decide +kernel
theorem d_M_finish_25 : decode b_M_finish 25 = .ok (.istore_n 1, 1) := by decide +kernel
theorem d_M_finish_26 : decode b_M_finish 26 = .ok (.iload_n 1, 1) := by decide +kernel
theorem d_M_finish_27 : decode b_M_finish 27 = .ok (.bipush 6, 2) := by decide +kernel
theorem d_M_finish_29 : decode b_M_finish 29 = .ok (.if_icmp .gt 14, 3) := by decide +kernel
theorem d_M_finish_32 : decode b_M_finish 32 = .ok (.aload_n 0, 1) := by decide +kernel
theorem d_M_finish_33 : decode b_M_finish 33 = .ok (.iload_n 1, 1) := by decide +kernel
theorem d_M_finish_34 : decode b_M_finish 34 = .ok (.invokevirtual 484, 3) := by decide +kernel
theorem d_M_finish_37 : decode b_M_finish 37 = .ok (.iinc 1 1, 3) := by decide +kernel
theorem d_M_finish_40 : decode b_M_finish 40 = .ok (.goto (-14), 3) := by decide +kernel
theorem d_M_finish_43 : decode b_M_finish 43 = .ok (.goto (-26), 3) := by decide +kernel
theorem d_M_finish_46 : decode b_M_finish 46 = .ok (.aload_n 0, 1) := by decide +kernel
theorem d_M_finish_47 : decode b_M_finish 47 = .ok (.iconst 0, 1) := by decide +kernel
theorem d_M_finish_48 : decode b_M_finish 48 = .ok (.putfield 422, 3) := by decide +kernel
theorem d_M_finish_51 : decode b_M_finish 51 = .ok (.aload_n 0, 1) := by decide +kernel
theorem d_M_finish_52 : decode b_M_finish 52 = .ok (.getfield 276, 3) := by decide +kernel
theorem d_M_finish_55 : decode b_M_finish 55 = .ok (.ireturn, 1) := by decide +kernel
abbrev b_M_told : ByteArray := prog_1_method_70_code
def y_M_told : MethodName := ⟨"ShuffleMill", "told", "(IIZ)J"⟩
theorem d_M_told_0 : decode b_M_told 0 = .ok (.iload_n 1, 1) := by decide +kernel
theorem d_M_told_1 : decode b_M_told 1 = .ok (.invokestatic 438, 3) := by decide +kernel
theorem d_M_told_4 : decode b_M_told 4 = .ok (.aload_n 0, 1) := by decide +kernel
theorem d_M_told_5 : decode b_M_told 5 = .ok (.getfield 422, 3) := by decide +kernel
theorem d_M_told_8 : decode b_M_told 8 = .ok (.ifCond .ne 7, 3) := by decide +kernel
theorem d_M_told_11 : decode b_M_told 11 = .ok (.iconst 1, 1) := by decide +kernel
theorem d_M_told_12 : decode b_M_told 12 = .ok (.goto 4, 3) := by decide +kernel
theorem d_M_told_15 : decode b_M_told 15 = .ok (.iconst 0, 1) := by decide +kernel
theorem d_M_told_16 : decode b_M_told 16 = .ok (.invokestatic 425, 3) := by decide +kernel
theorem d_M_told_19 : decode b_M_told 19 = .ok (.iload_n 2, 1) := by decide +kernel
theorem d_M_told_20 : decode b_M_told 20 = .ok (.i2l, 1) := by decide +kernel
theorem d_M_told_21 : decode b_M_told 21 = .ok (.lconst 0, 1) := by decide +kernel
theorem d_M_told_22 : decode b_M_told 22 = .ok (.aload_n 0, 1) := by decide +kernel
theorem d_M_told_23 : decode b_M_told 23 = .ok (.getfield 16, 3) := by decide +kernel
theorem d_M_told_26 : decode b_M_told 26 = .ok (.iload_n 1, 1) := by decide +kernel
theorem d_M_told_27 : decode b_M_told 27 = .ok (.iaload, 1) := by decide +kernel
theorem d_M_told_28 : decode b_M_told 28 = .ok (.iconst 1, 1) := by decide +kernel
theorem d_M_told_29 : decode b_M_told 29 = .ok (.isub, 1) := by decide +kernel
theorem d_M_told_30 : decode b_M_told 30 = .ok (.i2l, 1) := by decide +kernel
theorem d_M_told_31 : decode b_M_told 31 = .ok (.invokestatic 431, 3) := by decide +kernel
theorem d_M_told_34 : decode b_M_told 34 = .ok (.invokestatic 435, 3) := by decide +kernel
theorem d_M_told_37 : decode b_M_told 37 = .ok (.iload_n 3, 1) := by decide +kernel
theorem d_M_told_38 : decode b_M_told 38 = .ok (.ifCond .eq 18, 3) := by decide +kernel
theorem d_M_told_41 : decode b_M_told 41 = .ok (.aload_n 0, 1) := by decide +kernel
theorem d_M_told_42 : decode b_M_told 42 = .ok (.getfield 13, 3) := by decide +kernel
theorem d_M_told_45 : decode b_M_told 45 = .ok (.iload_n 1, 1) := by decide +kernel
theorem d_M_told_46 : decode b_M_told 46 = .ok (.sipush 300, 3) := by decide +kernel
theorem d_M_told_49 : decode b_M_told 49 = .ok (.imul, 1) := by decide +kernel
theorem d_M_told_50 : decode b_M_told 50 = .ok (.iload_n 2, 1) := by decide +kernel
theorem d_M_told_51 : decode b_M_told 51 = .ok (.iadd, 1) := by decide +kernel
theorem d_M_told_52 : decode b_M_told 52 = .ok (.laload, 1) := by decide +kernel
theorem d_M_told_53 : decode b_M_told 53 = .ok (.goto 15, 3) := by decide +kernel
theorem d_M_told_56 : decode b_M_told 56 = .ok (.aload_n 0, 1) := by decide +kernel
theorem d_M_told_57 : decode b_M_told 57 = .ok (.getfield 9, 3) := by decide +kernel
theorem d_M_told_60 : decode b_M_told 60 = .ok (.iload_n 1, 1) := by decide +kernel
theorem d_M_told_61 : decode b_M_told 61 = .ok (.sipush 300, 3) := by decide +kernel
theorem d_M_told_64 : decode b_M_told 64 = .ok (.imul, 1) := by decide +kernel
theorem d_M_told_65 : decode b_M_told 65 = .ok (.iload_n 2, 1) := by decide +kernel
theorem d_M_told_66 : decode b_M_told 66 = .ok (.iadd, 1) := by decide +kernel
theorem d_M_told_67 : decode b_M_told 67 = .ok (.laload, 1) := by decide +kernel
theorem d_M_told_68 : decode b_M_told 68 = .ok (.lreturn, 1) := by decide +kernel
abbrev b_M_size : ByteArray := prog_1_method_71_code
def y_M_size : MethodName := ⟨"ShuffleMill", "size", "(I)I"⟩
theorem d_M_size_0 : decode b_M_size 0 = .ok (.iload_n 1, 1) := by decide +kernel
theorem d_M_size_1 : decode b_M_size 1 = .ok (.invokestatic 438, 3) := by decide +kernel
theorem d_M_size_4 : decode b_M_size 4 = .ok (.aload_n 0, 1) := by decide +kernel
theorem d_M_size_5 : decode b_M_size 5 = .ok (.getfield 422, 3) := by decide +kernel
theorem d_M_size_8 : decode b_M_size 8 = .ok (.ifCond .ne 7, 3) := by decide +kernel
theorem d_M_size_11 : decode b_M_size 11 = .ok (.iconst 1, 1) := by decide +kernel
theorem d_M_size_12 : decode b_M_size 12 = .ok (.goto 4, 3) := by decide +kernel
theorem d_M_size_15 : decode b_M_size 15 = .ok (.iconst 0, 1) := by decide +kernel
theorem d_M_size_16 : decode b_M_size 16 = .ok (.invokestatic 425, 3) := by decide +kernel
theorem d_M_size_19 : decode b_M_size 19 = .ok (.aload_n 0, 1) := by decide +kernel
theorem d_M_size_20 : decode b_M_size 20 = .ok (.getfield 16, 3) := by decide +kernel
theorem d_M_size_23 : decode b_M_size 23 = .ok (.iload_n 1, 1) := by decide +kernel
theorem d_M_size_24 : decode b_M_size 24 = .ok (.iaload, 1) := by decide +kernel
theorem d_M_size_25 : decode b_M_size 25 = .ok (.ireturn, 1) := by decide +kernel
abbrev b_M_count : ByteArray := prog_1_method_72_code
def y_M_count : MethodName := ⟨"ShuffleMill", "count", "(I)I"⟩
theorem d_M_count_0 : decode b_M_count 0 = .ok (.iload_n 1, 1) := by decide +kernel
theorem d_M_count_1 : decode b_M_count 1 = .ok (.i2l, 1) := by decide +kernel
theorem d_M_count_2 : decode b_M_count 2 = .ok (.lconst 0, 1) := by decide +kernel
theorem d_M_count_3 : decode b_M_count 3 = .ok (.ldc2_w 446, 3) := by decide +kernel
theorem d_M_count_6 : decode b_M_count 6 = .ok (.invokestatic 431, 3) := by decide +kernel
theorem d_M_count_9 : decode b_M_count 9 = .ok (.ifCond .ne 59, 3) := by decide +kernel
theorem d_M_count_12 : decode b_M_count 12 = .ok (.iload_n 1, 1) := by decide +kernel
theorem d_M_count_13 : decode b_M_count 13 = .ok (.i2l, 1) := by decide +kernel
theorem d_M_count_14 : decode b_M_count 14 = .ok (.ldc2_w 488, 3) := by decide +kernel
theorem d_M_count_17 : decode b_M_count 17 = .ok (.ldc2_w 490, 3) := by decide +kernel
theorem d_M_count_20 : decode b_M_count 20 = .ok (.invokestatic 431, 3) := by decide +kernel
theorem d_M_count_23 : decode b_M_count 23 = .ok (.ifCond .ne 45, 3) := by decide +kernel
theorem d_M_count_26 : decode b_M_count 26 = .ok (.iload_n 1, 1) := by decide +kernel
theorem d_M_count_27 : decode b_M_count 27 = .ok (.i2l, 1) := by decide +kernel
theorem d_M_count_28 : decode b_M_count 28 = .ok (.ldc2_w 492, 3) := by decide +kernel
theorem d_M_count_31 : decode b_M_count 31 = .ok (.ldc2_w 494, 3) := by decide +kernel
theorem d_M_count_34 : decode b_M_count 34 = .ok (.invokestatic 431, 3) := by decide +kernel
theorem d_M_count_37 : decode b_M_count 37 = .ok (.ifCond .ne 31, 3) := by decide +kernel
theorem d_M_count_40 : decode b_M_count 40 = .ok (.iload_n 1, 1) := by decide +kernel
theorem d_M_count_41 : decode b_M_count 41 = .ok (.i2l, 1) := by decide +kernel
theorem d_M_count_42 : decode b_M_count 42 = .ok (.ldc2_w 496, 3) := by decide +kernel
theorem d_M_count_45 : decode b_M_count 45 = .ok (.ldc2_w 498, 3) := by decide +kernel
theorem d_M_count_48 : decode b_M_count 48 = .ok (.invokestatic 431, 3) := by decide +kernel
theorem d_M_count_51 : decode b_M_count 51 = .ok (.ifCond .ne 17, 3) := by decide +kernel
theorem d_M_count_54 : decode b_M_count 54 = .ok (.iload_n 1, 1) := by decide +kernel
theorem d_M_count_55 : decode b_M_count 55 = .ok (.i2l, 1) := by decide +kernel
theorem d_M_count_56 : decode b_M_count 56 = .ok (.ldc2_w 448, 3) := by decide +kernel
theorem d_M_count_59 : decode b_M_count 59 = .ok (.ldc2_w 500, 3) := by decide +kernel
theorem d_M_count_62 : decode b_M_count 62 = .ok (.invokestatic 431, 3) := by decide +kernel
theorem d_M_count_65 : decode b_M_count 65 = .ok (.ifCond .eq 7, 3) := by decide +kernel
theorem d_M_count_68 : decode b_M_count 68 = .ok (.iconst 1, 1) := by decide +kernel
theorem d_M_count_69 : decode b_M_count 69 = .ok (.goto 4, 3) := by decide +kernel
theorem d_M_count_72 : decode b_M_count 72 = .ok (.iconst 0, 1) := by decide +kernel
theorem d_M_count_73 : decode b_M_count 73 = .ok (.invokestatic 450, 3) := by decide +kernel
theorem d_M_count_76 : decode b_M_count 76 = .ok (.iload_n 1, 1) := by decide +kernel
theorem d_M_count_77 : decode b_M_count 77 = .ok (.bipush 20, 2) := by decide +kernel
theorem d_M_count_79 : decode b_M_count 79 = .ok (.if_icmp .lt 22, 3) := by decide +kernel
theorem d_M_count_82 : decode b_M_count 82 = .ok (.aload_n 0, 1) := by decide +kernel
theorem d_M_count_83 : decode b_M_count 83 = .ok (.getfield 32, 3) := by decide +kernel
theorem d_M_count_86 : decode b_M_count 86 = .ok (.iconst 3, 1) := by decide +kernel
theorem d_M_count_87 : decode b_M_count 87 = .ok (.iload_n 1, 1) := by decide +kernel
theorem d_M_count_88 : decode b_M_count 88 = .ok (.bipush 10, 2) := by decide +kernel
theorem d_M_count_90 : decode b_M_count 90 = .ok (.irem, 1) := by decide +kernel
theorem d_M_count_91 : decode b_M_count 91 = .ok (.imul, 1) := by decide +kernel
theorem d_M_count_92 : decode b_M_count 92 = .ok (.iload_n 1, 1) := by decide +kernel
theorem d_M_count_93 : decode b_M_count 93 = .ok (.bipush 10, 2) := by decide +kernel
theorem d_M_count_95 : decode b_M_count 95 = .ok (.idiv, 1) := by decide +kernel
theorem d_M_count_96 : decode b_M_count 96 = .ok (.iadd, 1) := by decide +kernel
theorem d_M_count_97 : decode b_M_count 97 = .ok (.iconst 2, 1) := by decide +kernel
theorem d_M_count_98 : decode b_M_count 98 = .ok (.isub, 1) := by decide +kernel
theorem d_M_count_99 : decode b_M_count 99 = .ok (.iaload, 1) := by decide +kernel
theorem d_M_count_100 : decode b_M_count 100 = .ok (.ireturn, 1) := by decide +kernel
theorem d_M_count_101 : decode b_M_count 101 = .ok (.iload_n 1, 1) := by decide +kernel
theorem d_M_count_102 : decode b_M_count 102 = .ok (.bipush 10, 2) := by decide +kernel
theorem d_M_count_104 : decode b_M_count 104 = .ok (.if_icmp .lt 21, 3) := by decide +kernel
theorem d_M_count_107 : decode b_M_count 107 = .ok (.aload_n 0, 1) := by decide +kernel
theorem d_M_count_108 : decode b_M_count 108 = .ok (.getfield 35, 3) := by decide +kernel
theorem d_M_count_111 : decode b_M_count 111 = .ok (.iload_n 1, 1) := by decide +kernel
theorem d_M_count_112 : decode b_M_count 112 = .ok (.bipush 10, 2) := by decide +kernel
theorem d_M_count_114 : decode b_M_count 114 = .ok (.isub, 1) := by decide +kernel
theorem d_M_count_115 : decode b_M_count 115 = .ok (.baload, 1) := by decide +kernel
theorem d_M_count_116 : decode b_M_count 116 = .ok (.ifCond .eq 7, 3) := by decide +kernel
theorem d_M_count_119 : decode b_M_count 119 = .ok (.iconst 1, 1) := by decide +kernel
theorem d_M_count_120 : decode b_M_count 120 = .ok (.goto 4, 3) := by decide +kernel
theorem d_M_count_123 : decode b_M_count 123 = .ok (.iconst 0, 1) := by decide +kernel
theorem d_M_count_124 : decode b_M_count 124 = .ok (.ireturn, 1) := by decide +kernel
theorem d_M_count_125 : decode b_M_count 125 = .ok (.iconst 0, 1) := by decide +kernel
theorem d_M_count_126 : decode b_M_count 126 = .ok (.istore_n 2, 1) := by decide +kernel
theorem d_M_count_127 : decode b_M_count 127 = .ok (.iload_n 1, 1) := by decide +kernel
theorem d_M_count_128 : decode b_M_count 128 = .ok (.tableswitch 74 0 2 #[28, 41, 69], 28) := by decide +kernel
theorem d_M_count_156 : decode b_M_count 156 = .ok (.aload_n 0, 1) := by decide +kernel
theorem d_M_count_157 : decode b_M_count 157 = .ok (.getfield 422, 3) := by decide +kernel
theorem d_M_count_160 : decode b_M_count 160 = .ok (.ifCond .eq 7, 3) := by decide +kernel
theorem d_M_count_163 : decode b_M_count 163 = .ok (.iconst 1, 1) := by decide +kernel
theorem d_M_count_164 : decode b_M_count 164 = .ok (.goto 4, 3) := by decide +kernel
theorem d_M_count_167 : decode b_M_count 167 = .ok (.iconst 0, 1) := by decide +kernel
theorem d_M_count_168 : decode b_M_count 168 = .ok (.ireturn, 1) := by decide +kernel
theorem d_M_count_169 : decode b_M_count 169 = .ok (.iconst 0, 1) := by decide +kernel
theorem d_M_count_170 : decode b_M_count 170 = .ok (.istore_n 3, 1) := by decide +kernel
theorem d_M_count_171 : decode b_M_count 171 = .ok (.iload_n 3, 1) := by decide +kernel
theorem d_M_count_172 : decode b_M_count 172 = .ok (.bipush 8, 2) := by decide +kernel
theorem d_M_count_174 : decode b_M_count 174 = .ok (.if_icmp .ge 21, 3) := by decide +kernel
theorem d_M_count_177 : decode b_M_count 177 = .ok (.aload_n 0, 1) := by decide +kernel
theorem d_M_count_178 : decode b_M_count 178 = .ok (.getfield 35, 3) := by decide +kernel
theorem d_M_count_181 : decode b_M_count 181 = .ok (.iload_n 3, 1) := by decide +kernel
theorem d_M_count_182 : decode b_M_count 182 = .ok (.baload, 1) := by decide +kernel
theorem d_M_count_183 : decode b_M_count 183 = .ok (.ifCond .eq 6, 3) := by decide +kernel
theorem d_M_count_186 : decode b_M_count 186 = .ok (.iinc 2 1, 3) := by decide +kernel
theorem d_M_count_189 : decode b_M_count 189 = .ok (.iinc 3 1, 3) := by decide +kernel
theorem d_M_count_192 : decode b_M_count 192 = .ok (.goto (-21), 3) := by decide +kernel
theorem d_M_count_195 : decode b_M_count 195 = .ok (.iload_n 2, 1) := by decide +kernel
theorem d_M_count_196 : decode b_M_count 196 = .ok (.ireturn, 1) := by decide +kernel
theorem d_M_count_197 : decode b_M_count 197 = .ok (.aload_n 0, 1) := by decide +kernel
theorem d_M_count_198 : decode b_M_count 198 = .ok (.getfield 453, 3) := by decide +kernel
theorem d_M_count_201 : decode b_M_count 201 = .ok (.ireturn, 1) := by decide +kernel
theorem d_M_count_202 : decode b_M_count 202 = .ok (.aload_n 0, 1) := by decide +kernel
theorem d_M_count_203 : decode b_M_count 203 = .ok (.getfield 473, 3) := by decide +kernel
theorem d_M_count_206 : decode b_M_count 206 = .ok (.ireturn, 1) := by decide +kernel
abbrev b_M_check : ByteArray := prog_1_method_73_code
def y_M_check : MethodName := ⟨"ShuffleMill", "check", "()I"⟩
theorem d_M_check_0 : decode b_M_check 0 = .ok (.aload_n 0, 1) := by decide +kernel
theorem d_M_check_1 : decode b_M_check 1 = .ok (.getfield 267, 3) := by decide +kernel
theorem d_M_check_4 : decode b_M_check 4 = .ok (.ifCond .ne 5, 3) := by decide +kernel
theorem d_M_check_7 : decode b_M_check 7 = .ok (.iconst 0, 1) := by decide +kernel
theorem d_M_check_8 : decode b_M_check 8 = .ok (.ireturn, 1) := by decide +kernel
theorem d_M_check_9 : decode b_M_check 9 = .ok (.iconst 0, 1) := by decide +kernel
theorem d_M_check_10 : decode b_M_check 10 = .ok (.istore_n 1, 1) := by decide +kernel
theorem d_M_check_11 : decode b_M_check 11 = .ok (.aload_n 0, 1) := by decide +kernel
theorem d_M_check_12 : decode b_M_check 12 = .ok (.invokevirtual 329, 3) := by decide +kernel
theorem d_M_check_15 : decode b_M_check 15 = .ok (.istore_n 2, 1) := by decide +kernel
theorem d_M_check_16 : decode b_M_check 16 = .ok (.iconst 0, 1) := by decide +kernel
theorem d_M_check_17 : decode b_M_check 17 = .ok (.istore_n 3, 1) := by decide +kernel
theorem d_M_check_18 : decode b_M_check 18 = .ok (.iload_n 3, 1) := by decide +kernel
theorem d_M_check_19 : decode b_M_check 19 = .ok (.iload_n 2, 1) := by decide +kernel
theorem d_M_check_20 : decode b_M_check 20 = .ok (.if_icmp .ge 110, 3) := by decide +kernel
theorem d_M_check_23 : decode b_M_check 23 = .ok (.aload_n 0, 1) := by decide +kernel
theorem d_M_check_24 : decode b_M_check 24 = .ok (.getfield 66, 3) := by decide +kernel
theorem d_M_check_27 : decode b_M_check 27 = .ok (.iload_n 3, 1) := by decide +kernel
theorem d_M_check_28 : decode b_M_check 28 = .ok (.iaload, 1) := by decide +kernel
theorem d_M_check_29 : decode b_M_check 29 = .ok (.istore 4, 2) := by decide +kernel
theorem d_M_check_31 : decode b_M_check 31 = .ok (.iload 4, 2) := by decide +kernel
theorem d_M_check_33 : decode b_M_check 33 = .ok (.iconst (-1), 1) := by decide +kernel
theorem d_M_check_34 : decode b_M_check 34 = .ok (.if_icmp .ne 6, 3) := by decide +kernel
theorem d_M_check_37 : decode b_M_check 37 = .ok (.goto 87, 3) := by decide +kernel
theorem d_M_check_40 : decode b_M_check 40 = .ok (.iload 4, 2) := by decide +kernel
theorem d_M_check_42 : decode b_M_check 42 = .ok (.bipush 38, 2) := by decide +kernel
theorem d_M_check_44 : decode b_M_check 44 = .ok (.imul, 1) := by decide +kernel
theorem d_M_check_45 : decode b_M_check 45 = .ok (.iload_n 3, 1) := by decide +kernel
theorem d_M_check_46 : decode b_M_check 46 = .ok (.iadd, 1) := by decide +kernel
theorem d_M_check_47 : decode b_M_check 47 = .ok (.istore 5, 2) := by decide +kernel
theorem d_M_check_49 : decode b_M_check 49 = .ok (.aload_n 0, 1) := by decide +kernel
theorem d_M_check_50 : decode b_M_check 50 = .ok (.getfield 114, 3) := by decide +kernel
theorem d_M_check_53 : decode b_M_check 53 = .ok (.iload 4, 2) := by decide +kernel
theorem d_M_check_55 : decode b_M_check 55 = .ok (.iaload, 1) := by decide +kernel
theorem d_M_check_56 : decode b_M_check 56 = .ok (.aload_n 0, 1) := by decide +kernel
theorem d_M_check_57 : decode b_M_check 57 = .ok (.getfield 270, 3) := by decide +kernel
theorem d_M_check_60 : decode b_M_check 60 = .ok (.if_icmp .ne 61, 3) := by decide +kernel
theorem d_M_check_63 : decode b_M_check 63 = .ok (.aload_n 0, 1) := by decide +kernel
theorem d_M_check_64 : decode b_M_check 64 = .ok (.getfield 120, 3) := by decide +kernel
theorem d_M_check_67 : decode b_M_check 67 = .ok (.iload 5, 2) := by decide +kernel
theorem d_M_check_69 : decode b_M_check 69 = .ok (.iaload, 1) := by decide +kernel
theorem d_M_check_70 : decode b_M_check 70 = .ok (.iconst (-1), 1) := by decide +kernel
theorem d_M_check_71 : decode b_M_check 71 = .ok (.if_icmp .eq 50, 3) := by decide +kernel
theorem d_M_check_74 : decode b_M_check 74 = .ok (.aload_n 0, 1) := by decide +kernel
theorem d_M_check_75 : decode b_M_check 75 = .ok (.getfield 123, 3) := by decide +kernel
theorem d_M_check_78 : decode b_M_check 78 = .ok (.iload 5, 2) := by decide +kernel
theorem d_M_check_80 : decode b_M_check 80 = .ok (.iaload, 1) := by decide +kernel
theorem d_M_check_81 : decode b_M_check 81 = .ok (.aload_n 0, 1) := by decide +kernel
theorem d_M_check_82 : decode b_M_check 82 = .ok (.getfield 69, 3) := by decide +kernel
theorem d_M_check_85 : decode b_M_check 85 = .ok (.iload_n 3, 1) := by decide +kernel
theorem d_M_check_86 : decode b_M_check 86 = .ok (.iaload, 1) := by decide +kernel
theorem d_M_check_87 : decode b_M_check 87 = .ok (.if_icmp .ne 34, 3) := by decide +kernel
theorem d_M_check_90 : decode b_M_check 90 = .ok (.aload_n 0, 1) := by decide +kernel
theorem d_M_check_91 : decode b_M_check 91 = .ok (.getfield 126, 3) := by decide +kernel
theorem d_M_check_94 : decode b_M_check 94 = .ok (.iload 5, 2) := by decide +kernel
theorem d_M_check_96 : decode b_M_check 96 = .ok (.laload, 1) := by decide +kernel
theorem d_M_check_97 : decode b_M_check 97 = .ok (.aload_n 0, 1) := by decide +kernel
theorem d_M_check_98 : decode b_M_check 98 = .ok (.iload 4, 2) := by decide +kernel
theorem d_M_check_100 : decode b_M_check 100 = .ok (.aload_n 0, 1) := by decide +kernel
theorem d_M_check_101 : decode b_M_check 101 = .ok (.getfield 120, 3) := by decide +kernel
theorem d_M_check_104 : decode b_M_check 104 = .ok (.iload 5, 2) := by decide +kernel
theorem d_M_check_106 : decode b_M_check 106 = .ok (.iaload, 1) := by decide +kernel
theorem d_M_check_107 : decode b_M_check 107 = .ok (.aload_n 0, 1) := by decide +kernel
theorem d_M_check_108 : decode b_M_check 108 = .ok (.getfield 123, 3) := by decide +kernel
theorem d_M_check_111 : decode b_M_check 111 = .ok (.iload 5, 2) := by decide +kernel
theorem d_M_check_113 : decode b_M_check 113 = .ok (.iaload, 1) := by decide +kernel
theorem d_M_check_114 : decode b_M_check 114 = .ok (.invokevirtual 407, 3) := by decide +kernel
theorem d_M_check_117 : decode b_M_check 117 = .ok (.lcmp, 1) := by decide +kernel
theorem d_M_check_118 : decode b_M_check 118 = .ok (.ifCond .eq 6, 3) := by decide +kernel
theorem d_M_check_121 : decode b_M_check 121 = .ok (.iinc 1 1, 3) := by decide +kernel
theorem d_M_check_124 : decode b_M_check 124 = .ok (.iinc 3 1, 3) := by decide +kernel
theorem d_M_check_127 : decode b_M_check 127 = .ok (.goto (-109), 3) := by decide +kernel
theorem d_M_check_130 : decode b_M_check 130 = .ok (.iconst 0, 1) := by decide +kernel
theorem d_M_check_131 : decode b_M_check 131 = .ok (.istore_n 3, 1) := by decide +kernel
theorem d_M_check_132 : decode b_M_check 132 = .ok (.iload_n 3, 1) := by decide +kernel
theorem d_M_check_133 : decode b_M_check 133 = .ok (.aload_n 0, 1) := by decide +kernel
theorem d_M_check_134 : decode b_M_check 134 = .ok (.getfield 48, 3) := by decide +kernel
theorem d_M_check_137 : decode b_M_check 137 = .ok (.aload_n 0, 1) := by decide +kernel
theorem d_M_check_138 : decode b_M_check 138 = .ok (.invokevirtual 256, 3) := by decide +kernel
theorem d_M_check_141 : decode b_M_check 141 = .ok (.iaload, 1) := by decide +kernel
theorem d_M_check_142 : decode b_M_check 142 = .ok (.if_icmp .ge 34, 3) := by decide +kernel
theorem d_M_check_145 : decode b_M_check 145 = .ok (.aload_n 0, 1) := by decide +kernel
theorem d_M_check_146 : decode b_M_check 146 = .ok (.getfield 72, 3) := by decide +kernel
theorem d_M_check_149 : decode b_M_check 149 = .ok (.iload_n 3, 1) := by decide +kernel
theorem d_M_check_150 : decode b_M_check 150 = .ok (.baload, 1) := by decide +kernel
theorem d_M_check_151 : decode b_M_check 151 = .ok (.ifCond .eq 19, 3) := by decide +kernel
theorem d_M_check_154 : decode b_M_check 154 = .ok (.aload_n 0, 1) := by decide +kernel
theorem d_M_check_155 : decode b_M_check 155 = .ok (.getfield 81, 3) := by decide +kernel
theorem d_M_check_158 : decode b_M_check 158 = .ok (.iload_n 3, 1) := by decide +kernel
theorem d_M_check_159 : decode b_M_check 159 = .ok (.iaload, 1) := by decide +kernel
theorem d_M_check_160 : decode b_M_check 160 = .ok (.aload_n 0, 1) := by decide +kernel
theorem d_M_check_161 : decode b_M_check 161 = .ok (.getfield 270, 3) := by decide +kernel
theorem d_M_check_164 : decode b_M_check 164 = .ok (.if_icmp .eq 6, 3) := by decide +kernel
theorem d_M_check_167 : decode b_M_check 167 = .ok (.iinc 1 1, 3) := by decide +kernel
theorem d_M_check_170 : decode b_M_check 170 = .ok (.iinc 3 1, 3) := by decide +kernel
theorem d_M_check_173 : decode b_M_check 173 = .ok (.goto (-41), 3) := by decide +kernel
theorem d_M_check_176 : decode b_M_check 176 = .ok (.iload_n 1, 1) := by decide +kernel
theorem d_M_check_177 : decode b_M_check 177 = .ok (.ireturn, 1) := by decide +kernel
abbrev b_D_init : ByteArray := prog_3_method_1_code
def y_D_init : MethodName := ⟨"ShuffleMillModel", "<init>", "()V"⟩
theorem d_D_init_0 : decode b_D_init 0 = .ok (.aload_n 0, 1) := by decide +kernel
theorem d_D_init_1 : decode b_D_init 1 = .ok (.invokespecial 1, 3) := by decide +kernel
theorem d_D_init_4 : decode b_D_init 4 = .ok (.aload_n 0, 1) := by decide +kernel
theorem d_D_init_5 : decode b_D_init 5 = .ok (.sipush 4800, 3) := by decide +kernel
theorem d_D_init_8 : decode b_D_init 8 = .ok (.newarray .long, 2) := by decide +kernel
theorem d_D_init_10 : decode b_D_init 10 = .ok (.putfield 9, 3) := by decide +kernel
theorem d_D_init_13 : decode b_D_init 13 = .ok (.aload_n 0, 1) := by decide +kernel
theorem d_D_init_14 : decode b_D_init 14 = .ok (.sipush 4800, 3) := by decide +kernel
theorem d_D_init_17 : decode b_D_init 17 = .ok (.newarray .long, 2) := by decide +kernel
theorem d_D_init_19 : decode b_D_init 19 = .ok (.putfield 13, 3) := by decide +kernel
theorem d_D_init_22 : decode b_D_init 22 = .ok (.aload_n 0, 1) := by decide +kernel
theorem d_D_init_23 : decode b_D_init 23 = .ok (.bipush 16, 2) := by decide +kernel
theorem d_D_init_25 : decode b_D_init 25 = .ok (.newarray .int, 2) := by decide +kernel
theorem d_D_init_27 : decode b_D_init 27 = .ok (.putfield 16, 3) := by decide +kernel
theorem d_D_init_30 : decode b_D_init 30 = .ok (.aload_n 0, 1) := by decide +kernel
theorem d_D_init_31 : decode b_D_init 31 = .ok (.sipush 960, 3) := by decide +kernel
theorem d_D_init_34 : decode b_D_init 34 = .ok (.newarray .int, 2) := by decide +kernel
theorem d_D_init_36 : decode b_D_init 36 = .ok (.putfield 20, 3) := by decide +kernel
theorem d_D_init_39 : decode b_D_init 39 = .ok (.aload_n 0, 1) := by decide +kernel
theorem d_D_init_40 : decode b_D_init 40 = .ok (.bipush 24, 2) := by decide +kernel
theorem d_D_init_42 : decode b_D_init 42 = .ok (.newarray .int, 2) := by decide +kernel
theorem d_D_init_44 : decode b_D_init 44 = .ok (.putfield 23, 3) := by decide +kernel
theorem d_D_init_47 : decode b_D_init 47 = .ok (.aload_n 0, 1) := by decide +kernel
theorem d_D_init_48 : decode b_D_init 48 = .ok (.bipush 40, 2) := by decide +kernel
theorem d_D_init_50 : decode b_D_init 50 = .ok (.newarray .int, 2) := by decide +kernel
theorem d_D_init_52 : decode b_D_init 52 = .ok (.putfield 26, 3) := by decide +kernel
theorem d_D_init_55 : decode b_D_init 55 = .ok (.aload_n 0, 1) := by decide +kernel
theorem d_D_init_56 : decode b_D_init 56 = .ok (.sipush 960, 3) := by decide +kernel
theorem d_D_init_59 : decode b_D_init 59 = .ok (.newarray .long, 2) := by decide +kernel
theorem d_D_init_61 : decode b_D_init 61 = .ok (.putfield 29, 3) := by decide +kernel
theorem d_D_init_64 : decode b_D_init 64 = .ok (.aload_n 0, 1) := by decide +kernel
theorem d_D_init_65 : decode b_D_init 65 = .ok (.bipush 40, 2) := by decide +kernel
theorem d_D_init_67 : decode b_D_init 67 = .ok (.newarray .long, 2) := by decide +kernel
theorem d_D_init_69 : decode b_D_init 69 = .ok (.putfield 32, 3) := by decide +kernel
theorem d_D_init_72 : decode b_D_init 72 = .ok (.aload_n 0, 1) := by decide +kernel
theorem d_D_init_73 : decode b_D_init 73 = .ok (.bipush 8, 2) := by decide +kernel
theorem d_D_init_75 : decode b_D_init 75 = .ok (.newarray .int, 2) := by decide +kernel
theorem d_D_init_77 : decode b_D_init 77 = .ok (.putfield 35, 3) := by decide +kernel
theorem d_D_init_80 : decode b_D_init 80 = .ok (.aload_n 0, 1) := by decide +kernel
theorem d_D_init_81 : decode b_D_init 81 = .ok (.bipush 8, 2) := by decide +kernel
theorem d_D_init_83 : decode b_D_init 83 = .ok (.newarray .int, 2) := by decide +kernel
theorem d_D_init_85 : decode b_D_init 85 = .ok (.putfield 38, 3) := by decide +kernel
theorem d_D_init_88 : decode b_D_init 88 = .ok (.aload_n 0, 1) := by decide +kernel
theorem d_D_init_89 : decode b_D_init 89 = .ok (.bipush 8, 2) := by decide +kernel
theorem d_D_init_91 : decode b_D_init 91 = .ok (.newarray .int, 2) := by decide +kernel
theorem d_D_init_93 : decode b_D_init 93 = .ok (.putfield 41, 3) := by decide +kernel
theorem d_D_init_96 : decode b_D_init 96 = .ok (.aload_n 0, 1) := by decide +kernel
theorem d_D_init_97 : decode b_D_init 97 = .ok (.bipush 8, 2) := by decide +kernel
theorem d_D_init_99 : decode b_D_init 99 = .ok (.newarray .int, 2) := by decide +kernel
theorem d_D_init_101 : decode b_D_init 101 = .ok (.putfield 44, 3) := by decide +kernel
theorem d_D_init_104 : decode b_D_init 104 = .ok (.aload_n 0, 1) := by decide +kernel
theorem d_D_init_105 : decode b_D_init 105 = .ok (.bipush 8, 2) := by decide +kernel
theorem d_D_init_107 : decode b_D_init 107 = .ok (.newarray .int, 2) := by decide +kernel
theorem d_D_init_109 : decode b_D_init 109 = .ok (.putfield 47, 3) := by decide +kernel
theorem d_D_init_112 : decode b_D_init 112 = .ok (.aload_n 0, 1) := by decide +kernel
theorem d_D_init_113 : decode b_D_init 113 = .ok (.bipush 8, 2) := by decide +kernel
theorem d_D_init_115 : decode b_D_init 115 = .ok (.newarray .boolean, 2) := by decide +kernel
theorem d_D_init_117 : decode b_D_init 117 = .ok (.putfield 50, 3) := by decide +kernel
theorem d_D_init_120 : decode b_D_init 120 = .ok (.aload_n 0, 1) := by decide +kernel
theorem d_D_init_121 : decode b_D_init 121 = .ok (.bipush 8, 2) := by decide +kernel
theorem d_D_init_123 : decode b_D_init 123 = .ok (.newarray .boolean, 2) := by decide +kernel
theorem d_D_init_125 : decode b_D_init 125 = .ok (.putfield 54, 3) := by decide +kernel
theorem d_D_init_128 : decode b_D_init 128 = .ok (.aload_n 0, 1) := by decide +kernel
theorem d_D_init_129 : decode b_D_init 129 = .ok (.sipush 200, 3) := by decide +kernel
theorem d_D_init_132 : decode b_D_init 132 = .ok (.newarray .long, 2) := by decide +kernel
theorem d_D_init_134 : decode b_D_init 134 = .ok (.putfield 57, 3) := by decide +kernel
theorem d_D_init_137 : decode b_D_init 137 = .ok (.aload_n 0, 1) := by decide +kernel
theorem d_D_init_138 : decode b_D_init 138 = .ok (.sipush 200, 3) := by decide +kernel
theorem d_D_init_141 : decode b_D_init 141 = .ok (.newarray .long, 2) := by decide +kernel
theorem d_D_init_143 : decode b_D_init 143 = .ok (.putfield 60, 3) := by decide +kernel
theorem d_D_init_146 : decode b_D_init 146 = .ok (.aload_n 0, 1) := by decide +kernel
theorem d_D_init_147 : decode b_D_init 147 = .ok (.sipush 4000, 3) := by decide +kernel
theorem d_D_init_150 : decode b_D_init 150 = .ok (.newarray .long, 2) := by decide +kernel
theorem d_D_init_152 : decode b_D_init 152 = .ok (.putfield 63, 3) := by decide +kernel
theorem d_D_init_155 : decode b_D_init 155 = .ok (.aload_n 0, 1) := by decide +kernel
theorem d_D_init_156 : decode b_D_init 156 = .ok (.sipush 4000, 3) := by decide +kernel
theorem d_D_init_159 : decode b_D_init 159 = .ok (.newarray .long, 2) := by decide +kernel
theorem d_D_init_161 : decode b_D_init 161 = .ok (.putfield 66, 3) := by decide +kernel
theorem d_D_init_164 : decode b_D_init 164 = .ok (.aload_n 0, 1) := by decide +kernel
theorem d_D_init_165 : decode b_D_init 165 = .ok (.sipush 4000, 3) := by decide +kernel
theorem d_D_init_168 : decode b_D_init 168 = .ok (.newarray .long, 2) := by decide +kernel
theorem d_D_init_170 : decode b_D_init 170 = .ok (.putfield 69, 3) := by decide +kernel
theorem d_D_init_173 : decode b_D_init 173 = .ok (.aload_n 0, 1) := by decide +kernel
theorem d_D_init_174 : decode b_D_init 174 = .ok (.sipush 4000, 3) := by decide +kernel
theorem d_D_init_177 : decode b_D_init 177 = .ok (.newarray .long, 2) := by decide +kernel
theorem d_D_init_179 : decode b_D_init 179 = .ok (.putfield 72, 3) := by decide +kernel
theorem d_D_init_182 : decode b_D_init 182 = .ok (.aload_n 0, 1) := by decide +kernel
theorem d_D_init_183 : decode b_D_init 183 = .ok (.bipush 12, 2) := by decide +kernel
theorem d_D_init_185 : decode b_D_init 185 = .ok (.newarray .long, 2) := by decide +kernel
theorem d_D_init_187 : decode b_D_init 187 = .ok (.putfield 75, 3) := by decide +kernel
theorem d_D_init_190 : decode b_D_init 190 = .ok (.aload_n 0, 1) := by decide +kernel
theorem d_D_init_191 : decode b_D_init 191 = .ok (.iconst 4, 1) := by decide +kernel
theorem d_D_init_192 : decode b_D_init 192 = .ok (.newarray .long, 2) := by decide +kernel
theorem d_D_init_194 : decode b_D_init 194 = .ok (.putfield 78, 3) := by decide +kernel
theorem d_D_init_197 : decode b_D_init 197 = .ok (.aload_n 0, 1) := by decide +kernel
theorem d_D_init_198 : decode b_D_init 198 = .ok (.iconst 4, 1) := by decide +kernel
theorem d_D_init_199 : decode b_D_init 199 = .ok (.newarray .long, 2) := by decide +kernel
theorem d_D_init_201 : decode b_D_init 201 = .ok (.putfield 81, 3) := by decide +kernel
theorem d_D_init_204 : decode b_D_init 204 = .ok (.aload_n 0, 1) := by decide +kernel
theorem d_D_init_205 : decode b_D_init 205 = .ok (.iconst 4, 1) := by decide +kernel
theorem d_D_init_206 : decode b_D_init 206 = .ok (.newarray .long, 2) := by decide +kernel
theorem d_D_init_208 : decode b_D_init 208 = .ok (.putfield 84, 3) := by decide +kernel
theorem d_D_init_211 : decode b_D_init 211 = .ok (.return_, 1) := by decide +kernel
abbrev b_D_thrown : ByteArray := prog_3_method_2_code
def y_D_thrown : MethodName := ⟨"ShuffleMillModel", "thrown", "()I"⟩
theorem d_D_thrown_0 : decode b_D_thrown 0 = .ok (.aload_n 0, 1) := by decide +kernel
theorem d_D_thrown_1 : decode b_D_thrown 1 = .ok (.getfield 87, 3) := by decide +kernel
theorem d_D_thrown_4 : decode b_D_thrown 4 = .ok (.ireturn, 1) := by decide +kernel
