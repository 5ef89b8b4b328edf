abbrev b_M_asks : ByteArray := prog_1_method_37_code
def y_M_asks : MethodName := ⟨"ShuffleMill", "asks", "(I)V"⟩
theorem d_M_asks_0 : decode b_M_asks 0 = .ok (.aload_n 0, 1) := by decide +kernel
theorem d_M_asks_1 : decode b_M_asks 1 = .ok (.getfield 147, 3) := by decide +kernel
theorem d_M_asks_4 : decode b_M_asks 4 = .ok (.iload_n 1, 1) := by decide +kernel
theorem d_M_asks_5 : decode b_M_asks 5 = .ok (.iaload, 1) := by decide +kernel
theorem d_M_asks_6 : decode b_M_asks 6 = .ok (.ifCond .ne 14, 3) := by decide +kernel
theorem d_M_asks_9 : decode b_M_asks 9 = .ok (.aload_n 0, 1) := by decide +kernel
theorem d_M_asks_10 : decode b_M_asks 10 = .ok (.bipush 6, 2) := by decide +kernel
theorem d_M_asks_12 : decode b_M_asks 12 = .ok (.iconst 1, 1) := by decide +kernel
theorem d_M_asks_13 : decode b_M_asks 13 = .ok (.iload_n 1, 1) := by decide +kernel
theorem d_M_asks_14 : decode b_M_asks 14 = .ok (.iconst 0, 1) := by decide +kernel
theorem d_M_asks_15 : decode b_M_asks 15 = .ok (.iconst 0, 1) := by decide +kernel
theorem d_M_asks_16 : decode b_M_asks 16 = .ok (.iconst 0, 1) := by decide +kernel
theorem d_M_asks_17 : decode b_M_asks 17 = .ok (.invokevirtual 341, 3) := by decide +kernel
theorem d_M_asks_20 : decode b_M_asks 20 = .ok (.aload_n 0, 1) := by decide +kernel
theorem d_M_asks_21 : decode b_M_asks 21 = .ok (.getfield 147, 3) := by decide +kernel
theorem d_M_asks_24 : decode b_M_asks 24 = .ok (.iload_n 1, 1) := by decide +kernel
theorem d_M_asks_25 : decode b_M_asks 25 = .ok (.aload_n 0, 1) := by decide +kernel
theorem d_M_asks_26 : decode b_M_asks 26 = .ok (.getfield 147, 3) := by decide +kernel
theorem d_M_asks_29 : decode b_M_asks 29 = .ok (.iload_n 1, 1) := by decide +kernel
theorem d_M_asks_30 : decode b_M_asks 30 = .ok (.iaload, 1) := by decide +kernel
theorem d_M_asks_31 : decode b_M_asks 31 = .ok (.iconst 5, 1) := by decide +kernel
theorem d_M_asks_32 : decode b_M_asks 32 = .ok (.if_icmp .ne 7, 3) := by decide +kernel
theorem d_M_asks_35 : decode b_M_asks 35 = .ok (.iconst 0, 1) := by decide +kernel
theorem d_M_asks_36 : decode b_M_asks 36 = .ok (.goto 11, 3) := by decide +kernel
theorem d_M_asks_39 : decode b_M_asks 39 = .ok (.aload_n 0, 1) := by decide +kernel
theorem d_M_asks_40 : decode b_M_asks 40 = .ok (.getfield 147, 3) := by decide +kernel
theorem d_M_asks_43 : decode b_M_asks 43 = .ok (.iload_n 1, 1) := by decide +kernel
theorem d_M_asks_44 : decode b_M_asks 44 = .ok (.iaload, 1) := by decide +kernel
theorem d_M_asks_45 : decode b_M_asks 45 = .ok (.iconst 1, 1) := by decide +kernel
theorem d_M_asks_46 : decode b_M_asks 46 = .ok (.iadd, 1) := by decide +kernel
theorem d_M_asks_47 : decode b_M_asks 47 = .ok (.iastore, 1) := by decide +kernel
theorem d_M_asks_48 : decode b_M_asks 48 = .ok (.return_, 1) := by decide +kernel
abbrev b_M_reads : ByteArray := prog_1_method_38_code
def y_M_reads : MethodName := ⟨"ShuffleMill", "reads", "(I)V"⟩
theorem d_M_reads_0 : decode b_M_reads 0 = .ok (.aload_n 0, 1) := by decide +kernel
theorem d_M_reads_1 : decode b_M_reads 1 = .ok (.getfield 105, 3) := by decide +kernel
theorem d_M_reads_4 : decode b_M_reads 4 = .ok (.iconst 2, 1) := by decide +kernel
theorem d_M_reads_5 : decode b_M_reads 5 = .ok (.iaload, 1) := by decide +kernel
theorem d_M_reads_6 : decode b_M_reads 6 = .ok (.istore_n 2, 1) := by decide +kernel
theorem d_M_reads_7 : decode b_M_reads 7 = .ok (.aload_n 0, 1) := by decide +kernel
theorem d_M_reads_8 : decode b_M_reads 8 = .ok (.getfield 105, 3) := by decide +kernel
theorem d_M_reads_11 : decode b_M_reads 11 = .ok (.iconst 0, 1) := by decide +kernel
theorem d_M_reads_12 : decode b_M_reads 12 = .ok (.iaload, 1) := by decide +kernel
theorem d_M_reads_13 : decode b_M_reads 13 = .ok (.tableswitch 108 2 6 #[35, 108, 108, 73, 100], 35) := by decide +kernel
theorem d_M_reads_48 : decode b_M_reads 48 = .ok (.aload_n 0, 1) := by decide +kernel
theorem d_M_reads_49 : decode b_M_reads 49 = .ok (.getfield 138, 3) := by decide +kernel
theorem d_M_reads_52 : decode b_M_reads 52 = .ok (.iload_n 1, 1) := by decide +kernel
theorem d_M_reads_53 : decode b_M_reads 53 = .ok (.iaload, 1) := by decide +kernel
theorem d_M_reads_54 : decode b_M_reads 54 = .ok (.iconst (-1), 1) := by decide +kernel
theorem d_M_reads_55 : decode b_M_reads 55 = .ok (.if_icmp .eq 6, 3) := by decide +kernel
theorem d_M_reads_58 : decode b_M_reads 58 = .ok (.goto 63, 3) := by decide +kernel
theorem d_M_reads_61 : decode b_M_reads 61 = .ok (.aload_n 0, 1) := by decide +kernel
theorem d_M_reads_62 : decode b_M_reads 62 = .ok (.iload_n 1, 1) := by decide +kernel
theorem d_M_reads_63 : decode b_M_reads 63 = .ok (.invokevirtual 347, 3) := by decide +kernel
theorem d_M_reads_66 : decode b_M_reads 66 = .ok (.aload_n 0, 1) := by decide +kernel
theorem d_M_reads_67 : decode b_M_reads 67 = .ok (.getfield 138, 3) := by decide +kernel
theorem d_M_reads_70 : decode b_M_reads 70 = .ok (.iload_n 1, 1) := by decide +kernel
theorem d_M_reads_71 : decode b_M_reads 71 = .ok (.iload_n 2, 1) := by decide +kernel
theorem d_M_reads_72 : decode b_M_reads 72 = .ok (.iastore, 1) := by decide +kernel
theorem d_M_reads_73 : decode b_M_reads 73 = .ok (.aload_n 0, 1) := by decide +kernel
theorem d_M_reads_74 : decode b_M_reads 74 = .ok (.getfield 141, 3) := by decide +kernel
theorem d_M_reads_77 : decode b_M_reads 77 = .ok (.iload_n 1, 1) := by decide +kernel
theorem d_M_reads_78 : decode b_M_reads 78 = .ok (.aload_n 0, 1) := by decide +kernel
theorem d_M_reads_79 : decode b_M_reads 79 = .ok (.getfield 270, 3) := by decide +kernel
theorem d_M_reads_82 : decode b_M_reads 82 = .ok (.iastore, 1) := by decide +kernel
theorem d_M_reads_83 : decode b_M_reads 83 = .ok (.goto 38, 3) := by decide +kernel
theorem d_M_reads_86 : decode b_M_reads 86 = .ok (.aload_n 0, 1) := by decide +kernel
theorem d_M_reads_87 : decode b_M_reads 87 = .ok (.iload_n 1, 1) := by decide +kernel
theorem d_M_reads_88 : decode b_M_reads 88 = .ok (.iload_n 2, 1) := by decide +kernel
theorem d_M_reads_89 : decode b_M_reads 89 = .ok (.aload_n 0, 1) := by decide +kernel
theorem d_M_reads_90 : decode b_M_reads 90 = .ok (.getfield 105, 3) := by decide +kernel
theorem d_M_reads_93 : decode b_M_reads 93 = .ok (.iconst 3, 1) := by decide +kernel
theorem d_M_reads_94 : decode b_M_reads 94 = .ok (.iaload, 1) := by decide +kernel
theorem d_M_reads_95 : decode b_M_reads 95 = .ok (.aload_n 0, 1) := by decide +kernel
theorem d_M_reads_96 : decode b_M_reads 96 = .ok (.getfield 105, 3) := by decide +kernel
theorem d_M_reads_99 : decode b_M_reads 99 = .ok (.iconst 4, 1) := by decide +kernel
theorem d_M_reads_100 : decode b_M_reads 100 = .ok (.iaload, 1) := by decide +kernel
theorem d_M_reads_101 : decode b_M_reads 101 = .ok (.aload_n 0, 1) := by decide +kernel
theorem d_M_reads_102 : decode b_M_reads 102 = .ok (.getfield 105, 3) := by decide +kernel
theorem d_M_reads_105 : decode b_M_reads 105 = .ok (.iconst 5, 1) := by decide +kernel
theorem d_M_reads_106 : decode b_M_reads 106 = .ok (.iaload, 1) := by decide +kernel
theorem d_M_reads_107 : decode b_M_reads 107 = .ok (.invokevirtual 365, 3) := by decide +kernel
theorem d_M_reads_110 : decode b_M_reads 110 = .ok (.goto 11, 3) := by decide +kernel
theorem d_M_reads_113 : decode b_M_reads 113 = .ok (.aload_n 0, 1) := by decide +kernel
theorem d_M_reads_114 : decode b_M_reads 114 = .ok (.iload_n 1, 1) := by decide +kernel
theorem d_M_reads_115 : decode b_M_reads 115 = .ok (.invokevirtual 369, 3) := by decide +kernel
theorem d_M_reads_118 : decode b_M_reads 118 = .ok (.goto 3, 3) := by decide +kernel
theorem d_M_reads_121 : decode b_M_reads 121 = .ok (.return_, 1) := by decide +kernel
abbrev b_M_maps : ByteArray := prog_1_method_39_code
def y_M_maps : MethodName := ⟨"ShuffleMill", "maps", "(I)V"⟩
theorem d_M_maps_0 : decode b_M_maps 0 = .ok (.aload_n 0, 1) := by decide +kernel
theorem d_M_maps_1 : decode b_M_maps 1 = .ok (.getfield 138, 3) := by decide +kernel
theorem d_M_maps_4 : decode b_M_maps 4 = .ok (.iload_n 1, 1) := by decide +kernel
theorem d_M_maps_5 : decode b_M_maps 5 = .ok (.iaload, 1) := by decide +kernel
theorem d_M_maps_6 : decode b_M_maps 6 = .ok (.istore_n 2, 1) := by decide +kernel
theorem d_M_maps_7 : decode b_M_maps 7 = .ok (.aload_n 0, 1) := by decide +kernel
theorem d_M_maps_8 : decode b_M_maps 8 = .ok (.getfield 120, 3) := by decide +kernel
theorem d_M_maps_11 : decode b_M_maps 11 = .ok (.iload_n 1, 1) := by decide +kernel
theorem d_M_maps_12 : decode b_M_maps 12 = .ok (.bipush 38, 2) := by decide +kernel
theorem d_M_maps_14 : decode b_M_maps 14 = .ok (.imul, 1) := by decide +kernel
theorem d_M_maps_15 : decode b_M_maps 15 = .ok (.iload_n 2, 1) := by decide +kernel
theorem d_M_maps_16 : decode b_M_maps 16 = .ok (.iadd, 1) := by decide +kernel
theorem d_M_maps_17 : decode b_M_maps 17 = .ok (.iaload, 1) := by decide +kernel
theorem d_M_maps_18 : decode b_M_maps 18 = .ok (.iconst (-1), 1) := by decide +kernel
theorem d_M_maps_19 : decode b_M_maps 19 = .ok (.if_icmp .eq 21, 3) := by decide +kernel
theorem d_M_maps_22 : decode b_M_maps 22 = .ok (.aload_n 0, 1) := by decide +kernel
theorem d_M_maps_23 : decode b_M_maps 23 = .ok (.iload_n 1, 1) := by decide +kernel
theorem d_M_maps_24 : decode b_M_maps 24 = .ok (.iload_n 2, 1) := by decide +kernel
theorem d_M_maps_25 : decode b_M_maps 25 = .ok (.aload_n 0, 1) := by decide +kernel
theorem d_M_maps_26 : decode b_M_maps 26 = .ok (.getfield 123, 3) := by decide +kernel
theorem d_M_maps_29 : decode b_M_maps 29 = .ok (.iload_n 1, 1) := by decide +kernel
theorem d_M_maps_30 : decode b_M_maps 30 = .ok (.bipush 38, 2) := by decide +kernel
theorem d_M_maps_32 : decode b_M_maps 32 = .ok (.imul, 1) := by decide +kernel
theorem d_M_maps_33 : decode b_M_maps 33 = .ok (.iload_n 2, 1) := by decide +kernel
theorem d_M_maps_34 : decode b_M_maps 34 = .ok (.iadd, 1) := by decide +kernel
theorem d_M_maps_35 : decode b_M_maps 35 = .ok (.iaload, 1) := by decide +kernel
theorem d_M_maps_36 : decode b_M_maps 36 = .ok (.invokevirtual 372, 3) := by decide +kernel
theorem d_M_maps_39 : decode b_M_maps 39 = .ok (.return_, 1) := by decide +kernel
theorem d_M_maps_40 : decode b_M_maps 40 = .ok (.aload_n 0, 1) := by decide +kernel
theorem d_M_maps_41 : decode b_M_maps 41 = .ok (.aload_n 0, 1) := by decide +kernel
theorem d_M_maps_42 : decode b_M_maps 42 = .ok (.getfield 39, 3) := by decide +kernel
theorem d_M_maps_45 : decode b_M_maps 45 = .ok (.aload_n 0, 1) := by decide +kernel
theorem d_M_maps_46 : decode b_M_maps 46 = .ok (.invokevirtual 256, 3) := by decide +kernel
theorem d_M_maps_49 : decode b_M_maps 49 = .ok (.iaload, 1) := by decide +kernel
theorem d_M_maps_50 : decode b_M_maps 50 = .ok (.invokevirtual 260, 3) := by decide +kernel
theorem d_M_maps_53 : decode b_M_maps 53 = .ok (.aload_n 0, 1) := by decide +kernel
theorem d_M_maps_54 : decode b_M_maps 54 = .ok (.aload_n 0, 1) := by decide +kernel
theorem d_M_maps_55 : decode b_M_maps 55 = .ok (.getfield 42, 3) := by decide +kernel
theorem d_M_maps_58 : decode b_M_maps 58 = .ok (.aload_n 0, 1) := by decide +kernel
theorem d_M_maps_59 : decode b_M_maps 59 = .ok (.invokevirtual 256, 3) := by decide +kernel
theorem d_M_maps_62 : decode b_M_maps 62 = .ok (.iaload, 1) := by decide +kernel
theorem d_M_maps_63 : decode b_M_maps 63 = .ok (.invokevirtual 260, 3) := by decide +kernel
theorem d_M_maps_66 : decode b_M_maps 66 = .ok (.iadd, 1) := by decide +kernel
theorem d_M_maps_67 : decode b_M_maps 67 = .ok (.istore_n 3, 1) := by decide +kernel
theorem d_M_maps_68 : decode b_M_maps 68 = .ok (.iload_n 2, 1) := by decide +kernel
theorem d_M_maps_69 : decode b_M_maps 69 = .ok (.bipush 16, 2) := by decide +kernel
theorem d_M_maps_71 : decode b_M_maps 71 = .ok (.imul, 1) := by decide +kernel
theorem d_M_maps_72 : decode b_M_maps 72 = .ok (.aload_n 0, 1) := by decide +kernel
theorem d_M_maps_73 : decode b_M_maps 73 = .ok (.getfield 144, 3) := by decide +kernel
theorem d_M_maps_76 : decode b_M_maps 76 = .ok (.iload_n 1, 1) := by decide +kernel
theorem d_M_maps_77 : decode b_M_maps 77 = .ok (.iaload, 1) := by decide +kernel
theorem d_M_maps_78 : decode b_M_maps 78 = .ok (.iadd, 1) := by decide +kernel
theorem d_M_maps_79 : decode b_M_maps 79 = .ok (.istore 4, 2) := by decide +kernel
theorem d_M_maps_81 : decode b_M_maps 81 = .ok (.aload_n 0, 1) := by decide +kernel
theorem d_M_maps_82 : decode b_M_maps 82 = .ok (.getfield 144, 3) := by decide +kernel
theorem d_M_maps_85 : decode b_M_maps 85 = .ok (.iload_n 1, 1) := by decide +kernel
theorem d_M_maps_86 : decode b_M_maps 86 = .ok (.iaload, 1) := by decide +kernel
theorem d_M_maps_87 : decode b_M_maps 87 = .ok (.bipush 16, 2) := by decide +kernel
theorem d_M_maps_89 : decode b_M_maps 89 = .ok (.if_icmp .eq 9, 3) := by decide +kernel
theorem d_M_maps_92 : decode b_M_maps 92 = .ok (.iload 4, 2) := by decide +kernel
theorem d_M_maps_94 : decode b_M_maps 94 = .ok (.iload_n 3, 1) := by decide +kernel
theorem d_M_maps_95 : decode b_M_maps 95 = .ok (.if_icmp .lt 15, 3) := by decide +kernel
theorem d_M_maps_98 : decode b_M_maps 98 = .ok (.aload_n 0, 1) := by decide +kernel
theorem d_M_maps_99 : decode b_M_maps 99 = .ok (.iload_n 1, 1) := by decide +kernel
theorem d_M_maps_100 : decode b_M_maps 100 = .ok (.invokevirtual 376, 3) := by decide +kernel
theorem d_M_maps_103 : decode b_M_maps 103 = .ok (.aload_n 0, 1) := by decide +kernel
theorem d_M_maps_104 : decode b_M_maps 104 = .ok (.iload_n 1, 1) := by decide +kernel
theorem d_M_maps_105 : decode b_M_maps 105 = .ok (.iload_n 2, 1) := by decide +kernel
theorem d_M_maps_106 : decode b_M_maps 106 = .ok (.invokevirtual 379, 3) := by decide +kernel
theorem d_M_maps_109 : decode b_M_maps 109 = .ok (.return_, 1) := by decide +kernel
theorem d_M_maps_110 : decode b_M_maps 110 = .ok (.aload_n 0, 1) := by decide +kernel
theorem d_M_maps_111 : decode b_M_maps 111 = .ok (.getfield 144, 3) := by decide +kernel
theorem d_M_maps_114 : decode b_M_maps 114 = .ok (.iload_n 1, 1) := by decide +kernel
theorem d_M_maps_115 : decode b_M_maps 115 = .ok (.dup2, 1) := by decide +kernel
theorem d_M_maps_116 : decode b_M_maps 116 = .ok (.iaload, 1) := by decide +kernel
theorem d_M_maps_117 : decode b_M_maps 117 = .ok (.iconst 1, 1) := by decide +kernel
theorem d_M_maps_118 : decode b_M_maps 118 = .ok (.iadd, 1) := by decide +kernel
theorem d_M_maps_119 : decode b_M_maps 119 = .ok (.iastore, 1) := by decide +kernel
theorem d_M_maps_120 : decode b_M_maps 120 = .ok (.aload_n 0, 1) := by decide +kernel
theorem d_M_maps_121 : decode b_M_maps 121 = .ok (.iload 4, 2) := by decide +kernel
theorem d_M_maps_123 : decode b_M_maps 123 = .ok (.invokevirtual 382, 3) := by decide +kernel
theorem d_M_maps_126 : decode b_M_maps 126 = .ok (.istore 5, 2) := by decide +kernel
theorem d_M_maps_128 : decode b_M_maps 128 = .ok (.aload_n 0, 1) := by decide +kernel
theorem d_M_maps_129 : decode b_M_maps 129 = .ok (.aload_n 0, 1) := by decide +kernel
theorem d_M_maps_130 : decode b_M_maps 130 = .ok (.getfield 9, 3) := by decide +kernel
theorem d_M_maps_133 : decode b_M_maps 133 = .ok (.iload 5, 2) := by decide +kernel
theorem d_M_maps_135 : decode b_M_maps 135 = .ok (.laload, 1) := by decide +kernel
theorem d_M_maps_136 : decode b_M_maps 136 = .ok (.putfield 234, 3) := by decide +kernel
theorem d_M_maps_139 : decode b_M_maps 139 = .ok (.aload_n 0, 1) := by decide +kernel
theorem d_M_maps_140 : decode b_M_maps 140 = .ok (.aload_n 0, 1) := by decide +kernel
theorem d_M_maps_141 : decode b_M_maps 141 = .ok (.getfield 13, 3) := by decide +kernel
theorem d_M_maps_144 : decode b_M_maps 144 = .ok (.putfield 250, 3) := by decide +kernel
theorem d_M_maps_147 : decode b_M_maps 147 = .ok (.aload_n 0, 1) := by decide +kernel
theorem d_M_maps_148 : decode b_M_maps 148 = .ok (.iload 5, 2) := by decide +kernel
theorem d_M_maps_150 : decode b_M_maps 150 = .ok (.putfield 241, 3) := by decide +kernel
theorem d_M_maps_153 : decode b_M_maps 153 = .ok (.aload_n 0, 1) := by decide +kernel
theorem d_M_maps_154 : decode b_M_maps 154 = .ok (.iload 5, 2) := by decide +kernel
theorem d_M_maps_156 : decode b_M_maps 156 = .ok (.iconst 1, 1) := by decide +kernel
theorem d_M_maps_157 : decode b_M_maps 157 = .ok (.iadd, 1) := by decide +kernel
theorem d_M_maps_158 : decode b_M_maps 158 = .ok (.putfield 244, 3) := by decide +kernel
theorem d_M_maps_161 : decode b_M_maps 161 = .ok (.aload_n 0, 1) := by decide +kernel
theorem d_M_maps_162 : decode b_M_maps 162 = .ok (.aload_n 0, 1) := by decide +kernel
theorem d_M_maps_163 : decode b_M_maps 163 = .ok (.invokevirtual 256, 3) := by decide +kernel
theorem d_M_maps_166 : decode b_M_maps 166 = .ok (.iconst 3, 1) := by decide +kernel
theorem d_M_maps_167 : decode b_M_maps 167 = .ok (.imul, 1) := by decide +kernel
theorem d_M_maps_168 : decode b_M_maps 168 = .ok (.iconst 0, 1) := by decide +kernel
theorem d_M_maps_169 : decode b_M_maps 169 = .ok (.iadd, 1) := by decide +kernel
theorem d_M_maps_170 : decode b_M_maps 170 = .ok (.invokevirtual 385, 3) := by decide +kernel
theorem d_M_maps_173 : decode b_M_maps 173 = .ok (.ifCond .ne 9, 3) := by decide +kernel
theorem d_M_maps_176 : decode b_M_maps 176 = .ok (.aload_n 0, 1) := by decide +kernel
theorem d_M_maps_177 : decode b_M_maps 177 = .ok (.iload_n 1, 1) := by decide +kernel
theorem d_M_maps_178 : decode b_M_maps 178 = .ok (.invokevirtual 388, 3) := by decide +kernel
theorem d_M_maps_181 : decode b_M_maps 181 = .ok (.return_, 1) := by decide +kernel
theorem d_M_maps_182 : decode b_M_maps 182 = .ok (.iconst 0, 1) := by decide +kernel
theorem d_M_maps_183 : decode b_M_maps 183 = .ok (.istore 6, 2) := by decide +kernel
theorem d_M_maps_185 : decode b_M_maps 185 = .ok (.iload 6, 2) := by decide +kernel
theorem d_M_maps_187 : decode b_M_maps 187 = .ok (.aload_n 0, 1) := by decide +kernel
theorem d_M_maps_188 : decode b_M_maps 188 = .ok (.getfield 215, 3) := by decide +kernel
theorem d_M_maps_191 : decode b_M_maps 191 = .ok (.if_icmp .ge 81, 3) := by decide +kernel
theorem d_M_maps_194 : decode b_M_maps 194 = .ok (.aload_n 0, 1) := by decide +kernel
theorem d_M_maps_195 : decode b_M_maps 195 = .ok (.getfield 153, 3) := by decide +kernel
theorem d_M_maps_198 : decode b_M_maps 198 = .ok (.iload_n 1, 1) := by decide +kernel
theorem d_M_maps_199 : decode b_M_maps 199 = .ok (.iaload, 1) := by decide +kernel
theorem d_M_maps_200 : decode b_M_maps 200 = .ok (.bipush 8, 2) := by decide +kernel
theorem d_M_maps_202 : decode b_M_maps 202 = .ok (.if_icmp .ne 8, 3) := by decide +kernel
theorem d_M_maps_205 : decode b_M_maps 205 = .ok (.aload_n 0, 1) := by decide +kernel
theorem d_M_maps_206 : decode b_M_maps 206 = .ok (.iload_n 1, 1) := by decide +kernel
theorem d_M_maps_207 : decode b_M_maps 207 = .ok (.invokevirtual 376, 3) := by decide +kernel
theorem d_M_maps_210 : decode b_M_maps 210 = .ok (.aload_n 0, 1) := by decide +kernel
theorem d_M_maps_211 : decode b_M_maps 211 = .ok (.getfield 156, 3) := by decide +kernel
theorem d_M_maps_214 : decode b_M_maps 214 = .ok (.iload_n 1, 1) := by decide +kernel
theorem d_M_maps_215 : decode b_M_maps 215 = .ok (.bipush 8, 2) := by decide +kernel
theorem d_M_maps_217 : decode b_M_maps 217 = .ok (.imul, 1) := by decide +kernel
theorem d_M_maps_218 : decode b_M_maps 218 = .ok (.aload_n 0, 1) := by decide +kernel
theorem d_M_maps_219 : decode b_M_maps 219 = .ok (.getfield 153, 3) := by decide +kernel
theorem d_M_maps_222 : decode b_M_maps 222 = .ok (.iload_n 1, 1) := by decide +kernel
theorem d_M_maps_223 : decode b_M_maps 223 = .ok (.iaload, 1) := by decide +kernel
theorem d_M_maps_224 : decode b_M_maps 224 = .ok (.iadd, 1) := by decide +kernel
theorem d_M_maps_225 : decode b_M_maps 225 = .ok (.aload_n 0, 1) := by decide +kernel
theorem d_M_maps_226 : decode b_M_maps 226 = .ok (.getfield 57, 3) := by decide +kernel
theorem d_M_maps_229 : decode b_M_maps 229 = .ok (.iload 6, 2) := by decide +kernel
theorem d_M_maps_231 : decode b_M_maps 231 = .ok (.laload, 1) := by decide +kernel
theorem d_M_maps_232 : decode b_M_maps 232 = .ok (.lastore, 1) := by decide +kernel
theorem d_M_maps_233 : decode b_M_maps 233 = .ok (.aload_n 0, 1) := by decide +kernel
theorem d_M_maps_234 : decode b_M_maps 234 = .ok (.getfield 159, 3) := by decide +kernel
theorem d_M_maps_237 : decode b_M_maps 237 = .ok (.iload_n 1, 1) := by decide +kernel
theorem d_M_maps_238 : decode b_M_maps 238 = .ok (.bipush 8, 2) := by decide +kernel
theorem d_M_maps_240 : decode b_M_maps 240 = .ok (.imul, 1) := by decide +kernel
theorem d_M_maps_241 : decode b_M_maps 241 = .ok (.aload_n 0, 1) := by decide +kernel
theorem d_M_maps_242 : decode b_M_maps 242 = .ok (.getfield 153, 3) := by decide +kernel
theorem d_M_maps_245 : decode b_M_maps 245 = .ok (.iload_n 1, 1) := by decide +kernel
theorem d_M_maps_246 : decode b_M_maps 246 = .ok (.iaload, 1) := by decide +kernel
theorem d_M_maps_247 : decode b_M_maps 247 = .ok (.iadd, 1) := by decide +kernel
theorem d_M_maps_248 : decode b_M_maps 248 = .ok (.aload_n 0, 1) := by decide +kernel
theorem d_M_maps_249 : decode b_M_maps 249 = .ok (.getfield 60, 3) := by decide +kernel
theorem d_M_maps_252 : decode b_M_maps 252 = .ok (.iload 6, 2) := by decide +kernel
theorem d_M_maps_254 : decode b_M_maps 254 = .ok (.laload, 1) := by decide +kernel
theorem d_M_maps_255 : decode b_M_maps 255 = .ok (.lastore, 1) := by decide +kernel
theorem d_M_maps_256 : decode b_M_maps 256 = .ok (.aload_n 0, 1) := by decide +kernel
theorem d_M_maps_257 : decode b_M_maps 257 = .ok (.getfield 153, 3) := by decide +kernel
theorem d_M_maps_260 : decode b_M_maps 260 = .ok (.iload_n 1, 1) := by decide +kernel
theorem d_M_maps_261 : decode b_M_maps 261 = .ok (.dup2, 1) := by decide +kernel
theorem d_M_maps_262 : decode b_M_maps 262 = .ok (.iaload, 1) := by decide +kernel
theorem d_M_maps_263 : decode b_M_maps 263 = .ok (.iconst 1, 1) := by decide +kernel
theorem d_M_maps_264 : decode b_M_maps 264 = .ok (.iadd, 1) := by decide +kernel
theorem d_M_maps_265 : decode b_M_maps 265 = .ok (.iastore, 1) := by decide +kernel
theorem d_M_maps_266 : decode b_M_maps 266 = .ok (.iinc 6 1, 3) := by decide +kernel
theorem d_M_maps_269 : decode b_M_maps 269 = .ok (.goto (-84), 3) := by decide +kernel
theorem d_M_maps_272 : decode b_M_maps 272 = .ok (.return_, 1) := by decide +kernel
abbrev b_M_traps : ByteArray := prog_1_method_40_code
def y_M_traps : MethodName := ⟨"ShuffleMill", "traps", "(I)V"⟩
theorem d_M_traps_0 : decode b_M_traps 0 = .ok (.aload_n 0, 1) := by decide +kernel
theorem d_M_traps_1 : decode b_M_traps 1 = .ok (.bipush 6, 2) := by decide +kernel
theorem d_M_traps_3 : decode b_M_traps 3 = .ok (.iconst 4, 1) := by decide +kernel
theorem d_M_traps_4 : decode b_M_traps 4 = .ok (.aload_n 0, 1) := by decide +kernel
theorem d_M_traps_5 : decode b_M_traps 5 = .ok (.getfield 138, 3) := by decide +kernel
theorem d_M_traps_8 : decode b_M_traps 8 = .ok (.iload_n 1, 1) := by decide +kernel
theorem d_M_traps_9 : decode b_M_traps 9 = .ok (.iaload, 1) := by decide +kernel
theorem d_M_traps_10 : decode b_M_traps 10 = .ok (.iconst 0, 1) := by decide +kernel
theorem d_M_traps_11 : decode b_M_traps 11 = .ok (.iconst 0, 1) := by decide +kernel
theorem d_M_traps_12 : decode b_M_traps 12 = .ok (.iconst 0, 1) := by decide +kernel
theorem d_M_traps_13 : decode b_M_traps 13 = .ok (.invokevirtual 341, 3) := by decide +kernel
theorem d_M_traps_16 : decode b_M_traps 16 = .ok (.aload_n 0, 1) := by decide +kernel
theorem d_M_traps_17 : decode b_M_traps 17 = .ok (.iload_n 1, 1) := by decide +kernel
theorem d_M_traps_18 : decode b_M_traps 18 = .ok (.invokevirtual 347, 3) := by decide +kernel
theorem d_M_traps_21 : decode b_M_traps 21 = .ok (.return_, 1) := by decide +kernel
abbrev b_M_done : ByteArray := prog_1_method_41_code
def y_M_done : MethodName := ⟨"ShuffleMill", "done", "(III)V"⟩
theorem d_M_done_0 : decode b_M_done 0 = .ok (.aload_n 0, 1) := by decide +kernel
theorem d_M_done_1 : decode b_M_done 1 = .ok (.bipush 6, 2) := by decide +kernel
theorem d_M_done_3 : decode b_M_done 3 = .ok (.iconst 3, 1) := by decide +kernel
theorem d_M_done_4 : decode b_M_done 4 = .ok (.iload_n 1, 1) := by decide +kernel
theorem d_M_done_5 : decode b_M_done 5 = .ok (.iload_n 2, 1) := by decide +kernel
theorem d_M_done_6 : decode b_M_done 6 = .ok (.iload_n 3, 1) := by decide +kernel
theorem d_M_done_7 : decode b_M_done 7 = .ok (.iconst 0, 1) := by decide +kernel
theorem d_M_done_8 : decode b_M_done 8 = .ok (.invokevirtual 341, 3) := by decide +kernel
theorem d_M_done_11 : decode b_M_done 11 = .ok (.aload_n 0, 1) := by decide +kernel
theorem d_M_done_12 : decode b_M_done 12 = .ok (.iload_n 1, 1) := by decide +kernel
theorem d_M_done_13 : decode b_M_done 13 = .ok (.invokevirtual 347, 3) := by decide +kernel
theorem d_M_done_16 : decode b_M_done 16 = .ok (.return_, 1) := by decide +kernel
abbrev b_M_spill : ByteArray := prog_1_method_42_code
def y_M_spill : MethodName := ⟨"ShuffleMill", "spill", "(I)V"⟩
theorem d_M_spill_0 : decode b_M_spill 0 = .ok (.aload_n 0, 1) := by decide +kernel
theorem d_M_spill_1 : decode b_M_spill 1 = .ok (.getfield 153, 3) := by decide +kernel
theorem d_M_spill_4 : decode b_M_spill 4 = .ok (.iload_n 1, 1) := by decide +kernel
theorem d_M_spill_5 : decode b_M_spill 5 = .ok (.iaload, 1) := by decide +kernel
theorem d_M_spill_6 : decode b_M_spill 6 = .ok (.istore_n 2, 1) := by decide +kernel
theorem d_M_spill_7 : decode b_M_spill 7 = .ok (.iload_n 1, 1) := by decide +kernel
theorem d_M_spill_8 : decode b_M_spill 8 = .ok (.bipush 8, 2) := by decide +kernel
theorem d_M_spill_10 : decode b_M_spill 10 = .ok (.imul, 1) := by decide +kernel
theorem d_M_spill_11 : decode b_M_spill 11 = .ok (.istore_n 3, 1) := by decide +kernel
theorem d_M_spill_12 : decode b_M_spill 12 = .ok (.iconst 1, 1) := by decide +kernel
theorem d_M_spill_13 : decode b_M_spill 13 = .ok (.istore 4, 2) := by decide +kernel
theorem d_M_spill_15 : decode b_M_spill 15 = .ok (.iload 4, 2) := by decide +kernel
theorem d_M_spill_17 : decode b_M_spill 17 = .ok (.iload_n 2, 1) := by decide +kernel
theorem d_M_spill_18 : decode b_M_spill 18 = .ok (.if_icmp .ge 125, 3) := by decide +kernel
theorem d_M_spill_21 : decode b_M_spill 21 = .ok (.aload_n 0, 1) := by decide +kernel
theorem d_M_spill_22 : decode b_M_spill 22 = .ok (.getfield 156, 3) := by decide +kernel
theorem d_M_spill_25 : decode b_M_spill 25 = .ok (.iload_n 3, 1) := by decide +kernel
theorem d_M_spill_26 : decode b_M_spill 26 = .ok (.iload 4, 2) := by decide +kernel
theorem d_M_spill_28 : decode b_M_spill 28 = .ok (.iadd, 1) := by decide +kernel
theorem d_M_spill_29 : decode b_M_spill 29 = .ok (.laload, 1) := by decide +kernel
theorem d_M_spill_30 : decode b_M_spill 30 = .ok (.lstore 5, 2) := by decide +kernel
theorem d_M_spill_32 : decode b_M_spill 32 = .ok (.aload_n 0, 1) := by decide +kernel
theorem d_M_spill_33 : decode b_M_spill 33 = .ok (.getfield 159, 3) := by decide +kernel
theorem d_M_spill_36 : decode b_M_spill 36 = .ok (.iload_n 3, 1) := by decide +kernel
theorem d_M_spill_37 : decode b_M_spill 37 = .ok (.iload 4, 2) := by decide +kernel
theorem d_M_spill_39 : decode b_M_spill 39 = .ok (.iadd, 1) := by decide +kernel
theorem d_M_spill_40 : decode b_M_spill 40 = .ok (.laload, 1) := by decide +kernel
theorem d_M_spill_41 : decode b_M_spill 41 = .ok (.lstore 7, 2) := by decide +kernel
theorem d_M_spill_43 : decode b_M_spill 43 = .ok (.iload 4, 2) := by decide +kernel
theorem d_M_spill_45 : decode b_M_spill 45 = .ok (.istore 9, 2) := by decide +kernel
theorem d_M_spill_47 : decode b_M_spill 47 = .ok (.iload 9, 2) := by decide +kernel
theorem d_M_spill_49 : decode b_M_spill 49 = .ok (.ifCond .le 66, 3) := by decide +kernel
theorem d_M_spill_52 : decode b_M_spill 52 = .ok (.aload_n 0, 1) := by decide +kernel
theorem d_M_spill_53 : decode b_M_spill 53 = .ok (.getfield 156, 3) := by decide +kernel
theorem d_M_spill_56 : decode b_M_spill 56 = .ok (.iload_n 3, 1) := by decide +kernel
theorem d_M_spill_57 : decode b_M_spill 57 = .ok (.iload 9, 2) := by decide +kernel
theorem d_M_spill_59 : decode b_M_spill 59 = .ok (.iadd, 1) := by decide +kernel
theorem d_M_spill_60 : decode b_M_spill 60 = .ok (.iconst 1, 1) := by decide +kernel
theorem d_M_spill_61 : decode b_M_spill 61 = .ok (.isub, 1) := by decide +kernel
theorem d_M_spill_62 : decode b_M_spill 62 = .ok (.laload, 1) := by decide +kernel
theorem d_M_spill_63 : decode b_M_spill 63 = .ok (.lload 5, 2) := by decide +kernel
theorem d_M_spill_65 : decode b_M_spill 65 = .ok (.lcmp, 1) := by decide +kernel
theorem d_M_spill_66 : decode b_M_spill 66 = .ok (.ifCond .le 49, 3) := by decide +kernel
theorem d_M_spill_69 : decode b_M_spill 69 = .ok (.aload_n 0, 1) := by decide +kernel
theorem d_M_spill_70 : decode b_M_spill 70 = .ok (.getfield 156, 3) := by decide +kernel
theorem d_M_spill_73 : decode b_M_spill 73 = .ok (.iload_n 3, 1) := by decide +kernel
theorem d_M_spill_74 : decode b_M_spill 74 = .ok (.iload 9, 2) := by decide +kernel
theorem d_M_spill_76 : decode b_M_spill 76 = .ok (.iadd, 1) := by decide +kernel
theorem d_M_spill_77 : decode b_M_spill 77 = .ok (.aload_n 0, 1) := by decide +kernel
theorem d_M_spill_78 : decode b_M_spill 78 = .ok (.getfield 156, 3) := by decide +kernel
theorem d_M_spill_81 : decode b_M_spill 81 = .ok (.iload_n 3, 1) := by decide +kernel
theorem d_M_spill_82 : decode b_M_spill 82 = .ok (.iload 9, 2) := by decide +kernel
theorem d_M_spill_84 : decode b_M_spill 84 = .ok (.iadd, 1) := by decide +kernel
theorem d_M_spill_85 : decode b_M_spill 85 = .ok (.iconst 1, 1) := by decide +kernel
theorem d_M_spill_86 : decode b_M_spill 86 = .ok (.isub, 1) := by decide +kernel
theorem d_M_spill_87 : decode b_M_spill 87 = .ok (.laload, 1) := by decide +kernel
theorem d_M_spill_88 : decode b_M_spill 88 = .ok (.lastore, 1) := by decide +kernel
theorem d_M_spill_89 : decode b_M_spill 89 = .ok (.aload_n 0, 1) := by decide +kernel
theorem d_M_spill_90 : decode b_M_spill 90 = .ok (.getfield 159, 3) := by decide +kernel
theorem d_M_spill_93 : decode b_M_spill 93 = .ok (.iload_n 3, 1) := by decide +kernel
theorem d_M_spill_94 : decode b_M_spill 94 = .ok (.iload 9, 2) := by decide +kernel
theorem d_M_spill_96 : decode b_M_spill 96 = .ok (.iadd, 1) := by decide +kernel
theorem d_M_spill_97 : decode b_M_spill 97 = .ok (.aload_n 0, 1) := by decide +kernel
theorem d_M_spill_98 : decode b_M_spill 98 = .ok (.getfield 159, 3) := by decide +kernel
theorem d_M_spill_101 : decode b_M_spill 101 = .ok (.iload_n 3, 1) := by decide +kernel
theorem d_M_spill_102 : decode b_M_spill 102 = .ok (.iload 9, 2) := by decide +kernel
theorem d_M_spill_104 : decode b_M_spill 104 = .ok (.iadd, 1) := by decide +kernel
theorem d_M_spill_105 : decode b_M_spill 105 = .ok (.iconst 1, 1) := by decide +kernel
theorem d_M_spill_106 : decode b_M_spill 106 = .ok (.isub, 1) := by decide +kernel
theorem d_M_spill_107 : decode b_M_spill 107 = .ok (.laload, 1) := by decide +kernel
theorem d_M_spill_108 : decode b_M_spill 108 = .ok (.lastore, 1) := by decide +kernel
theorem d_M_spill_109 : decode b_M_spill 109 = .ok (.iinc 9 (-1), 3) := by decide +kernel
theorem d_M_spill_112 : decode b_M_spill 112 = .ok (.goto (-65), 3) := by decide +kernel
theorem d_M_spill_115 : decode b_M_spill 115 = .ok (.aload_n 0, 1) := by decide +kernel
theorem d_M_spill_116 : decode b_M_spill 116 = .ok (.getfield 156, 3) := by decide +kernel
theorem d_M_spill_119 : decode b_M_spill 119 = .ok (.iload_n 3, 1) := by decide +kernel
theorem d_M_spill_120 : decode b_M_spill 120 = .ok (.iload 9, 2) := by decide +kernel
theorem d_M_spill_122 : decode b_M_spill 122 = .ok (.iadd, 1) := by decide +kernel
theorem d_M_spill_123 : decode b_M_spill 123 = .ok (.lload 5, 2) := by decide +kernel
theorem d_M_spill_125 : decode b_M_spill 125 = .ok (.lastore, 1) := by decide +kernel
theorem d_M_spill_126 : decode b_M_spill 126 = .ok (.aload_n 0, 1) := by decide +kernel
theorem d_M_spill_127 : decode b_M_spill 127 = .ok (.getfield 159, 3) := by decide +kernel
theorem d_M_spill_130 : decode b_M_spill 130 = .ok (.iload_n 3, 1) := by decide +kernel
theorem d_M_spill_131 : decode b_M_spill 131 = .ok (.iload 9, 2) := by decide +kernel
theorem d_M_spill_133 : decode b_M_spill 133 = .ok (.iadd, 1) := by decide +kernel
theorem d_M_spill_134 : decode b_M_spill 134 = .ok (.lload 7, 2) := by decide +kernel
theorem d_M_spill_136 : decode b_M_spill 136 = .ok (.lastore, 1) := by decide +kernel
theorem d_M_spill_137 : decode b_M_spill 137 = .ok (.iinc 4 1, 3) := by decide +kernel
theorem d_M_spill_140 : decode b_M_spill 140 = .ok (.goto (-125), 3) := by decide +kernel
theorem d_M_spill_143 : decode b_M_spill 143 = .ok (.iload_n 1, 1) := by decide +kernel
theorem d_M_spill_144 : decode b_M_spill 144 = .ok (.bipush 65, 2) := by decide +kernel
theorem d_M_spill_146 : decode b_M_spill 146 = .ok (.imul, 1) := by decide +kernel
theorem d_M_spill_147 : decode b_M_spill 147 = .ok (.aload_n 0, 1) := by decide +kernel
theorem d_M_spill_148 : decode b_M_spill 148 = .ok (.getfield 171, 3) := by decide +kernel
theorem d_M_spill_151 : decode b_M_spill 151 = .ok (.iload_n 1, 1) := by decide +kernel
theorem d_M_spill_152 : decode b_M_spill 152 = .ok (.iaload, 1) := by decide +kernel
theorem d_M_spill_153 : decode b_M_spill 153 = .ok (.iadd, 1) := by decide +kernel
theorem d_M_spill_154 : decode b_M_spill 154 = .ok (.istore 4, 2) := by decide +kernel
theorem d_M_spill_156 : decode b_M_spill 156 = .ok (.aload_n 0, 1) := by decide +kernel
theorem d_M_spill_157 : decode b_M_spill 157 = .ok (.getfield 174, 3) := by decide +kernel
theorem d_M_spill_160 : decode b_M_spill 160 = .ok (.iload 4, 2) := by decide +kernel
theorem d_M_spill_162 : decode b_M_spill 162 = .ok (.aload_n 0, 1) := by decide +kernel
theorem d_M_spill_163 : decode b_M_spill 163 = .ok (.getfield 162, 3) := by decide +kernel
theorem d_M_spill_166 : decode b_M_spill 166 = .ok (.iload_n 1, 1) := by decide +kernel
theorem d_M_spill_167 : decode b_M_spill 167 = .ok (.iaload, 1) := by decide +kernel
theorem d_M_spill_168 : decode b_M_spill 168 = .ok (.iastore, 1) := by decide +kernel
theorem d_M_spill_169 : decode b_M_spill 169 = .ok (.iconst 0, 1) := by decide +kernel
theorem d_M_spill_170 : decode b_M_spill 170 = .ok (.istore 5, 2) := by decide +kernel
theorem d_M_spill_172 : decode b_M_spill 172 = .ok (.iload 5, 2) := by decide +kernel
theorem d_M_spill_174 : decode b_M_spill 174 = .ok (.iload_n 2, 1) := by decide +kernel
theorem d_M_spill_175 : decode b_M_spill 175 = .ok (.if_icmp .ge 69, 3) := by decide +kernel
theorem d_M_spill_178 : decode b_M_spill 178 = .ok (.aload_n 0, 1) := by decide +kernel
theorem d_M_spill_179 : decode b_M_spill 179 = .ok (.getfield 165, 3) := by decide +kernel
theorem d_M_spill_182 : decode b_M_spill 182 = .ok (.iload_n 1, 1) := by decide +kernel
theorem d_M_spill_183 : decode b_M_spill 183 = .ok (.bipush 64, 2) := by decide +kernel
theorem d_M_spill_185 : decode b_M_spill 185 = .ok (.imul, 1) := by decide +kernel
theorem d_M_spill_186 : decode b_M_spill 186 = .ok (.aload_n 0, 1) := by decide +kernel
theorem d_M_spill_187 : decode b_M_spill 187 = .ok (.getfield 162, 3) := by decide +kernel
theorem d_M_spill_190 : decode b_M_spill 190 = .ok (.iload_n 1, 1) := by decide +kernel
theorem d_M_spill_191 : decode b_M_spill 191 = .ok (.iaload, 1) := by decide +kernel
theorem d_M_spill_192 : decode b_M_spill 192 = .ok (.iadd, 1) := by decide +kernel
theorem d_M_spill_193 : decode b_M_spill 193 = .ok (.aload_n 0, 1) := by decide +kernel
theorem d_M_spill_194 : decode b_M_spill 194 = .ok (.getfield 156, 3) := by decide +kernel
theorem d_M_spill_197 : decode b_M_spill 197 = .ok (.iload_n 3, 1) := by decide +kernel
theorem d_M_spill_198 : decode b_M_spill 198 = .ok (.iload 5, 2) := by decide +kernel
theorem d_M_spill_200 : decode b_M_spill 200 = .ok (.iadd, 1) := by decide +kernel
theorem d_M_spill_201 : decode b_M_spill 201 = .ok (.laload, 1) := by decide +kernel
theorem d_M_spill_202 : decode b_M_spill 202 = .ok (.lastore, 1) := by decide +kernel
theorem d_M_spill_203 : decode b_M_spill 203 = .ok (.aload_n 0, 1) := by decide +kernel
theorem d_M_spill_204 : decode b_M_spill 204 = .ok (.getfield 168, 3) := by decide +kernel
theorem d_M_spill_207 : decode b_M_spill 207 = .ok (.iload_n 1, 1) := by decide +kernel
theorem d_M_spill_208 : decode b_M_spill 208 = .ok (.bipush 64, 2) := by decide +kernel
theorem d_M_spill_210 : decode b_M_spill 210 = .ok (.imul, 1) := by decide +kernel
theorem d_M_spill_211 : decode b_M_spill 211 = .ok (.aload_n 0, 1) := by decide +kernel
theorem d_M_spill_212 : decode b_M_spill 212 = .ok (.getfield 162, 3) := by decide +kernel
theorem d_M_spill_215 : decode b_M_spill 215 = .ok (.iload_n 1, 1) := by decide +kernel
theorem d_M_spill_216 : decode b_M_spill 216 = .ok (.iaload, 1) := by decide +kernel
theorem d_M_spill_217 : decode b_M_spill 217 = .ok (.iadd, 1) := by decide +kernel
theorem d_M_spill_218 : decode b_M_spill 218 = .ok (.aload_n 0, 1) := by decide +kernel
theorem d_M_spill_219 : decode b_M_spill 219 = .ok (.getfield 159, 3) := by decide +kernel
theorem d_M_spill_222 : decode b_M_spill 222 = .ok (.iload_n 3, 1) := by decide +kernel
theorem d_M_spill_223 : decode b_M_spill 223 = .ok (.iload 5, 2) := by decide +kernel
theorem d_M_spill_225 : decode b_M_spill 225 = .ok (.iadd, 1) := by decide +kernel
theorem d_M_spill_226 : decode b_M_spill 226 = .ok (.laload, 1) := by decide +kernel
theorem d_M_spill_227 : decode b_M_spill 227 = .ok (.lastore, 1) := by decide +kernel
theorem d_M_spill_228 : decode b_M_spill 228 = .ok (.aload_n 0, 1) := by decide +kernel
theorem d_M_spill_229 : decode b_M_spill 229 = .ok (.getfield 162, 3) := by decide +kernel
theorem d_M_spill_232 : decode b_M_spill 232 = .ok (.iload_n 1, 1) := by decide +kernel
theorem d_M_spill_233 : decode b_M_spill 233 = .ok (.dup2, 1) := by decide +kernel
theorem d_M_spill_234 : decode b_M_spill 234 = .ok (.iaload, 1) := by decide +kernel
theorem d_M_spill_235 : decode b_M_spill 235 = .ok (.iconst 1, 1) := by decide +kernel
theorem d_M_spill_236 : decode b_M_spill 236 = .ok (.iadd, 1) := by decide +kernel
theorem d_M_spill_237 : decode b_M_spill 237 = .ok (.iastore, 1) := by decide +kernel
theorem d_M_spill_238 : decode b_M_spill 238 = .ok (.iinc 5 1, 3) := by decide +kernel
theorem d_M_spill_241 : decode b_M_spill 241 = .ok (.goto (-69), 3) := by decide +kernel
theorem d_M_spill_244 : decode b_M_spill 244 = .ok (.aload_n 0, 1) := by decide +kernel
theorem d_M_spill_245 : decode b_M_spill 245 = .ok (.getfield 171, 3) := by decide +kernel
theorem d_M_spill_248 : decode b_M_spill 248 = .ok (.iload_n 1, 1) := by decide +kernel
theorem d_M_spill_249 : decode b_M_spill 249 = .ok (.dup2, 1) := by decide +kernel
theorem d_M_spill_250 : decode b_M_spill 250 = .ok (.iaload, 1) := by decide +kernel
theorem d_M_spill_251 : decode b_M_spill 251 = .ok (.iconst 1, 1) := by decide +kernel
theorem d_M_spill_252 : decode b_M_spill 252 = .ok (.iadd, 1) := by decide +kernel
theorem d_M_spill_253 : decode b_M_spill 253 = .ok (.iastore, 1) := by decide +kernel
theorem d_M_spill_254 : decode b_M_spill 254 = .ok (.aload_n 0, 1) := by decide +kernel
theorem d_M_spill_255 : decode b_M_spill 255 = .ok (.getfield 174, 3) := by decide +kernel
theorem d_M_spill_258 : decode b_M_spill 258 = .ok (.iload 4, 2) := by decide +kernel
theorem d_M_spill_260 : decode b_M_spill 260 = .ok (.iconst 1, 1) := by decide +kernel
theorem d_M_spill_261 : decode b_M_spill 261 = .ok (.iadd, 1) := by decide +kernel
theorem d_M_spill_262 : decode b_M_spill 262 = .ok (.aload_n 0, 1) := by decide +kernel
theorem d_M_spill_263 : decode b_M_spill 263 = .ok (.getfield 162, 3) := by decide +kernel
theorem d_M_spill_266 : decode b_M_spill 266 = .ok (.iload_n 1, 1) := by decide +kernel
theorem d_M_spill_267 : decode b_M_spill 267 = .ok (.iaload, 1) := by decide +kernel
theorem d_M_spill_268 : decode b_M_spill 268 = .ok (.iastore, 1) := by decide +kernel
theorem d_M_spill_269 : decode b_M_spill 269 = .ok (.aload_n 0, 1) := by decide +kernel
theorem d_M_spill_270 : decode b_M_spill 270 = .ok (.getfield 153, 3) := by decide +kernel
theorem d_M_spill_273 : decode b_M_spill 273 = .ok (.iload_n 1, 1) := by decide +kernel
theorem d_M_spill_274 : decode b_M_spill 274 = .ok (.iconst 0, 1) := by decide +kernel
theorem d_M_spill_275 : decode b_M_spill 275 = .ok (.iastore, 1) := by decide +kernel
theorem d_M_spill_276 : decode b_M_spill 276 = .ok (.return_, 1) := by decide +kernel
abbrev b_M_merge : ByteArray := prog_1_method_43_code
def y_M_merge : MethodName := ⟨"ShuffleMill", "merge", "([J[JI[III)I"⟩
theorem d_M_merge_0 : decode b_M_merge 0 = .ok (.iconst 0, 1) := by decide +kernel
theorem d_M_merge_1 : decode b_M_merge 1 = .ok (.istore 7, 2) := by decide +kernel
theorem d_M_merge_3 : decode b_M_merge 3 = .ok (.iload 7, 2) := by decide +kernel
theorem d_M_merge_5 : decode b_M_merge 5 = .ok (.iload 6, 2) := by decide +kernel
theorem d_M_merge_7 : decode b_M_merge 7 = .ok (.if_icmp .ge 24, 3) := by decide +kernel
theorem d_M_merge_10 : decode b_M_merge 10 = .ok (.aload_n 0, 1) := by decide +kernel
theorem d_M_merge_11 : decode b_M_merge 11 = .ok (.getfield 195, 3) := by decide +kernel
theorem d_M_merge_14 : decode b_M_merge 14 = .ok (.iload 7, 2) := by decide +kernel
theorem d_M_merge_16 : decode b_M_merge 16 = .ok (.aload 4, 2) := by decide +kernel
theorem d_M_merge_18 : decode b_M_merge 18 = .ok (.iload 5, 2) := by decide +kernel
theorem d_M_merge_20 : decode b_M_merge 20 = .ok (.iload 7, 2) := by decide +kernel
theorem d_M_merge_22 : decode b_M_merge 22 = .ok (.iadd, 1) := by decide +kernel
theorem d_M_merge_23 : decode b_M_merge 23 = .ok (.iaload, 1) := by decide +kernel
theorem d_M_merge_24 : decode b_M_merge 24 = .ok (.iastore, 1) := by decide +kernel
theorem d_M_merge_25 : decode b_M_merge 25 = .ok (.iinc 7 1, 3) := by decide +kernel
theorem d_M_merge_28 : decode b_M_merge 28 = .ok (.goto (-25), 3) := by decide +kernel
theorem d_M_merge_31 : decode b_M_merge 31 = .ok (.iconst 0, 1) := by decide +kernel
theorem d_M_merge_32 : decode b_M_merge 32 = .ok (.istore 7, 2) := by decide +kernel
theorem d_M_merge_34 : decode b_M_merge 34 = .ok (.iconst 1, 1) := by decide +kernel
theorem d_M_merge_35 : decode b_M_merge 35 = .ok (.istore 8, 2) := by decide +kernel
theorem d_M_merge_37 : decode b_M_merge 37 = .ok (.iload 8, 2) := by decide +kernel
theorem d_M_merge_39 : decode b_M_merge 39 = .ok (.ifCond .eq 152, 3) := by decide +kernel
theorem d_M_merge_42 : decode b_M_merge 42 = .ok (.iconst (-1), 1) := by decide +kernel
theorem d_M_merge_43 : decode b_M_merge 43 = .ok (.istore 9, 2) := by decide +kernel
theorem d_M_merge_45 : decode b_M_merge 45 = .ok (.iconst 0, 1) := by decide +kernel
theorem d_M_merge_46 : decode b_M_merge 46 = .ok (.istore 10, 2) := by decide +kernel
theorem d_M_merge_48 : decode b_M_merge 48 = .ok (.iload 10, 2) := by decide +kernel
theorem d_M_merge_50 : decode b_M_merge 50 = .ok (.iload 6, 2) := by decide +kernel
theorem d_M_merge_52 : decode b_M_merge 52 = .ok (.if_icmp .ge 65, 3) := by decide +kernel
theorem d_M_merge_55 : decode b_M_merge 55 = .ok (.aload_n 0, 1) := by decide +kernel
theorem d_M_merge_56 : decode b_M_merge 56 = .ok (.getfield 195, 3) := by decide +kernel
theorem d_M_merge_59 : decode b_M_merge 59 = .ok (.iload 10, 2) := by decide +kernel
theorem d_M_merge_61 : decode b_M_merge 61 = .ok (.iaload, 1) := by decide +kernel
theorem d_M_merge_62 : decode b_M_merge 62 = .ok (.aload 4, 2) := by decide +kernel
theorem d_M_merge_64 : decode b_M_merge 64 = .ok (.iload 5, 2) := by decide +kernel
theorem d_M_merge_66 : decode b_M_merge 66 = .ok (.iload 10, 2) := by decide +kernel
theorem d_M_merge_68 : decode b_M_merge 68 = .ok (.iadd, 1) := by decide +kernel
theorem d_M_merge_69 : decode b_M_merge 69 = .ok (.iconst 1, 1) := by decide +kernel
theorem d_M_merge_70 : decode b_M_merge 70 = .ok (.iadd, 1) := by decide +kernel
theorem d_M_merge_71 : decode b_M_merge 71 = .ok (.iaload, 1) := by decide +kernel
theorem d_M_merge_72 : decode b_M_merge 72 = .ok (.if_icmp .ge 39, 3) := by decide +kernel
theorem d_M_merge_75 : decode b_M_merge 75 = .ok (.iload 9, 2) := by decide +kernel
theorem d_M_merge_77 : decode b_M_merge 77 = .ok (.iconst (-1), 1) := by decide +kernel
theorem d_M_merge_78 : decode b_M_merge 78 = .ok (.if_icmp .eq 29, 3) := by decide +kernel
theorem d_M_merge_81 : decode b_M_merge 81 = .ok (.aload_n 1, 1) := by decide +kernel
theorem d_M_merge_82 : decode b_M_merge 82 = .ok (.iload_n 3, 1) := by decide +kernel
theorem d_M_merge_83 : decode b_M_merge 83 = .ok (.aload_n 0, 1) := by decide +kernel
theorem d_M_merge_84 : decode b_M_merge 84 = .ok (.getfield 195, 3) := by decide +kernel
theorem d_M_merge_87 : decode b_M_merge 87 = .ok (.iload 10, 2) := by decide +kernel
theorem d_M_merge_89 : decode b_M_merge 89 = .ok (.iaload, 1) := by decide +kernel
theorem d_M_merge_90 : decode b_M_merge 90 = .ok (.iadd, 1) := by decide +kernel
theorem d_M_merge_91 : decode b_M_merge 91 = .ok (.laload, 1) := by decide +kernel
theorem d_M_merge_92 : decode b_M_merge 92 = .ok (.aload_n 1, 1) := by decide +kernel
theorem d_M_merge_93 : decode b_M_merge 93 = .ok (.iload_n 3, 1) := by decide +kernel
theorem d_M_merge_94 : decode b_M_merge 94 = .ok (.aload_n 0, 1) := by decide +kernel
theorem d_M_merge_95 : decode b_M_merge 95 = .ok (.getfield 195, 3) := by decide +kernel
theorem d_M_merge_98 : decode b_M_merge 98 = .ok (.iload 9, 2) := by decide +kernel
theorem d_M_merge_100 : decode b_M_merge 100 = .ok (.iaload, 1) := by decide +kernel
theorem d_M_merge_101 : decode b_M_merge 101 = .ok (.iadd, 1) := by decide +kernel
theorem d_M_merge_102 : decode b_M_merge 102 = .ok (.laload, 1) := by decide +kernel
theorem d_M_merge_103 : decode b_M_merge 103 = .ok (.lcmp, 1) := by decide +kernel
theorem d_M_merge_104 : decode b_M_merge 104 = .ok (.ifCond .ge 7, 3) := by decide +kernel
theorem d_M_merge_107 : decode b_M_merge 107 = .ok (.iload 10, 2) := by decide +kernel
theorem d_M_merge_109 : decode b_M_merge 109 = .ok (.istore 9, 2) := by decide +kernel
theorem d_M_merge_111 : decode b_M_merge 111 = .ok (.iinc 10 1, 3) := by decide +kernel
theorem d_M_merge_114 : decode b_M_merge 114 = .ok (.goto (-66), 3) := by decide +kernel
theorem d_M_merge_117 : decode b_M_merge 117 = .ok (.iload 9, 2) := by decide +kernel
theorem d_M_merge_119 : decode b_M_merge 119 = .ok (.iconst (-1), 1) := by decide +kernel
theorem d_M_merge_120 : decode b_M_merge 120 = .ok (.if_icmp .eq 7, 3) := by decide +kernel
theorem d_M_merge_123 : decode b_M_merge 123 = .ok (.iconst 1, 1) := by decide +kernel
theorem d_M_merge_124 : decode b_M_merge 124 = .ok (.goto 4, 3) := by decide +kernel
theorem d_M_merge_127 : decode b_M_merge 127 = .ok (.iconst 0, 1) := by decide +kernel
theorem d_M_merge_128 : decode b_M_merge 128 = .ok (.istore 8, 2) := by decide +kernel
theorem d_M_merge_130 : decode b_M_merge 130 = .ok (.iload 8, 2) := by decide +kernel
theorem d_M_merge_132 : decode b_M_merge 132 = .ok (.ifCond .ne 6, 3) := by decide +kernel
theorem d_M_merge_135 : decode b_M_merge 135 = .ok (.goto (-98), 3) := by decide +kernel
theorem d_M_merge_138 : decode b_M_merge 138 = .ok (.aload_n 0, 1) := by decide +kernel
theorem d_M_merge_139 : decode b_M_merge 139 = .ok (.getfield 189, 3) := by decide +kernel
theorem d_M_merge_142 : decode b_M_merge 142 = .ok (.iload 7, 2) := by decide +kernel
theorem d_M_merge_144 : decode b_M_merge 144 = .ok (.aload_n 1, 1) := by decide +kernel
theorem d_M_merge_145 : decode b_M_merge 145 = .ok (.iload_n 3, 1) := by decide +kernel
theorem d_M_merge_146 : decode b_M_merge 146 = .ok (.aload_n 0, 1) := by decide +kernel
theorem d_M_merge_147 : decode b_M_merge 147 = .ok (.getfield 195, 3) := by decide +kernel
theorem d_M_merge_150 : decode b_M_merge 150 = .ok (.iload 9, 2) := by decide +kernel
theorem d_M_merge_152 : decode b_M_merge 152 = .ok (.iaload, 1) := by decide +kernel
theorem d_M_merge_153 : decode b_M_merge 153 = .ok (.iadd, 1) := by decide +kernel
theorem d_M_merge_154 : decode b_M_merge 154 = .ok (.laload, 1) := by decide +kernel
theorem d_M_merge_155 : decode b_M_merge 155 = .ok (.lastore, 1) := by decide +kernel
theorem d_M_merge_156 : decode b_M_merge 156 = .ok (.aload_n 0, 1) := by decide +kernel
theorem d_M_merge_157 : decode b_M_merge 157 = .ok (.getfield 192, 3) := by decide +kernel
theorem d_M_merge_160 : decode b_M_merge 160 = .ok (.iload 7, 2) := by decide +kernel
theorem d_M_merge_162 : decode b_M_merge 162 = .ok (.aload_n 2, 1) := by decide +kernel
theorem d_M_merge_163 : decode b_M_merge 163 = .ok (.iload_n 3, 1) := by decide +kernel
theorem d_M_merge_164 : decode b_M_merge 164 = .ok (.aload_n 0, 1) := by decide +kernel
theorem d_M_merge_165 : decode b_M_merge 165 = .ok (.getfield 195, 3) := by decide +kernel
theorem d_M_merge_168 : decode b_M_merge 168 = .ok (.iload 9, 2) := by decide +kernel
theorem d_M_merge_170 : decode b_M_merge 170 = .ok (.iaload, 1) := by decide +kernel
theorem d_M_merge_171 : decode b_M_merge 171 = .ok (.iadd, 1) := by decide +kernel
theorem d_M_merge_172 : decode b_M_merge 172 = .ok (.laload, 1) := by decide +kernel
theorem d_M_merge_173 : decode b_M_merge 173 = .ok (.lastore, 1) := by decide +kernel
theorem d_M_merge_174 : decode b_M_merge 174 = .ok (.aload_n 0, 1) := by decide +kernel
theorem d_M_merge_175 : decode b_M_merge 175 = .ok (.getfield 195, 3) := by decide +kernel
theorem d_M_merge_178 : decode b_M_merge 178 = .ok (.iload 9, 2) := by decide +kernel
theorem d_M_merge_180 : decode b_M_merge 180 = .ok (.dup2, 1) := by decide +kernel
theorem d_M_merge_181 : decode b_M_merge 181 = .ok (.iaload, 1) := by decide +kernel
theorem d_M_merge_182 : decode b_M_merge 182 = .ok (.iconst 1, 1) := by decide +kernel
theorem d_M_merge_183 : decode b_M_merge 183 = .ok (.iadd, 1) := by decide +kernel
theorem d_M_merge_184 : decode b_M_merge 184 = .ok (.iastore, 1) := by decide +kernel
theorem d_M_merge_185 : decode b_M_merge 185 = .ok (.iinc 7 1, 3) := by decide +kernel
theorem d_M_merge_188 : decode b_M_merge 188 = .ok (.goto (-151), 3) := by decide +kernel
theorem d_M_merge_191 : decode b_M_merge 191 = .ok (.iload 7, 2) := by decide +kernel
theorem d_M_merge_193 : decode b_M_merge 193 = .ok (.ireturn, 1) := by decide +kernel
abbrev b_M_endOfKey : ByteArray := prog_1_method_44_code
def y_M_endOfKey : MethodName := ⟨"ShuffleMill", "endOfKey", "(II)I"⟩
theorem d_M_endOfKey_0 : decode b_M_endOfKey 0 = .ok (.iload_n 1, 1) := by decide +kernel
theorem d_M_endOfKey_1 : decode b_M_endOfKey 1 = .ok (.iconst 1, 1) := by decide +kernel
theorem d_M_endOfKey_2 : decode b_M_endOfKey 2 = .ok (.iadd, 1) := by decide +kernel
theorem d_M_endOfKey_3 : decode b_M_endOfKey 3 = .ok (.istore_n 3, 1) := by decide +kernel
theorem d_M_endOfKey_4 : decode b_M_endOfKey 4 = .ok (.iload_n 3, 1) := by decide +kernel
theorem d_M_endOfKey_5 : decode b_M_endOfKey 5 = .ok (.iload_n 2, 1) := by decide +kernel
theorem d_M_endOfKey_6 : decode b_M_endOfKey 6 = .ok (.if_icmp .ge 25, 3) := by decide +kernel
theorem d_M_endOfKey_9 : decode b_M_endOfKey 9 = .ok (.aload_n 0, 1) := by decide +kernel
theorem d_M_endOfKey_10 : decode b_M_endOfKey 10 = .ok (.getfield 189, 3) := by decide +kernel
theorem d_M_endOfKey_13 : decode b_M_endOfKey 13 = .ok (.iload_n 3, 1) := by decide +kernel
theorem d_M_endOfKey_14 : decode b_M_endOfKey 14 = .ok (.laload, 1) := by decide +kernel
theorem d_M_endOfKey_15 : decode b_M_endOfKey 15 = .ok (.aload_n 0, 1) := by decide +kernel
theorem d_M_endOfKey_16 : decode b_M_endOfKey 16 = .ok (.getfield 189, 3) := by decide +kernel
theorem d_M_endOfKey_19 : decode b_M_endOfKey 19 = .ok (.iload_n 1, 1) := by decide +kernel
theorem d_M_endOfKey_20 : decode b_M_endOfKey 20 = .ok (.laload, 1) := by decide +kernel
theorem d_M_endOfKey_21 : decode b_M_endOfKey 21 = .ok (.lcmp, 1) := by decide +kernel
theorem d_M_endOfKey_22 : decode b_M_endOfKey 22 = .ok (.ifCond .ne 9, 3) := by decide +kernel
theorem d_M_endOfKey_25 : decode b_M_endOfKey 25 = .ok (.iinc 3 1, 3) := by decide +kernel
theorem d_M_endOfKey_28 : decode b_M_endOfKey 28 = .ok (.goto (-24), 3) := by decide +kernel
theorem d_M_endOfKey_31 : decode b_M_endOfKey 31 = .ok (.iload_n 3, 1) := by decide +kernel
theorem d_M_endOfKey_32 : decode b_M_endOfKey 32 = .ok (.ireturn, 1) := by decide +kernel
abbrev b_M_keep : ByteArray := prog_1_method_45_code
def y_M_keep : MethodName := ⟨"ShuffleMill", "keep", "(II)V"⟩
theorem d_M_keep_0 : decode b_M_keep 0 = .ok (.aload_n 0, 1) := by decide +kernel
theorem d_M_keep_1 : decode b_M_keep 1 = .ok (.aload_n 0, 1) := by decide +kernel
theorem d_M_keep_2 : decode b_M_keep 2 = .ok (.getfield 165, 3) := by decide +kernel
theorem d_M_keep_5 : decode b_M_keep 5 = .ok (.aload_n 0, 1) := by decide +kernel
theorem d_M_keep_6 : decode b_M_keep 6 = .ok (.getfield 168, 3) := by decide +kernel
theorem d_M_keep_9 : decode b_M_keep 9 = .ok (.iload_n 1, 1) := by decide +kernel
theorem d_M_keep_10 : decode b_M_keep 10 = .ok (.bipush 64, 2) := by decide +kernel
theorem d_M_keep_12 : decode b_M_keep 12 = .ok (.imul, 1) := by decide +kernel
theorem d_M_keep_13 : decode b_M_keep 13 = .ok (.aload_n 0, 1) := by decide +kernel
theorem d_M_keep_14 : decode b_M_keep 14 = .ok (.getfield 174, 3) := by decide +kernel
theorem d_M_keep_17 : decode b_M_keep 17 = .ok (.iload_n 1, 1) := by decide +kernel
theorem d_M_keep_18 : decode b_M_keep 18 = .ok (.bipush 65, 2) := by decide +kernel
theorem d_M_keep_20 : decode b_M_keep 20 = .ok (.imul, 1) := by decide +kernel
theorem d_M_keep_21 : decode b_M_keep 21 = .ok (.aload_n 0, 1) := by decide +kernel
theorem d_M_keep_22 : decode b_M_keep 22 = .ok (.getfield 171, 3) := by decide +kernel
theorem d_M_keep_25 : decode b_M_keep 25 = .ok (.iload_n 1, 1) := by decide +kernel
theorem d_M_keep_26 : decode b_M_keep 26 = .ok (.iaload, 1) := by decide +kernel
theorem d_M_keep_27 : decode b_M_keep 27 = .ok (.invokevirtual 391, 3) := by decide +kernel
theorem d_M_keep_30 : decode b_M_keep 30 = .ok (.istore_n 3, 1) := by decide +kernel
theorem d_M_keep_31 : decode b_M_keep 31 = .ok (.aload_n 0, 1) := by decide +kernel
theorem d_M_keep_32 : decode b_M_keep 32 = .ok (.getfield 117, 3) := by decide +kernel
theorem d_M_keep_35 : decode b_M_keep 35 = .ok (.iload_n 1, 1) := by decide +kernel
theorem d_M_keep_36 : decode b_M_keep 36 = .ok (.iaload, 1) := by decide +kernel
theorem d_M_keep_37 : decode b_M_keep 37 = .ok (.istore 4, 2) := by decide +kernel
theorem d_M_keep_39 : decode b_M_keep 39 = .ok (.iload 4, 2) := by decide +kernel
theorem d_M_keep_41 : decode b_M_keep 41 = .ok (.istore 5, 2) := by decide +kernel
theorem d_M_keep_43 : decode b_M_keep 43 = .ok (.aload_n 0, 1) := by decide +kernel
theorem d_M_keep_44 : decode b_M_keep 44 = .ok (.invokevirtual 256, 3) := by decide +kernel
theorem d_M_keep_47 : decode b_M_keep 47 = .ok (.iconst 3, 1) := by decide +kernel
theorem d_M_keep_48 : decode b_M_keep 48 = .ok (.imul, 1) := by decide +kernel
theorem d_M_keep_49 : decode b_M_keep 49 = .ok (.iconst 1, 1) := by decide +kernel
theorem d_M_keep_50 : decode b_M_keep 50 = .ok (.iadd, 1) := by decide +kernel
theorem d_M_keep_51 : decode b_M_keep 51 = .ok (.istore 6, 2) := by decide +kernel
theorem d_M_keep_53 : decode b_M_keep 53 = .ok (.aload_n 0, 1) := by decide +kernel
theorem d_M_keep_54 : decode b_M_keep 54 = .ok (.getfield 32, 3) := by decide +kernel
theorem d_M_keep_57 : decode b_M_keep 57 = .ok (.iload 6, 2) := by decide +kernel
theorem d_M_keep_59 : decode b_M_keep 59 = .ok (.iaload, 1) := by decide +kernel
theorem d_M_keep_60 : decode b_M_keep 60 = .ok (.ifCond .ne 67, 3) := by decide +kernel
theorem d_M_keep_63 : decode b_M_keep 63 = .ok (.iload 5, 2) := by decide +kernel
theorem d_M_keep_65 : decode b_M_keep 65 = .ok (.iload_n 3, 1) := by decide +kernel
theorem d_M_keep_66 : decode b_M_keep 66 = .ok (.iadd, 1) := by decide +kernel
theorem d_M_keep_67 : decode b_M_keep 67 = .ok (.sipush 1000, 3) := by decide +kernel
theorem d_M_keep_70 : decode b_M_keep 70 = .ok (.if_icmp .le 9, 3) := by decide +kernel
theorem d_M_keep_73 : decode b_M_keep 73 = .ok (.aload_n 0, 1) := by decide +kernel
theorem d_M_keep_74 : decode b_M_keep 74 = .ok (.iload_n 1, 1) := by decide +kernel
theorem d_M_keep_75 : decode b_M_keep 75 = .ok (.invokevirtual 388, 3) := by decide +kernel
theorem d_M_keep_78 : decode b_M_keep 78 = .ok (.return_, 1) := by decide +kernel
theorem d_M_keep_79 : decode b_M_keep 79 = .ok (.iconst 0, 1) := by decide +kernel
theorem d_M_keep_80 : decode b_M_keep 80 = .ok (.istore 7, 2) := by decide +kernel
theorem d_M_keep_82 : decode b_M_keep 82 = .ok (.iload 7, 2) := by decide +kernel
theorem d_M_keep_84 : decode b_M_keep 84 = .ok (.iload_n 3, 1) := by decide +kernel
theorem d_M_keep_85 : decode b_M_keep 85 = .ok (.if_icmp .ge 33, 3) := by decide +kernel
theorem d_M_keep_88 : decode b_M_keep 88 = .ok (.aload_n 0, 1) := by decide +kernel
theorem d_M_keep_89 : decode b_M_keep 89 = .ok (.iload_n 1, 1) := by decide +kernel
theorem d_M_keep_90 : decode b_M_keep 90 = .ok (.iload 5, 2) := by decide +kernel
theorem d_M_keep_92 : decode b_M_keep 92 = .ok (.iload 7, 2) := by decide +kernel
theorem d_M_keep_94 : decode b_M_keep 94 = .ok (.iadd, 1) := by decide +kernel
theorem d_M_keep_95 : decode b_M_keep 95 = .ok (.aload_n 0, 1) := by decide +kernel
theorem d_M_keep_96 : decode b_M_keep 96 = .ok (.getfield 189, 3) := by decide +kernel
theorem d_M_keep_99 : decode b_M_keep 99 = .ok (.iload 7, 2) := by decide +kernel
theorem d_M_keep_101 : decode b_M_keep 101 = .ok (.laload, 1) := by decide +kernel
theorem d_M_keep_102 : decode b_M_keep 102 = .ok (.aload_n 0, 1) := by decide +kernel
theorem d_M_keep_103 : decode b_M_keep 103 = .ok (.getfield 192, 3) := by decide +kernel
theorem d_M_keep_106 : decode b_M_keep 106 = .ok (.iload 7, 2) := by decide +kernel
theorem d_M_keep_108 : decode b_M_keep 108 = .ok (.laload, 1) := by decide +kernel
theorem d_M_keep_109 : decode b_M_keep 109 = .ok (.invokevirtual 395, 3) := by decide +kernel
theorem d_M_keep_112 : decode b_M_keep 112 = .ok (.iinc 7 1, 3) := by decide +kernel
theorem d_M_keep_115 : decode b_M_keep 115 = .ok (.goto (-33), 3) := by decide +kernel
theorem d_M_keep_118 : decode b_M_keep 118 = .ok (.iload 5, 2) := by decide +kernel
theorem d_M_keep_120 : decode b_M_keep 120 = .ok (.iload_n 3, 1) := by decide +kernel
theorem d_M_keep_121 : decode b_M_keep 121 = .ok (.iadd, 1) := by decide +kernel
theorem d_M_keep_122 : decode b_M_keep 122 = .ok (.istore 5, 2) := by decide +kernel
theorem d_M_keep_124 : decode b_M_keep 124 = .ok (.goto 111, 3) := by decide +kernel
theorem d_M_keep_127 : decode b_M_keep 127 = .ok (.iconst 0, 1) := by decide +kernel
theorem d_M_keep_128 : decode b_M_keep 128 = .ok (.istore 7, 2) := by decide +kernel
theorem d_M_keep_130 : decode b_M_keep 130 = .ok (.iload 7, 2) := by decide +kernel
theorem d_M_keep_132 : decode b_M_keep 132 = .ok (.iload_n 3, 1) := by decide +kernel
theorem d_M_keep_133 : decode b_M_keep 133 = .ok (.if_icmp .ge 102, 3) := by decide +kernel
theorem d_M_keep_136 : decode b_M_keep 136 = .ok (.aload_n 0, 1) := by decide +kernel
theorem d_M_keep_137 : decode b_M_keep 137 = .ok (.iload 7, 2) := by decide +kernel
theorem d_M_keep_139 : decode b_M_keep 139 = .ok (.iload_n 3, 1) := by decide +kernel
theorem d_M_keep_140 : decode b_M_keep 140 = .ok (.invokevirtual 399, 3) := by decide +kernel
theorem d_M_keep_143 : decode b_M_keep 143 = .ok (.istore 8, 2) := by decide +kernel
theorem d_M_keep_145 : decode b_M_keep 145 = .ok (.aload_n 0, 1) := by decide +kernel
theorem d_M_keep_146 : decode b_M_keep 146 = .ok (.iload 6, 2) := by decide +kernel
theorem d_M_keep_148 : decode b_M_keep 148 = .ok (.iload 7, 2) := by decide +kernel
theorem d_M_keep_150 : decode b_M_keep 150 = .ok (.iload 8, 2) := by decide +kernel
theorem d_M_keep_152 : decode b_M_keep 152 = .ok (.invokevirtual 403, 3) := by decide +kernel
theorem d_M_keep_155 : decode b_M_keep 155 = .ok (.ifCond .eq 16, 3) := by decide +kernel
theorem d_M_keep_158 : decode b_M_keep 158 = .ok (.iload 5, 2) := by decide +kernel
theorem d_M_keep_160 : decode b_M_keep 160 = .ok (.aload_n 0, 1) := by decide +kernel
theorem d_M_keep_161 : decode b_M_keep 161 = .ok (.getfield 215, 3) := by decide +kernel
theorem d_M_keep_164 : decode b_M_keep 164 = .ok (.iadd, 1) := by decide +kernel
theorem d_M_keep_165 : decode b_M_keep 165 = .ok (.sipush 1000, 3) := by decide +kernel
theorem d_M_keep_168 : decode b_M_keep 168 = .ok (.if_icmp .le 9, 3) := by decide +kernel
theorem d_M_keep_171 : decode b_M_keep 171 = .ok (.aload_n 0, 1) := by decide +kernel
theorem d_M_keep_172 : decode b_M_keep 172 = .ok (.iload_n 1, 1) := by decide +kernel
theorem d_M_keep_173 : decode b_M_keep 173 = .ok (.invokevirtual 388, 3) := by decide +kernel
theorem d_M_keep_176 : decode b_M_keep 176 = .ok (.return_, 1) := by decide +kernel
theorem d_M_keep_177 : decode b_M_keep 177 = .ok (.iconst 0, 1) := by decide +kernel
theorem d_M_keep_178 : decode b_M_keep 178 = .ok (.istore 9, 2) := by decide +kernel
theorem d_M_keep_180 : decode b_M_keep 180 = .ok (.iload 9, 2) := by decide +kernel
theorem d_M_keep_182 : decode b_M_keep 182 = .ok (.aload_n 0, 1) := by decide +kernel
theorem d_M_keep_183 : decode b_M_keep 183 = .ok (.getfield 215, 3) := by decide +kernel
theorem d_M_keep_186 : decode b_M_keep 186 = .ok (.if_icmp .ge 33, 3) := by decide +kernel
theorem d_M_keep_189 : decode b_M_keep 189 = .ok (.aload_n 0, 1) := by decide +kernel
theorem d_M_keep_190 : decode b_M_keep 190 = .ok (.iload_n 1, 1) := by decide +kernel
theorem d_M_keep_191 : decode b_M_keep 191 = .ok (.iload 5, 2) := by decide +kernel
theorem d_M_keep_193 : decode b_M_keep 193 = .ok (.iload 9, 2) := by decide +kernel
theorem d_M_keep_195 : decode b_M_keep 195 = .ok (.iadd, 1) := by decide +kernel
theorem d_M_keep_196 : decode b_M_keep 196 = .ok (.aload_n 0, 1) := by decide +kernel
theorem d_M_keep_197 : decode b_M_keep 197 = .ok (.getfield 57, 3) := by decide +kernel
theorem d_M_keep_200 : decode b_M_keep 200 = .ok (.iload 9, 2) := by decide +kernel
theorem d_M_keep_202 : decode b_M_keep 202 = .ok (.laload, 1) := by decide +kernel
theorem d_M_keep_203 : decode b_M_keep 203 = .ok (.aload_n 0, 1) := by decide +kernel
theorem d_M_keep_204 : decode b_M_keep 204 = .ok (.getfield 60, 3) := by decide +kernel
theorem d_M_keep_207 : decode b_M_keep 207 = .ok (.iload 9, 2) := by decide +kernel
theorem d_M_keep_209 : decode b_M_keep 209 = .ok (.laload, 1) := by decide +kernel
theorem d_M_keep_210 : decode b_M_keep 210 = .ok (.invokevirtual 395, 3) := by decide +kernel
theorem d_M_keep_213 : decode b_M_keep 213 = .ok (.iinc 9 1, 3) := by decide +kernel
theorem d_M_keep_216 : decode b_M_keep 216 = .ok (.goto (-36), 3) := by decide +kernel
theorem d_M_keep_219 : decode b_M_keep 219 = .ok (.iload 5, 2) := by decide +kernel
theorem d_M_keep_221 : decode b_M_keep 221 = .ok (.aload_n 0, 1) := by decide +kernel
theorem d_M_keep_222 : decode b_M_keep 222 = .ok (.getfield 215, 3) := by decide +kernel
theorem d_M_keep_225 : decode b_M_keep 225 = .ok (.iadd, 1) := by decide +kernel
theorem d_M_keep_226 : decode b_M_keep 226 = .ok (.istore 5, 2) := by decide +kernel
theorem d_M_keep_228 : decode b_M_keep 228 = .ok (.iload 8, 2) := by decide +kernel
theorem d_M_keep_230 : decode b_M_keep 230 = .ok (.istore 7, 2) := by decide +kernel
theorem d_M_keep_232 : decode b_M_keep 232 = .ok (.goto (-102), 3) := by decide +kernel
theorem d_M_keep_235 : decode b_M_keep 235 = .ok (.aload_n 0, 1) := by decide +kernel
theorem d_M_keep_236 : decode b_M_keep 236 = .ok (.getfield 117, 3) := by decide +kernel
theorem d_M_keep_239 : decode b_M_keep 239 = .ok (.iload_n 1, 1) := by decide +kernel
theorem d_M_keep_240 : decode b_M_keep 240 = .ok (.iload 5, 2) := by decide +kernel
theorem d_M_keep_242 : decode b_M_keep 242 = .ok (.iastore, 1) := by decide +kernel
theorem d_M_keep_243 : decode b_M_keep 243 = .ok (.aload_n 0, 1) := by decide +kernel
theorem d_M_keep_244 : decode b_M_keep 244 = .ok (.getfield 120, 3) := by decide +kernel
theorem d_M_keep_247 : decode b_M_keep 247 = .ok (.iload_n 1, 1) := by decide +kernel
theorem d_M_keep_248 : decode b_M_keep 248 = .ok (.bipush 38, 2) := by decide +kernel
theorem d_M_keep_250 : decode b_M_keep 250 = .ok (.imul, 1) := by decide +kernel
theorem d_M_keep_251 : decode b_M_keep 251 = .ok (.iload_n 2, 1) := by decide +kernel
theorem d_M_keep_252 : decode b_M_keep 252 = .ok (.iadd, 1) := by decide +kernel
theorem d_M_keep_253 : decode b_M_keep 253 = .ok (.iload 4, 2) := by decide +kernel
theorem d_M_keep_255 : decode b_M_keep 255 = .ok (.iastore, 1) := by decide +kernel
theorem d_M_keep_256 : decode b_M_keep 256 = .ok (.aload_n 0, 1) := by decide +kernel
theorem d_M_keep_257 : decode b_M_keep 257 = .ok (.getfield 123, 3) := by decide +kernel
theorem d_M_keep_260 : decode b_M_keep 260 = .ok (.iload_n 1, 1) := by decide +kernel
theorem d_M_keep_261 : decode b_M_keep 261 = .ok (.bipush 38, 2) := by decide +kernel
theorem d_M_keep_263 : decode b_M_keep 263 = .ok (.imul, 1) := by decide +kernel
theorem d_M_keep_264 : decode b_M_keep 264 = .ok (.iload_n 2, 1) := by decide +kernel
theorem d_M_keep_265 : decode b_M_keep 265 = .ok (.iadd, 1) := by decide +kernel
theorem d_M_keep_266 : decode b_M_keep 266 = .ok (.iload 5, 2) := by decide +kernel
theorem d_M_keep_268 : decode b_M_keep 268 = .ok (.iload 4, 2) := by decide +kernel
theorem d_M_keep_270 : decode b_M_keep 270 = .ok (.isub, 1) := by decide +kernel
theorem d_M_keep_271 : decode b_M_keep 271 = .ok (.iastore, 1) := by decide +kernel
theorem d_M_keep_272 : decode b_M_keep 272 = .ok (.aload_n 0, 1) := by decide +kernel
theorem d_M_keep_273 : decode b_M_keep 273 = .ok (.getfield 126, 3) := by decide +kernel
theorem d_M_keep_276 : decode b_M_keep 276 = .ok (.iload_n 1, 1) := by decide +kernel
theorem d_M_keep_277 : decode b_M_keep 277 = .ok (.bipush 38, 2) := by decide +kernel
theorem d_M_keep_279 : decode b_M_keep 279 = .ok (.imul, 1) := by decide +kernel
theorem d_M_keep_280 : decode b_M_keep 280 = .ok (.iload_n 2, 1) := by decide +kernel
theorem d_M_keep_281 : decode b_M_keep 281 = .ok (.iadd, 1) := by decide +kernel
theorem d_M_keep_282 : decode b_M_keep 282 = .ok (.aload_n 0, 1) := by decide +kernel
theorem d_M_keep_283 : decode b_M_keep 283 = .ok (.iload_n 1, 1) := by decide +kernel
theorem d_M_keep_284 : decode b_M_keep 284 = .ok (.iload 4, 2) := by decide +kernel
theorem d_M_keep_286 : decode b_M_keep 286 = .ok (.iload 5, 2) := by decide +kernel
theorem d_M_keep_288 : decode b_M_keep 288 = .ok (.iload 4, 2) := by decide +kernel
theorem d_M_keep_290 : decode b_M_keep 290 = .ok (.isub, 1) := by decide +kernel
theorem d_M_keep_291 : decode b_M_keep 291 = .ok (.invokevirtual 407, 3) := by decide +kernel
theorem d_M_keep_294 : decode b_M_keep 294 = .ok (.lastore, 1) := by decide +kernel
theorem d_M_keep_295 : decode b_M_keep 295 = .ok (.aload_n 0, 1) := by decide +kernel
theorem d_M_keep_296 : decode b_M_keep 296 = .ok (.iload_n 1, 1) := by decide +kernel
theorem d_M_keep_297 : decode b_M_keep 297 = .ok (.iload_n 2, 1) := by decide +kernel
theorem d_M_keep_298 : decode b_M_keep 298 = .ok (.iload 5, 2) := by decide +kernel
theorem d_M_keep_300 : decode b_M_keep 300 = .ok (.iload 4, 2) := by decide +kernel
theorem d_M_keep_302 : decode b_M_keep 302 = .ok (.isub, 1) := by decide +kernel
theorem d_M_keep_303 : decode b_M_keep 303 = .ok (.invokevirtual 372, 3) := by decide +kernel
theorem d_M_keep_306 : decode b_M_keep 306 = .ok (.return_, 1) := by decide +kernel
abbrev b_M_lay : ByteArray := prog_1_method_46_code
def y_M_lay : MethodName := ⟨"ShuffleMill", "lay", "(IIJJ)V"⟩
theorem d_M_lay_0 : decode b_M_lay 0 = .ok (.aload_n 0, 1) := by decide +kernel
theorem d_M_lay_1 : decode b_M_lay 1 = .ok (.getfield 129, 3) := by decide +kernel
theorem d_M_lay_4 : decode b_M_lay 4 = .ok (.iload_n 1, 1) := by decide +kernel
theorem d_M_lay_5 : decode b_M_lay 5 = .ok (.sipush 1000, 3) := by decide +kernel
theorem d_M_lay_8 : decode b_M_lay 8 = .ok (.imul, 1) := by decide +kernel
theorem d_M_lay_9 : decode b_M_lay 9 = .ok (.iload_n 2, 1) := by decide +kernel
theorem d_M_lay_10 : decode b_M_lay 10 = .ok (.iadd, 1) := by decide +kernel
theorem d_M_lay_11 : decode b_M_lay 11 = .ok (.lload_n 3, 1) := by decide +kernel
theorem d_M_lay_12 : decode b_M_lay 12 = .ok (.lastore, 1) := by decide +kernel
theorem d_M_lay_13 : decode b_M_lay 13 = .ok (.aload_n 0, 1) := by decide +kernel
theorem d_M_lay_14 : decode b_M_lay 14 = .ok (.getfield 132, 3) := by decide +kernel
theorem d_M_lay_17 : decode b_M_lay 17 = .ok (.iload_n 1, 1) := by decide +kernel
theorem d_M_lay_18 : decode b_M_lay 18 = .ok (.sipush 1000, 3) := by decide +kernel
theorem d_M_lay_21 : decode b_M_lay 21 = .ok (.imul, 1) := by decide +kernel
theorem d_M_lay_22 : decode b_M_lay 22 = .ok (.iload_n 2, 1) := by decide +kernel
theorem d_M_lay_23 : decode b_M_lay 23 = .ok (.iadd, 1) := by decide +kernel
theorem d_M_lay_24 : decode b_M_lay 24 = .ok (.lload 5, 2) := by decide +kernel
theorem d_M_lay_26 : decode b_M_lay 26 = .ok (.lastore, 1) := by decide +kernel
theorem d_M_lay_27 : decode b_M_lay 27 = .ok (.return_, 1) := by decide +kernel
abbrev b_M_sumOf : ByteArray := prog_1_method_47_code
def y_M_sumOf : MethodName := ⟨"ShuffleMill", "sumOf", "(III)J"⟩
theorem d_M_sumOf_0 : decode b_M_sumOf 0 = .ok (.iload_n 3, 1) := by decide +kernel
theorem d_M_sumOf_1 : decode b_M_sumOf 1 = .ok (.i2l, 1) := by decide +kernel
theorem d_M_sumOf_2 : decode b_M_sumOf 2 = .ok (.lstore 4, 2) := by decide +kernel
theorem d_M_sumOf_4 : decode b_M_sumOf 4 = .ok (.iload_n 2, 1) := by decide +kernel
theorem d_M_sumOf_5 : decode b_M_sumOf 5 = .ok (.istore 6, 2) := by decide +kernel
theorem d_M_sumOf_7 : decode b_M_sumOf 7 = .ok (.iload 6, 2) := by decide +kernel
theorem d_M_sumOf_9 : decode b_M_sumOf 9 = .ok (.iload_n 2, 1) := by decide +kernel
theorem d_M_sumOf_10 : decode b_M_sumOf 10 = .ok (.iload_n 3, 1) := by decide +kernel
theorem d_M_sumOf_11 : decode b_M_sumOf 11 = .ok (.iadd, 1) := by decide +kernel
theorem d_M_sumOf_12 : decode b_M_sumOf 12 = .ok (.if_icmp .ge 45, 3) := by decide +kernel
theorem d_M_sumOf_15 : decode b_M_sumOf 15 = .ok (.lload 4, 2) := by decide +kernel
theorem d_M_sumOf_17 : decode b_M_sumOf 17 = .ok (.aload_n 0, 1) := by decide +kernel
theorem d_M_sumOf_18 : decode b_M_sumOf 18 = .ok (.getfield 129, 3) := by decide +kernel
theorem d_M_sumOf_21 : decode b_M_sumOf 21 = .ok (.iload_n 1, 1) := by decide +kernel
theorem d_M_sumOf_22 : decode b_M_sumOf 22 = .ok (.sipush 1000, 3) := by decide +kernel
theorem d_M_sumOf_25 : decode b_M_sumOf 25 = .ok (.imul, 1) := by decide +kernel
theorem d_M_sumOf_26 : decode b_M_sumOf 26 = .ok (.iload 6, 2) := by decide +kernel
theorem d_M_sumOf_28 : decode b_M_sumOf 28 = .ok (.iadd, 1) := by decide +kernel
theorem d_M_sumOf_29 : decode b_M_sumOf 29 = .ok (.laload, 1) := by decide +kernel
theorem d_M_sumOf_30 : decode b_M_sumOf 30 = .ok (.invokestatic 411, 3) := by decide +kernel
theorem d_M_sumOf_33 : decode b_M_sumOf 33 = .ok (.aload_n 0, 1) := by decide +kernel
theorem d_M_sumOf_34 : decode b_M_sumOf 34 = .ok (.getfield 132, 3) := by decide +kernel
theorem d_M_sumOf_37 : decode b_M_sumOf 37 = .ok (.iload_n 1, 1) := by decide +kernel
theorem d_M_sumOf_38 : decode b_M_sumOf 38 = .ok (.sipush 1000, 3) := by decide +kernel
theorem d_M_sumOf_41 : decode b_M_sumOf 41 = .ok (.imul, 1) := by decide +kernel
theorem d_M_sumOf_42 : decode b_M_sumOf 42 = .ok (.iload 6, 2) := by decide +kernel
theorem d_M_sumOf_44 : decode b_M_sumOf 44 = .ok (.iadd, 1) := by decide +kernel
theorem d_M_sumOf_45 : decode b_M_sumOf 45 = .ok (.laload, 1) := by decide +kernel
theorem d_M_sumOf_46 : decode b_M_sumOf 46 = .ok (.invokestatic 411, 3) := by decide +kernel
theorem d_M_sumOf_49 : decode b_M_sumOf 49 = .ok (.lstore 4, 2) := by decide +kernel
theorem d_M_sumOf_51 : decode b_M_sumOf 51 = .ok (.iinc 6 1, 3) := by decide +kernel
theorem d_M_sumOf_54 : decode b_M_sumOf 54 = .ok (.goto (-47), 3) := by decide +kernel
theorem d_M_sumOf_57 : decode b_M_sumOf 57 = .ok (.lload 4, 2) := by decide +kernel
theorem d_M_sumOf_59 : decode b_M_sumOf 59 = .ok (.lreturn, 1) := by decide +kernel
abbrev b_M_callOn : ByteArray := prog_1_method_48_code
def y_M_callOn : MethodName := ⟨"ShuffleMill", "callOn", "(III)Z"⟩
theorem d_M_callOn_0 : decode b_M_callOn 0 = .ok (.aload_n 0, 1) := by decide +kernel
theorem d_M_callOn_1 : decode b_M_callOn 1 = .ok (.aload_n 0, 1) := by decide +kernel
theorem d_M_callOn_2 : decode b_M_callOn 2 = .ok (.getfield 189, 3) := by decide +kernel
theorem d_M_callOn_5 : decode b_M_callOn 5 = .ok (.iload_n 2, 1) := by decide +kernel
theorem d_M_callOn_6 : decode b_M_callOn 6 = .ok (.laload, 1) := by decide +kernel
theorem d_M_callOn_7 : decode b_M_callOn 7 = .ok (.putfield 234, 3) := by decide +kernel
theorem d_M_callOn_10 : decode b_M_callOn 10 = .ok (.aload_n 0, 1) := by decide +kernel
theorem d_M_callOn_11 : decode b_M_callOn 11 = .ok (.aload_n 0, 1) := by decide +kernel
theorem d_M_callOn_12 : decode b_M_callOn 12 = .ok (.getfield 192, 3) := by decide +kernel
theorem d_M_callOn_15 : decode b_M_callOn 15 = .ok (.putfield 250, 3) := by decide +kernel
theorem d_M_callOn_18 : decode b_M_callOn 18 = .ok (.aload_n 0, 1) := by decide +kernel
theorem d_M_callOn_19 : decode b_M_callOn 19 = .ok (.iload_n 2, 1) := by decide +kernel
theorem d_M_callOn_20 : decode b_M_callOn 20 = .ok (.putfield 241, 3) := by decide +kernel
theorem d_M_callOn_23 : decode b_M_callOn 23 = .ok (.aload_n 0, 1) := by decide +kernel
theorem d_M_callOn_24 : decode b_M_callOn 24 = .ok (.iload_n 3, 1) := by decide +kernel
theorem d_M_callOn_25 : decode b_M_callOn 25 = .ok (.putfield 244, 3) := by decide +kernel
theorem d_M_callOn_28 : decode b_M_callOn 28 = .ok (.aload_n 0, 1) := by decide +kernel
theorem d_M_callOn_29 : decode b_M_callOn 29 = .ok (.iload_n 1, 1) := by decide +kernel
theorem d_M_callOn_30 : decode b_M_callOn 30 = .ok (.invokevirtual 385, 3) := by decide +kernel
theorem d_M_callOn_33 : decode b_M_callOn 33 = .ok (.ireturn, 1) := by decide +kernel
abbrev b_M_partOf : ByteArray := prog_1_method_49_code
def y_M_partOf : MethodName := ⟨"ShuffleMill", "partOf", "(J)I"⟩
theorem d_M_partOf_0 : decode b_M_partOf 0 = .ok (.aload_n 0, 1) := by decide +kernel
theorem d_M_partOf_1 : decode b_M_partOf 1 = .ok (.getfield 48, 3) := by decide +kernel
theorem d_M_partOf_4 : decode b_M_partOf 4 = .ok (.aload_n 0, 1) := by decide +kernel
theorem d_M_partOf_5 : decode b_M_partOf 5 = .ok (.invokevirtual 256, 3) := by decide +kernel
theorem d_M_partOf_8 : decode b_M_partOf 8 = .ok (.iaload, 1) := by decide +kernel
theorem d_M_partOf_9 : decode b_M_partOf 9 = .ok (.istore_n 3, 1) := by decide +kernel
theorem d_M_partOf_10 : decode b_M_partOf 10 = .ok (.lload_n 1, 1) := by decide +kernel
theorem d_M_partOf_11 : decode b_M_partOf 11 = .ok (.iload_n 3, 1) := by decide +kernel
theorem d_M_partOf_12 : decode b_M_partOf 12 = .ok (.i2l, 1) := by decide +kernel
theorem d_M_partOf_13 : decode b_M_partOf 13 = .ok (.lrem, 1) := by decide +kernel
theorem d_M_partOf_14 : decode b_M_partOf 14 = .ok (.l2i, 1) := by decide +kernel
theorem d_M_partOf_15 : decode b_M_partOf 15 = .ok (.istore 4, 2) := by decide +kernel
theorem d_M_partOf_17 : decode b_M_partOf 17 = .ok (.iload 4, 2) := by decide +kernel
theorem d_M_partOf_19 : decode b_M_partOf 19 = .ok (.ifCond .ge 10, 3) := by decide +kernel
theorem d_M_partOf_22 : decode b_M_partOf 22 = .ok (.iload 4, 2) := by decide +kernel
theorem d_M_partOf_24 : decode b_M_partOf 24 = .ok (.iload_n 3, 1) := by decide +kernel
theorem d_M_partOf_25 : decode b_M_partOf 25 = .ok (.iadd, 1) := by decide +kernel
theorem d_M_partOf_26 : decode b_M_partOf 26 = .ok (.goto 5, 3) := by decide +kernel
theorem d_M_partOf_29 : decode b_M_partOf 29 = .ok (.iload 4, 2) := by decide +kernel
theorem d_M_partOf_31 : decode b_M_partOf 31 = .ok (.ireturn, 1) := by decide +kernel
