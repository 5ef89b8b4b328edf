abbrev b_M_close : ByteArray := prog_1_method_20_code
def y_M_close : MethodName := ⟨"ShuffleMill", "close", "()V"⟩
theorem d_M_close_0 : decode b_M_close 0 = .ok (.aload_n 0, 1) := by decide +kernel
theorem d_M_close_1 : decode b_M_close 1 = .ok (.getfield 285, 3) := by decide +kernel
theorem d_M_close_4 : decode b_M_close 4 = .ok (.iconst 1, 1) := by decide +kernel
theorem d_M_close_5 : decode b_M_close 5 = .ok (.iand, 1) := by decide +kernel
theorem d_M_close_6 : decode b_M_close 6 = .ok (.iconst 1, 1) := by decide +kernel
theorem d_M_close_7 : decode b_M_close 7 = .ok (.if_icmp .ne 7, 3) := by decide +kernel
theorem d_M_close_10 : decode b_M_close 10 = .ok (.iconst 1, 1) := by decide +kernel
theorem d_M_close_11 : decode b_M_close 11 = .ok (.goto 4, 3) := by decide +kernel
theorem d_M_close_14 : decode b_M_close 14 = .ok (.iconst 0, 1) := by decide +kernel
theorem d_M_close_15 : decode b_M_close 15 = .ok (.istore_n 1, 1) := by decide +kernel
theorem d_M_close_16 : decode b_M_close 16 = .ok (.aload_n 0, 1) := by decide +kernel
theorem d_M_close_17 : decode b_M_close 17 = .ok (.getfield 288, 3) := by decide +kernel
theorem d_M_close_20 : decode b_M_close 20 = .ok (.iconst 1, 1) := by decide +kernel
theorem d_M_close_21 : decode b_M_close 21 = .ok (.iand, 1) := by decide +kernel
theorem d_M_close_22 : decode b_M_close 22 = .ok (.iconst 1, 1) := by decide +kernel
theorem d_M_close_23 : decode b_M_close 23 = .ok (.if_icmp .ne 7, 3) := by decide +kernel
theorem d_M_close_26 : decode b_M_close 26 = .ok (.iconst 1, 1) := by decide +kernel
theorem d_M_close_27 : decode b_M_close 27 = .ok (.goto 4, 3) := by decide +kernel
theorem d_M_close_30 : decode b_M_close 30 = .ok (.iconst 0, 1) := by decide +kernel
theorem d_M_close_31 : decode b_M_close 31 = .ok (.istore_n 2, 1) := by decide +kernel
theorem d_M_close_32 : decode b_M_close 32 = .ok (.aload_n 0, 1) := by decide +kernel
theorem d_M_close_33 : decode b_M_close 33 = .ok (.aload_n 0, 1) := by decide +kernel
theorem d_M_close_34 : decode b_M_close 34 = .ok (.getfield 285, 3) := by decide +kernel
theorem d_M_close_37 : decode b_M_close 37 = .ok (.iconst 1, 1) := by decide +kernel
theorem d_M_close_38 : decode b_M_close 38 = .ok (.iushr, 1) := by decide +kernel
theorem d_M_close_39 : decode b_M_close 39 = .ok (.putfield 285, 3) := by decide +kernel
theorem d_M_close_42 : decode b_M_close 42 = .ok (.aload_n 0, 1) := by decide +kernel
theorem d_M_close_43 : decode b_M_close 43 = .ok (.aload_n 0, 1) := by decide +kernel
theorem d_M_close_44 : decode b_M_close 44 = .ok (.getfield 288, 3) := by decide +kernel
theorem d_M_close_47 : decode b_M_close 47 = .ok (.iconst 1, 1) := by decide +kernel
theorem d_M_close_48 : decode b_M_close 48 = .ok (.iushr, 1) := by decide +kernel
theorem d_M_close_49 : decode b_M_close 49 = .ok (.putfield 288, 3) := by decide +kernel
theorem d_M_close_52 : decode b_M_close 52 = .ok (.iload_n 1, 1) := by decide +kernel
theorem d_M_close_53 : decode b_M_close 53 = .ok (.ifCond .eq 16, 3) := by decide +kernel
theorem d_M_close_56 : decode b_M_close 56 = .ok (.aload_n 0, 1) := by decide +kernel
theorem d_M_close_57 : decode b_M_close 57 = .ok (.dup, 1) := by decide +kernel
theorem d_M_close_58 : decode b_M_close 58 = .ok (.getfield 279, 3) := by decide +kernel
theorem d_M_close_61 : decode b_M_close 61 = .ok (.iconst 1, 1) := by decide +kernel
theorem d_M_close_62 : decode b_M_close 62 = .ok (.isub, 1) := by decide +kernel
theorem d_M_close_63 : decode b_M_close 63 = .ok (.putfield 279, 3) := by decide +kernel
theorem d_M_close_66 : decode b_M_close 66 = .ok (.goto 30, 3) := by decide +kernel
theorem d_M_close_69 : decode b_M_close 69 = .ok (.iload_n 2, 1) := by decide +kernel
theorem d_M_close_70 : decode b_M_close 70 = .ok (.ifCond .eq 26, 3) := by decide +kernel
theorem d_M_close_73 : decode b_M_close 73 = .ok (.aload_n 0, 1) := by decide +kernel
theorem d_M_close_74 : decode b_M_close 74 = .ok (.getfield 279, 3) := by decide +kernel
theorem d_M_close_77 : decode b_M_close 77 = .ok (.bipush 96, 2) := by decide +kernel
theorem d_M_close_79 : decode b_M_close 79 = .ok (.if_icmp .ge 17, 3) := by decide +kernel
theorem d_M_close_82 : decode b_M_close 82 = .ok (.aload_n 0, 1) := by decide +kernel
theorem d_M_close_83 : decode b_M_close 83 = .ok (.aload_n 0, 1) := by decide +kernel
theorem d_M_close_84 : decode b_M_close 84 = .ok (.getfield 279, 3) := by decide +kernel
theorem d_M_close_87 : decode b_M_close 87 = .ok (.iconst 1, 1) := by decide +kernel
theorem d_M_close_88 : decode b_M_close 88 = .ok (.isub, 1) := by decide +kernel
theorem d_M_close_89 : decode b_M_close 89 = .ok (.aload_n 0, 1) := by decide +kernel
theorem d_M_close_90 : decode b_M_close 90 = .ok (.getfield 279, 3) := by decide +kernel
theorem d_M_close_93 : decode b_M_close 93 = .ok (.invokevirtual 291, 3) := by decide +kernel
theorem d_M_close_96 : decode b_M_close 96 = .ok (.iload_n 1, 1) := by decide +kernel
theorem d_M_close_97 : decode b_M_close 97 = .ok (.ifCond .ne 26, 3) := by decide +kernel
theorem d_M_close_100 : decode b_M_close 100 = .ok (.iload_n 2, 1) := by decide +kernel
theorem d_M_close_101 : decode b_M_close 101 = .ok (.ifCond .eq 22, 3) := by decide +kernel
theorem d_M_close_104 : decode b_M_close 104 = .ok (.aload_n 0, 1) := by decide +kernel
theorem d_M_close_105 : decode b_M_close 105 = .ok (.getfield 279, 3) := by decide +kernel
theorem d_M_close_108 : decode b_M_close 108 = .ok (.bipush 96, 2) := by decide +kernel
theorem d_M_close_110 : decode b_M_close 110 = .ok (.if_icmp .ge 13, 3) := by decide +kernel
theorem d_M_close_113 : decode b_M_close 113 = .ok (.aload_n 0, 1) := by decide +kernel
theorem d_M_close_114 : decode b_M_close 114 = .ok (.dup, 1) := by decide +kernel
theorem d_M_close_115 : decode b_M_close 115 = .ok (.getfield 279, 3) := by decide +kernel
theorem d_M_close_118 : decode b_M_close 118 = .ok (.iconst 1, 1) := by decide +kernel
theorem d_M_close_119 : decode b_M_close 119 = .ok (.iadd, 1) := by decide +kernel
theorem d_M_close_120 : decode b_M_close 120 = .ok (.putfield 279, 3) := by decide +kernel
theorem d_M_close_123 : decode b_M_close 123 = .ok (.return_, 1) := by decide +kernel
abbrev b_M_copy : ByteArray := prog_1_method_21_code
def y_M_copy : MethodName := ⟨"ShuffleMill", "copy", "(II)V"⟩
theorem d_M_copy_0 : decode b_M_copy 0 = .ok (.aload_n 0, 1) := by decide +kernel
theorem d_M_copy_1 : decode b_M_copy 1 = .ok (.getfield 93, 3) := by decide +kernel
theorem d_M_copy_4 : decode b_M_copy 4 = .ok (.iload_n 2, 1) := by decide +kernel
theorem d_M_copy_5 : decode b_M_copy 5 = .ok (.aload_n 0, 1) := by decide +kernel
theorem d_M_copy_6 : decode b_M_copy 6 = .ok (.getfield 93, 3) := by decide +kernel
theorem d_M_copy_9 : decode b_M_copy 9 = .ok (.iload_n 1, 1) := by decide +kernel
theorem d_M_copy_10 : decode b_M_copy 10 = .ok (.iaload, 1) := by decide +kernel
theorem d_M_copy_11 : decode b_M_copy 11 = .ok (.iastore, 1) := by decide +kernel
theorem d_M_copy_12 : decode b_M_copy 12 = .ok (.iconst 0, 1) := by decide +kernel
theorem d_M_copy_13 : decode b_M_copy 13 = .ok (.istore_n 3, 1) := by decide +kernel
theorem d_M_copy_14 : decode b_M_copy 14 = .ok (.iload_n 3, 1) := by decide +kernel
theorem d_M_copy_15 : decode b_M_copy 15 = .ok (.bipush 6, 2) := by decide +kernel
theorem d_M_copy_17 : decode b_M_copy 17 = .ok (.if_icmp .ge 31, 3) := by decide +kernel
theorem d_M_copy_20 : decode b_M_copy 20 = .ok (.aload_n 0, 1) := by decide +kernel
theorem d_M_copy_21 : decode b_M_copy 21 = .ok (.getfield 96, 3) := by decide +kernel
theorem d_M_copy_24 : decode b_M_copy 24 = .ok (.iload_n 2, 1) := by decide +kernel
theorem d_M_copy_25 : decode b_M_copy 25 = .ok (.bipush 6, 2) := by decide +kernel
theorem d_M_copy_27 : decode b_M_copy 27 = .ok (.imul, 1) := by decide +kernel
theorem d_M_copy_28 : decode b_M_copy 28 = .ok (.iload_n 3, 1) := by decide +kernel
theorem d_M_copy_29 : decode b_M_copy 29 = .ok (.iadd, 1) := by decide +kernel
theorem d_M_copy_30 : decode b_M_copy 30 = .ok (.aload_n 0, 1) := by decide +kernel
theorem d_M_copy_31 : decode b_M_copy 31 = .ok (.getfield 96, 3) := by decide +kernel
theorem d_M_copy_34 : decode b_M_copy 34 = .ok (.iload_n 1, 1) := by decide +kernel
theorem d_M_copy_35 : decode b_M_copy 35 = .ok (.bipush 6, 2) := by decide +kernel
theorem d_M_copy_37 : decode b_M_copy 37 = .ok (.imul, 1) := by decide +kernel
theorem d_M_copy_38 : decode b_M_copy 38 = .ok (.iload_n 3, 1) := by decide +kernel
theorem d_M_copy_39 : decode b_M_copy 39 = .ok (.iadd, 1) := by decide +kernel
theorem d_M_copy_40 : decode b_M_copy 40 = .ok (.iaload, 1) := by decide +kernel
theorem d_M_copy_41 : decode b_M_copy 41 = .ok (.iastore, 1) := by decide +kernel
theorem d_M_copy_42 : decode b_M_copy 42 = .ok (.iinc 3 1, 3) := by decide +kernel
theorem d_M_copy_45 : decode b_M_copy 45 = .ok (.goto (-31), 3) := by decide +kernel
theorem d_M_copy_48 : decode b_M_copy 48 = .ok (.iconst 0, 1) := by decide +kernel
theorem d_M_copy_49 : decode b_M_copy 49 = .ok (.istore_n 3, 1) := by decide +kernel
theorem d_M_copy_50 : decode b_M_copy 50 = .ok (.iload_n 3, 1) := by decide +kernel
theorem d_M_copy_51 : decode b_M_copy 51 = .ok (.bipush 8, 2) := by decide +kernel
theorem d_M_copy_53 : decode b_M_copy 53 = .ok (.if_icmp .ge 53, 3) := by decide +kernel
theorem d_M_copy_56 : decode b_M_copy 56 = .ok (.aload_n 0, 1) := by decide +kernel
theorem d_M_copy_57 : decode b_M_copy 57 = .ok (.getfield 99, 3) := by decide +kernel
theorem d_M_copy_60 : decode b_M_copy 60 = .ok (.iload_n 2, 1) := by decide +kernel
theorem d_M_copy_61 : decode b_M_copy 61 = .ok (.bipush 8, 2) := by decide +kernel
theorem d_M_copy_63 : decode b_M_copy 63 = .ok (.imul, 1) := by decide +kernel
theorem d_M_copy_64 : decode b_M_copy 64 = .ok (.iload_n 3, 1) := by decide +kernel
theorem d_M_copy_65 : decode b_M_copy 65 = .ok (.iadd, 1) := by decide +kernel
theorem d_M_copy_66 : decode b_M_copy 66 = .ok (.aload_n 0, 1) := by decide +kernel
theorem d_M_copy_67 : decode b_M_copy 67 = .ok (.getfield 99, 3) := by decide +kernel
theorem d_M_copy_70 : decode b_M_copy 70 = .ok (.iload_n 1, 1) := by decide +kernel
theorem d_M_copy_71 : decode b_M_copy 71 = .ok (.bipush 8, 2) := by decide +kernel
theorem d_M_copy_73 : decode b_M_copy 73 = .ok (.imul, 1) := by decide +kernel
theorem d_M_copy_74 : decode b_M_copy 74 = .ok (.iload_n 3, 1) := by decide +kernel
theorem d_M_copy_75 : decode b_M_copy 75 = .ok (.iadd, 1) := by decide +kernel
theorem d_M_copy_76 : decode b_M_copy 76 = .ok (.laload, 1) := by decide +kernel
theorem d_M_copy_77 : decode b_M_copy 77 = .ok (.lastore, 1) := by decide +kernel
theorem d_M_copy_78 : decode b_M_copy 78 = .ok (.aload_n 0, 1) := by decide +kernel
theorem d_M_copy_79 : decode b_M_copy 79 = .ok (.getfield 102, 3) := by decide +kernel
theorem d_M_copy_82 : decode b_M_copy 82 = .ok (.iload_n 2, 1) := by decide +kernel
theorem d_M_copy_83 : decode b_M_copy 83 = .ok (.bipush 8, 2) := by decide +kernel
theorem d_M_copy_85 : decode b_M_copy 85 = .ok (.imul, 1) := by decide +kernel
theorem d_M_copy_86 : decode b_M_copy 86 = .ok (.iload_n 3, 1) := by decide +kernel
theorem d_M_copy_87 : decode b_M_copy 87 = .ok (.iadd, 1) := by decide +kernel
theorem d_M_copy_88 : decode b_M_copy 88 = .ok (.aload_n 0, 1) := by decide +kernel
theorem d_M_copy_89 : decode b_M_copy 89 = .ok (.getfield 102, 3) := by decide +kernel
theorem d_M_copy_92 : decode b_M_copy 92 = .ok (.iload_n 1, 1) := by decide +kernel
theorem d_M_copy_93 : decode b_M_copy 93 = .ok (.bipush 8, 2) := by decide +kernel
theorem d_M_copy_95 : decode b_M_copy 95 = .ok (.imul, 1) := by decide +kernel
theorem d_M_copy_96 : decode b_M_copy 96 = .ok (.iload_n 3, 1) := by decide +kernel
theorem d_M_copy_97 : decode b_M_copy 97 = .ok (.iadd, 1) := by decide +kernel
theorem d_M_copy_98 : decode b_M_copy 98 = .ok (.laload, 1) := by decide +kernel
theorem d_M_copy_99 : decode b_M_copy 99 = .ok (.lastore, 1) := by decide +kernel
theorem d_M_copy_100 : decode b_M_copy 100 = .ok (.iinc 3 1, 3) := by decide +kernel
theorem d_M_copy_103 : decode b_M_copy 103 = .ok (.goto (-53), 3) := by decide +kernel
theorem d_M_copy_106 : decode b_M_copy 106 = .ok (.return_, 1) := by decide +kernel
abbrev b_M_tell : ByteArray := prog_1_method_22_code
def y_M_tell : MethodName := ⟨"ShuffleMill", "tell", "(IIIIII)V"⟩
theorem d_M_tell_0 : decode b_M_tell 0 = .ok (.aload_n 0, 1) := by decide +kernel
theorem d_M_tell_1 : decode b_M_tell 1 = .ok (.iload_n 1, 1) := by decide +kernel
theorem d_M_tell_2 : decode b_M_tell 2 = .ok (.iload_n 2, 1) := by decide +kernel
theorem d_M_tell_3 : decode b_M_tell 3 = .ok (.iload_n 3, 1) := by decide +kernel
theorem d_M_tell_4 : decode b_M_tell 4 = .ok (.iload 4, 2) := by decide +kernel
theorem d_M_tell_6 : decode b_M_tell 6 = .ok (.iload 5, 2) := by decide +kernel
theorem d_M_tell_8 : decode b_M_tell 8 = .ok (.iload 6, 2) := by decide +kernel
theorem d_M_tell_10 : decode b_M_tell 10 = .ok (.invokevirtual 295, 3) := by decide +kernel
theorem d_M_tell_13 : decode b_M_tell 13 = .ok (.pop, 1) := by decide +kernel
theorem d_M_tell_14 : decode b_M_tell 14 = .ok (.aload_n 0, 1) := by decide +kernel
theorem d_M_tell_15 : decode b_M_tell 15 = .ok (.invokevirtual 299, 3) := by decide +kernel
theorem d_M_tell_18 : decode b_M_tell 18 = .ok (.return_, 1) := by decide +kernel
abbrev b_M_take : ByteArray := prog_1_method_23_code
def y_M_take : MethodName := ⟨"ShuffleMill", "take", "(I)V"⟩
theorem d_M_take_0 : decode b_M_take 0 = .ok (.iload_n 1, 1) := by decide +kernel
theorem d_M_take_1 : decode b_M_take 1 = .ok (.iconst 1, 1) := by decide +kernel
theorem d_M_take_2 : decode b_M_take 2 = .ok (.iadd, 1) := by decide +kernel
theorem d_M_take_3 : decode b_M_take 3 = .ok (.istore_n 2, 1) := by decide +kernel
theorem d_M_take_4 : decode b_M_take 4 = .ok (.iload_n 2, 1) := by decide +kernel
theorem d_M_take_5 : decode b_M_take 5 = .ok (.aload_n 0, 1) := by decide +kernel
theorem d_M_take_6 : decode b_M_take 6 = .ok (.getfield 279, 3) := by decide +kernel
theorem d_M_take_9 : decode b_M_take 9 = .ok (.if_icmp .ge 17, 3) := by decide +kernel
theorem d_M_take_12 : decode b_M_take 12 = .ok (.aload_n 0, 1) := by decide +kernel
theorem d_M_take_13 : decode b_M_take 13 = .ok (.iload_n 2, 1) := by decide +kernel
theorem d_M_take_14 : decode b_M_take 14 = .ok (.iload_n 2, 1) := by decide +kernel
theorem d_M_take_15 : decode b_M_take 15 = .ok (.iconst 1, 1) := by decide +kernel
theorem d_M_take_16 : decode b_M_take 16 = .ok (.isub, 1) := by decide +kernel
theorem d_M_take_17 : decode b_M_take 17 = .ok (.invokevirtual 291, 3) := by decide +kernel
theorem d_M_take_20 : decode b_M_take 20 = .ok (.iinc 2 1, 3) := by decide +kernel
theorem d_M_take_23 : decode b_M_take 23 = .ok (.goto (-19), 3) := by decide +kernel
theorem d_M_take_26 : decode b_M_take 26 = .ok (.aload_n 0, 1) := by decide +kernel
theorem d_M_take_27 : decode b_M_take 27 = .ok (.dup, 1) := by decide +kernel
theorem d_M_take_28 : decode b_M_take 28 = .ok (.getfield 279, 3) := by decide +kernel
theorem d_M_take_31 : decode b_M_take 31 = .ok (.iconst 1, 1) := by decide +kernel
theorem d_M_take_32 : decode b_M_take 32 = .ok (.isub, 1) := by decide +kernel
theorem d_M_take_33 : decode b_M_take 33 = .ok (.putfield 279, 3) := by decide +kernel
theorem d_M_take_36 : decode b_M_take 36 = .ok (.return_, 1) := by decide +kernel
abbrev b_M_opens : ByteArray := prog_1_method_24_code
def y_M_opens : MethodName := ⟨"ShuffleMill", "opens", "(I)Z"⟩
theorem d_M_opens_0 : decode b_M_opens 0 = .ok (.aload_n 0, 1) := by decide +kernel
theorem d_M_opens_1 : decode b_M_opens 1 = .ok (.iload_n 1, 1) := by decide +kernel
theorem d_M_opens_2 : decode b_M_opens 2 = .ok (.invokevirtual 302, 3) := by decide +kernel
theorem d_M_opens_5 : decode b_M_opens 5 = .ok (.istore_n 2, 1) := by decide +kernel
theorem d_M_opens_6 : decode b_M_opens 6 = .ok (.iload_n 2, 1) := by decide +kernel
theorem d_M_opens_7 : decode b_M_opens 7 = .ok (.iconst (-1), 1) := by decide +kernel
theorem d_M_opens_8 : decode b_M_opens 8 = .ok (.if_icmp .ne 5, 3) := by decide +kernel
theorem d_M_opens_11 : decode b_M_opens 11 = .ok (.iconst 0, 1) := by decide +kernel
theorem d_M_opens_12 : decode b_M_opens 12 = .ok (.ireturn, 1) := by decide +kernel
theorem d_M_opens_13 : decode b_M_opens 13 = .ok (.iconst 0, 1) := by decide +kernel
theorem d_M_opens_14 : decode b_M_opens 14 = .ok (.istore_n 3, 1) := by decide +kernel
theorem d_M_opens_15 : decode b_M_opens 15 = .ok (.iload_n 3, 1) := by decide +kernel
theorem d_M_opens_16 : decode b_M_opens 16 = .ok (.bipush 6, 2) := by decide +kernel
theorem d_M_opens_18 : decode b_M_opens 18 = .ok (.if_icmp .ge 26, 3) := by decide +kernel
theorem d_M_opens_21 : decode b_M_opens 21 = .ok (.aload_n 0, 1) := by decide +kernel
theorem d_M_opens_22 : decode b_M_opens 22 = .ok (.getfield 105, 3) := by decide +kernel
theorem d_M_opens_25 : decode b_M_opens 25 = .ok (.iload_n 3, 1) := by decide +kernel
theorem d_M_opens_26 : decode b_M_opens 26 = .ok (.aload_n 0, 1) := by decide +kernel
theorem d_M_opens_27 : decode b_M_opens 27 = .ok (.getfield 96, 3) := by decide +kernel
theorem d_M_opens_30 : decode b_M_opens 30 = .ok (.iload_n 2, 1) := by decide +kernel
theorem d_M_opens_31 : decode b_M_opens 31 = .ok (.bipush 6, 2) := by decide +kernel
theorem d_M_opens_33 : decode b_M_opens 33 = .ok (.imul, 1) := by decide +kernel
theorem d_M_opens_34 : decode b_M_opens 34 = .ok (.iload_n 3, 1) := by decide +kernel
theorem d_M_opens_35 : decode b_M_opens 35 = .ok (.iadd, 1) := by decide +kernel
theorem d_M_opens_36 : decode b_M_opens 36 = .ok (.iaload, 1) := by decide +kernel
theorem d_M_opens_37 : decode b_M_opens 37 = .ok (.iastore, 1) := by decide +kernel
theorem d_M_opens_38 : decode b_M_opens 38 = .ok (.iinc 3 1, 3) := by decide +kernel
theorem d_M_opens_41 : decode b_M_opens 41 = .ok (.goto (-26), 3) := by decide +kernel
theorem d_M_opens_44 : decode b_M_opens 44 = .ok (.iconst 0, 1) := by decide +kernel
theorem d_M_opens_45 : decode b_M_opens 45 = .ok (.istore_n 3, 1) := by decide +kernel
theorem d_M_opens_46 : decode b_M_opens 46 = .ok (.iload_n 3, 1) := by decide +kernel
theorem d_M_opens_47 : decode b_M_opens 47 = .ok (.bipush 8, 2) := by decide +kernel
theorem d_M_opens_49 : decode b_M_opens 49 = .ok (.if_icmp .ge 43, 3) := by decide +kernel
theorem d_M_opens_52 : decode b_M_opens 52 = .ok (.aload_n 0, 1) := by decide +kernel
theorem d_M_opens_53 : decode b_M_opens 53 = .ok (.getfield 108, 3) := by decide +kernel
theorem d_M_opens_56 : decode b_M_opens 56 = .ok (.iload_n 3, 1) := by decide +kernel
theorem d_M_opens_57 : decode b_M_opens 57 = .ok (.aload_n 0, 1) := by decide +kernel
theorem d_M_opens_58 : decode b_M_opens 58 = .ok (.getfield 99, 3) := by decide +kernel
theorem d_M_opens_61 : decode b_M_opens 61 = .ok (.iload_n 2, 1) := by decide +kernel
theorem d_M_opens_62 : decode b_M_opens 62 = .ok (.bipush 8, 2) := by decide +kernel
theorem d_M_opens_64 : decode b_M_opens 64 = .ok (.imul, 1) := by decide +kernel
theorem d_M_opens_65 : decode b_M_opens 65 = .ok (.iload_n 3, 1) := by decide +kernel
theorem d_M_opens_66 : decode b_M_opens 66 = .ok (.iadd, 1) := by decide +kernel
theorem d_M_opens_67 : decode b_M_opens 67 = .ok (.laload, 1) := by decide +kernel
theorem d_M_opens_68 : decode b_M_opens 68 = .ok (.lastore, 1) := by decide +kernel
theorem d_M_opens_69 : decode b_M_opens 69 = .ok (.aload_n 0, 1) := by decide +kernel
theorem d_M_opens_70 : decode b_M_opens 70 = .ok (.getfield 111, 3) := by decide +kernel
theorem d_M_opens_73 : decode b_M_opens 73 = .ok (.iload_n 3, 1) := by decide +kernel
theorem d_M_opens_74 : decode b_M_opens 74 = .ok (.aload_n 0, 1) := by decide +kernel
theorem d_M_opens_75 : decode b_M_opens 75 = .ok (.getfield 102, 3) := by decide +kernel
theorem d_M_opens_78 : decode b_M_opens 78 = .ok (.iload_n 2, 1) := by decide +kernel
theorem d_M_opens_79 : decode b_M_opens 79 = .ok (.bipush 8, 2) := by decide +kernel
theorem d_M_opens_81 : decode b_M_opens 81 = .ok (.imul, 1) := by decide +kernel
theorem d_M_opens_82 : decode b_M_opens 82 = .ok (.iload_n 3, 1) := by decide +kernel
theorem d_M_opens_83 : decode b_M_opens 83 = .ok (.iadd, 1) := by decide +kernel
theorem d_M_opens_84 : decode b_M_opens 84 = .ok (.laload, 1) := by decide +kernel
theorem d_M_opens_85 : decode b_M_opens 85 = .ok (.lastore, 1) := by decide +kernel
theorem d_M_opens_86 : decode b_M_opens 86 = .ok (.iinc 3 1, 3) := by decide +kernel
theorem d_M_opens_89 : decode b_M_opens 89 = .ok (.goto (-43), 3) := by decide +kernel
theorem d_M_opens_92 : decode b_M_opens 92 = .ok (.aload_n 0, 1) := by decide +kernel
theorem d_M_opens_93 : decode b_M_opens 93 = .ok (.iload_n 2, 1) := by decide +kernel
theorem d_M_opens_94 : decode b_M_opens 94 = .ok (.invokevirtual 282, 3) := by decide +kernel
theorem d_M_opens_97 : decode b_M_opens 97 = .ok (.aload_n 0, 1) := by decide +kernel
theorem d_M_opens_98 : decode b_M_opens 98 = .ok (.getfield 105, 3) := by decide +kernel
theorem d_M_opens_101 : decode b_M_opens 101 = .ok (.iconst 1, 1) := by decide +kernel
theorem d_M_opens_102 : decode b_M_opens 102 = .ok (.iaload, 1) := by decide +kernel
theorem d_M_opens_103 : decode b_M_opens 103 = .ok (.aload_n 0, 1) := by decide +kernel
theorem d_M_opens_104 : decode b_M_opens 104 = .ok (.getfield 270, 3) := by decide +kernel
theorem d_M_opens_107 : decode b_M_opens 107 = .ok (.if_icmp .ne 7, 3) := by decide +kernel
theorem d_M_opens_110 : decode b_M_opens 110 = .ok (.iconst 1, 1) := by decide +kernel
theorem d_M_opens_111 : decode b_M_opens 111 = .ok (.goto 4, 3) := by decide +kernel
theorem d_M_opens_114 : decode b_M_opens 114 = .ok (.iconst 0, 1) := by decide +kernel
theorem d_M_opens_115 : decode b_M_opens 115 = .ok (.ireturn, 1) := by decide +kernel
abbrev b_M_mail : ByteArray := prog_1_method_25_code
def y_M_mail : MethodName := ⟨"ShuffleMill", "mail", "(I)I"⟩
theorem d_M_mail_0 : decode b_M_mail 0 = .ok (.iconst 0, 1) := by decide +kernel
theorem d_M_mail_1 : decode b_M_mail 1 = .ok (.istore_n 2, 1) := by decide +kernel
theorem d_M_mail_2 : decode b_M_mail 2 = .ok (.iload_n 2, 1) := by decide +kernel
theorem d_M_mail_3 : decode b_M_mail 3 = .ok (.aload_n 0, 1) := by decide +kernel
theorem d_M_mail_4 : decode b_M_mail 4 = .ok (.getfield 279, 3) := by decide +kernel
theorem d_M_mail_7 : decode b_M_mail 7 = .ok (.if_icmp .ge 19, 3) := by decide +kernel
theorem d_M_mail_10 : decode b_M_mail 10 = .ok (.aload_n 0, 1) := by decide +kernel
theorem d_M_mail_11 : decode b_M_mail 11 = .ok (.getfield 93, 3) := by decide +kernel
theorem d_M_mail_14 : decode b_M_mail 14 = .ok (.iload_n 2, 1) := by decide +kernel
theorem d_M_mail_15 : decode b_M_mail 15 = .ok (.iaload, 1) := by decide +kernel
theorem d_M_mail_16 : decode b_M_mail 16 = .ok (.iload_n 1, 1) := by decide +kernel
theorem d_M_mail_17 : decode b_M_mail 17 = .ok (.if_icmp .eq 9, 3) := by decide +kernel
theorem d_M_mail_20 : decode b_M_mail 20 = .ok (.iinc 2 1, 3) := by decide +kernel
theorem d_M_mail_23 : decode b_M_mail 23 = .ok (.goto (-21), 3) := by decide +kernel
theorem d_M_mail_26 : decode b_M_mail 26 = .ok (.iload_n 2, 1) := by decide +kernel
theorem d_M_mail_27 : decode b_M_mail 27 = .ok (.aload_n 0, 1) := by decide +kernel
theorem d_M_mail_28 : decode b_M_mail 28 = .ok (.getfield 279, 3) := by decide +kernel
theorem d_M_mail_31 : decode b_M_mail 31 = .ok (.if_icmp .ge 7, 3) := by decide +kernel
theorem d_M_mail_34 : decode b_M_mail 34 = .ok (.iload_n 2, 1) := by decide +kernel
theorem d_M_mail_35 : decode b_M_mail 35 = .ok (.goto 4, 3) := by decide +kernel
theorem d_M_mail_38 : decode b_M_mail 38 = .ok (.iconst (-1), 1) := by decide +kernel
theorem d_M_mail_39 : decode b_M_mail 39 = .ok (.ireturn, 1) := by decide +kernel
abbrev b_M_master : ByteArray := prog_1_method_26_code
def y_M_master : MethodName := ⟨"ShuffleMill", "master", "()V"⟩
theorem d_M_master_0 : decode b_M_master 0 = .ok (.aload_n 0, 1) := by decide +kernel
theorem d_M_master_1 : decode b_M_master 1 = .ok (.getfield 273, 3) := by decide +kernel
theorem d_M_master_4 : decode b_M_master 4 = .ok (.ifCond .ne 29, 3) := by decide +kernel
theorem d_M_master_7 : decode b_M_master 7 = .ok (.iconst 0, 1) := by decide +kernel
theorem d_M_master_8 : decode b_M_master 8 = .ok (.istore_n 1, 1) := by decide +kernel
theorem d_M_master_9 : decode b_M_master 9 = .ok (.iload_n 1, 1) := by decide +kernel
theorem d_M_master_10 : decode b_M_master 10 = .ok (.bipush 44, 2) := by decide +kernel
theorem d_M_master_12 : decode b_M_master 12 = .ok (.if_icmp .ge 16, 3) := by decide +kernel
theorem d_M_master_15 : decode b_M_master 15 = .ok (.aload_n 0, 1) := by decide +kernel
theorem d_M_master_16 : decode b_M_master 16 = .ok (.getfield 75, 3) := by decide +kernel
theorem d_M_master_19 : decode b_M_master 19 = .ok (.iload_n 1, 1) := by decide +kernel
theorem d_M_master_20 : decode b_M_master 20 = .ok (.iconst (-1), 1) := by decide +kernel
theorem d_M_master_21 : decode b_M_master 21 = .ok (.iastore, 1) := by decide +kernel
theorem d_M_master_22 : decode b_M_master 22 = .ok (.iinc 1 1, 3) := by decide +kernel
theorem d_M_master_25 : decode b_M_master 25 = .ok (.goto (-16), 3) := by decide +kernel
theorem d_M_master_28 : decode b_M_master 28 = .ok (.aload_n 0, 1) := by decide +kernel
theorem d_M_master_29 : decode b_M_master 29 = .ok (.iconst 1, 1) := by decide +kernel
theorem d_M_master_30 : decode b_M_master 30 = .ok (.putfield 273, 3) := by decide +kernel
theorem d_M_master_33 : decode b_M_master 33 = .ok (.aload_n 0, 1) := by decide +kernel
theorem d_M_master_34 : decode b_M_master 34 = .ok (.dup, 1) := by decide +kernel
theorem d_M_master_35 : decode b_M_master 35 = .ok (.getfield 305, 3) := by decide +kernel
theorem d_M_master_38 : decode b_M_master 38 = .ok (.iconst 1, 1) := by decide +kernel
theorem d_M_master_39 : decode b_M_master 39 = .ok (.iadd, 1) := by decide +kernel
theorem d_M_master_40 : decode b_M_master 40 = .ok (.putfield 305, 3) := by decide +kernel
theorem d_M_master_43 : decode b_M_master 43 = .ok (.iconst 0, 1) := by decide +kernel
theorem d_M_master_44 : decode b_M_master 44 = .ok (.istore_n 1, 1) := by decide +kernel
theorem d_M_master_45 : decode b_M_master 45 = .ok (.iload_n 1, 1) := by decide +kernel
theorem d_M_master_46 : decode b_M_master 46 = .ok (.iconst 3, 1) := by decide +kernel
theorem d_M_master_47 : decode b_M_master 47 = .ok (.if_icmp .ge 53, 3) := by decide +kernel
theorem d_M_master_50 : decode b_M_master 50 = .ok (.aload_n 0, 1) := by decide +kernel
theorem d_M_master_51 : decode b_M_master 51 = .ok (.getfield 267, 3) := by decide +kernel
theorem d_M_master_54 : decode b_M_master 54 = .ok (.ifCond .eq 46, 3) := by decide +kernel
theorem d_M_master_57 : decode b_M_master 57 = .ok (.aload_n 0, 1) := by decide +kernel
theorem d_M_master_58 : decode b_M_master 58 = .ok (.bipush 6, 2) := by decide +kernel
theorem d_M_master_60 : decode b_M_master 60 = .ok (.invokevirtual 308, 3) := by decide +kernel
theorem d_M_master_63 : decode b_M_master 63 = .ok (.ifCond .eq 31, 3) := by decide +kernel
theorem d_M_master_66 : decode b_M_master 66 = .ok (.aload_n 0, 1) := by decide +kernel
theorem d_M_master_67 : decode b_M_master 67 = .ok (.aload_n 0, 1) := by decide +kernel
theorem d_M_master_68 : decode b_M_master 68 = .ok (.getfield 105, 3) := by decide +kernel
theorem d_M_master_71 : decode b_M_master 71 = .ok (.iconst 0, 1) := by decide +kernel
theorem d_M_master_72 : decode b_M_master 72 = .ok (.iaload, 1) := by decide +kernel
theorem d_M_master_73 : decode b_M_master 73 = .ok (.aload_n 0, 1) := by decide +kernel
theorem d_M_master_74 : decode b_M_master 74 = .ok (.getfield 105, 3) := by decide +kernel
theorem d_M_master_77 : decode b_M_master 77 = .ok (.iconst 2, 1) := by decide +kernel
theorem d_M_master_78 : decode b_M_master 78 = .ok (.iaload, 1) := by decide +kernel
theorem d_M_master_79 : decode b_M_master 79 = .ok (.aload_n 0, 1) := by decide +kernel
theorem d_M_master_80 : decode b_M_master 80 = .ok (.getfield 105, 3) := by decide +kernel
theorem d_M_master_83 : decode b_M_master 83 = .ok (.iconst 3, 1) := by decide +kernel
theorem d_M_master_84 : decode b_M_master 84 = .ok (.iaload, 1) := by decide +kernel
theorem d_M_master_85 : decode b_M_master 85 = .ok (.aload_n 0, 1) := by decide +kernel
theorem d_M_master_86 : decode b_M_master 86 = .ok (.getfield 105, 3) := by decide +kernel
theorem d_M_master_89 : decode b_M_master 89 = .ok (.iconst 4, 1) := by decide +kernel
theorem d_M_master_90 : decode b_M_master 90 = .ok (.iaload, 1) := by decide +kernel
theorem d_M_master_91 : decode b_M_master 91 = .ok (.invokevirtual 312, 3) := by decide +kernel
theorem d_M_master_94 : decode b_M_master 94 = .ok (.iinc 1 1, 3) := by decide +kernel
theorem d_M_master_97 : decode b_M_master 97 = .ok (.goto (-52), 3) := by decide +kernel
theorem d_M_master_100 : decode b_M_master 100 = .ok (.aload_n 0, 1) := by decide +kernel
theorem d_M_master_101 : decode b_M_master 101 = .ok (.getfield 267, 3) := by decide +kernel
theorem d_M_master_104 : decode b_M_master 104 = .ok (.ifCond .eq 14, 3) := by decide +kernel
theorem d_M_master_107 : decode b_M_master 107 = .ok (.aload_n 0, 1) := by decide +kernel
theorem d_M_master_108 : decode b_M_master 108 = .ok (.invokevirtual 316, 3) := by decide +kernel
theorem d_M_master_111 : decode b_M_master 111 = .ok (.ifCond .eq 7, 3) := by decide +kernel
theorem d_M_master_114 : decode b_M_master 114 = .ok (.aload_n 0, 1) := by decide +kernel
theorem d_M_master_115 : decode b_M_master 115 = .ok (.invokevirtual 320, 3) := by decide +kernel
theorem d_M_master_118 : decode b_M_master 118 = .ok (.return_, 1) := by decide +kernel
abbrev b_M_hears : ByteArray := prog_1_method_27_code
def y_M_hears : MethodName := ⟨"ShuffleMill", "hears", "(IIII)V"⟩
theorem d_M_hears_0 : decode b_M_hears 0 = .ok (.iload_n 1, 1) := by decide +kernel
theorem d_M_hears_1 : decode b_M_hears 1 = .ok (.tableswitch 128 1 7 #[43, 128, 51, 88, 128, 128, 95], 43) := by decide +kernel
theorem d_M_hears_44 : decode b_M_hears 44 = .ok (.aload_n 0, 1) := by decide +kernel
theorem d_M_hears_45 : decode b_M_hears 45 = .ok (.iload_n 2, 1) := by decide +kernel
theorem d_M_hears_46 : decode b_M_hears 46 = .ok (.invokevirtual 323, 3) := by decide +kernel
theorem d_M_hears_49 : decode b_M_hears 49 = .ok (.goto 80, 3) := by decide +kernel
theorem d_M_hears_52 : decode b_M_hears 52 = .ok (.iload_n 3, 1) := by decide +kernel
theorem d_M_hears_53 : decode b_M_hears 53 = .ok (.bipush 38, 2) := by decide +kernel
theorem d_M_hears_55 : decode b_M_hears 55 = .ok (.if_icmp .ge 21, 3) := by decide +kernel
theorem d_M_hears_58 : decode b_M_hears 58 = .ok (.aload_n 0, 1) := by decide +kernel
theorem d_M_hears_59 : decode b_M_hears 59 = .ok (.getfield 66, 3) := by decide +kernel
theorem d_M_hears_62 : decode b_M_hears 62 = .ok (.iload_n 3, 1) := by decide +kernel
theorem d_M_hears_63 : decode b_M_hears 63 = .ok (.iload_n 2, 1) := by decide +kernel
theorem d_M_hears_64 : decode b_M_hears 64 = .ok (.iastore, 1) := by decide +kernel
theorem d_M_hears_65 : decode b_M_hears 65 = .ok (.aload_n 0, 1) := by decide +kernel
theorem d_M_hears_66 : decode b_M_hears 66 = .ok (.getfield 69, 3) := by decide +kernel
theorem d_M_hears_69 : decode b_M_hears 69 = .ok (.iload_n 3, 1) := by decide +kernel
theorem d_M_hears_70 : decode b_M_hears 70 = .ok (.iload 4, 2) := by decide +kernel
theorem d_M_hears_72 : decode b_M_hears 72 = .ok (.iastore, 1) := by decide +kernel
theorem d_M_hears_73 : decode b_M_hears 73 = .ok (.goto 56, 3) := by decide +kernel
theorem d_M_hears_76 : decode b_M_hears 76 = .ok (.aload_n 0, 1) := by decide +kernel
theorem d_M_hears_77 : decode b_M_hears 77 = .ok (.getfield 72, 3) := by decide +kernel
theorem d_M_hears_80 : decode b_M_hears 80 = .ok (.iload_n 3, 1) := by decide +kernel
theorem d_M_hears_81 : decode b_M_hears 81 = .ok (.bipush 38, 2) := by decide +kernel
theorem d_M_hears_83 : decode b_M_hears 83 = .ok (.isub, 1) := by decide +kernel
theorem d_M_hears_84 : decode b_M_hears 84 = .ok (.iconst 1, 1) := by decide +kernel
theorem d_M_hears_85 : decode b_M_hears 85 = .ok (.bastore, 1) := by decide +kernel
theorem d_M_hears_86 : decode b_M_hears 86 = .ok (.goto 43, 3) := by decide +kernel
theorem d_M_hears_89 : decode b_M_hears 89 = .ok (.aload_n 0, 1) := by decide +kernel
theorem d_M_hears_90 : decode b_M_hears 90 = .ok (.invokevirtual 326, 3) := by decide +kernel
theorem d_M_hears_93 : decode b_M_hears 93 = .ok (.goto 36, 3) := by decide +kernel
theorem d_M_hears_96 : decode b_M_hears 96 = .ok (.iload_n 2, 1) := by decide +kernel
theorem d_M_hears_97 : decode b_M_hears 97 = .ok (.bipush 38, 2) := by decide +kernel
theorem d_M_hears_99 : decode b_M_hears 99 = .ok (.if_icmp .ge 30, 3) := by decide +kernel
theorem d_M_hears_102 : decode b_M_hears 102 = .ok (.aload_n 0, 1) := by decide +kernel
theorem d_M_hears_103 : decode b_M_hears 103 = .ok (.getfield 66, 3) := by decide +kernel
theorem d_M_hears_106 : decode b_M_hears 106 = .ok (.iload_n 2, 1) := by decide +kernel
theorem d_M_hears_107 : decode b_M_hears 107 = .ok (.iaload, 1) := by decide +kernel
theorem d_M_hears_108 : decode b_M_hears 108 = .ok (.iload_n 3, 1) := by decide +kernel
theorem d_M_hears_109 : decode b_M_hears 109 = .ok (.if_icmp .ne 20, 3) := by decide +kernel
theorem d_M_hears_112 : decode b_M_hears 112 = .ok (.aload_n 0, 1) := by decide +kernel
theorem d_M_hears_113 : decode b_M_hears 113 = .ok (.getfield 66, 3) := by decide +kernel
theorem d_M_hears_116 : decode b_M_hears 116 = .ok (.iload_n 2, 1) := by decide +kernel
theorem d_M_hears_117 : decode b_M_hears 117 = .ok (.iconst (-1), 1) := by decide +kernel
theorem d_M_hears_118 : decode b_M_hears 118 = .ok (.iastore, 1) := by decide +kernel
theorem d_M_hears_119 : decode b_M_hears 119 = .ok (.aload_n 0, 1) := by decide +kernel
theorem d_M_hears_120 : decode b_M_hears 120 = .ok (.getfield 75, 3) := by decide +kernel
theorem d_M_hears_123 : decode b_M_hears 123 = .ok (.iload_n 2, 1) := by decide +kernel
theorem d_M_hears_124 : decode b_M_hears 124 = .ok (.iconst (-1), 1) := by decide +kernel
theorem d_M_hears_125 : decode b_M_hears 125 = .ok (.iastore, 1) := by decide +kernel
theorem d_M_hears_126 : decode b_M_hears 126 = .ok (.goto 3, 3) := by decide +kernel
theorem d_M_hears_129 : decode b_M_hears 129 = .ok (.return_, 1) := by decide +kernel
abbrev b_M_isMapped : ByteArray := prog_1_method_28_code
def y_M_isMapped : MethodName := ⟨"ShuffleMill", "isMapped", "()Z"⟩
theorem d_M_isMapped_0 : decode b_M_isMapped 0 = .ok (.aload_n 0, 1) := by decide +kernel
theorem d_M_isMapped_1 : decode b_M_isMapped 1 = .ok (.invokevirtual 329, 3) := by decide +kernel
theorem d_M_isMapped_4 : decode b_M_isMapped 4 = .ok (.istore_n 1, 1) := by decide +kernel
theorem d_M_isMapped_5 : decode b_M_isMapped 5 = .ok (.iconst 0, 1) := by decide +kernel
theorem d_M_isMapped_6 : decode b_M_isMapped 6 = .ok (.istore_n 2, 1) := by decide +kernel
theorem d_M_isMapped_7 : decode b_M_isMapped 7 = .ok (.iload_n 2, 1) := by decide +kernel
theorem d_M_isMapped_8 : decode b_M_isMapped 8 = .ok (.iload_n 1, 1) := by decide +kernel
theorem d_M_isMapped_9 : decode b_M_isMapped 9 = .ok (.if_icmp .ge 21, 3) := by decide +kernel
theorem d_M_isMapped_12 : decode b_M_isMapped 12 = .ok (.aload_n 0, 1) := by decide +kernel
theorem d_M_isMapped_13 : decode b_M_isMapped 13 = .ok (.getfield 66, 3) := by decide +kernel
theorem d_M_isMapped_16 : decode b_M_isMapped 16 = .ok (.iload_n 2, 1) := by decide +kernel
theorem d_M_isMapped_17 : decode b_M_isMapped 17 = .ok (.iaload, 1) := by decide +kernel
theorem d_M_isMapped_18 : decode b_M_isMapped 18 = .ok (.iconst (-1), 1) := by decide +kernel
theorem d_M_isMapped_19 : decode b_M_isMapped 19 = .ok (.if_icmp .ne 5, 3) := by decide +kernel
theorem d_M_isMapped_22 : decode b_M_isMapped 22 = .ok (.iconst 0, 1) := by decide +kernel
theorem d_M_isMapped_23 : decode b_M_isMapped 23 = .ok (.ireturn, 1) := by decide +kernel
theorem d_M_isMapped_24 : decode b_M_isMapped 24 = .ok (.iinc 2 1, 3) := by decide +kernel
theorem d_M_isMapped_27 : decode b_M_isMapped 27 = .ok (.goto (-20), 3) := by decide +kernel
theorem d_M_isMapped_30 : decode b_M_isMapped 30 = .ok (.iconst 1, 1) := by decide +kernel
theorem d_M_isMapped_31 : decode b_M_isMapped 31 = .ok (.ireturn, 1) := by decide +kernel
abbrev b_M_whenMapped : ByteArray := prog_1_method_29_code
def y_M_whenMapped : MethodName := ⟨"ShuffleMill", "whenMapped", "()V"⟩
theorem d_M_whenMapped_0 : decode b_M_whenMapped 0 = .ok (.iconst 0, 1) := by decide +kernel
theorem d_M_whenMapped_1 : decode b_M_whenMapped 1 = .ok (.istore_n 1, 1) := by decide +kernel
theorem d_M_whenMapped_2 : decode b_M_whenMapped 2 = .ok (.aload_n 0, 1) := by decide +kernel
theorem d_M_whenMapped_3 : decode b_M_whenMapped 3 = .ok (.invokevirtual 329, 3) := by decide +kernel
theorem d_M_whenMapped_6 : decode b_M_whenMapped 6 = .ok (.istore_n 2, 1) := by decide +kernel
theorem d_M_whenMapped_7 : decode b_M_whenMapped 7 = .ok (.iconst 0, 1) := by decide +kernel
theorem d_M_whenMapped_8 : decode b_M_whenMapped 8 = .ok (.istore_n 3, 1) := by decide +kernel
theorem d_M_whenMapped_9 : decode b_M_whenMapped 9 = .ok (.iload_n 3, 1) := by decide +kernel
theorem d_M_whenMapped_10 : decode b_M_whenMapped 10 = .ok (.iload_n 2, 1) := by decide +kernel
theorem d_M_whenMapped_11 : decode b_M_whenMapped 11 = .ok (.if_icmp .ge 18, 3) := by decide +kernel
theorem d_M_whenMapped_14 : decode b_M_whenMapped 14 = .ok (.iload_n 1, 1) := by decide +kernel
theorem d_M_whenMapped_15 : decode b_M_whenMapped 15 = .ok (.aload_n 0, 1) := by decide +kernel
theorem d_M_whenMapped_16 : decode b_M_whenMapped 16 = .ok (.getfield 69, 3) := by decide +kernel
theorem d_M_whenMapped_19 : decode b_M_whenMapped 19 = .ok (.iload_n 3, 1) := by decide +kernel
theorem d_M_whenMapped_20 : decode b_M_whenMapped 20 = .ok (.iaload, 1) := by decide +kernel
theorem d_M_whenMapped_21 : decode b_M_whenMapped 21 = .ok (.iadd, 1) := by decide +kernel
theorem d_M_whenMapped_22 : decode b_M_whenMapped 22 = .ok (.istore_n 1, 1) := by decide +kernel
theorem d_M_whenMapped_23 : decode b_M_whenMapped 23 = .ok (.iinc 3 1, 3) := by decide +kernel
theorem d_M_whenMapped_26 : decode b_M_whenMapped 26 = .ok (.goto (-17), 3) := by decide +kernel
theorem d_M_whenMapped_29 : decode b_M_whenMapped 29 = .ok (.iload_n 1, 1) := by decide +kernel
theorem d_M_whenMapped_30 : decode b_M_whenMapped 30 = .ok (.sipush 1000, 3) := by decide +kernel
theorem d_M_whenMapped_33 : decode b_M_whenMapped 33 = .ok (.if_icmp .le 8, 3) := by decide +kernel
theorem d_M_whenMapped_36 : decode b_M_whenMapped 36 = .ok (.aload_n 0, 1) := by decide +kernel
theorem d_M_whenMapped_37 : decode b_M_whenMapped 37 = .ok (.invokevirtual 326, 3) := by decide +kernel
theorem d_M_whenMapped_40 : decode b_M_whenMapped 40 = .ok (.return_, 1) := by decide +kernel
theorem d_M_whenMapped_41 : decode b_M_whenMapped 41 = .ok (.iconst 0, 1) := by decide +kernel
theorem d_M_whenMapped_42 : decode b_M_whenMapped 42 = .ok (.istore_n 3, 1) := by decide +kernel
theorem d_M_whenMapped_43 : decode b_M_whenMapped 43 = .ok (.iload_n 3, 1) := by decide +kernel
theorem d_M_whenMapped_44 : decode b_M_whenMapped 44 = .ok (.aload_n 0, 1) := by decide +kernel
theorem d_M_whenMapped_45 : decode b_M_whenMapped 45 = .ok (.getfield 48, 3) := by decide +kernel
theorem d_M_whenMapped_48 : decode b_M_whenMapped 48 = .ok (.aload_n 0, 1) := by decide +kernel
theorem d_M_whenMapped_49 : decode b_M_whenMapped 49 = .ok (.invokevirtual 256, 3) := by decide +kernel
theorem d_M_whenMapped_52 : decode b_M_whenMapped 52 = .ok (.iaload, 1) := by decide +kernel
theorem d_M_whenMapped_53 : decode b_M_whenMapped 53 = .ok (.if_icmp .ge 19, 3) := by decide +kernel
theorem d_M_whenMapped_56 : decode b_M_whenMapped 56 = .ok (.aload_n 0, 1) := by decide +kernel
theorem d_M_whenMapped_57 : decode b_M_whenMapped 57 = .ok (.getfield 72, 3) := by decide +kernel
theorem d_M_whenMapped_60 : decode b_M_whenMapped 60 = .ok (.iload_n 3, 1) := by decide +kernel
theorem d_M_whenMapped_61 : decode b_M_whenMapped 61 = .ok (.baload, 1) := by decide +kernel
theorem d_M_whenMapped_62 : decode b_M_whenMapped 62 = .ok (.ifCond .ne 4, 3) := by decide +kernel
theorem d_M_whenMapped_65 : decode b_M_whenMapped 65 = .ok (.return_, 1) := by decide +kernel
theorem d_M_whenMapped_66 : decode b_M_whenMapped 66 = .ok (.iinc 3 1, 3) := by decide +kernel
theorem d_M_whenMapped_69 : decode b_M_whenMapped 69 = .ok (.goto (-26), 3) := by decide +kernel
theorem d_M_whenMapped_72 : decode b_M_whenMapped 72 = .ok (.aload_n 0, 1) := by decide +kernel
theorem d_M_whenMapped_73 : decode b_M_whenMapped 73 = .ok (.invokevirtual 332, 3) := by decide +kernel
theorem d_M_whenMapped_76 : decode b_M_whenMapped 76 = .ok (.return_, 1) := by decide +kernel
abbrev b_M_commit : ByteArray := prog_1_method_30_code
def y_M_commit : MethodName := ⟨"ShuffleMill", "commit", "()V"⟩
theorem d_M_commit_0 : decode b_M_commit 0 = .ok (.iconst 0, 1) := by decide +kernel
theorem d_M_commit_1 : decode b_M_commit 1 = .ok (.istore_n 1, 1) := by decide +kernel
theorem d_M_commit_2 : decode b_M_commit 2 = .ok (.iconst 0, 1) := by decide +kernel
theorem d_M_commit_3 : decode b_M_commit 3 = .ok (.istore_n 2, 1) := by decide +kernel
theorem d_M_commit_4 : decode b_M_commit 4 = .ok (.iload_n 2, 1) := by decide +kernel
theorem d_M_commit_5 : decode b_M_commit 5 = .ok (.aload_n 0, 1) := by decide +kernel
theorem d_M_commit_6 : decode b_M_commit 6 = .ok (.getfield 48, 3) := by decide +kernel
theorem d_M_commit_9 : decode b_M_commit 9 = .ok (.aload_n 0, 1) := by decide +kernel
theorem d_M_commit_10 : decode b_M_commit 10 = .ok (.invokevirtual 256, 3) := by decide +kernel
theorem d_M_commit_13 : decode b_M_commit 13 = .ok (.iaload, 1) := by decide +kernel
theorem d_M_commit_14 : decode b_M_commit 14 = .ok (.if_icmp .ge 18, 3) := by decide +kernel
theorem d_M_commit_17 : decode b_M_commit 17 = .ok (.iload_n 1, 1) := by decide +kernel
theorem d_M_commit_18 : decode b_M_commit 18 = .ok (.aload_n 0, 1) := by decide +kernel
theorem d_M_commit_19 : decode b_M_commit 19 = .ok (.getfield 84, 3) := by decide +kernel
theorem d_M_commit_22 : decode b_M_commit 22 = .ok (.iload_n 2, 1) := by decide +kernel
theorem d_M_commit_23 : decode b_M_commit 23 = .ok (.iaload, 1) := by decide +kernel
theorem d_M_commit_24 : decode b_M_commit 24 = .ok (.iadd, 1) := by decide +kernel
theorem d_M_commit_25 : decode b_M_commit 25 = .ok (.istore_n 1, 1) := by decide +kernel
theorem d_M_commit_26 : decode b_M_commit 26 = .ok (.iinc 2 1, 3) := by decide +kernel
theorem d_M_commit_29 : decode b_M_commit 29 = .ok (.goto (-25), 3) := by decide +kernel
theorem d_M_commit_32 : decode b_M_commit 32 = .ok (.iload_n 1, 1) := by decide +kernel
theorem d_M_commit_33 : decode b_M_commit 33 = .ok (.sipush 300, 3) := by decide +kernel
theorem d_M_commit_36 : decode b_M_commit 36 = .ok (.if_icmp .le 8, 3) := by decide +kernel
theorem d_M_commit_39 : decode b_M_commit 39 = .ok (.aload_n 0, 1) := by decide +kernel
theorem d_M_commit_40 : decode b_M_commit 40 = .ok (.invokevirtual 326, 3) := by decide +kernel
theorem d_M_commit_43 : decode b_M_commit 43 = .ok (.return_, 1) := by decide +kernel
theorem d_M_commit_44 : decode b_M_commit 44 = .ok (.aload_n 0, 1) := by decide +kernel
theorem d_M_commit_45 : decode b_M_commit 45 = .ok (.getfield 45, 3) := by decide +kernel
theorem d_M_commit_48 : decode b_M_commit 48 = .ok (.aload_n 0, 1) := by decide +kernel
theorem d_M_commit_49 : decode b_M_commit 49 = .ok (.invokevirtual 256, 3) := by decide +kernel
theorem d_M_commit_52 : decode b_M_commit 52 = .ok (.iaload, 1) := by decide +kernel
theorem d_M_commit_53 : decode b_M_commit 53 = .ok (.sipush 300, 3) := by decide +kernel
theorem d_M_commit_56 : decode b_M_commit 56 = .ok (.imul, 1) := by decide +kernel
theorem d_M_commit_57 : decode b_M_commit 57 = .ok (.istore_n 2, 1) := by decide +kernel
theorem d_M_commit_58 : decode b_M_commit 58 = .ok (.iconst 0, 1) := by decide +kernel
theorem d_M_commit_59 : decode b_M_commit 59 = .ok (.istore_n 3, 1) := by decide +kernel
theorem d_M_commit_60 : decode b_M_commit 60 = .ok (.iload_n 3, 1) := by decide +kernel
theorem d_M_commit_61 : decode b_M_commit 61 = .ok (.aload_n 0, 1) := by decide +kernel
theorem d_M_commit_62 : decode b_M_commit 62 = .ok (.getfield 48, 3) := by decide +kernel
theorem d_M_commit_65 : decode b_M_commit 65 = .ok (.aload_n 0, 1) := by decide +kernel
theorem d_M_commit_66 : decode b_M_commit 66 = .ok (.invokevirtual 256, 3) := by decide +kernel
theorem d_M_commit_69 : decode b_M_commit 69 = .ok (.iaload, 1) := by decide +kernel
theorem d_M_commit_70 : decode b_M_commit 70 = .ok (.if_icmp .ge 70, 3) := by decide +kernel
theorem d_M_commit_73 : decode b_M_commit 73 = .ok (.iconst 0, 1) := by decide +kernel
theorem d_M_commit_74 : decode b_M_commit 74 = .ok (.istore 4, 2) := by decide +kernel
theorem d_M_commit_76 : decode b_M_commit 76 = .ok (.iload 4, 2) := by decide +kernel
theorem d_M_commit_78 : decode b_M_commit 78 = .ok (.aload_n 0, 1) := by decide +kernel
theorem d_M_commit_79 : decode b_M_commit 79 = .ok (.getfield 84, 3) := by decide +kernel
theorem d_M_commit_82 : decode b_M_commit 82 = .ok (.iload_n 3, 1) := by decide +kernel
theorem d_M_commit_83 : decode b_M_commit 83 = .ok (.iaload, 1) := by decide +kernel
theorem d_M_commit_84 : decode b_M_commit 84 = .ok (.if_icmp .ge 50, 3) := by decide +kernel
theorem d_M_commit_87 : decode b_M_commit 87 = .ok (.aload_n 0, 1) := by decide +kernel
theorem d_M_commit_88 : decode b_M_commit 88 = .ok (.getfield 9, 3) := by decide +kernel
theorem d_M_commit_91 : decode b_M_commit 91 = .ok (.iload_n 2, 1) := by decide +kernel
theorem d_M_commit_92 : decode b_M_commit 92 = .ok (.aload_n 0, 1) := by decide +kernel
theorem d_M_commit_93 : decode b_M_commit 93 = .ok (.getfield 87, 3) := by decide +kernel
theorem d_M_commit_96 : decode b_M_commit 96 = .ok (.iload_n 3, 1) := by decide +kernel
theorem d_M_commit_97 : decode b_M_commit 97 = .ok (.sipush 300, 3) := by decide +kernel
theorem d_M_commit_100 : decode b_M_commit 100 = .ok (.imul, 1) := by decide +kernel
theorem d_M_commit_101 : decode b_M_commit 101 = .ok (.iload 4, 2) := by decide +kernel
theorem d_M_commit_103 : decode b_M_commit 103 = .ok (.iadd, 1) := by decide +kernel
theorem d_M_commit_104 : decode b_M_commit 104 = .ok (.laload, 1) := by decide +kernel
theorem d_M_commit_105 : decode b_M_commit 105 = .ok (.lastore, 1) := by decide +kernel
theorem d_M_commit_106 : decode b_M_commit 106 = .ok (.aload_n 0, 1) := by decide +kernel
theorem d_M_commit_107 : decode b_M_commit 107 = .ok (.getfield 13, 3) := by decide +kernel
theorem d_M_commit_110 : decode b_M_commit 110 = .ok (.iload_n 2, 1) := by decide +kernel
theorem d_M_commit_111 : decode b_M_commit 111 = .ok (.aload_n 0, 1) := by decide +kernel
theorem d_M_commit_112 : decode b_M_commit 112 = .ok (.getfield 90, 3) := by decide +kernel
theorem d_M_commit_115 : decode b_M_commit 115 = .ok (.iload_n 3, 1) := by decide +kernel
theorem d_M_commit_116 : decode b_M_commit 116 = .ok (.sipush 300, 3) := by decide +kernel
theorem d_M_commit_119 : decode b_M_commit 119 = .ok (.imul, 1) := by decide +kernel
theorem d_M_commit_120 : decode b_M_commit 120 = .ok (.iload 4, 2) := by decide +kernel
theorem d_M_commit_122 : decode b_M_commit 122 = .ok (.iadd, 1) := by decide +kernel
theorem d_M_commit_123 : decode b_M_commit 123 = .ok (.laload, 1) := by decide +kernel
theorem d_M_commit_124 : decode b_M_commit 124 = .ok (.lastore, 1) := by decide +kernel
theorem d_M_commit_125 : decode b_M_commit 125 = .ok (.iinc 2 1, 3) := by decide +kernel
theorem d_M_commit_128 : decode b_M_commit 128 = .ok (.iinc 4 1, 3) := by decide +kernel
theorem d_M_commit_131 : decode b_M_commit 131 = .ok (.goto (-55), 3) := by decide +kernel
theorem d_M_commit_134 : decode b_M_commit 134 = .ok (.iinc 3 1, 3) := by decide +kernel
theorem d_M_commit_137 : decode b_M_commit 137 = .ok (.goto (-77), 3) := by decide +kernel
theorem d_M_commit_140 : decode b_M_commit 140 = .ok (.aload_n 0, 1) := by decide +kernel
theorem d_M_commit_141 : decode b_M_commit 141 = .ok (.getfield 16, 3) := by decide +kernel
theorem d_M_commit_144 : decode b_M_commit 144 = .ok (.aload_n 0, 1) := by decide +kernel
theorem d_M_commit_145 : decode b_M_commit 145 = .ok (.getfield 45, 3) := by decide +kernel
theorem d_M_commit_148 : decode b_M_commit 148 = .ok (.aload_n 0, 1) := by decide +kernel
theorem d_M_commit_149 : decode b_M_commit 149 = .ok (.invokevirtual 256, 3) := by decide +kernel
theorem d_M_commit_152 : decode b_M_commit 152 = .ok (.iaload, 1) := by decide +kernel
theorem d_M_commit_153 : decode b_M_commit 153 = .ok (.iload_n 1, 1) := by decide +kernel
theorem d_M_commit_154 : decode b_M_commit 154 = .ok (.iastore, 1) := by decide +kernel
theorem d_M_commit_155 : decode b_M_commit 155 = .ok (.aload_n 0, 1) := by decide +kernel
theorem d_M_commit_156 : decode b_M_commit 156 = .ok (.dup, 1) := by decide +kernel
theorem d_M_commit_157 : decode b_M_commit 157 = .ok (.getfield 253, 3) := by decide +kernel
theorem d_M_commit_160 : decode b_M_commit 160 = .ok (.iconst 1, 1) := by decide +kernel
theorem d_M_commit_161 : decode b_M_commit 161 = .ok (.iadd, 1) := by decide +kernel
theorem d_M_commit_162 : decode b_M_commit 162 = .ok (.putfield 253, 3) := by decide +kernel
theorem d_M_commit_165 : decode b_M_commit 165 = .ok (.aload_n 0, 1) := by decide +kernel
theorem d_M_commit_166 : decode b_M_commit 166 = .ok (.invokevirtual 335, 3) := by decide +kernel
theorem d_M_commit_169 : decode b_M_commit 169 = .ok (.return_, 1) := by decide +kernel
abbrev b_M_isDone : ByteArray := prog_1_method_31_code
def y_M_isDone : MethodName := ⟨"ShuffleMill", "isDone", "(I)Z"⟩
theorem d_M_isDone_0 : decode b_M_isDone 0 = .ok (.iload_n 1, 1) := by decide +kernel
theorem d_M_isDone_1 : decode b_M_isDone 1 = .ok (.bipush 38, 2) := by decide +kernel
theorem d_M_isDone_3 : decode b_M_isDone 3 = .ok (.if_icmp .ge 21, 3) := by decide +kernel
theorem d_M_isDone_6 : decode b_M_isDone 6 = .ok (.aload_n 0, 1) := by decide +kernel
theorem d_M_isDone_7 : decode b_M_isDone 7 = .ok (.getfield 66, 3) := by decide +kernel
theorem d_M_isDone_10 : decode b_M_isDone 10 = .ok (.iload_n 1, 1) := by decide +kernel
theorem d_M_isDone_11 : decode b_M_isDone 11 = .ok (.iaload, 1) := by decide +kernel
theorem d_M_isDone_12 : decode b_M_isDone 12 = .ok (.iconst (-1), 1) := by decide +kernel
theorem d_M_isDone_13 : decode b_M_isDone 13 = .ok (.if_icmp .eq 7, 3) := by decide +kernel
theorem d_M_isDone_16 : decode b_M_isDone 16 = .ok (.iconst 1, 1) := by decide +kernel
theorem d_M_isDone_17 : decode b_M_isDone 17 = .ok (.goto 16, 3) := by decide +kernel
theorem d_M_isDone_20 : decode b_M_isDone 20 = .ok (.iconst 0, 1) := by decide +kernel
theorem d_M_isDone_21 : decode b_M_isDone 21 = .ok (.goto 12, 3) := by decide +kernel
theorem d_M_isDone_24 : decode b_M_isDone 24 = .ok (.aload_n 0, 1) := by decide +kernel
theorem d_M_isDone_25 : decode b_M_isDone 25 = .ok (.getfield 72, 3) := by decide +kernel
theorem d_M_isDone_28 : decode b_M_isDone 28 = .ok (.iload_n 1, 1) := by decide +kernel
theorem d_M_isDone_29 : decode b_M_isDone 29 = .ok (.bipush 38, 2) := by decide +kernel
theorem d_M_isDone_31 : decode b_M_isDone 31 = .ok (.isub, 1) := by decide +kernel
theorem d_M_isDone_32 : decode b_M_isDone 32 = .ok (.baload, 1) := by decide +kernel
theorem d_M_isDone_33 : decode b_M_isDone 33 = .ok (.ireturn, 1) := by decide +kernel
abbrev b_M_give : ByteArray := prog_1_method_32_code
def y_M_give : MethodName := ⟨"ShuffleMill", "give", "(I)V"⟩
theorem d_M_give_0 : decode b_M_give 0 = .ok (.aload_n 0, 1) := by decide +kernel
theorem d_M_give_1 : decode b_M_give 1 = .ok (.invokevirtual 316, 3) := by decide +kernel
theorem d_M_give_4 : decode b_M_give 4 = .ok (.ifCond .eq 8, 3) := by decide +kernel
theorem d_M_give_7 : decode b_M_give 7 = .ok (.bipush 38, 2) := by decide +kernel
theorem d_M_give_9 : decode b_M_give 9 = .ok (.goto 4, 3) := by decide +kernel
theorem d_M_give_12 : decode b_M_give 12 = .ok (.iconst 0, 1) := by decide +kernel
theorem d_M_give_13 : decode b_M_give 13 = .ok (.istore_n 2, 1) := by decide +kernel
theorem d_M_give_14 : decode b_M_give 14 = .ok (.aload_n 0, 1) := by decide +kernel
theorem d_M_give_15 : decode b_M_give 15 = .ok (.invokevirtual 316, 3) := by decide +kernel
theorem d_M_give_18 : decode b_M_give 18 = .ok (.ifCond .eq 18, 3) := by decide +kernel
theorem d_M_give_21 : decode b_M_give 21 = .ok (.bipush 38, 2) := by decide +kernel
theorem d_M_give_23 : decode b_M_give 23 = .ok (.aload_n 0, 1) := by decide +kernel
theorem d_M_give_24 : decode b_M_give 24 = .ok (.getfield 48, 3) := by decide +kernel
theorem d_M_give_27 : decode b_M_give 27 = .ok (.aload_n 0, 1) := by decide +kernel
theorem d_M_give_28 : decode b_M_give 28 = .ok (.invokevirtual 256, 3) := by decide +kernel
theorem d_M_give_31 : decode b_M_give 31 = .ok (.iaload, 1) := by decide +kernel
theorem d_M_give_32 : decode b_M_give 32 = .ok (.iadd, 1) := by decide +kernel
theorem d_M_give_33 : decode b_M_give 33 = .ok (.goto 7, 3) := by decide +kernel
theorem d_M_give_36 : decode b_M_give 36 = .ok (.aload_n 0, 1) := by decide +kernel
theorem d_M_give_37 : decode b_M_give 37 = .ok (.invokevirtual 329, 3) := by decide +kernel
theorem d_M_give_40 : decode b_M_give 40 = .ok (.istore_n 3, 1) := by decide +kernel
theorem d_M_give_41 : decode b_M_give 41 = .ok (.iconst (-1), 1) := by decide +kernel
theorem d_M_give_42 : decode b_M_give 42 = .ok (.istore 4, 2) := by decide +kernel
theorem d_M_give_44 : decode b_M_give 44 = .ok (.iconst (-1), 1) := by decide +kernel
theorem d_M_give_45 : decode b_M_give 45 = .ok (.istore 5, 2) := by decide +kernel
theorem d_M_give_47 : decode b_M_give 47 = .ok (.iconst (-1), 1) := by decide +kernel
theorem d_M_give_48 : decode b_M_give 48 = .ok (.istore 6, 2) := by decide +kernel
theorem d_M_give_50 : decode b_M_give 50 = .ok (.iload_n 2, 1) := by decide +kernel
theorem d_M_give_51 : decode b_M_give 51 = .ok (.istore 7, 2) := by decide +kernel
theorem d_M_give_53 : decode b_M_give 53 = .ok (.iload 7, 2) := by decide +kernel
theorem d_M_give_55 : decode b_M_give 55 = .ok (.iload_n 3, 1) := by decide +kernel
theorem d_M_give_56 : decode b_M_give 56 = .ok (.if_icmp .ge 118, 3) := by decide +kernel
theorem d_M_give_59 : decode b_M_give 59 = .ok (.aload_n 0, 1) := by decide +kernel
theorem d_M_give_60 : decode b_M_give 60 = .ok (.iload 7, 2) := by decide +kernel
theorem d_M_give_62 : decode b_M_give 62 = .ok (.invokevirtual 338, 3) := by decide +kernel
theorem d_M_give_65 : decode b_M_give 65 = .ok (.ifCond .eq 6, 3) := by decide +kernel
theorem d_M_give_68 : decode b_M_give 68 = .ok (.goto 100, 3) := by decide +kernel
theorem d_M_give_71 : decode b_M_give 71 = .ok (.aload_n 0, 1) := by decide +kernel
theorem d_M_give_72 : decode b_M_give 72 = .ok (.getfield 75, 3) := by decide +kernel
theorem d_M_give_75 : decode b_M_give 75 = .ok (.iload 7, 2) := by decide +kernel
theorem d_M_give_77 : decode b_M_give 77 = .ok (.iaload, 1) := by decide +kernel
theorem d_M_give_78 : decode b_M_give 78 = .ok (.iload_n 1, 1) := by decide +kernel
theorem d_M_give_79 : decode b_M_give 79 = .ok (.if_icmp .ne 13, 3) := by decide +kernel
theorem d_M_give_82 : decode b_M_give 82 = .ok (.iload 4, 2) := by decide +kernel
theorem d_M_give_84 : decode b_M_give 84 = .ok (.iconst (-1), 1) := by decide +kernel
theorem d_M_give_85 : decode b_M_give 85 = .ok (.if_icmp .ne 7, 3) := by decide +kernel
theorem d_M_give_88 : decode b_M_give 88 = .ok (.iload 7, 2) := by decide +kernel
theorem d_M_give_90 : decode b_M_give 90 = .ok (.istore 4, 2) := by decide +kernel
theorem d_M_give_92 : decode b_M_give 92 = .ok (.aload_n 0, 1) := by decide +kernel
theorem d_M_give_93 : decode b_M_give 93 = .ok (.getfield 75, 3) := by decide +kernel
theorem d_M_give_96 : decode b_M_give 96 = .ok (.iload 7, 2) := by decide +kernel
theorem d_M_give_98 : decode b_M_give 98 = .ok (.iaload, 1) := by decide +kernel
theorem d_M_give_99 : decode b_M_give 99 = .ok (.iconst (-1), 1) := by decide +kernel
theorem d_M_give_100 : decode b_M_give 100 = .ok (.if_icmp .ne 13, 3) := by decide +kernel
theorem d_M_give_103 : decode b_M_give 103 = .ok (.iload 5, 2) := by decide +kernel
theorem d_M_give_105 : decode b_M_give 105 = .ok (.iconst (-1), 1) := by decide +kernel
theorem d_M_give_106 : decode b_M_give 106 = .ok (.if_icmp .ne 7, 3) := by decide +kernel
theorem d_M_give_109 : decode b_M_give 109 = .ok (.iload 7, 2) := by decide +kernel
theorem d_M_give_111 : decode b_M_give 111 = .ok (.istore 5, 2) := by decide +kernel
theorem d_M_give_113 : decode b_M_give 113 = .ok (.aload_n 0, 1) := by decide +kernel
theorem d_M_give_114 : decode b_M_give 114 = .ok (.getfield 75, 3) := by decide +kernel
theorem d_M_give_117 : decode b_M_give 117 = .ok (.iload 7, 2) := by decide +kernel
theorem d_M_give_119 : decode b_M_give 119 = .ok (.iaload, 1) := by decide +kernel
theorem d_M_give_120 : decode b_M_give 120 = .ok (.iconst (-1), 1) := by decide +kernel
theorem d_M_give_121 : decode b_M_give 121 = .ok (.if_icmp .eq 47, 3) := by decide +kernel
theorem d_M_give_124 : decode b_M_give 124 = .ok (.aload_n 0, 1) := by decide +kernel
theorem d_M_give_125 : decode b_M_give 125 = .ok (.getfield 305, 3) := by decide +kernel
theorem d_M_give_128 : decode b_M_give 128 = .ok (.aload_n 0, 1) := by decide +kernel
theorem d_M_give_129 : decode b_M_give 129 = .ok (.getfield 78, 3) := by decide +kernel
theorem d_M_give_132 : decode b_M_give 132 = .ok (.iload 7, 2) := by decide +kernel
theorem d_M_give_134 : decode b_M_give 134 = .ok (.iaload, 1) := by decide +kernel
theorem d_M_give_135 : decode b_M_give 135 = .ok (.isub, 1) := by decide +kernel
theorem d_M_give_136 : decode b_M_give 136 = .ok (.bipush 25, 2) := by decide +kernel
theorem d_M_give_138 : decode b_M_give 138 = .ok (.if_icmp .le 30, 3) := by decide +kernel
theorem d_M_give_141 : decode b_M_give 141 = .ok (.iload 6, 2) := by decide +kernel
theorem d_M_give_143 : decode b_M_give 143 = .ok (.iconst (-1), 1) := by decide +kernel
theorem d_M_give_144 : decode b_M_give 144 = .ok (.if_icmp .eq 20, 3) := by decide +kernel
theorem d_M_give_147 : decode b_M_give 147 = .ok (.aload_n 0, 1) := by decide +kernel
theorem d_M_give_148 : decode b_M_give 148 = .ok (.getfield 78, 3) := by decide +kernel
theorem d_M_give_151 : decode b_M_give 151 = .ok (.iload 7, 2) := by decide +kernel
theorem d_M_give_153 : decode b_M_give 153 = .ok (.iaload, 1) := by decide +kernel
theorem d_M_give_154 : decode b_M_give 154 = .ok (.aload_n 0, 1) := by decide +kernel
theorem d_M_give_155 : decode b_M_give 155 = .ok (.getfield 78, 3) := by decide +kernel
theorem d_M_give_158 : decode b_M_give 158 = .ok (.iload 6, 2) := by decide +kernel
theorem d_M_give_160 : decode b_M_give 160 = .ok (.iaload, 1) := by decide +kernel
theorem d_M_give_161 : decode b_M_give 161 = .ok (.if_icmp .ge 7, 3) := by decide +kernel
theorem d_M_give_164 : decode b_M_give 164 = .ok (.iload 7, 2) := by decide +kernel
theorem d_M_give_166 : decode b_M_give 166 = .ok (.istore 6, 2) := by decide +kernel
theorem d_M_give_168 : decode b_M_give 168 = .ok (.iinc 7 1, 3) := by decide +kernel
theorem d_M_give_171 : decode b_M_give 171 = .ok (.goto (-118), 3) := by decide +kernel
theorem d_M_give_174 : decode b_M_give 174 = .ok (.iload 4, 2) := by decide +kernel
theorem d_M_give_176 : decode b_M_give 176 = .ok (.iconst (-1), 1) := by decide +kernel
theorem d_M_give_177 : decode b_M_give 177 = .ok (.if_icmp .eq 8, 3) := by decide +kernel
theorem d_M_give_180 : decode b_M_give 180 = .ok (.iload 4, 2) := by decide +kernel
theorem d_M_give_182 : decode b_M_give 182 = .ok (.goto 16, 3) := by decide +kernel
theorem d_M_give_185 : decode b_M_give 185 = .ok (.iload 5, 2) := by decide +kernel
theorem d_M_give_187 : decode b_M_give 187 = .ok (.iconst (-1), 1) := by decide +kernel
theorem d_M_give_188 : decode b_M_give 188 = .ok (.if_icmp .eq 8, 3) := by decide +kernel
theorem d_M_give_191 : decode b_M_give 191 = .ok (.iload 5, 2) := by decide +kernel
theorem d_M_give_193 : decode b_M_give 193 = .ok (.goto 5, 3) := by decide +kernel
theorem d_M_give_196 : decode b_M_give 196 = .ok (.iload 6, 2) := by decide +kernel
theorem d_M_give_198 : decode b_M_give 198 = .ok (.istore 7, 2) := by decide +kernel
theorem d_M_give_200 : decode b_M_give 200 = .ok (.iload 7, 2) := by decide +kernel
theorem d_M_give_202 : decode b_M_give 202 = .ok (.iconst (-1), 1) := by decide +kernel
theorem d_M_give_203 : decode b_M_give 203 = .ok (.if_icmp .ne 4, 3) := by decide +kernel
theorem d_M_give_206 : decode b_M_give 206 = .ok (.return_, 1) := by decide +kernel
theorem d_M_give_207 : decode b_M_give 207 = .ok (.aload_n 0, 1) := by decide +kernel
theorem d_M_give_208 : decode b_M_give 208 = .ok (.getfield 75, 3) := by decide +kernel
theorem d_M_give_211 : decode b_M_give 211 = .ok (.iload 7, 2) := by decide +kernel
theorem d_M_give_213 : decode b_M_give 213 = .ok (.iload_n 1, 1) := by decide +kernel
theorem d_M_give_214 : decode b_M_give 214 = .ok (.iastore, 1) := by decide +kernel
theorem d_M_give_215 : decode b_M_give 215 = .ok (.aload_n 0, 1) := by decide +kernel
theorem d_M_give_216 : decode b_M_give 216 = .ok (.getfield 78, 3) := by decide +kernel
theorem d_M_give_219 : decode b_M_give 219 = .ok (.iload 7, 2) := by decide +kernel
theorem d_M_give_221 : decode b_M_give 221 = .ok (.aload_n 0, 1) := by decide +kernel
theorem d_M_give_222 : decode b_M_give 222 = .ok (.getfield 305, 3) := by decide +kernel
theorem d_M_give_225 : decode b_M_give 225 = .ok (.iastore, 1) := by decide +kernel
theorem d_M_give_226 : decode b_M_give 226 = .ok (.aload_n 0, 1) := by decide +kernel
theorem d_M_give_227 : decode b_M_give 227 = .ok (.iload_n 1, 1) := by decide +kernel
theorem d_M_give_228 : decode b_M_give 228 = .ok (.iconst 2, 1) := by decide +kernel
theorem d_M_give_229 : decode b_M_give 229 = .ok (.iload 7, 2) := by decide +kernel
theorem d_M_give_231 : decode b_M_give 231 = .ok (.iconst 0, 1) := by decide +kernel
theorem d_M_give_232 : decode b_M_give 232 = .ok (.iconst 0, 1) := by decide +kernel
theorem d_M_give_233 : decode b_M_give 233 = .ok (.iconst 0, 1) := by decide +kernel
theorem d_M_give_234 : decode b_M_give 234 = .ok (.invokevirtual 341, 3) := by decide +kernel
theorem d_M_give_237 : decode b_M_give 237 = .ok (.return_, 1) := by decide +kernel
abbrev b_M_forget : ByteArray := prog_1_method_33_code
def y_M_forget : MethodName := ⟨"ShuffleMill", "forget", "(I)V"⟩
theorem d_M_forget_0 : decode b_M_forget 0 = .ok (.aload_n 0, 1) := by decide +kernel
theorem d_M_forget_1 : decode b_M_forget 1 = .ok (.getfield 138, 3) := by decide +kernel
theorem d_M_forget_4 : decode b_M_forget 4 = .ok (.iload_n 1, 1) := by decide +kernel
theorem d_M_forget_5 : decode b_M_forget 5 = .ok (.iconst (-1), 1) := by decide +kernel
theorem d_M_forget_6 : decode b_M_forget 6 = .ok (.iastore, 1) := by decide +kernel
theorem d_M_forget_7 : decode b_M_forget 7 = .ok (.aload_n 0, 1) := by decide +kernel
theorem d_M_forget_8 : decode b_M_forget 8 = .ok (.getfield 144, 3) := by decide +kernel
theorem d_M_forget_11 : decode b_M_forget 11 = .ok (.iload_n 1, 1) := by decide +kernel
theorem d_M_forget_12 : decode b_M_forget 12 = .ok (.iconst 0, 1) := by decide +kernel
theorem d_M_forget_13 : decode b_M_forget 13 = .ok (.iastore, 1) := by decide +kernel
theorem d_M_forget_14 : decode b_M_forget 14 = .ok (.aload_n 0, 1) := by decide +kernel
theorem d_M_forget_15 : decode b_M_forget 15 = .ok (.getfield 147, 3) := by decide +kernel
theorem d_M_forget_18 : decode b_M_forget 18 = .ok (.iload_n 1, 1) := by decide +kernel
theorem d_M_forget_19 : decode b_M_forget 19 = .ok (.iconst 0, 1) := by decide +kernel
theorem d_M_forget_20 : decode b_M_forget 20 = .ok (.iastore, 1) := by decide +kernel
theorem d_M_forget_21 : decode b_M_forget 21 = .ok (.aload_n 0, 1) := by decide +kernel
theorem d_M_forget_22 : decode b_M_forget 22 = .ok (.getfield 150, 3) := by decide +kernel
theorem d_M_forget_25 : decode b_M_forget 25 = .ok (.iload_n 1, 1) := by decide +kernel
theorem d_M_forget_26 : decode b_M_forget 26 = .ok (.iconst 0, 1) := by decide +kernel
theorem d_M_forget_27 : decode b_M_forget 27 = .ok (.iastore, 1) := by decide +kernel
theorem d_M_forget_28 : decode b_M_forget 28 = .ok (.aload_n 0, 1) := by decide +kernel
theorem d_M_forget_29 : decode b_M_forget 29 = .ok (.getfield 153, 3) := by decide +kernel
theorem d_M_forget_32 : decode b_M_forget 32 = .ok (.iload_n 1, 1) := by decide +kernel
theorem d_M_forget_33 : decode b_M_forget 33 = .ok (.iconst 0, 1) := by decide +kernel
theorem d_M_forget_34 : decode b_M_forget 34 = .ok (.iastore, 1) := by decide +kernel
theorem d_M_forget_35 : decode b_M_forget 35 = .ok (.aload_n 0, 1) := by decide +kernel
theorem d_M_forget_36 : decode b_M_forget 36 = .ok (.getfield 162, 3) := by decide +kernel
theorem d_M_forget_39 : decode b_M_forget 39 = .ok (.iload_n 1, 1) := by decide +kernel
theorem d_M_forget_40 : decode b_M_forget 40 = .ok (.iconst 0, 1) := by decide +kernel
theorem d_M_forget_41 : decode b_M_forget 41 = .ok (.iastore, 1) := by decide +kernel
theorem d_M_forget_42 : decode b_M_forget 42 = .ok (.aload_n 0, 1) := by decide +kernel
theorem d_M_forget_43 : decode b_M_forget 43 = .ok (.getfield 171, 3) := by decide +kernel
theorem d_M_forget_46 : decode b_M_forget 46 = .ok (.iload_n 1, 1) := by decide +kernel
theorem d_M_forget_47 : decode b_M_forget 47 = .ok (.iconst 0, 1) := by decide +kernel
theorem d_M_forget_48 : decode b_M_forget 48 = .ok (.iastore, 1) := by decide +kernel
theorem d_M_forget_49 : decode b_M_forget 49 = .ok (.aload_n 0, 1) := by decide +kernel
theorem d_M_forget_50 : decode b_M_forget 50 = .ok (.getfield 177, 3) := by decide +kernel
theorem d_M_forget_53 : decode b_M_forget 53 = .ok (.iload_n 1, 1) := by decide +kernel
theorem d_M_forget_54 : decode b_M_forget 54 = .ok (.iconst 0, 1) := by decide +kernel
theorem d_M_forget_55 : decode b_M_forget 55 = .ok (.iastore, 1) := by decide +kernel
theorem d_M_forget_56 : decode b_M_forget 56 = .ok (.return_, 1) := by decide +kernel
abbrev b_M_mix : ByteArray := prog_1_method_34_code
def y_M_mix : MethodName := ⟨"ShuffleMill", "mix", "(JJ)J"⟩
theorem d_M_mix_0 : decode b_M_mix 0 = .ok (.lload_n 0, 1) := by decide +kernel
theorem d_M_mix_1 : decode b_M_mix 1 = .ok (.lload_n 2, 1) := by decide +kernel
theorem d_M_mix_2 : decode b_M_mix 2 = .ok (.lxor, 1) := by decide +kernel
theorem d_M_mix_3 : decode b_M_mix 3 = .ok (.ldc2_w 345, 3) := by decide +kernel
theorem d_M_mix_6 : decode b_M_mix 6 = .ok (.lmul, 1) := by decide +kernel
theorem d_M_mix_7 : decode b_M_mix 7 = .ok (.lstore 4, 2) := by decide +kernel
theorem d_M_mix_9 : decode b_M_mix 9 = .ok (.lload 4, 2) := by decide +kernel
theorem d_M_mix_11 : decode b_M_mix 11 = .ok (.lload 4, 2) := by decide +kernel
theorem d_M_mix_13 : decode b_M_mix 13 = .ok (.bipush 31, 2) := by decide +kernel
theorem d_M_mix_15 : decode b_M_mix 15 = .ok (.lushr, 1) := by decide +kernel
theorem d_M_mix_16 : decode b_M_mix 16 = .ok (.lxor, 1) := by decide +kernel
theorem d_M_mix_17 : decode b_M_mix 17 = .ok (.lreturn, 1) := by decide +kernel
abbrev b_M_renew : ByteArray := prog_1_method_35_code
def y_M_renew : MethodName := ⟨"ShuffleMill", "renew", "(I)V"⟩
theorem d_M_renew_0 : decode b_M_renew 0 = .ok (.aload_n 0, 1) := by decide +kernel
theorem d_M_renew_1 : decode b_M_renew 1 = .ok (.getfield 114, 3) := by decide +kernel
theorem d_M_renew_4 : decode b_M_renew 4 = .ok (.iload_n 1, 1) := by decide +kernel
theorem d_M_renew_5 : decode b_M_renew 5 = .ok (.iaload, 1) := by decide +kernel
theorem d_M_renew_6 : decode b_M_renew 6 = .ok (.aload_n 0, 1) := by decide +kernel
theorem d_M_renew_7 : decode b_M_renew 7 = .ok (.getfield 270, 3) := by decide +kernel
theorem d_M_renew_10 : decode b_M_renew 10 = .ok (.if_icmp .ne 4, 3) := by decide +kernel
theorem d_M_renew_13 : decode b_M_renew 13 = .ok (.return_, 1) := by decide +kernel
theorem d_M_renew_14 : decode b_M_renew 14 = .ok (.aload_n 0, 1) := by decide +kernel
theorem d_M_renew_15 : decode b_M_renew 15 = .ok (.getfield 114, 3) := by decide +kernel
theorem d_M_renew_18 : decode b_M_renew 18 = .ok (.iload_n 1, 1) := by decide +kernel
theorem d_M_renew_19 : decode b_M_renew 19 = .ok (.aload_n 0, 1) := by decide +kernel
theorem d_M_renew_20 : decode b_M_renew 20 = .ok (.getfield 270, 3) := by decide +kernel
theorem d_M_renew_23 : decode b_M_renew 23 = .ok (.iastore, 1) := by decide +kernel
theorem d_M_renew_24 : decode b_M_renew 24 = .ok (.aload_n 0, 1) := by decide +kernel
theorem d_M_renew_25 : decode b_M_renew 25 = .ok (.getfield 117, 3) := by decide +kernel
theorem d_M_renew_28 : decode b_M_renew 28 = .ok (.iload_n 1, 1) := by decide +kernel
theorem d_M_renew_29 : decode b_M_renew 29 = .ok (.iconst 0, 1) := by decide +kernel
theorem d_M_renew_30 : decode b_M_renew 30 = .ok (.iastore, 1) := by decide +kernel
theorem d_M_renew_31 : decode b_M_renew 31 = .ok (.iconst 0, 1) := by decide +kernel
theorem d_M_renew_32 : decode b_M_renew 32 = .ok (.istore_n 2, 1) := by decide +kernel
theorem d_M_renew_33 : decode b_M_renew 33 = .ok (.iload_n 2, 1) := by decide +kernel
theorem d_M_renew_34 : decode b_M_renew 34 = .ok (.bipush 38, 2) := by decide +kernel
theorem d_M_renew_36 : decode b_M_renew 36 = .ok (.if_icmp .ge 21, 3) := by decide +kernel
theorem d_M_renew_39 : decode b_M_renew 39 = .ok (.aload_n 0, 1) := by decide +kernel
theorem d_M_renew_40 : decode b_M_renew 40 = .ok (.getfield 120, 3) := by decide +kernel
theorem d_M_renew_43 : decode b_M_renew 43 = .ok (.iload_n 1, 1) := by decide +kernel
theorem d_M_renew_44 : decode b_M_renew 44 = .ok (.bipush 38, 2) := by decide +kernel
theorem d_M_renew_46 : decode b_M_renew 46 = .ok (.imul, 1) := by decide +kernel
theorem d_M_renew_47 : decode b_M_renew 47 = .ok (.iload_n 2, 1) := by decide +kernel
theorem d_M_renew_48 : decode b_M_renew 48 = .ok (.iadd, 1) := by decide +kernel
theorem d_M_renew_49 : decode b_M_renew 49 = .ok (.iconst (-1), 1) := by decide +kernel
theorem d_M_renew_50 : decode b_M_renew 50 = .ok (.iastore, 1) := by decide +kernel
theorem d_M_renew_51 : decode b_M_renew 51 = .ok (.iinc 2 1, 3) := by decide +kernel
theorem d_M_renew_54 : decode b_M_renew 54 = .ok (.goto (-21), 3) := by decide +kernel
theorem d_M_renew_57 : decode b_M_renew 57 = .ok (.return_, 1) := by decide +kernel
abbrev b_M_worker : ByteArray := prog_1_method_36_code
def y_M_worker : MethodName := ⟨"ShuffleMill", "worker", "(I)V"⟩
theorem d_M_worker_0 : decode b_M_worker 0 = .ok (.aload_n 0, 1) := by decide +kernel
theorem d_M_worker_1 : decode b_M_worker 1 = .ok (.getfield 135, 3) := by decide +kernel
theorem d_M_worker_4 : decode b_M_worker 4 = .ok (.iload_n 1, 1) := by decide +kernel
theorem d_M_worker_5 : decode b_M_worker 5 = .ok (.baload, 1) := by decide +kernel
theorem d_M_worker_6 : decode b_M_worker 6 = .ok (.ifCond .ne 15, 3) := by decide +kernel
theorem d_M_worker_9 : decode b_M_worker 9 = .ok (.aload_n 0, 1) := by decide +kernel
theorem d_M_worker_10 : decode b_M_worker 10 = .ok (.iload_n 1, 1) := by decide +kernel
theorem d_M_worker_11 : decode b_M_worker 11 = .ok (.invokevirtual 347, 3) := by decide +kernel
theorem d_M_worker_14 : decode b_M_worker 14 = .ok (.aload_n 0, 1) := by decide +kernel
theorem d_M_worker_15 : decode b_M_worker 15 = .ok (.getfield 135, 3) := by decide +kernel
theorem d_M_worker_18 : decode b_M_worker 18 = .ok (.iload_n 1, 1) := by decide +kernel
theorem d_M_worker_19 : decode b_M_worker 19 = .ok (.iconst 1, 1) := by decide +kernel
theorem d_M_worker_20 : decode b_M_worker 20 = .ok (.bastore, 1) := by decide +kernel
theorem d_M_worker_21 : decode b_M_worker 21 = .ok (.aload_n 0, 1) := by decide +kernel
theorem d_M_worker_22 : decode b_M_worker 22 = .ok (.iload_n 1, 1) := by decide +kernel
theorem d_M_worker_23 : decode b_M_worker 23 = .ok (.invokevirtual 350, 3) := by decide +kernel
theorem d_M_worker_26 : decode b_M_worker 26 = .ok (.aload_n 0, 1) := by decide +kernel
theorem d_M_worker_27 : decode b_M_worker 27 = .ok (.getfield 138, 3) := by decide +kernel
theorem d_M_worker_30 : decode b_M_worker 30 = .ok (.iload_n 1, 1) := by decide +kernel
theorem d_M_worker_31 : decode b_M_worker 31 = .ok (.iaload, 1) := by decide +kernel
theorem d_M_worker_32 : decode b_M_worker 32 = .ok (.iconst (-1), 1) := by decide +kernel
theorem d_M_worker_33 : decode b_M_worker 33 = .ok (.if_icmp .eq 21, 3) := by decide +kernel
theorem d_M_worker_36 : decode b_M_worker 36 = .ok (.aload_n 0, 1) := by decide +kernel
theorem d_M_worker_37 : decode b_M_worker 37 = .ok (.getfield 141, 3) := by decide +kernel
theorem d_M_worker_40 : decode b_M_worker 40 = .ok (.iload_n 1, 1) := by decide +kernel
theorem d_M_worker_41 : decode b_M_worker 41 = .ok (.iaload, 1) := by decide +kernel
theorem d_M_worker_42 : decode b_M_worker 42 = .ok (.aload_n 0, 1) := by decide +kernel
theorem d_M_worker_43 : decode b_M_worker 43 = .ok (.getfield 270, 3) := by decide +kernel
theorem d_M_worker_46 : decode b_M_worker 46 = .ok (.if_icmp .eq 8, 3) := by decide +kernel
theorem d_M_worker_49 : decode b_M_worker 49 = .ok (.aload_n 0, 1) := by decide +kernel
theorem d_M_worker_50 : decode b_M_worker 50 = .ok (.iload_n 1, 1) := by decide +kernel
theorem d_M_worker_51 : decode b_M_worker 51 = .ok (.invokevirtual 347, 3) := by decide +kernel
theorem d_M_worker_54 : decode b_M_worker 54 = .ok (.iconst 0, 1) := by decide +kernel
theorem d_M_worker_55 : decode b_M_worker 55 = .ok (.istore_n 2, 1) := by decide +kernel
theorem d_M_worker_56 : decode b_M_worker 56 = .ok (.iload_n 2, 1) := by decide +kernel
theorem d_M_worker_57 : decode b_M_worker 57 = .ok (.iconst 3, 1) := by decide +kernel
theorem d_M_worker_58 : decode b_M_worker 58 = .ok (.if_icmp .ge 22, 3) := by decide +kernel
theorem d_M_worker_61 : decode b_M_worker 61 = .ok (.aload_n 0, 1) := by decide +kernel
theorem d_M_worker_62 : decode b_M_worker 62 = .ok (.iload_n 1, 1) := by decide +kernel
theorem d_M_worker_63 : decode b_M_worker 63 = .ok (.invokevirtual 308, 3) := by decide +kernel
theorem d_M_worker_66 : decode b_M_worker 66 = .ok (.ifCond .eq 8, 3) := by decide +kernel
theorem d_M_worker_69 : decode b_M_worker 69 = .ok (.aload_n 0, 1) := by decide +kernel
theorem d_M_worker_70 : decode b_M_worker 70 = .ok (.iload_n 1, 1) := by decide +kernel
theorem d_M_worker_71 : decode b_M_worker 71 = .ok (.invokevirtual 353, 3) := by decide +kernel
theorem d_M_worker_74 : decode b_M_worker 74 = .ok (.iinc 2 1, 3) := by decide +kernel
theorem d_M_worker_77 : decode b_M_worker 77 = .ok (.goto (-21), 3) := by decide +kernel
theorem d_M_worker_80 : decode b_M_worker 80 = .ok (.aload_n 0, 1) := by decide +kernel
theorem d_M_worker_81 : decode b_M_worker 81 = .ok (.getfield 138, 3) := by decide +kernel
theorem d_M_worker_84 : decode b_M_worker 84 = .ok (.iload_n 1, 1) := by decide +kernel
theorem d_M_worker_85 : decode b_M_worker 85 = .ok (.iaload, 1) := by decide +kernel
theorem d_M_worker_86 : decode b_M_worker 86 = .ok (.iconst (-1), 1) := by decide +kernel
theorem d_M_worker_87 : decode b_M_worker 87 = .ok (.if_icmp .ne 11, 3) := by decide +kernel
theorem d_M_worker_90 : decode b_M_worker 90 = .ok (.aload_n 0, 1) := by decide +kernel
theorem d_M_worker_91 : decode b_M_worker 91 = .ok (.iload_n 1, 1) := by decide +kernel
theorem d_M_worker_92 : decode b_M_worker 92 = .ok (.invokevirtual 356, 3) := by decide +kernel
theorem d_M_worker_95 : decode b_M_worker 95 = .ok (.goto 27, 3) := by decide +kernel
theorem d_M_worker_98 : decode b_M_worker 98 = .ok (.aload_n 0, 1) := by decide +kernel
theorem d_M_worker_99 : decode b_M_worker 99 = .ok (.getfield 138, 3) := by decide +kernel
theorem d_M_worker_102 : decode b_M_worker 102 = .ok (.iload_n 1, 1) := by decide +kernel
theorem d_M_worker_103 : decode b_M_worker 103 = .ok (.iaload, 1) := by decide +kernel
theorem d_M_worker_104 : decode b_M_worker 104 = .ok (.bipush 38, 2) := by decide +kernel
theorem d_M_worker_106 : decode b_M_worker 106 = .ok (.if_icmp .ge 11, 3) := by decide +kernel
theorem d_M_worker_109 : decode b_M_worker 109 = .ok (.aload_n 0, 1) := by decide +kernel
theorem d_M_worker_110 : decode b_M_worker 110 = .ok (.iload_n 1, 1) := by decide +kernel
theorem d_M_worker_111 : decode b_M_worker 111 = .ok (.invokevirtual 359, 3) := by decide +kernel
theorem d_M_worker_114 : decode b_M_worker 114 = .ok (.goto 8, 3) := by decide +kernel
theorem d_M_worker_117 : decode b_M_worker 117 = .ok (.aload_n 0, 1) := by decide +kernel
theorem d_M_worker_118 : decode b_M_worker 118 = .ok (.iload_n 1, 1) := by decide +kernel
theorem d_M_worker_119 : decode b_M_worker 119 = .ok (.invokevirtual 362, 3) := by decide +kernel
theorem d_M_worker_122 : decode b_M_worker 122 = .ok (.return_, 1) := by decide +kernel
