abbrev b_L_record : ByteArray := method_3_code
def y_L_record : MethodName := ⟨"ShuffleMillLaw", "record", "(LShuffleMill;IJJ[J)I"⟩
theorem d_L_record_0 : decode b_L_record 0 = .ok (.aload 6, 2) := by decide +kernel
theorem d_L_record_2 : decode b_L_record 2 = .ok (.iconst 0, 1) := by decide +kernel
theorem d_L_record_3 : decode b_L_record 3 = .ok (.aload_n 0, 1) := by decide +kernel
theorem d_L_record_4 : decode b_L_record 4 = .ok (.iload_n 1, 1) := by decide +kernel
theorem d_L_record_5 : decode b_L_record 5 = .ok (.lload_n 2, 1) := by decide +kernel
theorem d_L_record_6 : decode b_L_record 6 = .ok (.lload 4, 2) := by decide +kernel
theorem d_L_record_8 : decode b_L_record 8 = .ok (.invokevirtual 7, 3) := by decide +kernel
theorem d_L_record_11 : decode b_L_record 11 = .ok (.i2l, 1) := by decide +kernel
theorem d_L_record_12 : decode b_L_record 12 = .ok (.lastore, 1) := by decide +kernel
theorem d_L_record_13 : decode b_L_record 13 = .ok (.goto 11, 3) := by decide +kernel
theorem d_L_record_16 : decode b_L_record 16 = .ok (.astore 7, 2) := by decide +kernel
theorem d_L_record_18 : decode b_L_record 18 = .ok (.iconst 1, 1) := by decide +kernel
theorem d_L_record_19 : decode b_L_record 19 = .ok (.ireturn, 1) := by decide +kernel
theorem d_L_record_20 : decode b_L_record 20 = .ok (.astore 7, 2) := by decide +kernel
theorem d_L_record_22 : decode b_L_record 22 = .ok (.iconst 2, 1) := by decide +kernel
theorem d_L_record_23 : decode b_L_record 23 = .ok (.ireturn, 1) := by decide +kernel
theorem d_L_record_24 : decode b_L_record 24 = .ok (.iconst 0, 1) := by decide +kernel
theorem d_L_record_25 : decode b_L_record 25 = .ok (.ireturn, 1) := by decide +kernel
abbrev b_L_clear : ByteArray := method_4_code
def y_L_clear : MethodName := ⟨"ShuffleMillLaw", "clear", "(LShuffleMill;I[J)I"⟩
theorem d_L_clear_0 : decode b_L_clear 0 = .ok (.aload_n 2, 1) := by decide +kernel
theorem d_L_clear_1 : decode b_L_clear 1 = .ok (.iconst 0, 1) := by decide +kernel
theorem d_L_clear_2 : decode b_L_clear 2 = .ok (.aload_n 0, 1) := by decide +kernel
theorem d_L_clear_3 : decode b_L_clear 3 = .ok (.iload_n 1, 1) := by decide +kernel
theorem d_L_clear_4 : decode b_L_clear 4 = .ok (.invokevirtual 17, 3) := by decide +kernel
theorem d_L_clear_7 : decode b_L_clear 7 = .ok (.i2l, 1) := by decide +kernel
theorem d_L_clear_8 : decode b_L_clear 8 = .ok (.lastore, 1) := by decide +kernel
theorem d_L_clear_9 : decode b_L_clear 9 = .ok (.goto 9, 3) := by decide +kernel
theorem d_L_clear_12 : decode b_L_clear 12 = .ok (.astore_n 3, 1) := by decide +kernel
theorem d_L_clear_13 : decode b_L_clear 13 = .ok (.iconst 1, 1) := by decide +kernel
theorem d_L_clear_14 : decode b_L_clear 14 = .ok (.ireturn, 1) := by decide +kernel
theorem d_L_clear_15 : decode b_L_clear 15 = .ok (.astore_n 3, 1) := by decide +kernel
theorem d_L_clear_16 : decode b_L_clear 16 = .ok (.iconst 2, 1) := by decide +kernel
theorem d_L_clear_17 : decode b_L_clear 17 = .ok (.ireturn, 1) := by decide +kernel
theorem d_L_clear_18 : decode b_L_clear 18 = .ok (.iconst 0, 1) := by decide +kernel
theorem d_L_clear_19 : decode b_L_clear 19 = .ok (.ireturn, 1) := by decide +kernel
abbrev b_L_code : ByteArray := method_5_code
def y_L_code : MethodName := ⟨"ShuffleMillLaw", "code", "(LShuffleMill;IJ[J)I"⟩
theorem d_L_code_0 : decode b_L_code 0 = .ok (.aload 4, 2) := by decide +kernel
theorem d_L_code_2 : decode b_L_code 2 = .ok (.iconst 0, 1) := by decide +kernel
theorem d_L_code_3 : decode b_L_code 3 = .ok (.aload_n 0, 1) := by decide +kernel
theorem d_L_code_4 : decode b_L_code 4 = .ok (.iload_n 1, 1) := by decide +kernel
theorem d_L_code_5 : decode b_L_code 5 = .ok (.lload_n 2, 1) := by decide +kernel
theorem d_L_code_6 : decode b_L_code 6 = .ok (.invokevirtual 21, 3) := by decide +kernel
theorem d_L_code_9 : decode b_L_code 9 = .ok (.i2l, 1) := by decide +kernel
theorem d_L_code_10 : decode b_L_code 10 = .ok (.lastore, 1) := by decide +kernel
theorem d_L_code_11 : decode b_L_code 11 = .ok (.goto 11, 3) := by decide +kernel
theorem d_L_code_14 : decode b_L_code 14 = .ok (.astore 5, 2) := by decide +kernel
theorem d_L_code_16 : decode b_L_code 16 = .ok (.iconst 1, 1) := by decide +kernel
theorem d_L_code_17 : decode b_L_code 17 = .ok (.ireturn, 1) := by decide +kernel
theorem d_L_code_18 : decode b_L_code 18 = .ok (.astore 5, 2) := by decide +kernel
theorem d_L_code_20 : decode b_L_code 20 = .ok (.iconst 2, 1) := by decide +kernel
theorem d_L_code_21 : decode b_L_code 21 = .ok (.ireturn, 1) := by decide +kernel
theorem d_L_code_22 : decode b_L_code 22 = .ok (.iconst 0, 1) := by decide +kernel
theorem d_L_code_23 : decode b_L_code 23 = .ok (.ireturn, 1) := by decide +kernel
abbrev b_L_program : ByteArray := method_6_code
def y_L_program : MethodName := ⟨"ShuffleMillLaw", "program", "(LShuffleMill;II[J)I"⟩
theorem d_L_program_0 : decode b_L_program 0 = .ok (.aload_n 3, 1) := by decide +kernel
theorem d_L_program_1 : decode b_L_program 1 = .ok (.iconst 0, 1) := by decide +kernel
theorem d_L_program_2 : decode b_L_program 2 = .ok (.aload_n 0, 1) := by decide +kernel
theorem d_L_program_3 : decode b_L_program 3 = .ok (.iload_n 1, 1) := by decide +kernel
theorem d_L_program_4 : decode b_L_program 4 = .ok (.iload_n 2, 1) := by decide +kernel
theorem d_L_program_5 : decode b_L_program 5 = .ok (.invokevirtual 27, 3) := by decide +kernel
theorem d_L_program_8 : decode b_L_program 8 = .ok (.i2l, 1) := by decide +kernel
theorem d_L_program_9 : decode b_L_program 9 = .ok (.lastore, 1) := by decide +kernel
theorem d_L_program_10 : decode b_L_program 10 = .ok (.goto 15, 3) := by decide +kernel
theorem d_L_program_13 : decode b_L_program 13 = .ok (.astore 4, 2) := by decide +kernel
theorem d_L_program_15 : decode b_L_program 15 = .ok (.iconst 1, 1) := by decide +kernel
theorem d_L_program_16 : decode b_L_program 16 = .ok (.ireturn, 1) := by decide +kernel
theorem d_L_program_17 : decode b_L_program 17 = .ok (.astore 4, 2) := by decide +kernel
theorem d_L_program_19 : decode b_L_program 19 = .ok (.iconst 2, 1) := by decide +kernel
theorem d_L_program_20 : decode b_L_program 20 = .ok (.ireturn, 1) := by decide +kernel
theorem d_L_program_21 : decode b_L_program 21 = .ok (.astore 4, 2) := by decide +kernel
theorem d_L_program_23 : decode b_L_program 23 = .ok (.iconst 3, 1) := by decide +kernel
theorem d_L_program_24 : decode b_L_program 24 = .ok (.ireturn, 1) := by decide +kernel
theorem d_L_program_25 : decode b_L_program 25 = .ok (.iconst 0, 1) := by decide +kernel
theorem d_L_program_26 : decode b_L_program 26 = .ok (.ireturn, 1) := by decide +kernel
abbrev b_L_job : ByteArray := method_7_code
def y_L_job : MethodName := ⟨"ShuffleMillLaw", "job", "(LShuffleMill;IIIII)I"⟩
theorem d_L_job_0 : decode b_L_job 0 = .ok (.aload_n 0, 1) := by decide +kernel
theorem d_L_job_1 : decode b_L_job 1 = .ok (.iload_n 1, 1) := by decide +kernel
theorem d_L_job_2 : decode b_L_job 2 = .ok (.iload_n 2, 1) := by decide +kernel
theorem d_L_job_3 : decode b_L_job 3 = .ok (.iload_n 3, 1) := by decide +kernel
theorem d_L_job_4 : decode b_L_job 4 = .ok (.iload 4, 2) := by decide +kernel
theorem d_L_job_6 : decode b_L_job 6 = .ok (.iload 5, 2) := by decide +kernel
theorem d_L_job_8 : decode b_L_job 8 = .ok (.invokevirtual 31, 3) := by decide +kernel
theorem d_L_job_11 : decode b_L_job 11 = .ok (.goto 15, 3) := by decide +kernel
theorem d_L_job_14 : decode b_L_job 14 = .ok (.astore 6, 2) := by decide +kernel
theorem d_L_job_16 : decode b_L_job 16 = .ok (.iconst 1, 1) := by decide +kernel
theorem d_L_job_17 : decode b_L_job 17 = .ok (.ireturn, 1) := by decide +kernel
theorem d_L_job_18 : decode b_L_job 18 = .ok (.astore 6, 2) := by decide +kernel
theorem d_L_job_20 : decode b_L_job 20 = .ok (.iconst 2, 1) := by decide +kernel
theorem d_L_job_21 : decode b_L_job 21 = .ok (.ireturn, 1) := by decide +kernel
theorem d_L_job_22 : decode b_L_job 22 = .ok (.astore 6, 2) := by decide +kernel
theorem d_L_job_24 : decode b_L_job 24 = .ok (.iconst 3, 1) := by decide +kernel
theorem d_L_job_25 : decode b_L_job 25 = .ok (.ireturn, 1) := by decide +kernel
theorem d_L_job_26 : decode b_L_job 26 = .ok (.iconst 0, 1) := by decide +kernel
theorem d_L_job_27 : decode b_L_job 27 = .ok (.ireturn, 1) := by decide +kernel
abbrev b_L_drop : ByteArray := method_8_code
def y_L_drop : MethodName := ⟨"ShuffleMillLaw", "drop", "(LShuffleMill;I[J)I"⟩
theorem d_L_drop_0 : decode b_L_drop 0 = .ok (.aload_n 2, 1) := by decide +kernel
theorem d_L_drop_1 : decode b_L_drop 1 = .ok (.iconst 0, 1) := by decide +kernel
theorem d_L_drop_2 : decode b_L_drop 2 = .ok (.aload_n 0, 1) := by decide +kernel
theorem d_L_drop_3 : decode b_L_drop 3 = .ok (.iload_n 1, 1) := by decide +kernel
theorem d_L_drop_4 : decode b_L_drop 4 = .ok (.invokevirtual 35, 3) := by decide +kernel
theorem d_L_drop_7 : decode b_L_drop 7 = .ok (.ifCond .eq 7, 3) := by decide +kernel
theorem d_L_drop_10 : decode b_L_drop 10 = .ok (.lconst 1, 1) := by decide +kernel
theorem d_L_drop_11 : decode b_L_drop 11 = .ok (.goto 4, 3) := by decide +kernel
theorem d_L_drop_14 : decode b_L_drop 14 = .ok (.lconst 0, 1) := by decide +kernel
theorem d_L_drop_15 : decode b_L_drop 15 = .ok (.lastore, 1) := by decide +kernel
theorem d_L_drop_16 : decode b_L_drop 16 = .ok (.goto 9, 3) := by decide +kernel
theorem d_L_drop_19 : decode b_L_drop 19 = .ok (.astore_n 3, 1) := by decide +kernel
theorem d_L_drop_20 : decode b_L_drop 20 = .ok (.iconst 1, 1) := by decide +kernel
theorem d_L_drop_21 : decode b_L_drop 21 = .ok (.ireturn, 1) := by decide +kernel
theorem d_L_drop_22 : decode b_L_drop 22 = .ok (.astore_n 3, 1) := by decide +kernel
theorem d_L_drop_23 : decode b_L_drop 23 = .ok (.iconst 2, 1) := by decide +kernel
theorem d_L_drop_24 : decode b_L_drop 24 = .ok (.ireturn, 1) := by decide +kernel
theorem d_L_drop_25 : decode b_L_drop 25 = .ok (.iconst 0, 1) := by decide +kernel
theorem d_L_drop_26 : decode b_L_drop 26 = .ok (.ireturn, 1) := by decide +kernel
abbrev b_L_begin : ByteArray := method_9_code
def y_L_begin : MethodName := ⟨"ShuffleMillLaw", "begin", "(LShuffleMill;[J)I"⟩
theorem d_L_begin_0 : decode b_L_begin 0 = .ok (.aload_n 1, 1) := by decide +kernel
theorem d_L_begin_1 : decode b_L_begin 1 = .ok (.iconst 0, 1) := by decide +kernel
theorem d_L_begin_2 : decode b_L_begin 2 = .ok (.aload_n 0, 1) := by decide +kernel
theorem d_L_begin_3 : decode b_L_begin 3 = .ok (.invokevirtual 39, 3) := by decide +kernel
theorem d_L_begin_6 : decode b_L_begin 6 = .ok (.i2l, 1) := by decide +kernel
theorem d_L_begin_7 : decode b_L_begin 7 = .ok (.lastore, 1) := by decide +kernel
theorem d_L_begin_8 : decode b_L_begin 8 = .ok (.goto 9, 3) := by decide +kernel
theorem d_L_begin_11 : decode b_L_begin 11 = .ok (.astore_n 2, 1) := by decide +kernel
theorem d_L_begin_12 : decode b_L_begin 12 = .ok (.iconst 1, 1) := by decide +kernel
theorem d_L_begin_13 : decode b_L_begin 13 = .ok (.ireturn, 1) := by decide +kernel
theorem d_L_begin_14 : decode b_L_begin 14 = .ok (.astore_n 2, 1) := by decide +kernel
theorem d_L_begin_15 : decode b_L_begin 15 = .ok (.iconst 2, 1) := by decide +kernel
theorem d_L_begin_16 : decode b_L_begin 16 = .ok (.ireturn, 1) := by decide +kernel
theorem d_L_begin_17 : decode b_L_begin 17 = .ok (.iconst 0, 1) := by decide +kernel
theorem d_L_begin_18 : decode b_L_begin 18 = .ok (.ireturn, 1) := by decide +kernel
abbrev b_L_tick : ByteArray := method_10_code
def y_L_tick : MethodName := ⟨"ShuffleMillLaw", "tick", "(LShuffleMill;II)I"⟩
theorem d_L_tick_0 : decode b_L_tick 0 = .ok (.aload_n 0, 1) := by decide +kernel
theorem d_L_tick_1 : decode b_L_tick 1 = .ok (.iload_n 1, 1) := by decide +kernel
theorem d_L_tick_2 : decode b_L_tick 2 = .ok (.iload_n 2, 1) := by decide +kernel
theorem d_L_tick_3 : decode b_L_tick 3 = .ok (.invokevirtual 45, 3) := by decide +kernel
theorem d_L_tick_6 : decode b_L_tick 6 = .ok (.goto 12, 3) := by decide +kernel
theorem d_L_tick_9 : decode b_L_tick 9 = .ok (.astore_n 3, 1) := by decide +kernel
theorem d_L_tick_10 : decode b_L_tick 10 = .ok (.iconst 1, 1) := by decide +kernel
theorem d_L_tick_11 : decode b_L_tick 11 = .ok (.ireturn, 1) := by decide +kernel
theorem d_L_tick_12 : decode b_L_tick 12 = .ok (.astore_n 3, 1) := by decide +kernel
theorem d_L_tick_13 : decode b_L_tick 13 = .ok (.iconst 2, 1) := by decide +kernel
theorem d_L_tick_14 : decode b_L_tick 14 = .ok (.ireturn, 1) := by decide +kernel
theorem d_L_tick_15 : decode b_L_tick 15 = .ok (.astore_n 3, 1) := by decide +kernel
theorem d_L_tick_16 : decode b_L_tick 16 = .ok (.iconst 3, 1) := by decide +kernel
theorem d_L_tick_17 : decode b_L_tick 17 = .ok (.ireturn, 1) := by decide +kernel
theorem d_L_tick_18 : decode b_L_tick 18 = .ok (.iconst 0, 1) := by decide +kernel
theorem d_L_tick_19 : decode b_L_tick 19 = .ok (.ireturn, 1) := by decide +kernel
abbrev b_L_crash : ByteArray := method_11_code
def y_L_crash : MethodName := ⟨"ShuffleMillLaw", "crash", "(LShuffleMill;I)I"⟩
theorem d_L_crash_0 : decode b_L_crash 0 = .ok (.aload_n 0, 1) := by decide +kernel
theorem d_L_crash_1 : decode b_L_crash 1 = .ok (.iload_n 1, 1) := by decide +kernel
theorem d_L_crash_2 : decode b_L_crash 2 = .ok (.invokevirtual 49, 3) := by decide +kernel
theorem d_L_crash_5 : decode b_L_crash 5 = .ok (.goto 9, 3) := by decide +kernel
theorem d_L_crash_8 : decode b_L_crash 8 = .ok (.astore_n 2, 1) := by decide +kernel
theorem d_L_crash_9 : decode b_L_crash 9 = .ok (.iconst 1, 1) := by decide +kernel
theorem d_L_crash_10 : decode b_L_crash 10 = .ok (.ireturn, 1) := by decide +kernel
theorem d_L_crash_11 : decode b_L_crash 11 = .ok (.astore_n 2, 1) := by decide +kernel
theorem d_L_crash_12 : decode b_L_crash 12 = .ok (.iconst 2, 1) := by decide +kernel
theorem d_L_crash_13 : decode b_L_crash 13 = .ok (.ireturn, 1) := by decide +kernel
theorem d_L_crash_14 : decode b_L_crash 14 = .ok (.iconst 0, 1) := by decide +kernel
theorem d_L_crash_15 : decode b_L_crash 15 = .ok (.ireturn, 1) := by decide +kernel
abbrev b_L_line : ByteArray := method_12_code
def y_L_line : MethodName := ⟨"ShuffleMillLaw", "line", "(LShuffleMill;II)I"⟩
theorem d_L_line_0 : decode b_L_line 0 = .ok (.aload_n 0, 1) := by decide +kernel
theorem d_L_line_1 : decode b_L_line 1 = .ok (.iload_n 1, 1) := by decide +kernel
theorem d_L_line_2 : decode b_L_line 2 = .ok (.iload_n 2, 1) := by decide +kernel
theorem d_L_line_3 : decode b_L_line 3 = .ok (.invokevirtual 53, 3) := by decide +kernel
theorem d_L_line_6 : decode b_L_line 6 = .ok (.goto 6, 3) := by decide +kernel
theorem d_L_line_9 : decode b_L_line 9 = .ok (.astore_n 3, 1) := by decide +kernel
theorem d_L_line_10 : decode b_L_line 10 = .ok (.iconst 1, 1) := by decide +kernel
theorem d_L_line_11 : decode b_L_line 11 = .ok (.ireturn, 1) := by decide +kernel
theorem d_L_line_12 : decode b_L_line 12 = .ok (.iconst 0, 1) := by decide +kernel
theorem d_L_line_13 : decode b_L_line 13 = .ok (.ireturn, 1) := by decide +kernel
abbrev b_L_finish : ByteArray := method_13_code
def y_L_finish : MethodName := ⟨"ShuffleMillLaw", "finish", "(LShuffleMill;[J)I"⟩
theorem d_L_finish_0 : decode b_L_finish 0 = .ok (.aload_n 1, 1) := by decide +kernel
theorem d_L_finish_1 : decode b_L_finish 1 = .ok (.iconst 0, 1) := by decide +kernel
theorem d_L_finish_2 : decode b_L_finish 2 = .ok (.aload_n 0, 1) := by decide +kernel
theorem d_L_finish_3 : decode b_L_finish 3 = .ok (.invokevirtual 56, 3) := by decide +kernel
theorem d_L_finish_6 : decode b_L_finish 6 = .ok (.i2l, 1) := by decide +kernel
theorem d_L_finish_7 : decode b_L_finish 7 = .ok (.lastore, 1) := by decide +kernel
theorem d_L_finish_8 : decode b_L_finish 8 = .ok (.goto 6, 3) := by decide +kernel
theorem d_L_finish_11 : decode b_L_finish 11 = .ok (.astore_n 2, 1) := by decide +kernel
theorem d_L_finish_12 : decode b_L_finish 12 = .ok (.iconst 1, 1) := by decide +kernel
theorem d_L_finish_13 : decode b_L_finish 13 = .ok (.ireturn, 1) := by decide +kernel
theorem d_L_finish_14 : decode b_L_finish 14 = .ok (.iconst 0, 1) := by decide +kernel
theorem d_L_finish_15 : decode b_L_finish 15 = .ok (.ireturn, 1) := by decide +kernel
abbrev b_L_told : ByteArray := method_14_code
def y_L_told : MethodName := ⟨"ShuffleMillLaw", "told", "(LShuffleMill;IIZ[J)I"⟩
theorem d_L_told_0 : decode b_L_told 0 = .ok (.aload 4, 2) := by decide +kernel
theorem d_L_told_2 : decode b_L_told 2 = .ok (.iconst 0, 1) := by decide +kernel
theorem d_L_told_3 : decode b_L_told 3 = .ok (.aload_n 0, 1) := by decide +kernel
theorem d_L_told_4 : decode b_L_told 4 = .ok (.iload_n 1, 1) := by decide +kernel
theorem d_L_told_5 : decode b_L_told 5 = .ok (.iload_n 2, 1) := by decide +kernel
theorem d_L_told_6 : decode b_L_told 6 = .ok (.iload_n 3, 1) := by decide +kernel
theorem d_L_told_7 : decode b_L_told 7 = .ok (.invokevirtual 59, 3) := by decide +kernel
theorem d_L_told_10 : decode b_L_told 10 = .ok (.lastore, 1) := by decide +kernel
theorem d_L_told_11 : decode b_L_told 11 = .ok (.goto 11, 3) := by decide +kernel
theorem d_L_told_14 : decode b_L_told 14 = .ok (.astore 5, 2) := by decide +kernel
theorem d_L_told_16 : decode b_L_told 16 = .ok (.iconst 1, 1) := by decide +kernel
theorem d_L_told_17 : decode b_L_told 17 = .ok (.ireturn, 1) := by decide +kernel
theorem d_L_told_18 : decode b_L_told 18 = .ok (.astore 5, 2) := by decide +kernel
theorem d_L_told_20 : decode b_L_told 20 = .ok (.iconst 2, 1) := by decide +kernel
theorem d_L_told_21 : decode b_L_told 21 = .ok (.ireturn, 1) := by decide +kernel
theorem d_L_told_22 : decode b_L_told 22 = .ok (.iconst 0, 1) := by decide +kernel
theorem d_L_told_23 : decode b_L_told 23 = .ok (.ireturn, 1) := by decide +kernel
abbrev b_L_size : ByteArray := method_15_code
def y_L_size : MethodName := ⟨"ShuffleMillLaw", "size", "(LShuffleMill;I[J)I"⟩
theorem d_L_size_0 : decode b_L_size 0 = .ok (.aload_n 2, 1) := by decide +kernel
theorem d_L_size_1 : decode b_L_size 1 = .ok (.iconst 0, 1) := by decide +kernel
theorem d_L_size_2 : decode b_L_size 2 = .ok (.aload_n 0, 1) := by decide +kernel
theorem d_L_size_3 : decode b_L_size 3 = .ok (.iload_n 1, 1) := by decide +kernel
theorem d_L_size_4 : decode b_L_size 4 = .ok (.invokevirtual 63, 3) := by decide +kernel
theorem d_L_size_7 : decode b_L_size 7 = .ok (.i2l, 1) := by decide +kernel
theorem d_L_size_8 : decode b_L_size 8 = .ok (.lastore, 1) := by decide +kernel
theorem d_L_size_9 : decode b_L_size 9 = .ok (.goto 9, 3) := by decide +kernel
theorem d_L_size_12 : decode b_L_size 12 = .ok (.astore_n 3, 1) := by decide +kernel
theorem d_L_size_13 : decode b_L_size 13 = .ok (.iconst 1, 1) := by decide +kernel
theorem d_L_size_14 : decode b_L_size 14 = .ok (.ireturn, 1) := by decide +kernel
theorem d_L_size_15 : decode b_L_size 15 = .ok (.astore_n 3, 1) := by decide +kernel
theorem d_L_size_16 : decode b_L_size 16 = .ok (.iconst 2, 1) := by decide +kernel
theorem d_L_size_17 : decode b_L_size 17 = .ok (.ireturn, 1) := by decide +kernel
theorem d_L_size_18 : decode b_L_size 18 = .ok (.iconst 0, 1) := by decide +kernel
theorem d_L_size_19 : decode b_L_size 19 = .ok (.ireturn, 1) := by decide +kernel
abbrev b_L_count : ByteArray := method_16_code
def y_L_count : MethodName := ⟨"ShuffleMillLaw", "count", "(LShuffleMill;I[J)I"⟩
theorem d_L_count_0 : decode b_L_count 0 = .ok (.aload_n 2, 1) := by decide +kernel
theorem d_L_count_1 : decode b_L_count 1 = .ok (.iconst 0, 1) := by decide +kernel
theorem d_L_count_2 : decode b_L_count 2 = .ok (.aload_n 0, 1) := by decide +kernel
theorem d_L_count_3 : decode b_L_count 3 = .ok (.iload_n 1, 1) := by decide +kernel
theorem d_L_count_4 : decode b_L_count 4 = .ok (.invokevirtual 66, 3) := by decide +kernel
theorem d_L_count_7 : decode b_L_count 7 = .ok (.i2l, 1) := by decide +kernel
theorem d_L_count_8 : decode b_L_count 8 = .ok (.lastore, 1) := by decide +kernel
theorem d_L_count_9 : decode b_L_count 9 = .ok (.goto 6, 3) := by decide +kernel
theorem d_L_count_12 : decode b_L_count 12 = .ok (.astore_n 3, 1) := by decide +kernel
theorem d_L_count_13 : decode b_L_count 13 = .ok (.iconst 1, 1) := by decide +kernel
theorem d_L_count_14 : decode b_L_count 14 = .ok (.ireturn, 1) := by decide +kernel
theorem d_L_count_15 : decode b_L_count 15 = .ok (.iconst 0, 1) := by decide +kernel
theorem d_L_count_16 : decode b_L_count 16 = .ok (.ireturn, 1) := by decide +kernel
