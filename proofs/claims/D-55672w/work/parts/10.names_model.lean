set_option maxRecDepth 100000
abbrev cX3_init : ByteArray := prog_23_method_1_code
def yX3_init : MethodName := ⟨RX3, "<init>", "()V"⟩
def dkwX3_init_3 : List UInt8 := [16, 84, 27, 96, 2, 79, 132, 1, 1, 167, 255, 237, 177]
abbrev dktX3_init_3 : List UInt8 := dkwX3_init_3 ++ []
def dkwX3_init_2 : List UInt8 := [181, 0, 27, 42, 16, 60, 188, 5, 181, 0, 30, 3, 60, 27, 16, 6, 162, 0, 19, 42, 180, 0, 9]
abbrev dktX3_init_2 : List UInt8 := dkwX3_init_2 ++ dktX3_init_3
def dkwX3_init_1 : List UInt8 := [188, 10, 181, 0, 16, 42, 16, 60, 188, 5, 181, 0, 19, 42, 2, 181, 0, 23, 42, 17, 0, 244, 188, 10]
abbrev dktX3_init_1 : List UInt8 := dkwX3_init_1 ++ dktX3_init_2
def dkwX3_init_0 : List UInt8 := [42, 183, 0, 1, 42, 17, 4, 128, 188, 10, 181, 0, 9, 42, 16, 6, 188, 10, 181, 0, 13, 42, 16, 6]
abbrev dktX3_init_0 : List UInt8 := dkwX3_init_0 ++ dktX3_init_1
theorem dksX3_init_0 : cX3_init.data.toList.drop 0 = dktX3_init_0 := by decide +kernel
theorem dksX3_init_1 : cX3_init.data.toList.drop 24 = dktX3_init_1 := dk_seg dksX3_init_0 24 rfl rfl
theorem dksX3_init_2 : cX3_init.data.toList.drop 48 = dktX3_init_2 := dk_seg dksX3_init_1 24 rfl rfl
theorem dksX3_init_3 : cX3_init.data.toList.drop 71 = dktX3_init_3 := dk_seg dksX3_init_2 23 rfl rfl
theorem dX3_init_0 : decode cX3_init 0 = .ok (.aload_n 0, 1) := dk_42 (dk_at dksX3_init_0 0 rfl rfl)
theorem dX3_init_1 : decode cX3_init 1 = .ok (.invokespecial 1, 3) := dk_183 0 1 (dk_at dksX3_init_0 1 rfl rfl)
theorem dX3_init_4 : decode cX3_init 4 = .ok (.aload_n 0, 1) := dk_42 (dk_at dksX3_init_0 4 rfl rfl)
theorem dX3_init_5 : decode cX3_init 5 = .ok (.sipush 1152, 3) := dk_17 4 128 (dk_at dksX3_init_0 5 rfl rfl)
theorem dX3_init_8 : decode cX3_init 8 = .ok (.newarray .int, 2) := dk_188_10 (dk_at dksX3_init_0 8 rfl rfl)
theorem dX3_init_10 : decode cX3_init 10 = .ok (.putfield 9, 3) := dk_181 0 9 (dk_at dksX3_init_0 10 rfl rfl)
theorem dX3_init_13 : decode cX3_init 13 = .ok (.aload_n 0, 1) := dk_42 (dk_at dksX3_init_0 13 rfl rfl)
theorem dX3_init_14 : decode cX3_init 14 = .ok (.bipush 6, 2) := dk_16 6 (dk_at dksX3_init_0 14 rfl rfl)
theorem dX3_init_16 : decode cX3_init 16 = .ok (.newarray .int, 2) := dk_188_10 (dk_at dksX3_init_0 16 rfl rfl)
theorem dX3_init_18 : decode cX3_init 18 = .ok (.putfield 13, 3) := dk_181 0 13 (dk_at dksX3_init_0 18 rfl rfl)
theorem dX3_init_21 : decode cX3_init 21 = .ok (.aload_n 0, 1) := dk_42 (dk_at dksX3_init_0 21 rfl rfl)
theorem dX3_init_22 : decode cX3_init 22 = .ok (.bipush 6, 2) := dk_16 6 (dk_at dksX3_init_0 22 rfl rfl)
theorem dX3_init_24 : decode cX3_init 24 = .ok (.newarray .int, 2) := dk_188_10 (dk_at dksX3_init_1 0 rfl rfl)
theorem dX3_init_26 : decode cX3_init 26 = .ok (.putfield 16, 3) := dk_181 0 16 (dk_at dksX3_init_1 2 rfl rfl)
theorem dX3_init_29 : decode cX3_init 29 = .ok (.aload_n 0, 1) := dk_42 (dk_at dksX3_init_1 5 rfl rfl)
theorem dX3_init_30 : decode cX3_init 30 = .ok (.bipush 60, 2) := dk_16 60 (dk_at dksX3_init_1 6 rfl rfl)
theorem dX3_init_32 : decode cX3_init 32 = .ok (.newarray .char, 2) := dk_188_5 (dk_at dksX3_init_1 8 rfl rfl)
theorem dX3_init_34 : decode cX3_init 34 = .ok (.putfield 19, 3) := dk_181 0 19 (dk_at dksX3_init_1 10 rfl rfl)
theorem dX3_init_37 : decode cX3_init 37 = .ok (.aload_n 0, 1) := dk_42 (dk_at dksX3_init_1 13 rfl rfl)
theorem dX3_init_38 : decode cX3_init 38 = .ok (.iconst (-1), 1) := dk_2 (dk_at dksX3_init_1 14 rfl rfl)
theorem dX3_init_39 : decode cX3_init 39 = .ok (.putfield 23, 3) := dk_181 0 23 (dk_at dksX3_init_1 15 rfl rfl)
theorem dX3_init_42 : decode cX3_init 42 = .ok (.aload_n 0, 1) := dk_42 (dk_at dksX3_init_1 18 rfl rfl)
theorem dX3_init_43 : decode cX3_init 43 = .ok (.sipush 244, 3) := dk_17 0 244 (dk_at dksX3_init_1 19 rfl rfl)
theorem dX3_init_46 : decode cX3_init 46 = .ok (.newarray .int, 2) := dk_188_10 (dk_at dksX3_init_1 22 rfl rfl)
theorem dX3_init_48 : decode cX3_init 48 = .ok (.putfield 27, 3) := dk_181 0 27 (dk_at dksX3_init_2 0 rfl rfl)
theorem dX3_init_51 : decode cX3_init 51 = .ok (.aload_n 0, 1) := dk_42 (dk_at dksX3_init_2 3 rfl rfl)
theorem dX3_init_52 : decode cX3_init 52 = .ok (.bipush 60, 2) := dk_16 60 (dk_at dksX3_init_2 4 rfl rfl)
theorem dX3_init_54 : decode cX3_init 54 = .ok (.newarray .char, 2) := dk_188_5 (dk_at dksX3_init_2 6 rfl rfl)
theorem dX3_init_56 : decode cX3_init 56 = .ok (.putfield 30, 3) := dk_181 0 30 (dk_at dksX3_init_2 8 rfl rfl)
theorem dX3_init_59 : decode cX3_init 59 = .ok (.iconst 0, 1) := dk_3 (dk_at dksX3_init_2 11 rfl rfl)
theorem dX3_init_60 : decode cX3_init 60 = .ok (.istore_n 1, 1) := dk_60 (dk_at dksX3_init_2 12 rfl rfl)
theorem dX3_init_61 : decode cX3_init 61 = .ok (.iload_n 1, 1) := dk_27 (dk_at dksX3_init_2 13 rfl rfl)
theorem dX3_init_62 : decode cX3_init 62 = .ok (.bipush 6, 2) := dk_16 6 (dk_at dksX3_init_2 14 rfl rfl)
theorem dX3_init_64 : decode cX3_init 64 = .ok (.if_icmp .ge 19, 3) := dk_162 0 19 (dk_at dksX3_init_2 16 rfl rfl)
theorem dX3_init_67 : decode cX3_init 67 = .ok (.aload_n 0, 1) := dk_42 (dk_at dksX3_init_2 19 rfl rfl)
theorem dX3_init_68 : decode cX3_init 68 = .ok (.getfield 9, 3) := dk_180 0 9 (dk_at dksX3_init_2 20 rfl rfl)
theorem dX3_init_71 : decode cX3_init 71 = .ok (.bipush 84, 2) := dk_16 84 (dk_at dksX3_init_3 0 rfl rfl)
theorem dX3_init_73 : decode cX3_init 73 = .ok (.iload_n 1, 1) := dk_27 (dk_at dksX3_init_3 2 rfl rfl)
theorem dX3_init_74 : decode cX3_init 74 = .ok (.iadd, 1) := dk_96 (dk_at dksX3_init_3 3 rfl rfl)
theorem dX3_init_75 : decode cX3_init 75 = .ok (.iconst (-1), 1) := dk_2 (dk_at dksX3_init_3 4 rfl rfl)
theorem dX3_init_76 : decode cX3_init 76 = .ok (.iastore, 1) := dk_79 (dk_at dksX3_init_3 5 rfl rfl)
theorem dX3_init_77 : decode cX3_init 77 = .ok (.iinc 1 1, 3) := dk_132 1 1 (dk_at dksX3_init_3 6 rfl rfl)
theorem dX3_init_80 : decode cX3_init 80 = .ok (.goto (-19), 3) := dk_167 255 237 (dk_at dksX3_init_3 9 rfl rfl)
theorem dX3_init_83 : decode cX3_init 83 = .ok (.return_, 1) := dk_177 (dk_at dksX3_init_3 12 rfl rfl)
abbrev cX3_thrown : ByteArray := prog_23_method_2_code
def yX3_thrown : MethodName := ⟨RX3, "thrown", "()I"⟩
theorem dX3_thrown_0 : decode cX3_thrown 0 = .ok (.aload_n 0, 1) := by decide +kernel
theorem dX3_thrown_1 : decode cX3_thrown 1 = .ok (.getfield 33, 3) := by decide +kernel
theorem dX3_thrown_4 : decode cX3_thrown 4 = .ok (.ireturn, 1) := by decide +kernel
abbrev cX3_reason : ByteArray := prog_23_method_9_code
def yX3_reason : MethodName := ⟨RX3, "reason", "(ZZ)I"⟩
def dkwX3_reason_2 : List UInt8 := [180, 0, 52, 167, 0, 18, 28, 153, 0, 10, 42, 180, 0, 49, 167, 0, 7, 42, 180, 0, 46, 172]
abbrev dktX3_reason_2 : List UInt8 := dkwX3_reason_2 ++ []
def dkwX3_reason_1 : List UInt8 := [182, 0, 55, 154, 0, 5, 3, 172, 27, 153, 0, 21, 28, 153, 0, 10, 42, 180, 0, 59, 167, 0, 25, 42]
abbrev dktX3_reason_1 : List UInt8 := dkwX3_reason_1 ++ dktX3_reason_2
def dkwX3_reason_0 : List UInt8 := [42, 27, 153, 0, 10, 42, 180, 0, 52, 167, 0, 7, 42, 180, 0, 46, 153, 0, 7, 4, 167, 0, 4, 3]
abbrev dktX3_reason_0 : List UInt8 := dkwX3_reason_0 ++ dktX3_reason_1
theorem dksX3_reason_0 : cX3_reason.data.toList.drop 0 = dktX3_reason_0 := by decide +kernel
theorem dksX3_reason_1 : cX3_reason.data.toList.drop 24 = dktX3_reason_1 := dk_seg dksX3_reason_0 24 rfl rfl
theorem dksX3_reason_2 : cX3_reason.data.toList.drop 48 = dktX3_reason_2 := dk_seg dksX3_reason_1 24 rfl rfl
theorem dX3_reason_0 : decode cX3_reason 0 = .ok (.aload_n 0, 1) := dk_42 (dk_at dksX3_reason_0 0 rfl rfl)
theorem dX3_reason_1 : decode cX3_reason 1 = .ok (.iload_n 1, 1) := dk_27 (dk_at dksX3_reason_0 1 rfl rfl)
theorem dX3_reason_2 : decode cX3_reason 2 = .ok (.ifCond .eq 10, 3) := dk_153 0 10 (dk_at dksX3_reason_0 2 rfl rfl)
theorem dX3_reason_5 : decode cX3_reason 5 = .ok (.aload_n 0, 1) := dk_42 (dk_at dksX3_reason_0 5 rfl rfl)
theorem dX3_reason_6 : decode cX3_reason 6 = .ok (.getfield 52, 3) := dk_180 0 52 (dk_at dksX3_reason_0 6 rfl rfl)
theorem dX3_reason_9 : decode cX3_reason 9 = .ok (.goto 7, 3) := dk_167 0 7 (dk_at dksX3_reason_0 9 rfl rfl)
theorem dX3_reason_12 : decode cX3_reason 12 = .ok (.aload_n 0, 1) := dk_42 (dk_at dksX3_reason_0 12 rfl rfl)
theorem dX3_reason_13 : decode cX3_reason 13 = .ok (.getfield 46, 3) := dk_180 0 46 (dk_at dksX3_reason_0 13 rfl rfl)
theorem dX3_reason_16 : decode cX3_reason 16 = .ok (.ifCond .eq 7, 3) := dk_153 0 7 (dk_at dksX3_reason_0 16 rfl rfl)
theorem dX3_reason_19 : decode cX3_reason 19 = .ok (.iconst 1, 1) := dk_4 (dk_at dksX3_reason_0 19 rfl rfl)
theorem dX3_reason_20 : decode cX3_reason 20 = .ok (.goto 4, 3) := dk_167 0 4 (dk_at dksX3_reason_0 20 rfl rfl)
theorem dX3_reason_23 : decode cX3_reason 23 = .ok (.iconst 0, 1) := dk_3 (dk_at dksX3_reason_0 23 rfl rfl)
theorem dX3_reason_24 : decode cX3_reason 24 = .ok (.invokevirtual 55, 3) := dk_182 0 55 (dk_at dksX3_reason_1 0 rfl rfl)
theorem dX3_reason_27 : decode cX3_reason 27 = .ok (.ifCond .ne 5, 3) := dk_154 0 5 (dk_at dksX3_reason_1 3 rfl rfl)
theorem dX3_reason_30 : decode cX3_reason 30 = .ok (.iconst 0, 1) := dk_3 (dk_at dksX3_reason_1 6 rfl rfl)
theorem dX3_reason_31 : decode cX3_reason 31 = .ok (.ireturn, 1) := dk_172 (dk_at dksX3_reason_1 7 rfl rfl)
theorem dX3_reason_32 : decode cX3_reason 32 = .ok (.iload_n 1, 1) := dk_27 (dk_at dksX3_reason_1 8 rfl rfl)
theorem dX3_reason_33 : decode cX3_reason 33 = .ok (.ifCond .eq 21, 3) := dk_153 0 21 (dk_at dksX3_reason_1 9 rfl rfl)
theorem dX3_reason_36 : decode cX3_reason 36 = .ok (.iload_n 2, 1) := dk_28 (dk_at dksX3_reason_1 12 rfl rfl)
theorem dX3_reason_37 : decode cX3_reason 37 = .ok (.ifCond .eq 10, 3) := dk_153 0 10 (dk_at dksX3_reason_1 13 rfl rfl)
theorem dX3_reason_40 : decode cX3_reason 40 = .ok (.aload_n 0, 1) := dk_42 (dk_at dksX3_reason_1 16 rfl rfl)
theorem dX3_reason_41 : decode cX3_reason 41 = .ok (.getfield 59, 3) := dk_180 0 59 (dk_at dksX3_reason_1 17 rfl rfl)
theorem dX3_reason_44 : decode cX3_reason 44 = .ok (.goto 25, 3) := dk_167 0 25 (dk_at dksX3_reason_1 20 rfl rfl)
theorem dX3_reason_47 : decode cX3_reason 47 = .ok (.aload_n 0, 1) := dk_42 (dk_at dksX3_reason_1 23 rfl rfl)
theorem dX3_reason_48 : decode cX3_reason 48 = .ok (.getfield 52, 3) := dk_180 0 52 (dk_at dksX3_reason_2 0 rfl rfl)
theorem dX3_reason_51 : decode cX3_reason 51 = .ok (.goto 18, 3) := dk_167 0 18 (dk_at dksX3_reason_2 3 rfl rfl)
theorem dX3_reason_54 : decode cX3_reason 54 = .ok (.iload_n 2, 1) := dk_28 (dk_at dksX3_reason_2 6 rfl rfl)
theorem dX3_reason_55 : decode cX3_reason 55 = .ok (.ifCond .eq 10, 3) := dk_153 0 10 (dk_at dksX3_reason_2 7 rfl rfl)
theorem dX3_reason_58 : decode cX3_reason 58 = .ok (.aload_n 0, 1) := dk_42 (dk_at dksX3_reason_2 10 rfl rfl)
theorem dX3_reason_59 : decode cX3_reason 59 = .ok (.getfield 49, 3) := dk_180 0 49 (dk_at dksX3_reason_2 11 rfl rfl)
theorem dX3_reason_62 : decode cX3_reason 62 = .ok (.goto 7, 3) := dk_167 0 7 (dk_at dksX3_reason_2 14 rfl rfl)
theorem dX3_reason_65 : decode cX3_reason 65 = .ok (.aload_n 0, 1) := dk_42 (dk_at dksX3_reason_2 17 rfl rfl)
theorem dX3_reason_66 : decode cX3_reason 66 = .ok (.getfield 46, 3) := dk_180 0 46 (dk_at dksX3_reason_2 18 rfl rfl)
theorem dX3_reason_69 : decode cX3_reason 69 = .ok (.ireturn, 1) := dk_172 (dk_at dksX3_reason_2 21 rfl rfl)
abbrev cX3_isThere : ByteArray := prog_23_method_8_code
def yX3_isThere : MethodName := ⟨RX3, "isThere", "(Z)Z"⟩
def dkwX3_isThere_0 : List UInt8 := [42, 27, 153, 0, 7, 3, 167, 0, 4, 4, 181, 0, 33, 27, 172]
abbrev dktX3_isThere_0 : List UInt8 := dkwX3_isThere_0 ++ []
theorem dksX3_isThere_0 : cX3_isThere.data.toList.drop 0 = dktX3_isThere_0 := by decide +kernel
theorem dX3_isThere_0 : decode cX3_isThere 0 = .ok (.aload_n 0, 1) := dk_42 (dk_at dksX3_isThere_0 0 rfl rfl)
theorem dX3_isThere_1 : decode cX3_isThere 1 = .ok (.iload_n 1, 1) := dk_27 (dk_at dksX3_isThere_0 1 rfl rfl)
theorem dX3_isThere_2 : decode cX3_isThere 2 = .ok (.ifCond .eq 7, 3) := dk_153 0 7 (dk_at dksX3_isThere_0 2 rfl rfl)
theorem dX3_isThere_5 : decode cX3_isThere 5 = .ok (.iconst 0, 1) := dk_3 (dk_at dksX3_isThere_0 5 rfl rfl)
theorem dX3_isThere_6 : decode cX3_isThere 6 = .ok (.goto 4, 3) := dk_167 0 4 (dk_at dksX3_isThere_0 6 rfl rfl)
theorem dX3_isThere_9 : decode cX3_isThere 9 = .ok (.iconst 1, 1) := dk_4 (dk_at dksX3_isThere_0 9 rfl rfl)
theorem dX3_isThere_10 : decode cX3_isThere 10 = .ok (.putfield 33, 3) := dk_181 0 33 (dk_at dksX3_isThere_0 10 rfl rfl)
theorem dX3_isThere_13 : decode cX3_isThere 13 = .ok (.iload_n 1, 1) := dk_27 (dk_at dksX3_isThere_0 13 rfl rfl)
theorem dX3_isThere_14 : decode cX3_isThere 14 = .ok (.ireturn, 1) := dk_172 (dk_at dksX3_isThere_0 14 rfl rfl)
abbrev cX3_apprentice : ByteArray := prog_23_method_19_code
def yX3_apprentice : MethodName := ⟨RX3, "apprentice", "()I"⟩
def dkwX3_apprentice_0 : List UInt8 := [42, 182, 0, 85, 42, 42, 3, 182, 0, 88, 4, 182, 0, 91, 172]
abbrev dktX3_apprentice_0 : List UInt8 := dkwX3_apprentice_0 ++ []
theorem dksX3_apprentice_0 : cX3_apprentice.data.toList.drop 0 = dktX3_apprentice_0 := by decide +kernel
theorem dX3_apprentice_0 : decode cX3_apprentice 0 = .ok (.aload_n 0, 1) := dk_42 (dk_at dksX3_apprentice_0 0 rfl rfl)
theorem dX3_apprentice_1 : decode cX3_apprentice 1 = .ok (.invokevirtual 85, 3) := dk_182 0 85 (dk_at dksX3_apprentice_0 1 rfl rfl)
theorem dX3_apprentice_4 : decode cX3_apprentice 4 = .ok (.aload_n 0, 1) := dk_42 (dk_at dksX3_apprentice_0 4 rfl rfl)
theorem dX3_apprentice_5 : decode cX3_apprentice 5 = .ok (.aload_n 0, 1) := dk_42 (dk_at dksX3_apprentice_0 5 rfl rfl)
theorem dX3_apprentice_6 : decode cX3_apprentice 6 = .ok (.iconst 0, 1) := dk_3 (dk_at dksX3_apprentice_0 6 rfl rfl)
theorem dX3_apprentice_7 : decode cX3_apprentice 7 = .ok (.invokevirtual 88, 3) := dk_182 0 88 (dk_at dksX3_apprentice_0 7 rfl rfl)
theorem dX3_apprentice_10 : decode cX3_apprentice 10 = .ok (.iconst 1, 1) := dk_4 (dk_at dksX3_apprentice_0 10 rfl rfl)
theorem dX3_apprentice_11 : decode cX3_apprentice 11 = .ok (.invokevirtual 91, 3) := dk_182 0 91 (dk_at dksX3_apprentice_0 11 rfl rfl)
theorem dX3_apprentice_14 : decode cX3_apprentice 14 = .ok (.ireturn, 1) := dk_172 (dk_at dksX3_apprentice_0 14 rfl rfl)
abbrev cX3_begins : ByteArray := prog_23_method_5_code
def yX3_begins : MethodName := ⟨RX3, "begins", "()V"⟩
def dkwX3_begins_0 : List UInt8 := [42, 3, 16, 10, 182, 0, 36, 177]
abbrev dktX3_begins_0 : List UInt8 := dkwX3_begins_0 ++ []
theorem dksX3_begins_0 : cX3_begins.data.toList.drop 0 = dktX3_begins_0 := by decide +kernel
theorem dX3_begins_0 : decode cX3_begins 0 = .ok (.aload_n 0, 1) := dk_42 (dk_at dksX3_begins_0 0 rfl rfl)
theorem dX3_begins_1 : decode cX3_begins 1 = .ok (.iconst 0, 1) := dk_3 (dk_at dksX3_begins_0 1 rfl rfl)
theorem dX3_begins_2 : decode cX3_begins 2 = .ok (.bipush 10, 2) := dk_16 10 (dk_at dksX3_begins_0 2 rfl rfl)
theorem dX3_begins_4 : decode cX3_begins 4 = .ok (.invokevirtual 36, 3) := dk_182 0 36 (dk_at dksX3_begins_0 4 rfl rfl)
theorem dX3_begins_7 : decode cX3_begins 7 = .ok (.return_, 1) := dk_177 (dk_at dksX3_begins_0 7 rfl rfl)
abbrev cX3_copies : ByteArray := prog_23_method_4_code
def yX3_copies : MethodName := ⟨RX3, "copies", "(II)V"⟩
def dkwX3_copies_1 : List UInt8 := [27, 104, 29, 96, 46, 79, 132, 3, 1, 167, 255, 225, 177]
abbrev dktX3_copies_1 : List UInt8 := dkwX3_copies_1 ++ []
def dkwX3_copies_0 : List UInt8 := [3, 62, 29, 16, 96, 162, 0, 31, 42, 180, 0, 9, 16, 96, 28, 104, 29, 96, 42, 180, 0, 9, 16, 96]
abbrev dktX3_copies_0 : List UInt8 := dkwX3_copies_0 ++ dktX3_copies_1
theorem dksX3_copies_0 : cX3_copies.data.toList.drop 0 = dktX3_copies_0 := by decide +kernel
theorem dksX3_copies_1 : cX3_copies.data.toList.drop 24 = dktX3_copies_1 := dk_seg dksX3_copies_0 24 rfl rfl
theorem dX3_copies_0 : decode cX3_copies 0 = .ok (.iconst 0, 1) := dk_3 (dk_at dksX3_copies_0 0 rfl rfl)
theorem dX3_copies_1 : decode cX3_copies 1 = .ok (.istore_n 3, 1) := dk_62 (dk_at dksX3_copies_0 1 rfl rfl)
theorem dX3_copies_2 : decode cX3_copies 2 = .ok (.iload_n 3, 1) := dk_29 (dk_at dksX3_copies_0 2 rfl rfl)
theorem dX3_copies_3 : decode cX3_copies 3 = .ok (.bipush 96, 2) := dk_16 96 (dk_at dksX3_copies_0 3 rfl rfl)
theorem dX3_copies_5 : decode cX3_copies 5 = .ok (.if_icmp .ge 31, 3) := dk_162 0 31 (dk_at dksX3_copies_0 5 rfl rfl)
theorem dX3_copies_8 : decode cX3_copies 8 = .ok (.aload_n 0, 1) := dk_42 (dk_at dksX3_copies_0 8 rfl rfl)
theorem dX3_copies_9 : decode cX3_copies 9 = .ok (.getfield 9, 3) := dk_180 0 9 (dk_at dksX3_copies_0 9 rfl rfl)
theorem dX3_copies_12 : decode cX3_copies 12 = .ok (.bipush 96, 2) := dk_16 96 (dk_at dksX3_copies_0 12 rfl rfl)
theorem dX3_copies_14 : decode cX3_copies 14 = .ok (.iload_n 2, 1) := dk_28 (dk_at dksX3_copies_0 14 rfl rfl)
theorem dX3_copies_15 : decode cX3_copies 15 = .ok (.imul, 1) := dk_104 (dk_at dksX3_copies_0 15 rfl rfl)
theorem dX3_copies_16 : decode cX3_copies 16 = .ok (.iload_n 3, 1) := dk_29 (dk_at dksX3_copies_0 16 rfl rfl)
theorem dX3_copies_17 : decode cX3_copies 17 = .ok (.iadd, 1) := dk_96 (dk_at dksX3_copies_0 17 rfl rfl)
theorem dX3_copies_18 : decode cX3_copies 18 = .ok (.aload_n 0, 1) := dk_42 (dk_at dksX3_copies_0 18 rfl rfl)
theorem dX3_copies_19 : decode cX3_copies 19 = .ok (.getfield 9, 3) := dk_180 0 9 (dk_at dksX3_copies_0 19 rfl rfl)
theorem dX3_copies_22 : decode cX3_copies 22 = .ok (.bipush 96, 2) := dk_16 96 (dk_at dksX3_copies_0 22 rfl rfl)
theorem dX3_copies_24 : decode cX3_copies 24 = .ok (.iload_n 1, 1) := dk_27 (dk_at dksX3_copies_1 0 rfl rfl)
theorem dX3_copies_25 : decode cX3_copies 25 = .ok (.imul, 1) := dk_104 (dk_at dksX3_copies_1 1 rfl rfl)
theorem dX3_copies_26 : decode cX3_copies 26 = .ok (.iload_n 3, 1) := dk_29 (dk_at dksX3_copies_1 2 rfl rfl)
theorem dX3_copies_27 : decode cX3_copies 27 = .ok (.iadd, 1) := dk_96 (dk_at dksX3_copies_1 3 rfl rfl)
theorem dX3_copies_28 : decode cX3_copies 28 = .ok (.iaload, 1) := dk_46 (dk_at dksX3_copies_1 4 rfl rfl)
theorem dX3_copies_29 : decode cX3_copies 29 = .ok (.iastore, 1) := dk_79 (dk_at dksX3_copies_1 5 rfl rfl)
theorem dX3_copies_30 : decode cX3_copies 30 = .ok (.iinc 3 1, 3) := dk_132 3 1 (dk_at dksX3_copies_1 6 rfl rfl)
theorem dX3_copies_33 : decode cX3_copies 33 = .ok (.goto (-31), 3) := dk_167 255 225 (dk_at dksX3_copies_1 9 rfl rfl)
theorem dX3_copies_36 : decode cX3_copies 36 = .ok (.return_, 1) := dk_177 (dk_at dksX3_copies_1 12 rfl rfl)
abbrev cX3_comes : ByteArray := prog_23_method_18_code
def yX3_comes : MethodName := ⟨RX3, "comes", "(I)Z"⟩
def dkwX3_comes_4 : List UInt8 := [28, 181, 0, 43, 4, 172]
abbrev dktX3_comes_4 : List UInt8 := dkwX3_comes_4 ++ []
def dkwX3_comes_3 : List UInt8 := [16, 6, 16, 6, 29, 104, 96, 28, 96, 16, 30, 79, 132, 3, 1, 167, 255, 215, 42, 4, 182, 0, 81, 42]
abbrev dktX3_comes_3 : List UInt8 := dkwX3_comes_3 ++ dktX3_comes_4
def dkwX3_comes_2 : List UInt8 := [162, 0, 41, 42, 180, 0, 9, 27, 154, 0, 15, 16, 6, 16, 6, 28, 104, 96, 29, 96, 167, 0, 12]
abbrev dktX3_comes_2 : List UInt8 := dkwX3_comes_2 ++ dktX3_comes_3
def dkwX3_comes_1 : List UInt8 := [182, 0, 74, 153, 0, 5, 3, 172, 42, 180, 0, 9, 27, 92, 46, 4, 96, 79, 3, 62, 29, 16, 6]
abbrev dktX3_comes_1 : List UInt8 := dkwX3_comes_1 ++ dktX3_comes_2
def dkwX3_comes_0 : List UInt8 := [42, 180, 0, 9, 27, 46, 61, 42, 28, 16, 6, 160, 0, 7, 4, 167, 0, 4, 3, 4, 16, 6]
abbrev dktX3_comes_0 : List UInt8 := dkwX3_comes_0 ++ dktX3_comes_1
theorem dksX3_comes_0 : cX3_comes.data.toList.drop 0 = dktX3_comes_0 := by decide +kernel
theorem dksX3_comes_1 : cX3_comes.data.toList.drop 22 = dktX3_comes_1 := dk_seg dksX3_comes_0 22 rfl rfl
theorem dksX3_comes_2 : cX3_comes.data.toList.drop 45 = dktX3_comes_2 := dk_seg dksX3_comes_1 23 rfl rfl
theorem dksX3_comes_3 : cX3_comes.data.toList.drop 68 = dktX3_comes_3 := dk_seg dksX3_comes_2 23 rfl rfl
theorem dksX3_comes_4 : cX3_comes.data.toList.drop 92 = dktX3_comes_4 := dk_seg dksX3_comes_3 24 rfl rfl
theorem dX3_comes_0 : decode cX3_comes 0 = .ok (.aload_n 0, 1) := dk_42 (dk_at dksX3_comes_0 0 rfl rfl)
theorem dX3_comes_1 : decode cX3_comes 1 = .ok (.getfield 9, 3) := dk_180 0 9 (dk_at dksX3_comes_0 1 rfl rfl)
theorem dX3_comes_4 : decode cX3_comes 4 = .ok (.iload_n 1, 1) := dk_27 (dk_at dksX3_comes_0 4 rfl rfl)
theorem dX3_comes_5 : decode cX3_comes 5 = .ok (.iaload, 1) := dk_46 (dk_at dksX3_comes_0 5 rfl rfl)
theorem dX3_comes_6 : decode cX3_comes 6 = .ok (.istore_n 2, 1) := dk_61 (dk_at dksX3_comes_0 6 rfl rfl)
theorem dX3_comes_7 : decode cX3_comes 7 = .ok (.aload_n 0, 1) := dk_42 (dk_at dksX3_comes_0 7 rfl rfl)
theorem dX3_comes_8 : decode cX3_comes 8 = .ok (.iload_n 2, 1) := dk_28 (dk_at dksX3_comes_0 8 rfl rfl)
theorem dX3_comes_9 : decode cX3_comes 9 = .ok (.bipush 6, 2) := dk_16 6 (dk_at dksX3_comes_0 9 rfl rfl)
theorem dX3_comes_11 : decode cX3_comes 11 = .ok (.if_icmp .ne 7, 3) := dk_160 0 7 (dk_at dksX3_comes_0 11 rfl rfl)
theorem dX3_comes_14 : decode cX3_comes 14 = .ok (.iconst 1, 1) := dk_4 (dk_at dksX3_comes_0 14 rfl rfl)
theorem dX3_comes_15 : decode cX3_comes 15 = .ok (.goto 4, 3) := dk_167 0 4 (dk_at dksX3_comes_0 15 rfl rfl)
theorem dX3_comes_18 : decode cX3_comes 18 = .ok (.iconst 0, 1) := dk_3 (dk_at dksX3_comes_0 18 rfl rfl)
theorem dX3_comes_19 : decode cX3_comes 19 = .ok (.iconst 1, 1) := dk_4 (dk_at dksX3_comes_0 19 rfl rfl)
theorem dX3_comes_20 : decode cX3_comes 20 = .ok (.bipush 6, 2) := dk_16 6 (dk_at dksX3_comes_0 20 rfl rfl)
theorem dX3_comes_22 : decode cX3_comes 22 = .ok (.invokevirtual 74, 3) := dk_182 0 74 (dk_at dksX3_comes_1 0 rfl rfl)
theorem dX3_comes_25 : decode cX3_comes 25 = .ok (.ifCond .eq 5, 3) := dk_153 0 5 (dk_at dksX3_comes_1 3 rfl rfl)
theorem dX3_comes_28 : decode cX3_comes 28 = .ok (.iconst 0, 1) := dk_3 (dk_at dksX3_comes_1 6 rfl rfl)
theorem dX3_comes_29 : decode cX3_comes 29 = .ok (.ireturn, 1) := dk_172 (dk_at dksX3_comes_1 7 rfl rfl)
theorem dX3_comes_30 : decode cX3_comes 30 = .ok (.aload_n 0, 1) := dk_42 (dk_at dksX3_comes_1 8 rfl rfl)
theorem dX3_comes_31 : decode cX3_comes 31 = .ok (.getfield 9, 3) := dk_180 0 9 (dk_at dksX3_comes_1 9 rfl rfl)
theorem dX3_comes_34 : decode cX3_comes 34 = .ok (.iload_n 1, 1) := dk_27 (dk_at dksX3_comes_1 12 rfl rfl)
theorem dX3_comes_35 : decode cX3_comes 35 = .ok (.dup2, 1) := dk_92 (dk_at dksX3_comes_1 13 rfl rfl)
theorem dX3_comes_36 : decode cX3_comes 36 = .ok (.iaload, 1) := dk_46 (dk_at dksX3_comes_1 14 rfl rfl)
theorem dX3_comes_37 : decode cX3_comes 37 = .ok (.iconst 1, 1) := dk_4 (dk_at dksX3_comes_1 15 rfl rfl)
theorem dX3_comes_38 : decode cX3_comes 38 = .ok (.iadd, 1) := dk_96 (dk_at dksX3_comes_1 16 rfl rfl)
theorem dX3_comes_39 : decode cX3_comes 39 = .ok (.iastore, 1) := dk_79 (dk_at dksX3_comes_1 17 rfl rfl)
theorem dX3_comes_40 : decode cX3_comes 40 = .ok (.iconst 0, 1) := dk_3 (dk_at dksX3_comes_1 18 rfl rfl)
theorem dX3_comes_41 : decode cX3_comes 41 = .ok (.istore_n 3, 1) := dk_62 (dk_at dksX3_comes_1 19 rfl rfl)
theorem dX3_comes_42 : decode cX3_comes 42 = .ok (.iload_n 3, 1) := dk_29 (dk_at dksX3_comes_1 20 rfl rfl)
theorem dX3_comes_43 : decode cX3_comes 43 = .ok (.bipush 6, 2) := dk_16 6 (dk_at dksX3_comes_1 21 rfl rfl)
theorem dX3_comes_45 : decode cX3_comes 45 = .ok (.if_icmp .ge 41, 3) := dk_162 0 41 (dk_at dksX3_comes_2 0 rfl rfl)
theorem dX3_comes_48 : decode cX3_comes 48 = .ok (.aload_n 0, 1) := dk_42 (dk_at dksX3_comes_2 3 rfl rfl)
theorem dX3_comes_49 : decode cX3_comes 49 = .ok (.getfield 9, 3) := dk_180 0 9 (dk_at dksX3_comes_2 4 rfl rfl)
theorem dX3_comes_52 : decode cX3_comes 52 = .ok (.iload_n 1, 1) := dk_27 (dk_at dksX3_comes_2 7 rfl rfl)
theorem dX3_comes_53 : decode cX3_comes 53 = .ok (.ifCond .ne 15, 3) := dk_154 0 15 (dk_at dksX3_comes_2 8 rfl rfl)
theorem dX3_comes_56 : decode cX3_comes 56 = .ok (.bipush 6, 2) := dk_16 6 (dk_at dksX3_comes_2 11 rfl rfl)
theorem dX3_comes_58 : decode cX3_comes 58 = .ok (.bipush 6, 2) := dk_16 6 (dk_at dksX3_comes_2 13 rfl rfl)
theorem dX3_comes_60 : decode cX3_comes 60 = .ok (.iload_n 2, 1) := dk_28 (dk_at dksX3_comes_2 15 rfl rfl)
theorem dX3_comes_61 : decode cX3_comes 61 = .ok (.imul, 1) := dk_104 (dk_at dksX3_comes_2 16 rfl rfl)
theorem dX3_comes_62 : decode cX3_comes 62 = .ok (.iadd, 1) := dk_96 (dk_at dksX3_comes_2 17 rfl rfl)
theorem dX3_comes_63 : decode cX3_comes 63 = .ok (.iload_n 3, 1) := dk_29 (dk_at dksX3_comes_2 18 rfl rfl)
theorem dX3_comes_64 : decode cX3_comes 64 = .ok (.iadd, 1) := dk_96 (dk_at dksX3_comes_2 19 rfl rfl)
theorem dX3_comes_65 : decode cX3_comes 65 = .ok (.goto 12, 3) := dk_167 0 12 (dk_at dksX3_comes_2 20 rfl rfl)
theorem dX3_comes_68 : decode cX3_comes 68 = .ok (.bipush 6, 2) := dk_16 6 (dk_at dksX3_comes_3 0 rfl rfl)
theorem dX3_comes_70 : decode cX3_comes 70 = .ok (.bipush 6, 2) := dk_16 6 (dk_at dksX3_comes_3 2 rfl rfl)
theorem dX3_comes_72 : decode cX3_comes 72 = .ok (.iload_n 3, 1) := dk_29 (dk_at dksX3_comes_3 4 rfl rfl)
theorem dX3_comes_73 : decode cX3_comes 73 = .ok (.imul, 1) := dk_104 (dk_at dksX3_comes_3 5 rfl rfl)
theorem dX3_comes_74 : decode cX3_comes 74 = .ok (.iadd, 1) := dk_96 (dk_at dksX3_comes_3 6 rfl rfl)
theorem dX3_comes_75 : decode cX3_comes 75 = .ok (.iload_n 2, 1) := dk_28 (dk_at dksX3_comes_3 7 rfl rfl)
theorem dX3_comes_76 : decode cX3_comes 76 = .ok (.iadd, 1) := dk_96 (dk_at dksX3_comes_3 8 rfl rfl)
theorem dX3_comes_77 : decode cX3_comes 77 = .ok (.bipush 30, 2) := dk_16 30 (dk_at dksX3_comes_3 9 rfl rfl)
theorem dX3_comes_79 : decode cX3_comes 79 = .ok (.iastore, 1) := dk_79 (dk_at dksX3_comes_3 11 rfl rfl)
theorem dX3_comes_80 : decode cX3_comes 80 = .ok (.iinc 3 1, 3) := dk_132 3 1 (dk_at dksX3_comes_3 12 rfl rfl)
theorem dX3_comes_83 : decode cX3_comes 83 = .ok (.goto (-41), 3) := dk_167 255 215 (dk_at dksX3_comes_3 15 rfl rfl)
theorem dX3_comes_86 : decode cX3_comes 86 = .ok (.aload_n 0, 1) := dk_42 (dk_at dksX3_comes_3 18 rfl rfl)
theorem dX3_comes_87 : decode cX3_comes 87 = .ok (.iconst 1, 1) := dk_4 (dk_at dksX3_comes_3 19 rfl rfl)
theorem dX3_comes_88 : decode cX3_comes 88 = .ok (.invokevirtual 81, 3) := dk_182 0 81 (dk_at dksX3_comes_3 20 rfl rfl)
theorem dX3_comes_91 : decode cX3_comes 91 = .ok (.aload_n 0, 1) := dk_42 (dk_at dksX3_comes_3 23 rfl rfl)
theorem dX3_comes_92 : decode cX3_comes 92 = .ok (.iload_n 2, 1) := dk_28 (dk_at dksX3_comes_4 0 rfl rfl)
theorem dX3_comes_93 : decode cX3_comes 93 = .ok (.putfield 43, 3) := dk_181 0 43 (dk_at dksX3_comes_4 1 rfl rfl)
theorem dX3_comes_96 : decode cX3_comes 96 = .ok (.iconst 1, 1) := dk_4 (dk_at dksX3_comes_4 4 rfl rfl)
theorem dX3_comes_97 : decode cX3_comes 97 = .ok (.ireturn, 1) := dk_172 (dk_at dksX3_comes_4 5 rfl rfl)
abbrev cX3_refuses : ByteArray := prog_23_method_7_code
def yX3_refuses : MethodName := ⟨RX3, "refuses", "(ZII)Z"⟩
def dkwX3_refuses_0 : List UInt8 := [27, 153, 0, 18, 42, 28, 181, 0, 46, 42, 29, 181, 0, 49, 42, 3, 181, 0, 52, 27, 172]
abbrev dktX3_refuses_0 : List UInt8 := dkwX3_refuses_0 ++ []
theorem dksX3_refuses_0 : cX3_refuses.data.toList.drop 0 = dktX3_refuses_0 := by decide +kernel
theorem dX3_refuses_0 : decode cX3_refuses 0 = .ok (.iload_n 1, 1) := dk_27 (dk_at dksX3_refuses_0 0 rfl rfl)
theorem dX3_refuses_1 : decode cX3_refuses 1 = .ok (.ifCond .eq 18, 3) := dk_153 0 18 (dk_at dksX3_refuses_0 1 rfl rfl)
theorem dX3_refuses_4 : decode cX3_refuses 4 = .ok (.aload_n 0, 1) := dk_42 (dk_at dksX3_refuses_0 4 rfl rfl)
theorem dX3_refuses_5 : decode cX3_refuses 5 = .ok (.iload_n 2, 1) := dk_28 (dk_at dksX3_refuses_0 5 rfl rfl)
theorem dX3_refuses_6 : decode cX3_refuses 6 = .ok (.putfield 46, 3) := dk_181 0 46 (dk_at dksX3_refuses_0 6 rfl rfl)
theorem dX3_refuses_9 : decode cX3_refuses 9 = .ok (.aload_n 0, 1) := dk_42 (dk_at dksX3_refuses_0 9 rfl rfl)
theorem dX3_refuses_10 : decode cX3_refuses 10 = .ok (.iload_n 3, 1) := dk_29 (dk_at dksX3_refuses_0 10 rfl rfl)
theorem dX3_refuses_11 : decode cX3_refuses 11 = .ok (.putfield 49, 3) := dk_181 0 49 (dk_at dksX3_refuses_0 11 rfl rfl)
theorem dX3_refuses_14 : decode cX3_refuses 14 = .ok (.aload_n 0, 1) := dk_42 (dk_at dksX3_refuses_0 14 rfl rfl)
theorem dX3_refuses_15 : decode cX3_refuses 15 = .ok (.iconst 0, 1) := dk_3 (dk_at dksX3_refuses_0 15 rfl rfl)
theorem dX3_refuses_16 : decode cX3_refuses 16 = .ok (.putfield 52, 3) := dk_181 0 52 (dk_at dksX3_refuses_0 16 rfl rfl)
theorem dX3_refuses_19 : decode cX3_refuses 19 = .ok (.iload_n 1, 1) := dk_27 (dk_at dksX3_refuses_0 19 rfl rfl)
theorem dX3_refuses_20 : decode cX3_refuses 20 = .ok (.ireturn, 1) := dk_172 (dk_at dksX3_refuses_0 20 rfl rfl)
abbrev cX3_allFree : ByteArray := prog_23_method_17_code
def yX3_allFree : MethodName := ⟨RX3, "allFree", "(Z)V"⟩
def dkwX3_allFree_2 : List UInt8 := [132, 2, 1, 167, 255, 209, 177]
abbrev dktX3_allFree_2 : List UInt8 := dkwX3_allFree_2 ++ []
def dkwX3_allFree_1 : List UInt8 := [28, 96, 27, 153, 0, 7, 3, 167, 0, 14, 42, 180, 0, 9, 16, 78, 28, 96, 46, 5, 108, 79]
abbrev dktX3_allFree_1 : List UInt8 := dkwX3_allFree_1 ++ dktX3_allFree_2
def dkwX3_allFree_0 : List UInt8 := [3, 61, 28, 16, 6, 162, 0, 47, 42, 180, 0, 9, 16, 84, 28, 96, 2, 79, 42, 180, 0, 9, 16, 78]
abbrev dktX3_allFree_0 : List UInt8 := dkwX3_allFree_0 ++ dktX3_allFree_1
theorem dksX3_allFree_0 : cX3_allFree.data.toList.drop 0 = dktX3_allFree_0 := by decide +kernel
theorem dksX3_allFree_1 : cX3_allFree.data.toList.drop 24 = dktX3_allFree_1 := dk_seg dksX3_allFree_0 24 rfl rfl
theorem dksX3_allFree_2 : cX3_allFree.data.toList.drop 46 = dktX3_allFree_2 := dk_seg dksX3_allFree_1 22 rfl rfl
theorem dX3_allFree_0 : decode cX3_allFree 0 = .ok (.iconst 0, 1) := dk_3 (dk_at dksX3_allFree_0 0 rfl rfl)
theorem dX3_allFree_1 : decode cX3_allFree 1 = .ok (.istore_n 2, 1) := dk_61 (dk_at dksX3_allFree_0 1 rfl rfl)
theorem dX3_allFree_2 : decode cX3_allFree 2 = .ok (.iload_n 2, 1) := dk_28 (dk_at dksX3_allFree_0 2 rfl rfl)
theorem dX3_allFree_3 : decode cX3_allFree 3 = .ok (.bipush 6, 2) := dk_16 6 (dk_at dksX3_allFree_0 3 rfl rfl)
theorem dX3_allFree_5 : decode cX3_allFree 5 = .ok (.if_icmp .ge 47, 3) := dk_162 0 47 (dk_at dksX3_allFree_0 5 rfl rfl)
theorem dX3_allFree_8 : decode cX3_allFree 8 = .ok (.aload_n 0, 1) := dk_42 (dk_at dksX3_allFree_0 8 rfl rfl)
theorem dX3_allFree_9 : decode cX3_allFree 9 = .ok (.getfield 9, 3) := dk_180 0 9 (dk_at dksX3_allFree_0 9 rfl rfl)
theorem dX3_allFree_12 : decode cX3_allFree 12 = .ok (.bipush 84, 2) := dk_16 84 (dk_at dksX3_allFree_0 12 rfl rfl)
theorem dX3_allFree_14 : decode cX3_allFree 14 = .ok (.iload_n 2, 1) := dk_28 (dk_at dksX3_allFree_0 14 rfl rfl)
theorem dX3_allFree_15 : decode cX3_allFree 15 = .ok (.iadd, 1) := dk_96 (dk_at dksX3_allFree_0 15 rfl rfl)
theorem dX3_allFree_16 : decode cX3_allFree 16 = .ok (.iconst (-1), 1) := dk_2 (dk_at dksX3_allFree_0 16 rfl rfl)
theorem dX3_allFree_17 : decode cX3_allFree 17 = .ok (.iastore, 1) := dk_79 (dk_at dksX3_allFree_0 17 rfl rfl)
theorem dX3_allFree_18 : decode cX3_allFree 18 = .ok (.aload_n 0, 1) := dk_42 (dk_at dksX3_allFree_0 18 rfl rfl)
theorem dX3_allFree_19 : decode cX3_allFree 19 = .ok (.getfield 9, 3) := dk_180 0 9 (dk_at dksX3_allFree_0 19 rfl rfl)
theorem dX3_allFree_22 : decode cX3_allFree 22 = .ok (.bipush 78, 2) := dk_16 78 (dk_at dksX3_allFree_0 22 rfl rfl)
theorem dX3_allFree_24 : decode cX3_allFree 24 = .ok (.iload_n 2, 1) := dk_28 (dk_at dksX3_allFree_1 0 rfl rfl)
theorem dX3_allFree_25 : decode cX3_allFree 25 = .ok (.iadd, 1) := dk_96 (dk_at dksX3_allFree_1 1 rfl rfl)
theorem dX3_allFree_26 : decode cX3_allFree 26 = .ok (.iload_n 1, 1) := dk_27 (dk_at dksX3_allFree_1 2 rfl rfl)
theorem dX3_allFree_27 : decode cX3_allFree 27 = .ok (.ifCond .eq 7, 3) := dk_153 0 7 (dk_at dksX3_allFree_1 3 rfl rfl)
theorem dX3_allFree_30 : decode cX3_allFree 30 = .ok (.iconst 0, 1) := dk_3 (dk_at dksX3_allFree_1 6 rfl rfl)
theorem dX3_allFree_31 : decode cX3_allFree 31 = .ok (.goto 14, 3) := dk_167 0 14 (dk_at dksX3_allFree_1 7 rfl rfl)
theorem dX3_allFree_34 : decode cX3_allFree 34 = .ok (.aload_n 0, 1) := dk_42 (dk_at dksX3_allFree_1 10 rfl rfl)
theorem dX3_allFree_35 : decode cX3_allFree 35 = .ok (.getfield 9, 3) := dk_180 0 9 (dk_at dksX3_allFree_1 11 rfl rfl)
theorem dX3_allFree_38 : decode cX3_allFree 38 = .ok (.bipush 78, 2) := dk_16 78 (dk_at dksX3_allFree_1 14 rfl rfl)
theorem dX3_allFree_40 : decode cX3_allFree 40 = .ok (.iload_n 2, 1) := dk_28 (dk_at dksX3_allFree_1 16 rfl rfl)
theorem dX3_allFree_41 : decode cX3_allFree 41 = .ok (.iadd, 1) := dk_96 (dk_at dksX3_allFree_1 17 rfl rfl)
theorem dX3_allFree_42 : decode cX3_allFree 42 = .ok (.iaload, 1) := dk_46 (dk_at dksX3_allFree_1 18 rfl rfl)
theorem dX3_allFree_43 : decode cX3_allFree 43 = .ok (.iconst 2, 1) := dk_5 (dk_at dksX3_allFree_1 19 rfl rfl)
theorem dX3_allFree_44 : decode cX3_allFree 44 = .ok (.idiv, 1) := dk_108 (dk_at dksX3_allFree_1 20 rfl rfl)
theorem dX3_allFree_45 : decode cX3_allFree 45 = .ok (.iastore, 1) := dk_79 (dk_at dksX3_allFree_1 21 rfl rfl)
theorem dX3_allFree_46 : decode cX3_allFree 46 = .ok (.iinc 2 1, 3) := dk_132 2 1 (dk_at dksX3_allFree_2 0 rfl rfl)
theorem dX3_allFree_49 : decode cX3_allFree 49 = .ok (.goto (-47), 3) := dk_167 255 209 (dk_at dksX3_allFree_2 3 rfl rfl)
theorem dX3_allFree_52 : decode cX3_allFree 52 = .ok (.return_, 1) := dk_177 (dk_at dksX3_allFree_2 6 rfl rfl)
abbrev cX3_ends : ByteArray := prog_23_method_6_code
def yX3_ends : MethodName := ⟨RX3, "ends", "(ZI)I"⟩
def dkwX3_ends_3 : List UInt8 := [4, 96, 181, 0, 40, 42, 16, 10, 42, 180, 0, 40, 182, 0, 36, 42, 180, 0, 43, 172]
abbrev dktX3_ends_3 : List UInt8 := dkwX3_ends_3 ++ []
def dkwX3_ends_2 : List UInt8 := [182, 0, 36, 132, 3, 1, 167, 255, 239, 42, 89, 180, 0, 40, 4, 100, 181, 0, 40, 42, 89, 180, 0, 40]
abbrev dktX3_ends_2 : List UInt8 := dkwX3_ends_2 ++ dktX3_ends_3
def dkwX3_ends_1 : List UInt8 := [3, 172, 42, 180, 0, 40, 16, 8, 160, 0, 35, 4, 62, 29, 16, 8, 162, 0, 17, 42, 29, 4, 96, 29]
abbrev dktX3_ends_1 : List UInt8 := dkwX3_ends_1 ++ dktX3_ends_2
def dkwX3_ends_0 : List UInt8 := [42, 27, 153, 0, 7, 3, 167, 0, 4, 28, 181, 0, 33, 27, 154, 0, 12, 42, 16, 10, 3, 182, 0, 36]
abbrev dktX3_ends_0 : List UInt8 := dkwX3_ends_0 ++ dktX3_ends_1
theorem dksX3_ends_0 : cX3_ends.data.toList.drop 0 = dktX3_ends_0 := by decide +kernel
theorem dksX3_ends_1 : cX3_ends.data.toList.drop 24 = dktX3_ends_1 := dk_seg dksX3_ends_0 24 rfl rfl
theorem dksX3_ends_2 : cX3_ends.data.toList.drop 48 = dktX3_ends_2 := dk_seg dksX3_ends_1 24 rfl rfl
theorem dksX3_ends_3 : cX3_ends.data.toList.drop 72 = dktX3_ends_3 := dk_seg dksX3_ends_2 24 rfl rfl
theorem dX3_ends_0 : decode cX3_ends 0 = .ok (.aload_n 0, 1) := dk_42 (dk_at dksX3_ends_0 0 rfl rfl)
theorem dX3_ends_1 : decode cX3_ends 1 = .ok (.iload_n 1, 1) := dk_27 (dk_at dksX3_ends_0 1 rfl rfl)
theorem dX3_ends_2 : decode cX3_ends 2 = .ok (.ifCond .eq 7, 3) := dk_153 0 7 (dk_at dksX3_ends_0 2 rfl rfl)
theorem dX3_ends_5 : decode cX3_ends 5 = .ok (.iconst 0, 1) := dk_3 (dk_at dksX3_ends_0 5 rfl rfl)
theorem dX3_ends_6 : decode cX3_ends 6 = .ok (.goto 4, 3) := dk_167 0 4 (dk_at dksX3_ends_0 6 rfl rfl)
theorem dX3_ends_9 : decode cX3_ends 9 = .ok (.iload_n 2, 1) := dk_28 (dk_at dksX3_ends_0 9 rfl rfl)
theorem dX3_ends_10 : decode cX3_ends 10 = .ok (.putfield 33, 3) := dk_181 0 33 (dk_at dksX3_ends_0 10 rfl rfl)
theorem dX3_ends_13 : decode cX3_ends 13 = .ok (.iload_n 1, 1) := dk_27 (dk_at dksX3_ends_0 13 rfl rfl)
theorem dX3_ends_14 : decode cX3_ends 14 = .ok (.ifCond .ne 12, 3) := dk_154 0 12 (dk_at dksX3_ends_0 14 rfl rfl)
theorem dX3_ends_17 : decode cX3_ends 17 = .ok (.aload_n 0, 1) := dk_42 (dk_at dksX3_ends_0 17 rfl rfl)
theorem dX3_ends_18 : decode cX3_ends 18 = .ok (.bipush 10, 2) := dk_16 10 (dk_at dksX3_ends_0 18 rfl rfl)
theorem dX3_ends_20 : decode cX3_ends 20 = .ok (.iconst 0, 1) := dk_3 (dk_at dksX3_ends_0 20 rfl rfl)
theorem dX3_ends_21 : decode cX3_ends 21 = .ok (.invokevirtual 36, 3) := dk_182 0 36 (dk_at dksX3_ends_0 21 rfl rfl)
theorem dX3_ends_24 : decode cX3_ends 24 = .ok (.iconst 0, 1) := dk_3 (dk_at dksX3_ends_1 0 rfl rfl)
theorem dX3_ends_25 : decode cX3_ends 25 = .ok (.ireturn, 1) := dk_172 (dk_at dksX3_ends_1 1 rfl rfl)
theorem dX3_ends_26 : decode cX3_ends 26 = .ok (.aload_n 0, 1) := dk_42 (dk_at dksX3_ends_1 2 rfl rfl)
theorem dX3_ends_27 : decode cX3_ends 27 = .ok (.getfield 40, 3) := dk_180 0 40 (dk_at dksX3_ends_1 3 rfl rfl)
theorem dX3_ends_30 : decode cX3_ends 30 = .ok (.bipush 8, 2) := dk_16 8 (dk_at dksX3_ends_1 6 rfl rfl)
theorem dX3_ends_32 : decode cX3_ends 32 = .ok (.if_icmp .ne 35, 3) := dk_160 0 35 (dk_at dksX3_ends_1 8 rfl rfl)
theorem dX3_ends_35 : decode cX3_ends 35 = .ok (.iconst 1, 1) := dk_4 (dk_at dksX3_ends_1 11 rfl rfl)
theorem dX3_ends_36 : decode cX3_ends 36 = .ok (.istore_n 3, 1) := dk_62 (dk_at dksX3_ends_1 12 rfl rfl)
theorem dX3_ends_37 : decode cX3_ends 37 = .ok (.iload_n 3, 1) := dk_29 (dk_at dksX3_ends_1 13 rfl rfl)
theorem dX3_ends_38 : decode cX3_ends 38 = .ok (.bipush 8, 2) := dk_16 8 (dk_at dksX3_ends_1 14 rfl rfl)
theorem dX3_ends_40 : decode cX3_ends 40 = .ok (.if_icmp .ge 17, 3) := dk_162 0 17 (dk_at dksX3_ends_1 16 rfl rfl)
theorem dX3_ends_43 : decode cX3_ends 43 = .ok (.aload_n 0, 1) := dk_42 (dk_at dksX3_ends_1 19 rfl rfl)
theorem dX3_ends_44 : decode cX3_ends 44 = .ok (.iload_n 3, 1) := dk_29 (dk_at dksX3_ends_1 20 rfl rfl)
theorem dX3_ends_45 : decode cX3_ends 45 = .ok (.iconst 1, 1) := dk_4 (dk_at dksX3_ends_1 21 rfl rfl)
theorem dX3_ends_46 : decode cX3_ends 46 = .ok (.iadd, 1) := dk_96 (dk_at dksX3_ends_1 22 rfl rfl)
theorem dX3_ends_47 : decode cX3_ends 47 = .ok (.iload_n 3, 1) := dk_29 (dk_at dksX3_ends_1 23 rfl rfl)
theorem dX3_ends_48 : decode cX3_ends 48 = .ok (.invokevirtual 36, 3) := dk_182 0 36 (dk_at dksX3_ends_2 0 rfl rfl)
theorem dX3_ends_51 : decode cX3_ends 51 = .ok (.iinc 3 1, 3) := dk_132 3 1 (dk_at dksX3_ends_2 3 rfl rfl)
theorem dX3_ends_54 : decode cX3_ends 54 = .ok (.goto (-17), 3) := dk_167 255 239 (dk_at dksX3_ends_2 6 rfl rfl)
theorem dX3_ends_57 : decode cX3_ends 57 = .ok (.aload_n 0, 1) := dk_42 (dk_at dksX3_ends_2 9 rfl rfl)
theorem dX3_ends_58 : decode cX3_ends 58 = .ok (.dup, 1) := dk_89 (dk_at dksX3_ends_2 10 rfl rfl)
theorem dX3_ends_59 : decode cX3_ends 59 = .ok (.getfield 40, 3) := dk_180 0 40 (dk_at dksX3_ends_2 11 rfl rfl)
theorem dX3_ends_62 : decode cX3_ends 62 = .ok (.iconst 1, 1) := dk_4 (dk_at dksX3_ends_2 14 rfl rfl)
theorem dX3_ends_63 : decode cX3_ends 63 = .ok (.isub, 1) := dk_100 (dk_at dksX3_ends_2 15 rfl rfl)
theorem dX3_ends_64 : decode cX3_ends 64 = .ok (.putfield 40, 3) := dk_181 0 40 (dk_at dksX3_ends_2 16 rfl rfl)
theorem dX3_ends_67 : decode cX3_ends 67 = .ok (.aload_n 0, 1) := dk_42 (dk_at dksX3_ends_2 19 rfl rfl)
theorem dX3_ends_68 : decode cX3_ends 68 = .ok (.dup, 1) := dk_89 (dk_at dksX3_ends_2 20 rfl rfl)
theorem dX3_ends_69 : decode cX3_ends 69 = .ok (.getfield 40, 3) := dk_180 0 40 (dk_at dksX3_ends_2 21 rfl rfl)
theorem dX3_ends_72 : decode cX3_ends 72 = .ok (.iconst 1, 1) := dk_4 (dk_at dksX3_ends_3 0 rfl rfl)
theorem dX3_ends_73 : decode cX3_ends 73 = .ok (.iadd, 1) := dk_96 (dk_at dksX3_ends_3 1 rfl rfl)
theorem dX3_ends_74 : decode cX3_ends 74 = .ok (.putfield 40, 3) := dk_181 0 40 (dk_at dksX3_ends_3 2 rfl rfl)
theorem dX3_ends_77 : decode cX3_ends 77 = .ok (.aload_n 0, 1) := dk_42 (dk_at dksX3_ends_3 5 rfl rfl)
theorem dX3_ends_78 : decode cX3_ends 78 = .ok (.bipush 10, 2) := dk_16 10 (dk_at dksX3_ends_3 6 rfl rfl)
theorem dX3_ends_80 : decode cX3_ends 80 = .ok (.aload_n 0, 1) := dk_42 (dk_at dksX3_ends_3 8 rfl rfl)
theorem dX3_ends_81 : decode cX3_ends 81 = .ok (.getfield 40, 3) := dk_180 0 40 (dk_at dksX3_ends_3 9 rfl rfl)
theorem dX3_ends_84 : decode cX3_ends 84 = .ok (.invokevirtual 36, 3) := dk_182 0 36 (dk_at dksX3_ends_3 12 rfl rfl)
theorem dX3_ends_87 : decode cX3_ends 87 = .ok (.aload_n 0, 1) := dk_42 (dk_at dksX3_ends_3 15 rfl rfl)
theorem dX3_ends_88 : decode cX3_ends 88 = .ok (.getfield 43, 3) := dk_180 0 43 (dk_at dksX3_ends_3 16 rfl rfl)
theorem dX3_ends_91 : decode cX3_ends 91 = .ok (.ireturn, 1) := dk_172 (dk_at dksX3_ends_3 19 rfl rfl)
abbrev cX3_master : ByteArray := prog_23_method_20_code
def yX3_master : MethodName := ⟨RX3, "master", "()I"⟩
def dkwX3_master_0 : List UInt8 := [42, 182, 0, 85, 42, 42, 4, 182, 0, 88, 4, 182, 0, 91, 172]
abbrev dktX3_master_0 : List UInt8 := dkwX3_master_0 ++ []
theorem dksX3_master_0 : cX3_master.data.toList.drop 0 = dktX3_master_0 := by decide +kernel
theorem dX3_master_0 : decode cX3_master 0 = .ok (.aload_n 0, 1) := dk_42 (dk_at dksX3_master_0 0 rfl rfl)
theorem dX3_master_1 : decode cX3_master 1 = .ok (.invokevirtual 85, 3) := dk_182 0 85 (dk_at dksX3_master_0 1 rfl rfl)
theorem dX3_master_4 : decode cX3_master 4 = .ok (.aload_n 0, 1) := dk_42 (dk_at dksX3_master_0 4 rfl rfl)
theorem dX3_master_5 : decode cX3_master 5 = .ok (.aload_n 0, 1) := dk_42 (dk_at dksX3_master_0 5 rfl rfl)
theorem dX3_master_6 : decode cX3_master 6 = .ok (.iconst 1, 1) := dk_4 (dk_at dksX3_master_0 6 rfl rfl)
theorem dX3_master_7 : decode cX3_master 7 = .ok (.invokevirtual 88, 3) := dk_182 0 88 (dk_at dksX3_master_0 7 rfl rfl)
theorem dX3_master_10 : decode cX3_master 10 = .ok (.iconst 1, 1) := dk_4 (dk_at dksX3_master_0 10 rfl rfl)
theorem dX3_master_11 : decode cX3_master 11 = .ok (.invokevirtual 91, 3) := dk_182 0 91 (dk_at dksX3_master_0 11 rfl rfl)
theorem dX3_master_14 : decode cX3_master 14 = .ok (.ireturn, 1) := dk_172 (dk_at dksX3_master_0 14 rfl rfl)
abbrev cX3_cost : ByteArray := prog_23_method_22_code
def yX3_cost : MethodName := ⟨RX3, "cost", "(III)I"⟩
def dkwX3_cost_0 : List UInt8 := [42, 182, 0, 85, 42, 42, 27, 28, 29, 182, 0, 99, 4, 182, 0, 91, 172]
abbrev dktX3_cost_0 : List UInt8 := dkwX3_cost_0 ++ []
theorem dksX3_cost_0 : cX3_cost.data.toList.drop 0 = dktX3_cost_0 := by decide +kernel
theorem dX3_cost_0 : decode cX3_cost 0 = .ok (.aload_n 0, 1) := dk_42 (dk_at dksX3_cost_0 0 rfl rfl)
theorem dX3_cost_1 : decode cX3_cost 1 = .ok (.invokevirtual 85, 3) := dk_182 0 85 (dk_at dksX3_cost_0 1 rfl rfl)
theorem dX3_cost_4 : decode cX3_cost 4 = .ok (.aload_n 0, 1) := dk_42 (dk_at dksX3_cost_0 4 rfl rfl)
theorem dX3_cost_5 : decode cX3_cost 5 = .ok (.aload_n 0, 1) := dk_42 (dk_at dksX3_cost_0 5 rfl rfl)
theorem dX3_cost_6 : decode cX3_cost 6 = .ok (.iload_n 1, 1) := dk_27 (dk_at dksX3_cost_0 6 rfl rfl)
theorem dX3_cost_7 : decode cX3_cost 7 = .ok (.iload_n 2, 1) := dk_28 (dk_at dksX3_cost_0 7 rfl rfl)
theorem dX3_cost_8 : decode cX3_cost 8 = .ok (.iload_n 3, 1) := dk_29 (dk_at dksX3_cost_0 8 rfl rfl)
theorem dX3_cost_9 : decode cX3_cost 9 = .ok (.invokevirtual 99, 3) := dk_182 0 99 (dk_at dksX3_cost_0 9 rfl rfl)
theorem dX3_cost_12 : decode cX3_cost 12 = .ok (.iconst 1, 1) := dk_4 (dk_at dksX3_cost_0 12 rfl rfl)
theorem dX3_cost_13 : decode cX3_cost 13 = .ok (.invokevirtual 91, 3) := dk_182 0 91 (dk_at dksX3_cost_0 13 rfl rfl)
theorem dX3_cost_16 : decode cX3_cost 16 = .ok (.ireturn, 1) := dk_172 (dk_at dksX3_cost_0 16 rfl rfl)
abbrev cX3_costs : ByteArray := prog_23_method_21_code
def yX3_costs : MethodName := ⟨RX3, "costs", "(III)Z"⟩
def dkwX3_costs_3 : List UInt8 := [180, 0, 9, 16, 6, 16, 6, 27, 104, 96, 28, 96, 29, 79, 4, 172]
abbrev dktX3_costs_3 : List UInt8 := dkwX3_costs_3 ++ []
def dkwX3_costs_2 : List UInt8 := [3, 7, 29, 182, 0, 74, 153, 0, 5, 3, 172, 42, 42, 27, 28, 182, 0, 62, 181, 0, 43, 42]
abbrev dktX3_costs_2 : List UInt8 := dkwX3_costs_2 ++ dktX3_costs_3
def dkwX3_costs_1 : List UInt8 := [3, 6, 29, 182, 0, 74, 154, 0, 27, 42, 42, 27, 28, 182, 0, 62, 29, 160, 0, 7, 4, 167, 0, 4]
abbrev dktX3_costs_1 : List UInt8 := dkwX3_costs_1 ++ dktX3_costs_2
def dkwX3_costs_0 : List UInt8 := [42, 27, 28, 182, 0, 95, 154, 0, 51, 42, 29, 3, 16, 60, 184, 0, 66, 154, 0, 7, 4, 167, 0, 4]
abbrev dktX3_costs_0 : List UInt8 := dkwX3_costs_0 ++ dktX3_costs_1
theorem dksX3_costs_0 : cX3_costs.data.toList.drop 0 = dktX3_costs_0 := by decide +kernel
theorem dksX3_costs_1 : cX3_costs.data.toList.drop 24 = dktX3_costs_1 := dk_seg dksX3_costs_0 24 rfl rfl
theorem dksX3_costs_2 : cX3_costs.data.toList.drop 48 = dktX3_costs_2 := dk_seg dksX3_costs_1 24 rfl rfl
theorem dksX3_costs_3 : cX3_costs.data.toList.drop 70 = dktX3_costs_3 := dk_seg dksX3_costs_2 22 rfl rfl
theorem dX3_costs_0 : decode cX3_costs 0 = .ok (.aload_n 0, 1) := dk_42 (dk_at dksX3_costs_0 0 rfl rfl)
theorem dX3_costs_1 : decode cX3_costs 1 = .ok (.iload_n 1, 1) := dk_27 (dk_at dksX3_costs_0 1 rfl rfl)
theorem dX3_costs_2 : decode cX3_costs 2 = .ok (.iload_n 2, 1) := dk_28 (dk_at dksX3_costs_0 2 rfl rfl)
theorem dX3_costs_3 : decode cX3_costs 3 = .ok (.invokevirtual 95, 3) := dk_182 0 95 (dk_at dksX3_costs_0 3 rfl rfl)
theorem dX3_costs_6 : decode cX3_costs 6 = .ok (.ifCond .ne 51, 3) := dk_154 0 51 (dk_at dksX3_costs_0 6 rfl rfl)
theorem dX3_costs_9 : decode cX3_costs 9 = .ok (.aload_n 0, 1) := dk_42 (dk_at dksX3_costs_0 9 rfl rfl)
theorem dX3_costs_10 : decode cX3_costs 10 = .ok (.iload_n 3, 1) := dk_29 (dk_at dksX3_costs_0 10 rfl rfl)
theorem dX3_costs_11 : decode cX3_costs 11 = .ok (.iconst 0, 1) := dk_3 (dk_at dksX3_costs_0 11 rfl rfl)
theorem dX3_costs_12 : decode cX3_costs 12 = .ok (.bipush 60, 2) := dk_16 60 (dk_at dksX3_costs_0 12 rfl rfl)
theorem dX3_costs_14 : decode cX3_costs 14 = .ok (.invokestatic 66, 3) := dk_184 0 66 (dk_at dksX3_costs_0 14 rfl rfl)
theorem dX3_costs_17 : decode cX3_costs 17 = .ok (.ifCond .ne 7, 3) := dk_154 0 7 (dk_at dksX3_costs_0 17 rfl rfl)
theorem dX3_costs_20 : decode cX3_costs 20 = .ok (.iconst 1, 1) := dk_4 (dk_at dksX3_costs_0 20 rfl rfl)
theorem dX3_costs_21 : decode cX3_costs 21 = .ok (.goto 4, 3) := dk_167 0 4 (dk_at dksX3_costs_0 21 rfl rfl)
theorem dX3_costs_24 : decode cX3_costs 24 = .ok (.iconst 0, 1) := dk_3 (dk_at dksX3_costs_1 0 rfl rfl)
theorem dX3_costs_25 : decode cX3_costs 25 = .ok (.iconst 3, 1) := dk_6 (dk_at dksX3_costs_1 1 rfl rfl)
theorem dX3_costs_26 : decode cX3_costs 26 = .ok (.iload_n 3, 1) := dk_29 (dk_at dksX3_costs_1 2 rfl rfl)
theorem dX3_costs_27 : decode cX3_costs 27 = .ok (.invokevirtual 74, 3) := dk_182 0 74 (dk_at dksX3_costs_1 3 rfl rfl)
theorem dX3_costs_30 : decode cX3_costs 30 = .ok (.ifCond .ne 27, 3) := dk_154 0 27 (dk_at dksX3_costs_1 6 rfl rfl)
theorem dX3_costs_33 : decode cX3_costs 33 = .ok (.aload_n 0, 1) := dk_42 (dk_at dksX3_costs_1 9 rfl rfl)
theorem dX3_costs_34 : decode cX3_costs 34 = .ok (.aload_n 0, 1) := dk_42 (dk_at dksX3_costs_1 10 rfl rfl)
theorem dX3_costs_35 : decode cX3_costs 35 = .ok (.iload_n 1, 1) := dk_27 (dk_at dksX3_costs_1 11 rfl rfl)
theorem dX3_costs_36 : decode cX3_costs 36 = .ok (.iload_n 2, 1) := dk_28 (dk_at dksX3_costs_1 12 rfl rfl)
theorem dX3_costs_37 : decode cX3_costs 37 = .ok (.invokevirtual 62, 3) := dk_182 0 62 (dk_at dksX3_costs_1 13 rfl rfl)
theorem dX3_costs_40 : decode cX3_costs 40 = .ok (.iload_n 3, 1) := dk_29 (dk_at dksX3_costs_1 16 rfl rfl)
theorem dX3_costs_41 : decode cX3_costs 41 = .ok (.if_icmp .ne 7, 3) := dk_160 0 7 (dk_at dksX3_costs_1 17 rfl rfl)
theorem dX3_costs_44 : decode cX3_costs 44 = .ok (.iconst 1, 1) := dk_4 (dk_at dksX3_costs_1 20 rfl rfl)
theorem dX3_costs_45 : decode cX3_costs 45 = .ok (.goto 4, 3) := dk_167 0 4 (dk_at dksX3_costs_1 21 rfl rfl)
theorem dX3_costs_48 : decode cX3_costs 48 = .ok (.iconst 0, 1) := dk_3 (dk_at dksX3_costs_2 0 rfl rfl)
theorem dX3_costs_49 : decode cX3_costs 49 = .ok (.iconst 4, 1) := dk_7 (dk_at dksX3_costs_2 1 rfl rfl)
theorem dX3_costs_50 : decode cX3_costs 50 = .ok (.iload_n 3, 1) := dk_29 (dk_at dksX3_costs_2 2 rfl rfl)
theorem dX3_costs_51 : decode cX3_costs 51 = .ok (.invokevirtual 74, 3) := dk_182 0 74 (dk_at dksX3_costs_2 3 rfl rfl)
theorem dX3_costs_54 : decode cX3_costs 54 = .ok (.ifCond .eq 5, 3) := dk_153 0 5 (dk_at dksX3_costs_2 6 rfl rfl)
theorem dX3_costs_57 : decode cX3_costs 57 = .ok (.iconst 0, 1) := dk_3 (dk_at dksX3_costs_2 9 rfl rfl)
theorem dX3_costs_58 : decode cX3_costs 58 = .ok (.ireturn, 1) := dk_172 (dk_at dksX3_costs_2 10 rfl rfl)
theorem dX3_costs_59 : decode cX3_costs 59 = .ok (.aload_n 0, 1) := dk_42 (dk_at dksX3_costs_2 11 rfl rfl)
theorem dX3_costs_60 : decode cX3_costs 60 = .ok (.aload_n 0, 1) := dk_42 (dk_at dksX3_costs_2 12 rfl rfl)
theorem dX3_costs_61 : decode cX3_costs 61 = .ok (.iload_n 1, 1) := dk_27 (dk_at dksX3_costs_2 13 rfl rfl)
theorem dX3_costs_62 : decode cX3_costs 62 = .ok (.iload_n 2, 1) := dk_28 (dk_at dksX3_costs_2 14 rfl rfl)
theorem dX3_costs_63 : decode cX3_costs 63 = .ok (.invokevirtual 62, 3) := dk_182 0 62 (dk_at dksX3_costs_2 15 rfl rfl)
theorem dX3_costs_66 : decode cX3_costs 66 = .ok (.putfield 43, 3) := dk_181 0 43 (dk_at dksX3_costs_2 18 rfl rfl)
theorem dX3_costs_69 : decode cX3_costs 69 = .ok (.aload_n 0, 1) := dk_42 (dk_at dksX3_costs_2 21 rfl rfl)
theorem dX3_costs_70 : decode cX3_costs 70 = .ok (.getfield 9, 3) := dk_180 0 9 (dk_at dksX3_costs_3 0 rfl rfl)
theorem dX3_costs_73 : decode cX3_costs 73 = .ok (.bipush 6, 2) := dk_16 6 (dk_at dksX3_costs_3 3 rfl rfl)
theorem dX3_costs_75 : decode cX3_costs 75 = .ok (.bipush 6, 2) := dk_16 6 (dk_at dksX3_costs_3 5 rfl rfl)
theorem dX3_costs_77 : decode cX3_costs 77 = .ok (.iload_n 1, 1) := dk_27 (dk_at dksX3_costs_3 7 rfl rfl)
theorem dX3_costs_78 : decode cX3_costs 78 = .ok (.imul, 1) := dk_104 (dk_at dksX3_costs_3 8 rfl rfl)
theorem dX3_costs_79 : decode cX3_costs 79 = .ok (.iadd, 1) := dk_96 (dk_at dksX3_costs_3 9 rfl rfl)
theorem dX3_costs_80 : decode cX3_costs 80 = .ok (.iload_n 2, 1) := dk_28 (dk_at dksX3_costs_3 10 rfl rfl)
theorem dX3_costs_81 : decode cX3_costs 81 = .ok (.iadd, 1) := dk_96 (dk_at dksX3_costs_3 11 rfl rfl)
theorem dX3_costs_82 : decode cX3_costs 82 = .ok (.iload_n 3, 1) := dk_29 (dk_at dksX3_costs_3 12 rfl rfl)
theorem dX3_costs_83 : decode cX3_costs 83 = .ok (.iastore, 1) := dk_79 (dk_at dksX3_costs_3 13 rfl rfl)
theorem dX3_costs_84 : decode cX3_costs 84 = .ok (.iconst 1, 1) := dk_4 (dk_at dksX3_costs_3 14 rfl rfl)
theorem dX3_costs_85 : decode cX3_costs 85 = .ok (.ireturn, 1) := dk_172 (dk_at dksX3_costs_3 15 rfl rfl)
abbrev cX3_isNone : ByteArray := prog_23_method_14_code
def yX3_isNone : MethodName := ⟨RX3, "isNone", "(II)Z"⟩
def dkwX3_isNone_2 : List UInt8 := [3, 172]
abbrev dktX3_isNone_2 : List UInt8 := dkwX3_isNone_2 ++ []
def dkwX3_isNone_1 : List UInt8 := [28, 182, 0, 78, 154, 0, 7, 4, 167, 0, 4, 3, 5, 28, 182, 0, 74, 153, 0, 7, 4, 167, 0, 4]
abbrev dktX3_isNone_1 : List UInt8 := dkwX3_isNone_1 ++ dktX3_isNone_2
def dkwX3_isNone_0 : List UInt8 := [42, 42, 27, 182, 0, 70, 154, 0, 7, 4, 167, 0, 4, 3, 5, 27, 182, 0, 74, 154, 0, 25, 42, 42]
abbrev dktX3_isNone_0 : List UInt8 := dkwX3_isNone_0 ++ dktX3_isNone_1
theorem dksX3_isNone_0 : cX3_isNone.data.toList.drop 0 = dktX3_isNone_0 := by decide +kernel
theorem dksX3_isNone_1 : cX3_isNone.data.toList.drop 24 = dktX3_isNone_1 := dk_seg dksX3_isNone_0 24 rfl rfl
theorem dksX3_isNone_2 : cX3_isNone.data.toList.drop 48 = dktX3_isNone_2 := dk_seg dksX3_isNone_1 24 rfl rfl
theorem dX3_isNone_0 : decode cX3_isNone 0 = .ok (.aload_n 0, 1) := dk_42 (dk_at dksX3_isNone_0 0 rfl rfl)
theorem dX3_isNone_1 : decode cX3_isNone 1 = .ok (.aload_n 0, 1) := dk_42 (dk_at dksX3_isNone_0 1 rfl rfl)
theorem dX3_isNone_2 : decode cX3_isNone 2 = .ok (.iload_n 1, 1) := dk_27 (dk_at dksX3_isNone_0 2 rfl rfl)
theorem dX3_isNone_3 : decode cX3_isNone 3 = .ok (.invokevirtual 70, 3) := dk_182 0 70 (dk_at dksX3_isNone_0 3 rfl rfl)
theorem dX3_isNone_6 : decode cX3_isNone 6 = .ok (.ifCond .ne 7, 3) := dk_154 0 7 (dk_at dksX3_isNone_0 6 rfl rfl)
theorem dX3_isNone_9 : decode cX3_isNone 9 = .ok (.iconst 1, 1) := dk_4 (dk_at dksX3_isNone_0 9 rfl rfl)
theorem dX3_isNone_10 : decode cX3_isNone 10 = .ok (.goto 4, 3) := dk_167 0 4 (dk_at dksX3_isNone_0 10 rfl rfl)
theorem dX3_isNone_13 : decode cX3_isNone 13 = .ok (.iconst 0, 1) := dk_3 (dk_at dksX3_isNone_0 13 rfl rfl)
theorem dX3_isNone_14 : decode cX3_isNone 14 = .ok (.iconst 2, 1) := dk_5 (dk_at dksX3_isNone_0 14 rfl rfl)
theorem dX3_isNone_15 : decode cX3_isNone 15 = .ok (.iload_n 1, 1) := dk_27 (dk_at dksX3_isNone_0 15 rfl rfl)
theorem dX3_isNone_16 : decode cX3_isNone 16 = .ok (.invokevirtual 74, 3) := dk_182 0 74 (dk_at dksX3_isNone_0 16 rfl rfl)
theorem dX3_isNone_19 : decode cX3_isNone 19 = .ok (.ifCond .ne 25, 3) := dk_154 0 25 (dk_at dksX3_isNone_0 19 rfl rfl)
theorem dX3_isNone_22 : decode cX3_isNone 22 = .ok (.aload_n 0, 1) := dk_42 (dk_at dksX3_isNone_0 22 rfl rfl)
theorem dX3_isNone_23 : decode cX3_isNone 23 = .ok (.aload_n 0, 1) := dk_42 (dk_at dksX3_isNone_0 23 rfl rfl)
theorem dX3_isNone_24 : decode cX3_isNone 24 = .ok (.iload_n 2, 1) := dk_28 (dk_at dksX3_isNone_1 0 rfl rfl)
theorem dX3_isNone_25 : decode cX3_isNone 25 = .ok (.invokevirtual 78, 3) := dk_182 0 78 (dk_at dksX3_isNone_1 1 rfl rfl)
theorem dX3_isNone_28 : decode cX3_isNone 28 = .ok (.ifCond .ne 7, 3) := dk_154 0 7 (dk_at dksX3_isNone_1 4 rfl rfl)
theorem dX3_isNone_31 : decode cX3_isNone 31 = .ok (.iconst 1, 1) := dk_4 (dk_at dksX3_isNone_1 7 rfl rfl)
theorem dX3_isNone_32 : decode cX3_isNone 32 = .ok (.goto 4, 3) := dk_167 0 4 (dk_at dksX3_isNone_1 8 rfl rfl)
theorem dX3_isNone_35 : decode cX3_isNone 35 = .ok (.iconst 0, 1) := dk_3 (dk_at dksX3_isNone_1 11 rfl rfl)
theorem dX3_isNone_36 : decode cX3_isNone 36 = .ok (.iconst 2, 1) := dk_5 (dk_at dksX3_isNone_1 12 rfl rfl)
theorem dX3_isNone_37 : decode cX3_isNone 37 = .ok (.iload_n 2, 1) := dk_28 (dk_at dksX3_isNone_1 13 rfl rfl)
theorem dX3_isNone_38 : decode cX3_isNone 38 = .ok (.invokevirtual 74, 3) := dk_182 0 74 (dk_at dksX3_isNone_1 14 rfl rfl)
theorem dX3_isNone_41 : decode cX3_isNone 41 = .ok (.ifCond .eq 7, 3) := dk_153 0 7 (dk_at dksX3_isNone_1 17 rfl rfl)
theorem dX3_isNone_44 : decode cX3_isNone 44 = .ok (.iconst 1, 1) := dk_4 (dk_at dksX3_isNone_1 20 rfl rfl)
theorem dX3_isNone_45 : decode cX3_isNone 45 = .ok (.goto 4, 3) := dk_167 0 4 (dk_at dksX3_isNone_1 21 rfl rfl)
theorem dX3_isNone_48 : decode cX3_isNone 48 = .ok (.iconst 0, 1) := dk_3 (dk_at dksX3_isNone_2 0 rfl rfl)
theorem dX3_isNone_49 : decode cX3_isNone 49 = .ok (.ireturn, 1) := dk_172 (dk_at dksX3_isNone_2 1 rfl rfl)
abbrev cX3_isApprentice : ByteArray := prog_23_method_12_code
def yX3_isApprentice : MethodName := ⟨RX3, "isApprentice", "(I)Z"⟩
def dkwX3_isApprentice_0 : List UInt8 := [27, 3, 42, 180, 0, 9, 3, 46, 4, 100, 184, 0, 66, 172]
abbrev dktX3_isApprentice_0 : List UInt8 := dkwX3_isApprentice_0 ++ []
theorem dksX3_isApprentice_0 : cX3_isApprentice.data.toList.drop 0 = dktX3_isApprentice_0 := by decide +kernel
theorem dX3_isApprentice_0 : decode cX3_isApprentice 0 = .ok (.iload_n 1, 1) := dk_27 (dk_at dksX3_isApprentice_0 0 rfl rfl)
theorem dX3_isApprentice_1 : decode cX3_isApprentice 1 = .ok (.iconst 0, 1) := dk_3 (dk_at dksX3_isApprentice_0 1 rfl rfl)
theorem dX3_isApprentice_2 : decode cX3_isApprentice 2 = .ok (.aload_n 0, 1) := dk_42 (dk_at dksX3_isApprentice_0 2 rfl rfl)
theorem dX3_isApprentice_3 : decode cX3_isApprentice 3 = .ok (.getfield 9, 3) := dk_180 0 9 (dk_at dksX3_isApprentice_0 3 rfl rfl)
theorem dX3_isApprentice_6 : decode cX3_isApprentice 6 = .ok (.iconst 0, 1) := dk_3 (dk_at dksX3_isApprentice_0 6 rfl rfl)
theorem dX3_isApprentice_7 : decode cX3_isApprentice 7 = .ok (.iaload, 1) := dk_46 (dk_at dksX3_isApprentice_0 7 rfl rfl)
theorem dX3_isApprentice_8 : decode cX3_isApprentice 8 = .ok (.iconst 1, 1) := dk_4 (dk_at dksX3_isApprentice_0 8 rfl rfl)
theorem dX3_isApprentice_9 : decode cX3_isApprentice 9 = .ok (.isub, 1) := dk_100 (dk_at dksX3_isApprentice_0 9 rfl rfl)
theorem dX3_isApprentice_10 : decode cX3_isApprentice 10 = .ok (.invokestatic 66, 3) := dk_184 0 66 (dk_at dksX3_isApprentice_0 10 rfl rfl)
theorem dX3_isApprentice_13 : decode cX3_isApprentice 13 = .ok (.ireturn, 1) := dk_172 (dk_at dksX3_isApprentice_0 13 rfl rfl)
abbrev cX3_in : ByteArray := prog_23_method_3_code
def yX3_in : MethodName := ⟨RX3, "in", "(III)Z"⟩
def dkwX3_in_0 : List UInt8 := [26, 27, 161, 0, 12, 26, 28, 163, 0, 7, 4, 167, 0, 4, 3, 172]
abbrev dktX3_in_0 : List UInt8 := dkwX3_in_0 ++ []
theorem dksX3_in_0 : cX3_in.data.toList.drop 0 = dktX3_in_0 := by decide +kernel
theorem dX3_in_0 : decode cX3_in 0 = .ok (.iload_n 0, 1) := dk_26 (dk_at dksX3_in_0 0 rfl rfl)
theorem dX3_in_1 : decode cX3_in 1 = .ok (.iload_n 1, 1) := dk_27 (dk_at dksX3_in_0 1 rfl rfl)
theorem dX3_in_2 : decode cX3_in 2 = .ok (.if_icmp .lt 12, 3) := dk_161 0 12 (dk_at dksX3_in_0 2 rfl rfl)
theorem dX3_in_5 : decode cX3_in 5 = .ok (.iload_n 0, 1) := dk_26 (dk_at dksX3_in_0 5 rfl rfl)
theorem dX3_in_6 : decode cX3_in 6 = .ok (.iload_n 2, 1) := dk_28 (dk_at dksX3_in_0 6 rfl rfl)
theorem dX3_in_7 : decode cX3_in 7 = .ok (.if_icmp .gt 7, 3) := dk_163 0 7 (dk_at dksX3_in_0 7 rfl rfl)
theorem dX3_in_10 : decode cX3_in 10 = .ok (.iconst 1, 1) := dk_4 (dk_at dksX3_in_0 10 rfl rfl)
theorem dX3_in_11 : decode cX3_in 11 = .ok (.goto 4, 3) := dk_167 0 4 (dk_at dksX3_in_0 11 rfl rfl)
theorem dX3_in_14 : decode cX3_in 14 = .ok (.iconst 0, 1) := dk_3 (dk_at dksX3_in_0 14 rfl rfl)
theorem dX3_in_15 : decode cX3_in 15 = .ok (.ireturn, 1) := dk_172 (dk_at dksX3_in_0 15 rfl rfl)
abbrev cX3_isMaster : ByteArray := prog_23_method_13_code
def yX3_isMaster : MethodName := ⟨RX3, "isMaster", "(I)Z"⟩
def dkwX3_isMaster_0 : List UInt8 := [27, 3, 42, 180, 0, 9, 4, 46, 4, 100, 184, 0, 66, 172]
abbrev dktX3_isMaster_0 : List UInt8 := dkwX3_isMaster_0 ++ []
theorem dksX3_isMaster_0 : cX3_isMaster.data.toList.drop 0 = dktX3_isMaster_0 := by decide +kernel
theorem dX3_isMaster_0 : decode cX3_isMaster 0 = .ok (.iload_n 1, 1) := dk_27 (dk_at dksX3_isMaster_0 0 rfl rfl)
theorem dX3_isMaster_1 : decode cX3_isMaster 1 = .ok (.iconst 0, 1) := dk_3 (dk_at dksX3_isMaster_0 1 rfl rfl)
theorem dX3_isMaster_2 : decode cX3_isMaster 2 = .ok (.aload_n 0, 1) := dk_42 (dk_at dksX3_isMaster_0 2 rfl rfl)
theorem dX3_isMaster_3 : decode cX3_isMaster 3 = .ok (.getfield 9, 3) := dk_180 0 9 (dk_at dksX3_isMaster_0 3 rfl rfl)
theorem dX3_isMaster_6 : decode cX3_isMaster 6 = .ok (.iconst 1, 1) := dk_4 (dk_at dksX3_isMaster_0 6 rfl rfl)
theorem dX3_isMaster_7 : decode cX3_isMaster 7 = .ok (.iaload, 1) := dk_46 (dk_at dksX3_isMaster_0 7 rfl rfl)
theorem dX3_isMaster_8 : decode cX3_isMaster 8 = .ok (.iconst 1, 1) := dk_4 (dk_at dksX3_isMaster_0 8 rfl rfl)
theorem dX3_isMaster_9 : decode cX3_isMaster 9 = .ok (.isub, 1) := dk_100 (dk_at dksX3_isMaster_0 9 rfl rfl)
theorem dX3_isMaster_10 : decode cX3_isMaster 10 = .ok (.invokestatic 66, 3) := dk_184 0 66 (dk_at dksX3_isMaster_0 10 rfl rfl)
theorem dX3_isMaster_13 : decode cX3_isMaster 13 = .ok (.ireturn, 1) := dk_172 (dk_at dksX3_isMaster_0 13 rfl rfl)
abbrev cX3_c : ByteArray := prog_23_method_10_code
def yX3_c : MethodName := ⟨RX3, "c", "(II)I"⟩
def dkwX3_c_0 : List UInt8 := [42, 180, 0, 9, 16, 6, 16, 6, 27, 104, 96, 28, 96, 46, 172]
abbrev dktX3_c_0 : List UInt8 := dkwX3_c_0 ++ []
theorem dksX3_c_0 : cX3_c.data.toList.drop 0 = dktX3_c_0 := by decide +kernel
theorem dX3_c_0 : decode cX3_c 0 = .ok (.aload_n 0, 1) := dk_42 (dk_at dksX3_c_0 0 rfl rfl)
theorem dX3_c_1 : decode cX3_c 1 = .ok (.getfield 9, 3) := dk_180 0 9 (dk_at dksX3_c_0 1 rfl rfl)
theorem dX3_c_4 : decode cX3_c 4 = .ok (.bipush 6, 2) := dk_16 6 (dk_at dksX3_c_0 4 rfl rfl)
theorem dX3_c_6 : decode cX3_c 6 = .ok (.bipush 6, 2) := dk_16 6 (dk_at dksX3_c_0 6 rfl rfl)
theorem dX3_c_8 : decode cX3_c 8 = .ok (.iload_n 1, 1) := dk_27 (dk_at dksX3_c_0 8 rfl rfl)
theorem dX3_c_9 : decode cX3_c 9 = .ok (.imul, 1) := dk_104 (dk_at dksX3_c_0 9 rfl rfl)
theorem dX3_c_10 : decode cX3_c 10 = .ok (.iadd, 1) := dk_96 (dk_at dksX3_c_0 10 rfl rfl)
theorem dX3_c_11 : decode cX3_c 11 = .ok (.iload_n 2, 1) := dk_28 (dk_at dksX3_c_0 11 rfl rfl)
theorem dX3_c_12 : decode cX3_c 12 = .ok (.iadd, 1) := dk_96 (dk_at dksX3_c_0 12 rfl rfl)
theorem dX3_c_13 : decode cX3_c 13 = .ok (.iaload, 1) := dk_46 (dk_at dksX3_c_0 13 rfl rfl)
theorem dX3_c_14 : decode cX3_c 14 = .ok (.ireturn, 1) := dk_172 (dk_at dksX3_c_0 14 rfl rfl)
abbrev cX3_bar : ByteArray := prog_23_method_24_code
def yX3_bar : MethodName := ⟨RX3, "bar", "(II)I"⟩
def dkwX3_bar_0 : List UInt8 := [42, 182, 0, 85, 42, 42, 27, 28, 182, 0, 105, 4, 182, 0, 91, 172]
abbrev dktX3_bar_0 : List UInt8 := dkwX3_bar_0 ++ []
theorem dksX3_bar_0 : cX3_bar.data.toList.drop 0 = dktX3_bar_0 := by decide +kernel
theorem dX3_bar_0 : decode cX3_bar 0 = .ok (.aload_n 0, 1) := dk_42 (dk_at dksX3_bar_0 0 rfl rfl)
theorem dX3_bar_1 : decode cX3_bar 1 = .ok (.invokevirtual 85, 3) := dk_182 0 85 (dk_at dksX3_bar_0 1 rfl rfl)
theorem dX3_bar_4 : decode cX3_bar 4 = .ok (.aload_n 0, 1) := dk_42 (dk_at dksX3_bar_0 4 rfl rfl)
theorem dX3_bar_5 : decode cX3_bar 5 = .ok (.aload_n 0, 1) := dk_42 (dk_at dksX3_bar_0 5 rfl rfl)
theorem dX3_bar_6 : decode cX3_bar 6 = .ok (.iload_n 1, 1) := dk_27 (dk_at dksX3_bar_0 6 rfl rfl)
theorem dX3_bar_7 : decode cX3_bar 7 = .ok (.iload_n 2, 1) := dk_28 (dk_at dksX3_bar_0 7 rfl rfl)
theorem dX3_bar_8 : decode cX3_bar 8 = .ok (.invokevirtual 105, 3) := dk_182 0 105 (dk_at dksX3_bar_0 8 rfl rfl)
theorem dX3_bar_11 : decode cX3_bar 11 = .ok (.iconst 1, 1) := dk_4 (dk_at dksX3_bar_0 11 rfl rfl)
theorem dX3_bar_12 : decode cX3_bar 12 = .ok (.invokevirtual 91, 3) := dk_182 0 91 (dk_at dksX3_bar_0 12 rfl rfl)
theorem dX3_bar_15 : decode cX3_bar 15 = .ok (.ireturn, 1) := dk_172 (dk_at dksX3_bar_0 15 rfl rfl)
abbrev cX3_bars : ByteArray := prog_23_method_23_code
def yX3_bars : MethodName := ⟨RX3, "bars", "(II)Z"⟩
def dkwX3_bars_3 : List UInt8 := [2, 79, 4, 172]
abbrev dktX3_bars_3 : List UInt8 := dkwX3_bars_3 ++ []
def dkwX3_bars_2 : List UInt8 := [96, 2, 79, 42, 180, 0, 9, 16, 84, 27, 96, 46, 28, 160, 0, 13, 42, 180, 0, 9, 16, 84, 27, 96]
abbrev dktX3_bars_2 : List UInt8 := dkwX3_bars_2 ++ dktX3_bars_3
def dkwX3_bars_1 : List UInt8 := [3, 172, 42, 42, 27, 28, 182, 0, 62, 181, 0, 43, 42, 180, 0, 9, 16, 6, 16, 6, 27, 104, 96, 28]
abbrev dktX3_bars_1 : List UInt8 := dkwX3_bars_1 ++ dktX3_bars_2
def dkwX3_bars_0 : List UInt8 := [42, 27, 28, 182, 0, 95, 154, 0, 18, 42, 42, 27, 28, 182, 0, 102, 7, 27, 182, 0, 74, 153, 0, 5]
abbrev dktX3_bars_0 : List UInt8 := dkwX3_bars_0 ++ dktX3_bars_1
theorem dksX3_bars_0 : cX3_bars.data.toList.drop 0 = dktX3_bars_0 := by decide +kernel
theorem dksX3_bars_1 : cX3_bars.data.toList.drop 24 = dktX3_bars_1 := dk_seg dksX3_bars_0 24 rfl rfl
theorem dksX3_bars_2 : cX3_bars.data.toList.drop 48 = dktX3_bars_2 := dk_seg dksX3_bars_1 24 rfl rfl
theorem dksX3_bars_3 : cX3_bars.data.toList.drop 72 = dktX3_bars_3 := dk_seg dksX3_bars_2 24 rfl rfl
theorem dX3_bars_0 : decode cX3_bars 0 = .ok (.aload_n 0, 1) := dk_42 (dk_at dksX3_bars_0 0 rfl rfl)
theorem dX3_bars_1 : decode cX3_bars 1 = .ok (.iload_n 1, 1) := dk_27 (dk_at dksX3_bars_0 1 rfl rfl)
theorem dX3_bars_2 : decode cX3_bars 2 = .ok (.iload_n 2, 1) := dk_28 (dk_at dksX3_bars_0 2 rfl rfl)
theorem dX3_bars_3 : decode cX3_bars 3 = .ok (.invokevirtual 95, 3) := dk_182 0 95 (dk_at dksX3_bars_0 3 rfl rfl)
theorem dX3_bars_6 : decode cX3_bars 6 = .ok (.ifCond .ne 18, 3) := dk_154 0 18 (dk_at dksX3_bars_0 6 rfl rfl)
theorem dX3_bars_9 : decode cX3_bars 9 = .ok (.aload_n 0, 1) := dk_42 (dk_at dksX3_bars_0 9 rfl rfl)
theorem dX3_bars_10 : decode cX3_bars 10 = .ok (.aload_n 0, 1) := dk_42 (dk_at dksX3_bars_0 10 rfl rfl)
theorem dX3_bars_11 : decode cX3_bars 11 = .ok (.iload_n 1, 1) := dk_27 (dk_at dksX3_bars_0 11 rfl rfl)
theorem dX3_bars_12 : decode cX3_bars 12 = .ok (.iload_n 2, 1) := dk_28 (dk_at dksX3_bars_0 12 rfl rfl)
theorem dX3_bars_13 : decode cX3_bars 13 = .ok (.invokevirtual 102, 3) := dk_182 0 102 (dk_at dksX3_bars_0 13 rfl rfl)
theorem dX3_bars_16 : decode cX3_bars 16 = .ok (.iconst 4, 1) := dk_7 (dk_at dksX3_bars_0 16 rfl rfl)
theorem dX3_bars_17 : decode cX3_bars 17 = .ok (.iload_n 1, 1) := dk_27 (dk_at dksX3_bars_0 17 rfl rfl)
theorem dX3_bars_18 : decode cX3_bars 18 = .ok (.invokevirtual 74, 3) := dk_182 0 74 (dk_at dksX3_bars_0 18 rfl rfl)
theorem dX3_bars_21 : decode cX3_bars 21 = .ok (.ifCond .eq 5, 3) := dk_153 0 5 (dk_at dksX3_bars_0 21 rfl rfl)
theorem dX3_bars_24 : decode cX3_bars 24 = .ok (.iconst 0, 1) := dk_3 (dk_at dksX3_bars_1 0 rfl rfl)
theorem dX3_bars_25 : decode cX3_bars 25 = .ok (.ireturn, 1) := dk_172 (dk_at dksX3_bars_1 1 rfl rfl)
theorem dX3_bars_26 : decode cX3_bars 26 = .ok (.aload_n 0, 1) := dk_42 (dk_at dksX3_bars_1 2 rfl rfl)
theorem dX3_bars_27 : decode cX3_bars 27 = .ok (.aload_n 0, 1) := dk_42 (dk_at dksX3_bars_1 3 rfl rfl)
theorem dX3_bars_28 : decode cX3_bars 28 = .ok (.iload_n 1, 1) := dk_27 (dk_at dksX3_bars_1 4 rfl rfl)
theorem dX3_bars_29 : decode cX3_bars 29 = .ok (.iload_n 2, 1) := dk_28 (dk_at dksX3_bars_1 5 rfl rfl)
theorem dX3_bars_30 : decode cX3_bars 30 = .ok (.invokevirtual 62, 3) := dk_182 0 62 (dk_at dksX3_bars_1 6 rfl rfl)
theorem dX3_bars_33 : decode cX3_bars 33 = .ok (.putfield 43, 3) := dk_181 0 43 (dk_at dksX3_bars_1 9 rfl rfl)
theorem dX3_bars_36 : decode cX3_bars 36 = .ok (.aload_n 0, 1) := dk_42 (dk_at dksX3_bars_1 12 rfl rfl)
theorem dX3_bars_37 : decode cX3_bars 37 = .ok (.getfield 9, 3) := dk_180 0 9 (dk_at dksX3_bars_1 13 rfl rfl)
theorem dX3_bars_40 : decode cX3_bars 40 = .ok (.bipush 6, 2) := dk_16 6 (dk_at dksX3_bars_1 16 rfl rfl)
theorem dX3_bars_42 : decode cX3_bars 42 = .ok (.bipush 6, 2) := dk_16 6 (dk_at dksX3_bars_1 18 rfl rfl)
theorem dX3_bars_44 : decode cX3_bars 44 = .ok (.iload_n 1, 1) := dk_27 (dk_at dksX3_bars_1 20 rfl rfl)
theorem dX3_bars_45 : decode cX3_bars 45 = .ok (.imul, 1) := dk_104 (dk_at dksX3_bars_1 21 rfl rfl)
theorem dX3_bars_46 : decode cX3_bars 46 = .ok (.iadd, 1) := dk_96 (dk_at dksX3_bars_1 22 rfl rfl)
theorem dX3_bars_47 : decode cX3_bars 47 = .ok (.iload_n 2, 1) := dk_28 (dk_at dksX3_bars_1 23 rfl rfl)
theorem dX3_bars_48 : decode cX3_bars 48 = .ok (.iadd, 1) := dk_96 (dk_at dksX3_bars_2 0 rfl rfl)
theorem dX3_bars_49 : decode cX3_bars 49 = .ok (.iconst (-1), 1) := dk_2 (dk_at dksX3_bars_2 1 rfl rfl)
theorem dX3_bars_50 : decode cX3_bars 50 = .ok (.iastore, 1) := dk_79 (dk_at dksX3_bars_2 2 rfl rfl)
theorem dX3_bars_51 : decode cX3_bars 51 = .ok (.aload_n 0, 1) := dk_42 (dk_at dksX3_bars_2 3 rfl rfl)
theorem dX3_bars_52 : decode cX3_bars 52 = .ok (.getfield 9, 3) := dk_180 0 9 (dk_at dksX3_bars_2 4 rfl rfl)
theorem dX3_bars_55 : decode cX3_bars 55 = .ok (.bipush 84, 2) := dk_16 84 (dk_at dksX3_bars_2 7 rfl rfl)
theorem dX3_bars_57 : decode cX3_bars 57 = .ok (.iload_n 1, 1) := dk_27 (dk_at dksX3_bars_2 9 rfl rfl)
theorem dX3_bars_58 : decode cX3_bars 58 = .ok (.iadd, 1) := dk_96 (dk_at dksX3_bars_2 10 rfl rfl)
theorem dX3_bars_59 : decode cX3_bars 59 = .ok (.iaload, 1) := dk_46 (dk_at dksX3_bars_2 11 rfl rfl)
theorem dX3_bars_60 : decode cX3_bars 60 = .ok (.iload_n 2, 1) := dk_28 (dk_at dksX3_bars_2 12 rfl rfl)
theorem dX3_bars_61 : decode cX3_bars 61 = .ok (.if_icmp .ne 13, 3) := dk_160 0 13 (dk_at dksX3_bars_2 13 rfl rfl)
theorem dX3_bars_64 : decode cX3_bars 64 = .ok (.aload_n 0, 1) := dk_42 (dk_at dksX3_bars_2 16 rfl rfl)
theorem dX3_bars_65 : decode cX3_bars 65 = .ok (.getfield 9, 3) := dk_180 0 9 (dk_at dksX3_bars_2 17 rfl rfl)
theorem dX3_bars_68 : decode cX3_bars 68 = .ok (.bipush 84, 2) := dk_16 84 (dk_at dksX3_bars_2 20 rfl rfl)
theorem dX3_bars_70 : decode cX3_bars 70 = .ok (.iload_n 1, 1) := dk_27 (dk_at dksX3_bars_2 22 rfl rfl)
theorem dX3_bars_71 : decode cX3_bars 71 = .ok (.iadd, 1) := dk_96 (dk_at dksX3_bars_2 23 rfl rfl)
theorem dX3_bars_72 : decode cX3_bars 72 = .ok (.iconst (-1), 1) := dk_2 (dk_at dksX3_bars_3 0 rfl rfl)
theorem dX3_bars_73 : decode cX3_bars 73 = .ok (.iastore, 1) := dk_79 (dk_at dksX3_bars_3 1 rfl rfl)
theorem dX3_bars_74 : decode cX3_bars 74 = .ok (.iconst 1, 1) := dk_4 (dk_at dksX3_bars_3 2 rfl rfl)
theorem dX3_bars_75 : decode cX3_bars 75 = .ok (.ireturn, 1) := dk_172 (dk_at dksX3_bars_3 3 rfl rfl)
abbrev cX3_isBarred : ByteArray := prog_23_method_11_code
def yX3_isBarred : MethodName := ⟨RX3, "isBarred", "(II)Z"⟩
def dkwX3_isBarred_0 : List UInt8 := [42, 27, 28, 182, 0, 62, 2, 160, 0, 7, 4, 167, 0, 4, 3, 172]
abbrev dktX3_isBarred_0 : List UInt8 := dkwX3_isBarred_0 ++ []
theorem dksX3_isBarred_0 : cX3_isBarred.data.toList.drop 0 = dktX3_isBarred_0 := by decide +kernel
theorem dX3_isBarred_0 : decode cX3_isBarred 0 = .ok (.aload_n 0, 1) := dk_42 (dk_at dksX3_isBarred_0 0 rfl rfl)
theorem dX3_isBarred_1 : decode cX3_isBarred 1 = .ok (.iload_n 1, 1) := dk_27 (dk_at dksX3_isBarred_0 1 rfl rfl)
theorem dX3_isBarred_2 : decode cX3_isBarred 2 = .ok (.iload_n 2, 1) := dk_28 (dk_at dksX3_isBarred_0 2 rfl rfl)
theorem dX3_isBarred_3 : decode cX3_isBarred 3 = .ok (.invokevirtual 62, 3) := dk_182 0 62 (dk_at dksX3_isBarred_0 3 rfl rfl)
theorem dX3_isBarred_6 : decode cX3_isBarred 6 = .ok (.iconst (-1), 1) := dk_2 (dk_at dksX3_isBarred_0 6 rfl rfl)
theorem dX3_isBarred_7 : decode cX3_isBarred 7 = .ok (.if_icmp .ne 7, 3) := dk_160 0 7 (dk_at dksX3_isBarred_0 7 rfl rfl)
theorem dX3_isBarred_10 : decode cX3_isBarred 10 = .ok (.iconst 1, 1) := dk_4 (dk_at dksX3_isBarred_0 10 rfl rfl)
theorem dX3_isBarred_11 : decode cX3_isBarred 11 = .ok (.goto 4, 3) := dk_167 0 4 (dk_at dksX3_isBarred_0 11 rfl rfl)
theorem dX3_isBarred_14 : decode cX3_isBarred 14 = .ok (.iconst 0, 1) := dk_3 (dk_at dksX3_isBarred_0 14 rfl rfl)
theorem dX3_isBarred_15 : decode cX3_isBarred 15 = .ok (.ireturn, 1) := dk_172 (dk_at dksX3_isBarred_0 15 rfl rfl)
abbrev cX3_bid : ByteArray := prog_23_method_31_code
def yX3_bid : MethodName := ⟨RX3, "bid", "()I"⟩
def dkwX3_bid_0 : List UInt8 := [42, 182, 0, 85, 42, 42, 182, 0, 132, 4, 182, 0, 91, 172]
abbrev dktX3_bid_0 : List UInt8 := dkwX3_bid_0 ++ []
theorem dksX3_bid_0 : cX3_bid.data.toList.drop 0 = dktX3_bid_0 := by decide +kernel
theorem dX3_bid_0 : decode cX3_bid 0 = .ok (.aload_n 0, 1) := dk_42 (dk_at dksX3_bid_0 0 rfl rfl)
theorem dX3_bid_1 : decode cX3_bid 1 = .ok (.invokevirtual 85, 3) := dk_182 0 85 (dk_at dksX3_bid_0 1 rfl rfl)
theorem dX3_bid_4 : decode cX3_bid 4 = .ok (.aload_n 0, 1) := dk_42 (dk_at dksX3_bid_0 4 rfl rfl)
theorem dX3_bid_5 : decode cX3_bid 5 = .ok (.aload_n 0, 1) := dk_42 (dk_at dksX3_bid_0 5 rfl rfl)
theorem dX3_bid_6 : decode cX3_bid 6 = .ok (.invokevirtual 132, 3) := dk_182 0 132 (dk_at dksX3_bid_0 6 rfl rfl)
theorem dX3_bid_9 : decode cX3_bid 9 = .ok (.iconst 1, 1) := dk_4 (dk_at dksX3_bid_0 9 rfl rfl)
theorem dX3_bid_10 : decode cX3_bid 10 = .ok (.invokevirtual 91, 3) := dk_182 0 91 (dk_at dksX3_bid_0 10 rfl rfl)
theorem dX3_bid_13 : decode cX3_bid 13 = .ok (.ireturn, 1) := dk_172 (dk_at dksX3_bid_0 13 rfl rfl)
abbrev cX3_bidsOnce : ByteArray := prog_23_method_30_code
def yX3_bidsOnce : MethodName := ⟨RX3, "bidsOnce", "()Z"⟩
def dkwX3_bidsOnce_5 : List UInt8 := [167, 0, 4, 3, 172]
abbrev dktX3_bidsOnce_5 : List UInt8 := dkwX3_bidsOnce_5 ++ []
def dkwX3_bidsOnce_4 : List UInt8 := [182, 0, 129, 62, 42, 42, 180, 0, 9, 16, 84, 27, 96, 46, 181, 0, 43, 29, 27, 159, 0, 7, 4]
abbrev dktX3_bidsOnce_4 : List UInt8 := dkwX3_bidsOnce_4 ++ dktX3_bidsOnce_5
def dkwX3_bidsOnce_3 : List UInt8 := [180, 0, 9, 16, 78, 42, 27, 182, 0, 111, 96, 46, 182, 0, 74, 153, 0, 5, 3, 172, 42, 27]
abbrev dktX3_bidsOnce_3 : List UInt8 := dkwX3_bidsOnce_3 ++ dktX3_bidsOnce_4
def dkwX3_bidsOnce_2 : List UInt8 := [167, 0, 4, 3, 16, 6, 27, 182, 0, 74, 154, 0, 32, 28, 16, 7, 160, 0, 28, 42, 4, 16, 7, 42]
abbrev dktX3_bidsOnce_2 : List UInt8 := dkwX3_bidsOnce_2 ++ dktX3_bidsOnce_3
def dkwX3_bidsOnce_1 : List UInt8 := [182, 0, 74, 153, 0, 5, 3, 172, 42, 27, 182, 0, 126, 61, 42, 28, 16, 6, 160, 0, 7, 4]
abbrev dktX3_bidsOnce_1 : List UInt8 := dkwX3_bidsOnce_1 ++ dktX3_bidsOnce_2
def dkwX3_bidsOnce_0 : List UInt8 := [42, 182, 0, 122, 60, 42, 27, 2, 160, 0, 7, 4, 167, 0, 4, 3, 8, 42, 180, 0, 9, 3, 46]
abbrev dktX3_bidsOnce_0 : List UInt8 := dkwX3_bidsOnce_0 ++ dktX3_bidsOnce_1
theorem dksX3_bidsOnce_0 : cX3_bidsOnce.data.toList.drop 0 = dktX3_bidsOnce_0 := by decide +kernel
theorem dksX3_bidsOnce_1 : cX3_bidsOnce.data.toList.drop 23 = dktX3_bidsOnce_1 := dk_seg dksX3_bidsOnce_0 23 rfl rfl
theorem dksX3_bidsOnce_2 : cX3_bidsOnce.data.toList.drop 45 = dktX3_bidsOnce_2 := dk_seg dksX3_bidsOnce_1 22 rfl rfl
theorem dksX3_bidsOnce_3 : cX3_bidsOnce.data.toList.drop 69 = dktX3_bidsOnce_3 := dk_seg dksX3_bidsOnce_2 24 rfl rfl
theorem dksX3_bidsOnce_4 : cX3_bidsOnce.data.toList.drop 91 = dktX3_bidsOnce_4 := dk_seg dksX3_bidsOnce_3 22 rfl rfl
theorem dksX3_bidsOnce_5 : cX3_bidsOnce.data.toList.drop 114 = dktX3_bidsOnce_5 := dk_seg dksX3_bidsOnce_4 23 rfl rfl
theorem dX3_bidsOnce_0 : decode cX3_bidsOnce 0 = .ok (.aload_n 0, 1) := dk_42 (dk_at dksX3_bidsOnce_0 0 rfl rfl)
theorem dX3_bidsOnce_1 : decode cX3_bidsOnce 1 = .ok (.invokevirtual 122, 3) := dk_182 0 122 (dk_at dksX3_bidsOnce_0 1 rfl rfl)
theorem dX3_bidsOnce_4 : decode cX3_bidsOnce 4 = .ok (.istore_n 1, 1) := dk_60 (dk_at dksX3_bidsOnce_0 4 rfl rfl)
theorem dX3_bidsOnce_5 : decode cX3_bidsOnce 5 = .ok (.aload_n 0, 1) := dk_42 (dk_at dksX3_bidsOnce_0 5 rfl rfl)
theorem dX3_bidsOnce_6 : decode cX3_bidsOnce 6 = .ok (.iload_n 1, 1) := dk_27 (dk_at dksX3_bidsOnce_0 6 rfl rfl)
theorem dX3_bidsOnce_7 : decode cX3_bidsOnce 7 = .ok (.iconst (-1), 1) := dk_2 (dk_at dksX3_bidsOnce_0 7 rfl rfl)
theorem dX3_bidsOnce_8 : decode cX3_bidsOnce 8 = .ok (.if_icmp .ne 7, 3) := dk_160 0 7 (dk_at dksX3_bidsOnce_0 8 rfl rfl)
theorem dX3_bidsOnce_11 : decode cX3_bidsOnce 11 = .ok (.iconst 1, 1) := dk_4 (dk_at dksX3_bidsOnce_0 11 rfl rfl)
theorem dX3_bidsOnce_12 : decode cX3_bidsOnce 12 = .ok (.goto 4, 3) := dk_167 0 4 (dk_at dksX3_bidsOnce_0 12 rfl rfl)
theorem dX3_bidsOnce_15 : decode cX3_bidsOnce 15 = .ok (.iconst 0, 1) := dk_3 (dk_at dksX3_bidsOnce_0 15 rfl rfl)
theorem dX3_bidsOnce_16 : decode cX3_bidsOnce 16 = .ok (.iconst 5, 1) := dk_8 (dk_at dksX3_bidsOnce_0 16 rfl rfl)
theorem dX3_bidsOnce_17 : decode cX3_bidsOnce 17 = .ok (.aload_n 0, 1) := dk_42 (dk_at dksX3_bidsOnce_0 17 rfl rfl)
theorem dX3_bidsOnce_18 : decode cX3_bidsOnce 18 = .ok (.getfield 9, 3) := dk_180 0 9 (dk_at dksX3_bidsOnce_0 18 rfl rfl)
theorem dX3_bidsOnce_21 : decode cX3_bidsOnce 21 = .ok (.iconst 0, 1) := dk_3 (dk_at dksX3_bidsOnce_0 21 rfl rfl)
theorem dX3_bidsOnce_22 : decode cX3_bidsOnce 22 = .ok (.iaload, 1) := dk_46 (dk_at dksX3_bidsOnce_0 22 rfl rfl)
theorem dX3_bidsOnce_23 : decode cX3_bidsOnce 23 = .ok (.invokevirtual 74, 3) := dk_182 0 74 (dk_at dksX3_bidsOnce_1 0 rfl rfl)
theorem dX3_bidsOnce_26 : decode cX3_bidsOnce 26 = .ok (.ifCond .eq 5, 3) := dk_153 0 5 (dk_at dksX3_bidsOnce_1 3 rfl rfl)
theorem dX3_bidsOnce_29 : decode cX3_bidsOnce 29 = .ok (.iconst 0, 1) := dk_3 (dk_at dksX3_bidsOnce_1 6 rfl rfl)
theorem dX3_bidsOnce_30 : decode cX3_bidsOnce 30 = .ok (.ireturn, 1) := dk_172 (dk_at dksX3_bidsOnce_1 7 rfl rfl)
theorem dX3_bidsOnce_31 : decode cX3_bidsOnce 31 = .ok (.aload_n 0, 1) := dk_42 (dk_at dksX3_bidsOnce_1 8 rfl rfl)
theorem dX3_bidsOnce_32 : decode cX3_bidsOnce 32 = .ok (.iload_n 1, 1) := dk_27 (dk_at dksX3_bidsOnce_1 9 rfl rfl)
theorem dX3_bidsOnce_33 : decode cX3_bidsOnce 33 = .ok (.invokevirtual 126, 3) := dk_182 0 126 (dk_at dksX3_bidsOnce_1 10 rfl rfl)
theorem dX3_bidsOnce_36 : decode cX3_bidsOnce 36 = .ok (.istore_n 2, 1) := dk_61 (dk_at dksX3_bidsOnce_1 13 rfl rfl)
theorem dX3_bidsOnce_37 : decode cX3_bidsOnce 37 = .ok (.aload_n 0, 1) := dk_42 (dk_at dksX3_bidsOnce_1 14 rfl rfl)
theorem dX3_bidsOnce_38 : decode cX3_bidsOnce 38 = .ok (.iload_n 2, 1) := dk_28 (dk_at dksX3_bidsOnce_1 15 rfl rfl)
theorem dX3_bidsOnce_39 : decode cX3_bidsOnce 39 = .ok (.bipush 6, 2) := dk_16 6 (dk_at dksX3_bidsOnce_1 16 rfl rfl)
theorem dX3_bidsOnce_41 : decode cX3_bidsOnce 41 = .ok (.if_icmp .ne 7, 3) := dk_160 0 7 (dk_at dksX3_bidsOnce_1 18 rfl rfl)
theorem dX3_bidsOnce_44 : decode cX3_bidsOnce 44 = .ok (.iconst 1, 1) := dk_4 (dk_at dksX3_bidsOnce_1 21 rfl rfl)
theorem dX3_bidsOnce_45 : decode cX3_bidsOnce 45 = .ok (.goto 4, 3) := dk_167 0 4 (dk_at dksX3_bidsOnce_2 0 rfl rfl)
theorem dX3_bidsOnce_48 : decode cX3_bidsOnce 48 = .ok (.iconst 0, 1) := dk_3 (dk_at dksX3_bidsOnce_2 3 rfl rfl)
theorem dX3_bidsOnce_49 : decode cX3_bidsOnce 49 = .ok (.bipush 6, 2) := dk_16 6 (dk_at dksX3_bidsOnce_2 4 rfl rfl)
theorem dX3_bidsOnce_51 : decode cX3_bidsOnce 51 = .ok (.iload_n 1, 1) := dk_27 (dk_at dksX3_bidsOnce_2 6 rfl rfl)
theorem dX3_bidsOnce_52 : decode cX3_bidsOnce 52 = .ok (.invokevirtual 74, 3) := dk_182 0 74 (dk_at dksX3_bidsOnce_2 7 rfl rfl)
theorem dX3_bidsOnce_55 : decode cX3_bidsOnce 55 = .ok (.ifCond .ne 32, 3) := dk_154 0 32 (dk_at dksX3_bidsOnce_2 10 rfl rfl)
theorem dX3_bidsOnce_58 : decode cX3_bidsOnce 58 = .ok (.iload_n 2, 1) := dk_28 (dk_at dksX3_bidsOnce_2 13 rfl rfl)
theorem dX3_bidsOnce_59 : decode cX3_bidsOnce 59 = .ok (.bipush 7, 2) := dk_16 7 (dk_at dksX3_bidsOnce_2 14 rfl rfl)
theorem dX3_bidsOnce_61 : decode cX3_bidsOnce 61 = .ok (.if_icmp .ne 28, 3) := dk_160 0 28 (dk_at dksX3_bidsOnce_2 16 rfl rfl)
theorem dX3_bidsOnce_64 : decode cX3_bidsOnce 64 = .ok (.aload_n 0, 1) := dk_42 (dk_at dksX3_bidsOnce_2 19 rfl rfl)
theorem dX3_bidsOnce_65 : decode cX3_bidsOnce 65 = .ok (.iconst 1, 1) := dk_4 (dk_at dksX3_bidsOnce_2 20 rfl rfl)
theorem dX3_bidsOnce_66 : decode cX3_bidsOnce 66 = .ok (.bipush 7, 2) := dk_16 7 (dk_at dksX3_bidsOnce_2 21 rfl rfl)
theorem dX3_bidsOnce_68 : decode cX3_bidsOnce 68 = .ok (.aload_n 0, 1) := dk_42 (dk_at dksX3_bidsOnce_2 23 rfl rfl)
theorem dX3_bidsOnce_69 : decode cX3_bidsOnce 69 = .ok (.getfield 9, 3) := dk_180 0 9 (dk_at dksX3_bidsOnce_3 0 rfl rfl)
theorem dX3_bidsOnce_72 : decode cX3_bidsOnce 72 = .ok (.bipush 78, 2) := dk_16 78 (dk_at dksX3_bidsOnce_3 3 rfl rfl)
theorem dX3_bidsOnce_74 : decode cX3_bidsOnce 74 = .ok (.aload_n 0, 1) := dk_42 (dk_at dksX3_bidsOnce_3 5 rfl rfl)
theorem dX3_bidsOnce_75 : decode cX3_bidsOnce 75 = .ok (.iload_n 1, 1) := dk_27 (dk_at dksX3_bidsOnce_3 6 rfl rfl)
theorem dX3_bidsOnce_76 : decode cX3_bidsOnce 76 = .ok (.invokevirtual 111, 3) := dk_182 0 111 (dk_at dksX3_bidsOnce_3 7 rfl rfl)
theorem dX3_bidsOnce_79 : decode cX3_bidsOnce 79 = .ok (.iadd, 1) := dk_96 (dk_at dksX3_bidsOnce_3 10 rfl rfl)
theorem dX3_bidsOnce_80 : decode cX3_bidsOnce 80 = .ok (.iaload, 1) := dk_46 (dk_at dksX3_bidsOnce_3 11 rfl rfl)
theorem dX3_bidsOnce_81 : decode cX3_bidsOnce 81 = .ok (.invokevirtual 74, 3) := dk_182 0 74 (dk_at dksX3_bidsOnce_3 12 rfl rfl)
theorem dX3_bidsOnce_84 : decode cX3_bidsOnce 84 = .ok (.ifCond .eq 5, 3) := dk_153 0 5 (dk_at dksX3_bidsOnce_3 15 rfl rfl)
theorem dX3_bidsOnce_87 : decode cX3_bidsOnce 87 = .ok (.iconst 0, 1) := dk_3 (dk_at dksX3_bidsOnce_3 18 rfl rfl)
theorem dX3_bidsOnce_88 : decode cX3_bidsOnce 88 = .ok (.ireturn, 1) := dk_172 (dk_at dksX3_bidsOnce_3 19 rfl rfl)
theorem dX3_bidsOnce_89 : decode cX3_bidsOnce 89 = .ok (.aload_n 0, 1) := dk_42 (dk_at dksX3_bidsOnce_3 20 rfl rfl)
theorem dX3_bidsOnce_90 : decode cX3_bidsOnce 90 = .ok (.iload_n 1, 1) := dk_27 (dk_at dksX3_bidsOnce_3 21 rfl rfl)
theorem dX3_bidsOnce_91 : decode cX3_bidsOnce 91 = .ok (.invokevirtual 129, 3) := dk_182 0 129 (dk_at dksX3_bidsOnce_4 0 rfl rfl)
theorem dX3_bidsOnce_94 : decode cX3_bidsOnce 94 = .ok (.istore_n 3, 1) := dk_62 (dk_at dksX3_bidsOnce_4 3 rfl rfl)
theorem dX3_bidsOnce_95 : decode cX3_bidsOnce 95 = .ok (.aload_n 0, 1) := dk_42 (dk_at dksX3_bidsOnce_4 4 rfl rfl)
theorem dX3_bidsOnce_96 : decode cX3_bidsOnce 96 = .ok (.aload_n 0, 1) := dk_42 (dk_at dksX3_bidsOnce_4 5 rfl rfl)
theorem dX3_bidsOnce_97 : decode cX3_bidsOnce 97 = .ok (.getfield 9, 3) := dk_180 0 9 (dk_at dksX3_bidsOnce_4 6 rfl rfl)
theorem dX3_bidsOnce_100 : decode cX3_bidsOnce 100 = .ok (.bipush 84, 2) := dk_16 84 (dk_at dksX3_bidsOnce_4 9 rfl rfl)
theorem dX3_bidsOnce_102 : decode cX3_bidsOnce 102 = .ok (.iload_n 1, 1) := dk_27 (dk_at dksX3_bidsOnce_4 11 rfl rfl)
theorem dX3_bidsOnce_103 : decode cX3_bidsOnce 103 = .ok (.iadd, 1) := dk_96 (dk_at dksX3_bidsOnce_4 12 rfl rfl)
theorem dX3_bidsOnce_104 : decode cX3_bidsOnce 104 = .ok (.iaload, 1) := dk_46 (dk_at dksX3_bidsOnce_4 13 rfl rfl)
theorem dX3_bidsOnce_105 : decode cX3_bidsOnce 105 = .ok (.putfield 43, 3) := dk_181 0 43 (dk_at dksX3_bidsOnce_4 14 rfl rfl)
theorem dX3_bidsOnce_108 : decode cX3_bidsOnce 108 = .ok (.iload_n 3, 1) := dk_29 (dk_at dksX3_bidsOnce_4 17 rfl rfl)
theorem dX3_bidsOnce_109 : decode cX3_bidsOnce 109 = .ok (.iload_n 1, 1) := dk_27 (dk_at dksX3_bidsOnce_4 18 rfl rfl)
theorem dX3_bidsOnce_110 : decode cX3_bidsOnce 110 = .ok (.if_icmp .eq 7, 3) := dk_159 0 7 (dk_at dksX3_bidsOnce_4 19 rfl rfl)
theorem dX3_bidsOnce_113 : decode cX3_bidsOnce 113 = .ok (.iconst 1, 1) := dk_4 (dk_at dksX3_bidsOnce_4 22 rfl rfl)
theorem dX3_bidsOnce_114 : decode cX3_bidsOnce 114 = .ok (.goto 4, 3) := dk_167 0 4 (dk_at dksX3_bidsOnce_5 0 rfl rfl)
theorem dX3_bidsOnce_117 : decode cX3_bidsOnce 117 = .ok (.iconst 0, 1) := dk_3 (dk_at dksX3_bidsOnce_5 3 rfl rfl)
theorem dX3_bidsOnce_118 : decode cX3_bidsOnce 118 = .ok (.ireturn, 1) := dk_172 (dk_at dksX3_bidsOnce_5 4 rfl rfl)
abbrev cX3_firstFree : ByteArray := prog_23_method_27_code
def yX3_firstFree : MethodName := ⟨RX3, "firstFree", "()I"⟩
def dkwX3_firstFree_1 : List UInt8 := [160, 0, 5, 27, 172, 132, 1, 1, 167, 255, 228, 2, 172]
abbrev dktX3_firstFree_1 : List UInt8 := dkwX3_firstFree_1 ++ []
def dkwX3_firstFree_0 : List UInt8 := [3, 60, 27, 42, 180, 0, 9, 3, 46, 162, 0, 24, 42, 180, 0, 9, 16, 84, 27, 96, 46, 2]
abbrev dktX3_firstFree_0 : List UInt8 := dkwX3_firstFree_0 ++ dktX3_firstFree_1
theorem dksX3_firstFree_0 : cX3_firstFree.data.toList.drop 0 = dktX3_firstFree_0 := by decide +kernel
theorem dksX3_firstFree_1 : cX3_firstFree.data.toList.drop 22 = dktX3_firstFree_1 := dk_seg dksX3_firstFree_0 22 rfl rfl
theorem dX3_firstFree_0 : decode cX3_firstFree 0 = .ok (.iconst 0, 1) := dk_3 (dk_at dksX3_firstFree_0 0 rfl rfl)
theorem dX3_firstFree_1 : decode cX3_firstFree 1 = .ok (.istore_n 1, 1) := dk_60 (dk_at dksX3_firstFree_0 1 rfl rfl)
theorem dX3_firstFree_2 : decode cX3_firstFree 2 = .ok (.iload_n 1, 1) := dk_27 (dk_at dksX3_firstFree_0 2 rfl rfl)
theorem dX3_firstFree_3 : decode cX3_firstFree 3 = .ok (.aload_n 0, 1) := dk_42 (dk_at dksX3_firstFree_0 3 rfl rfl)
theorem dX3_firstFree_4 : decode cX3_firstFree 4 = .ok (.getfield 9, 3) := dk_180 0 9 (dk_at dksX3_firstFree_0 4 rfl rfl)
theorem dX3_firstFree_7 : decode cX3_firstFree 7 = .ok (.iconst 0, 1) := dk_3 (dk_at dksX3_firstFree_0 7 rfl rfl)
theorem dX3_firstFree_8 : decode cX3_firstFree 8 = .ok (.iaload, 1) := dk_46 (dk_at dksX3_firstFree_0 8 rfl rfl)
theorem dX3_firstFree_9 : decode cX3_firstFree 9 = .ok (.if_icmp .ge 24, 3) := dk_162 0 24 (dk_at dksX3_firstFree_0 9 rfl rfl)
theorem dX3_firstFree_12 : decode cX3_firstFree 12 = .ok (.aload_n 0, 1) := dk_42 (dk_at dksX3_firstFree_0 12 rfl rfl)
theorem dX3_firstFree_13 : decode cX3_firstFree 13 = .ok (.getfield 9, 3) := dk_180 0 9 (dk_at dksX3_firstFree_0 13 rfl rfl)
theorem dX3_firstFree_16 : decode cX3_firstFree 16 = .ok (.bipush 84, 2) := dk_16 84 (dk_at dksX3_firstFree_0 16 rfl rfl)
theorem dX3_firstFree_18 : decode cX3_firstFree 18 = .ok (.iload_n 1, 1) := dk_27 (dk_at dksX3_firstFree_0 18 rfl rfl)
theorem dX3_firstFree_19 : decode cX3_firstFree 19 = .ok (.iadd, 1) := dk_96 (dk_at dksX3_firstFree_0 19 rfl rfl)
theorem dX3_firstFree_20 : decode cX3_firstFree 20 = .ok (.iaload, 1) := dk_46 (dk_at dksX3_firstFree_0 20 rfl rfl)
theorem dX3_firstFree_21 : decode cX3_firstFree 21 = .ok (.iconst (-1), 1) := dk_2 (dk_at dksX3_firstFree_0 21 rfl rfl)
theorem dX3_firstFree_22 : decode cX3_firstFree 22 = .ok (.if_icmp .ne 5, 3) := dk_160 0 5 (dk_at dksX3_firstFree_1 0 rfl rfl)
theorem dX3_firstFree_25 : decode cX3_firstFree 25 = .ok (.iload_n 1, 1) := dk_27 (dk_at dksX3_firstFree_1 3 rfl rfl)
theorem dX3_firstFree_26 : decode cX3_firstFree 26 = .ok (.ireturn, 1) := dk_172 (dk_at dksX3_firstFree_1 4 rfl rfl)
theorem dX3_firstFree_27 : decode cX3_firstFree 27 = .ok (.iinc 1 1, 3) := dk_132 1 1 (dk_at dksX3_firstFree_1 5 rfl rfl)
theorem dX3_firstFree_30 : decode cX3_firstFree 30 = .ok (.goto (-28), 3) := dk_167 255 228 (dk_at dksX3_firstFree_1 8 rfl rfl)
theorem dX3_firstFree_33 : decode cX3_firstFree 33 = .ok (.iconst (-1), 1) := dk_2 (dk_at dksX3_firstFree_1 11 rfl rfl)
theorem dX3_firstFree_34 : decode cX3_firstFree 34 = .ok (.ireturn, 1) := dk_172 (dk_at dksX3_firstFree_1 12 rfl rfl)
abbrev cX3_whyNot : ByteArray := prog_23_method_28_code
def yX3_whyNot : MethodName := ⟨RX3, "whyNot", "(I)I"⟩
def dkwX3_whyNot_1 : List UInt8 := [46, 42, 27, 182, 0, 116, 96, 17, 39, 15, 164, 0, 8, 16, 7, 167, 0, 4, 3, 172]
abbrev dktX3_whyNot_1 : List UInt8 := dkwX3_whyNot_1 ++ []
def dkwX3_whyNot_0 : List UInt8 := [42, 27, 182, 0, 111, 61, 28, 2, 160, 0, 8, 16, 6, 167, 0, 30, 42, 180, 0, 9, 16, 78, 28, 96]
abbrev dktX3_whyNot_0 : List UInt8 := dkwX3_whyNot_0 ++ dktX3_whyNot_1
theorem dksX3_whyNot_0 : cX3_whyNot.data.toList.drop 0 = dktX3_whyNot_0 := by decide +kernel
theorem dksX3_whyNot_1 : cX3_whyNot.data.toList.drop 24 = dktX3_whyNot_1 := dk_seg dksX3_whyNot_0 24 rfl rfl
theorem dX3_whyNot_0 : decode cX3_whyNot 0 = .ok (.aload_n 0, 1) := dk_42 (dk_at dksX3_whyNot_0 0 rfl rfl)
theorem dX3_whyNot_1 : decode cX3_whyNot 1 = .ok (.iload_n 1, 1) := dk_27 (dk_at dksX3_whyNot_0 1 rfl rfl)
theorem dX3_whyNot_2 : decode cX3_whyNot 2 = .ok (.invokevirtual 111, 3) := dk_182 0 111 (dk_at dksX3_whyNot_0 2 rfl rfl)
theorem dX3_whyNot_5 : decode cX3_whyNot 5 = .ok (.istore_n 2, 1) := dk_61 (dk_at dksX3_whyNot_0 5 rfl rfl)
theorem dX3_whyNot_6 : decode cX3_whyNot 6 = .ok (.iload_n 2, 1) := dk_28 (dk_at dksX3_whyNot_0 6 rfl rfl)
theorem dX3_whyNot_7 : decode cX3_whyNot 7 = .ok (.iconst (-1), 1) := dk_2 (dk_at dksX3_whyNot_0 7 rfl rfl)
theorem dX3_whyNot_8 : decode cX3_whyNot 8 = .ok (.if_icmp .ne 8, 3) := dk_160 0 8 (dk_at dksX3_whyNot_0 8 rfl rfl)
theorem dX3_whyNot_11 : decode cX3_whyNot 11 = .ok (.bipush 6, 2) := dk_16 6 (dk_at dksX3_whyNot_0 11 rfl rfl)
theorem dX3_whyNot_13 : decode cX3_whyNot 13 = .ok (.goto 30, 3) := dk_167 0 30 (dk_at dksX3_whyNot_0 13 rfl rfl)
theorem dX3_whyNot_16 : decode cX3_whyNot 16 = .ok (.aload_n 0, 1) := dk_42 (dk_at dksX3_whyNot_0 16 rfl rfl)
theorem dX3_whyNot_17 : decode cX3_whyNot 17 = .ok (.getfield 9, 3) := dk_180 0 9 (dk_at dksX3_whyNot_0 17 rfl rfl)
theorem dX3_whyNot_20 : decode cX3_whyNot 20 = .ok (.bipush 78, 2) := dk_16 78 (dk_at dksX3_whyNot_0 20 rfl rfl)
theorem dX3_whyNot_22 : decode cX3_whyNot 22 = .ok (.iload_n 2, 1) := dk_28 (dk_at dksX3_whyNot_0 22 rfl rfl)
theorem dX3_whyNot_23 : decode cX3_whyNot 23 = .ok (.iadd, 1) := dk_96 (dk_at dksX3_whyNot_0 23 rfl rfl)
theorem dX3_whyNot_24 : decode cX3_whyNot 24 = .ok (.iaload, 1) := dk_46 (dk_at dksX3_whyNot_1 0 rfl rfl)
theorem dX3_whyNot_25 : decode cX3_whyNot 25 = .ok (.aload_n 0, 1) := dk_42 (dk_at dksX3_whyNot_1 1 rfl rfl)
theorem dX3_whyNot_26 : decode cX3_whyNot 26 = .ok (.iload_n 1, 1) := dk_27 (dk_at dksX3_whyNot_1 2 rfl rfl)
theorem dX3_whyNot_27 : decode cX3_whyNot 27 = .ok (.invokevirtual 116, 3) := dk_182 0 116 (dk_at dksX3_whyNot_1 3 rfl rfl)
theorem dX3_whyNot_30 : decode cX3_whyNot 30 = .ok (.iadd, 1) := dk_96 (dk_at dksX3_whyNot_1 6 rfl rfl)
theorem dX3_whyNot_31 : decode cX3_whyNot 31 = .ok (.sipush 9999, 3) := dk_17 39 15 (dk_at dksX3_whyNot_1 7 rfl rfl)
theorem dX3_whyNot_34 : decode cX3_whyNot 34 = .ok (.if_icmp .le 8, 3) := dk_164 0 8 (dk_at dksX3_whyNot_1 10 rfl rfl)
theorem dX3_whyNot_37 : decode cX3_whyNot 37 = .ok (.bipush 7, 2) := dk_16 7 (dk_at dksX3_whyNot_1 13 rfl rfl)
theorem dX3_whyNot_39 : decode cX3_whyNot 39 = .ok (.goto 4, 3) := dk_167 0 4 (dk_at dksX3_whyNot_1 15 rfl rfl)
theorem dX3_whyNot_42 : decode cX3_whyNot 42 = .ok (.iconst 0, 1) := dk_3 (dk_at dksX3_whyNot_1 18 rfl rfl)
theorem dX3_whyNot_43 : decode cX3_whyNot 43 = .ok (.ireturn, 1) := dk_172 (dk_at dksX3_whyNot_1 19 rfl rfl)
abbrev cX3_likes : ByteArray := prog_23_method_25_code
def yX3_likes : MethodName := ⟨RX3, "likes", "(I)I"⟩
def dkwX3_likes_2 : List UInt8 := [61, 132, 3, 1, 167, 255, 208, 28, 172]
abbrev dktX3_likes_2 : List UInt8 := dkwX3_likes_2 ++ []
def dkwX3_likes_1 : List UInt8 := [2, 159, 0, 18, 42, 27, 29, 182, 0, 108, 42, 27, 28, 182, 0, 108, 162, 0, 7, 29, 167, 0, 4, 28]
abbrev dktX3_likes_1 : List UInt8 := dkwX3_likes_1 ++ dktX3_likes_2
def dkwX3_likes_0 : List UInt8 := [2, 61, 3, 62, 29, 42, 180, 0, 9, 4, 46, 162, 0, 44, 42, 27, 29, 182, 0, 102, 154, 0, 27, 28]
abbrev dktX3_likes_0 : List UInt8 := dkwX3_likes_0 ++ dktX3_likes_1
theorem dksX3_likes_0 : cX3_likes.data.toList.drop 0 = dktX3_likes_0 := by decide +kernel
theorem dksX3_likes_1 : cX3_likes.data.toList.drop 24 = dktX3_likes_1 := dk_seg dksX3_likes_0 24 rfl rfl
theorem dksX3_likes_2 : cX3_likes.data.toList.drop 48 = dktX3_likes_2 := dk_seg dksX3_likes_1 24 rfl rfl
theorem dX3_likes_0 : decode cX3_likes 0 = .ok (.iconst (-1), 1) := dk_2 (dk_at dksX3_likes_0 0 rfl rfl)
theorem dX3_likes_1 : decode cX3_likes 1 = .ok (.istore_n 2, 1) := dk_61 (dk_at dksX3_likes_0 1 rfl rfl)
theorem dX3_likes_2 : decode cX3_likes 2 = .ok (.iconst 0, 1) := dk_3 (dk_at dksX3_likes_0 2 rfl rfl)
theorem dX3_likes_3 : decode cX3_likes 3 = .ok (.istore_n 3, 1) := dk_62 (dk_at dksX3_likes_0 3 rfl rfl)
theorem dX3_likes_4 : decode cX3_likes 4 = .ok (.iload_n 3, 1) := dk_29 (dk_at dksX3_likes_0 4 rfl rfl)
theorem dX3_likes_5 : decode cX3_likes 5 = .ok (.aload_n 0, 1) := dk_42 (dk_at dksX3_likes_0 5 rfl rfl)
theorem dX3_likes_6 : decode cX3_likes 6 = .ok (.getfield 9, 3) := dk_180 0 9 (dk_at dksX3_likes_0 6 rfl rfl)
theorem dX3_likes_9 : decode cX3_likes 9 = .ok (.iconst 1, 1) := dk_4 (dk_at dksX3_likes_0 9 rfl rfl)
theorem dX3_likes_10 : decode cX3_likes 10 = .ok (.iaload, 1) := dk_46 (dk_at dksX3_likes_0 10 rfl rfl)
theorem dX3_likes_11 : decode cX3_likes 11 = .ok (.if_icmp .ge 44, 3) := dk_162 0 44 (dk_at dksX3_likes_0 11 rfl rfl)
theorem dX3_likes_14 : decode cX3_likes 14 = .ok (.aload_n 0, 1) := dk_42 (dk_at dksX3_likes_0 14 rfl rfl)
theorem dX3_likes_15 : decode cX3_likes 15 = .ok (.iload_n 1, 1) := dk_27 (dk_at dksX3_likes_0 15 rfl rfl)
theorem dX3_likes_16 : decode cX3_likes 16 = .ok (.iload_n 3, 1) := dk_29 (dk_at dksX3_likes_0 16 rfl rfl)
theorem dX3_likes_17 : decode cX3_likes 17 = .ok (.invokevirtual 102, 3) := dk_182 0 102 (dk_at dksX3_likes_0 17 rfl rfl)
theorem dX3_likes_20 : decode cX3_likes 20 = .ok (.ifCond .ne 27, 3) := dk_154 0 27 (dk_at dksX3_likes_0 20 rfl rfl)
theorem dX3_likes_23 : decode cX3_likes 23 = .ok (.iload_n 2, 1) := dk_28 (dk_at dksX3_likes_0 23 rfl rfl)
theorem dX3_likes_24 : decode cX3_likes 24 = .ok (.iconst (-1), 1) := dk_2 (dk_at dksX3_likes_1 0 rfl rfl)
theorem dX3_likes_25 : decode cX3_likes 25 = .ok (.if_icmp .eq 18, 3) := dk_159 0 18 (dk_at dksX3_likes_1 1 rfl rfl)
theorem dX3_likes_28 : decode cX3_likes 28 = .ok (.aload_n 0, 1) := dk_42 (dk_at dksX3_likes_1 4 rfl rfl)
theorem dX3_likes_29 : decode cX3_likes 29 = .ok (.iload_n 1, 1) := dk_27 (dk_at dksX3_likes_1 5 rfl rfl)
theorem dX3_likes_30 : decode cX3_likes 30 = .ok (.iload_n 3, 1) := dk_29 (dk_at dksX3_likes_1 6 rfl rfl)
theorem dX3_likes_31 : decode cX3_likes 31 = .ok (.invokevirtual 108, 3) := dk_182 0 108 (dk_at dksX3_likes_1 7 rfl rfl)
theorem dX3_likes_34 : decode cX3_likes 34 = .ok (.aload_n 0, 1) := dk_42 (dk_at dksX3_likes_1 10 rfl rfl)
theorem dX3_likes_35 : decode cX3_likes 35 = .ok (.iload_n 1, 1) := dk_27 (dk_at dksX3_likes_1 11 rfl rfl)
theorem dX3_likes_36 : decode cX3_likes 36 = .ok (.iload_n 2, 1) := dk_28 (dk_at dksX3_likes_1 12 rfl rfl)
theorem dX3_likes_37 : decode cX3_likes 37 = .ok (.invokevirtual 108, 3) := dk_182 0 108 (dk_at dksX3_likes_1 13 rfl rfl)
theorem dX3_likes_40 : decode cX3_likes 40 = .ok (.if_icmp .ge 7, 3) := dk_162 0 7 (dk_at dksX3_likes_1 16 rfl rfl)
theorem dX3_likes_43 : decode cX3_likes 43 = .ok (.iload_n 3, 1) := dk_29 (dk_at dksX3_likes_1 19 rfl rfl)
theorem dX3_likes_44 : decode cX3_likes 44 = .ok (.goto 4, 3) := dk_167 0 4 (dk_at dksX3_likes_1 20 rfl rfl)
theorem dX3_likes_47 : decode cX3_likes 47 = .ok (.iload_n 2, 1) := dk_28 (dk_at dksX3_likes_1 23 rfl rfl)
theorem dX3_likes_48 : decode cX3_likes 48 = .ok (.istore_n 2, 1) := dk_61 (dk_at dksX3_likes_2 0 rfl rfl)
theorem dX3_likes_49 : decode cX3_likes 49 = .ok (.iinc 3 1, 3) := dk_132 3 1 (dk_at dksX3_likes_2 1 rfl rfl)
theorem dX3_likes_52 : decode cX3_likes 52 = .ok (.goto (-48), 3) := dk_167 255 208 (dk_at dksX3_likes_2 4 rfl rfl)
theorem dX3_likes_55 : decode cX3_likes 55 = .ok (.iload_n 2, 1) := dk_28 (dk_at dksX3_likes_2 7 rfl rfl)
theorem dX3_likes_56 : decode cX3_likes 56 = .ok (.ireturn, 1) := dk_172 (dk_at dksX3_likes_2 8 rfl rfl)
abbrev cX3_heavy : ByteArray := prog_23_method_15_code
def yX3_heavy : MethodName := ⟨RX3, "heavy", "(II)I"⟩
def dkwX3_heavy_1 : List UInt8 := [96, 172]
abbrev dktX3_heavy_1 : List UInt8 := dkwX3_heavy_1 ++ []
def dkwX3_heavy_0 : List UInt8 := [42, 27, 28, 182, 0, 62, 42, 180, 0, 9, 3, 46, 4, 96, 104, 42, 180, 0, 9, 16, 78, 28, 96, 46]
abbrev dktX3_heavy_0 : List UInt8 := dkwX3_heavy_0 ++ dktX3_heavy_1
theorem dksX3_heavy_0 : cX3_heavy.data.toList.drop 0 = dktX3_heavy_0 := by decide +kernel
theorem dksX3_heavy_1 : cX3_heavy.data.toList.drop 24 = dktX3_heavy_1 := dk_seg dksX3_heavy_0 24 rfl rfl
theorem dX3_heavy_0 : decode cX3_heavy 0 = .ok (.aload_n 0, 1) := dk_42 (dk_at dksX3_heavy_0 0 rfl rfl)
theorem dX3_heavy_1 : decode cX3_heavy 1 = .ok (.iload_n 1, 1) := dk_27 (dk_at dksX3_heavy_0 1 rfl rfl)
theorem dX3_heavy_2 : decode cX3_heavy 2 = .ok (.iload_n 2, 1) := dk_28 (dk_at dksX3_heavy_0 2 rfl rfl)
theorem dX3_heavy_3 : decode cX3_heavy 3 = .ok (.invokevirtual 62, 3) := dk_182 0 62 (dk_at dksX3_heavy_0 3 rfl rfl)
theorem dX3_heavy_6 : decode cX3_heavy 6 = .ok (.aload_n 0, 1) := dk_42 (dk_at dksX3_heavy_0 6 rfl rfl)
theorem dX3_heavy_7 : decode cX3_heavy 7 = .ok (.getfield 9, 3) := dk_180 0 9 (dk_at dksX3_heavy_0 7 rfl rfl)
theorem dX3_heavy_10 : decode cX3_heavy 10 = .ok (.iconst 0, 1) := dk_3 (dk_at dksX3_heavy_0 10 rfl rfl)
theorem dX3_heavy_11 : decode cX3_heavy 11 = .ok (.iaload, 1) := dk_46 (dk_at dksX3_heavy_0 11 rfl rfl)
theorem dX3_heavy_12 : decode cX3_heavy 12 = .ok (.iconst 1, 1) := dk_4 (dk_at dksX3_heavy_0 12 rfl rfl)
theorem dX3_heavy_13 : decode cX3_heavy 13 = .ok (.iadd, 1) := dk_96 (dk_at dksX3_heavy_0 13 rfl rfl)
theorem dX3_heavy_14 : decode cX3_heavy 14 = .ok (.imul, 1) := dk_104 (dk_at dksX3_heavy_0 14 rfl rfl)
theorem dX3_heavy_15 : decode cX3_heavy 15 = .ok (.aload_n 0, 1) := dk_42 (dk_at dksX3_heavy_0 15 rfl rfl)
theorem dX3_heavy_16 : decode cX3_heavy 16 = .ok (.getfield 9, 3) := dk_180 0 9 (dk_at dksX3_heavy_0 16 rfl rfl)
theorem dX3_heavy_19 : decode cX3_heavy 19 = .ok (.bipush 78, 2) := dk_16 78 (dk_at dksX3_heavy_0 19 rfl rfl)
theorem dX3_heavy_21 : decode cX3_heavy 21 = .ok (.iload_n 2, 1) := dk_28 (dk_at dksX3_heavy_0 21 rfl rfl)
theorem dX3_heavy_22 : decode cX3_heavy 22 = .ok (.iadd, 1) := dk_96 (dk_at dksX3_heavy_0 22 rfl rfl)
theorem dX3_heavy_23 : decode cX3_heavy 23 = .ok (.iaload, 1) := dk_46 (dk_at dksX3_heavy_0 23 rfl rfl)
theorem dX3_heavy_24 : decode cX3_heavy 24 = .ok (.iadd, 1) := dk_96 (dk_at dksX3_heavy_1 0 rfl rfl)
theorem dX3_heavy_25 : decode cX3_heavy 25 = .ok (.ireturn, 1) := dk_172 (dk_at dksX3_heavy_1 1 rfl rfl)
abbrev cX3_raise : ByteArray := prog_23_method_26_code
def yX3_raise : MethodName := ⟨RX3, "raise", "(I)I"⟩
def dkwX3_raise_4 : List UInt8 := [182, 0, 108, 100, 172]
abbrev dktX3_raise_4 : List UInt8 := dkwX3_raise_4 ++ []
def dkwX3_raise_3 : List UInt8 := [160, 0, 7, 3, 167, 0, 24, 29, 18, 115, 160, 0, 8, 16, 100, 167, 0, 13, 4, 29, 96, 42, 27, 28]
abbrev dktX3_raise_3 : List UInt8 := dkwX3_raise_3 ++ dktX3_raise_4
def dkwX3_raise_2 : List UInt8 := [162, 0, 13, 42, 27, 21, 4, 182, 0, 108, 167, 0, 4, 29, 62, 132, 4, 1, 167, 255, 203, 28, 2]
abbrev dktX3_raise_2 : List UInt8 := dkwX3_raise_2 ++ dktX3_raise_3
def dkwX3_raise_1 : List UInt8 := [21, 4, 28, 159, 0, 34, 42, 27, 21, 4, 182, 0, 102, 154, 0, 24, 42, 27, 21, 4, 182, 0, 108, 29]
abbrev dktX3_raise_1 : List UInt8 := dkwX3_raise_1 ++ dktX3_raise_2
def dkwX3_raise_0 : List UInt8 := [42, 27, 182, 0, 111, 61, 18, 115, 62, 3, 54, 4, 21, 4, 42, 180, 0, 9, 4, 46, 162, 0, 48]
abbrev dktX3_raise_0 : List UInt8 := dkwX3_raise_0 ++ dktX3_raise_1
theorem dksX3_raise_0 : cX3_raise.data.toList.drop 0 = dktX3_raise_0 := by decide +kernel
theorem dksX3_raise_1 : cX3_raise.data.toList.drop 23 = dktX3_raise_1 := dk_seg dksX3_raise_0 23 rfl rfl
theorem dksX3_raise_2 : cX3_raise.data.toList.drop 47 = dktX3_raise_2 := dk_seg dksX3_raise_1 24 rfl rfl
theorem dksX3_raise_3 : cX3_raise.data.toList.drop 70 = dktX3_raise_3 := dk_seg dksX3_raise_2 23 rfl rfl
theorem dksX3_raise_4 : cX3_raise.data.toList.drop 94 = dktX3_raise_4 := dk_seg dksX3_raise_3 24 rfl rfl
theorem dX3_raise_0 : decode cX3_raise 0 = .ok (.aload_n 0, 1) := dk_42 (dk_at dksX3_raise_0 0 rfl rfl)
theorem dX3_raise_1 : decode cX3_raise 1 = .ok (.iload_n 1, 1) := dk_27 (dk_at dksX3_raise_0 1 rfl rfl)
theorem dX3_raise_2 : decode cX3_raise 2 = .ok (.invokevirtual 111, 3) := dk_182 0 111 (dk_at dksX3_raise_0 2 rfl rfl)
theorem dX3_raise_5 : decode cX3_raise 5 = .ok (.istore_n 2, 1) := dk_61 (dk_at dksX3_raise_0 5 rfl rfl)
theorem dX3_raise_6 : decode cX3_raise 6 = .ok (.ldc 115, 2) := dk_18 115 (dk_at dksX3_raise_0 6 rfl rfl)
theorem dX3_raise_8 : decode cX3_raise 8 = .ok (.istore_n 3, 1) := dk_62 (dk_at dksX3_raise_0 8 rfl rfl)
theorem dX3_raise_9 : decode cX3_raise 9 = .ok (.iconst 0, 1) := dk_3 (dk_at dksX3_raise_0 9 rfl rfl)
theorem dX3_raise_10 : decode cX3_raise 10 = .ok (.istore 4, 2) := dk_54 4 (dk_at dksX3_raise_0 10 rfl rfl)
theorem dX3_raise_12 : decode cX3_raise 12 = .ok (.iload 4, 2) := dk_21 4 (dk_at dksX3_raise_0 12 rfl rfl)
theorem dX3_raise_14 : decode cX3_raise 14 = .ok (.aload_n 0, 1) := dk_42 (dk_at dksX3_raise_0 14 rfl rfl)
theorem dX3_raise_15 : decode cX3_raise 15 = .ok (.getfield 9, 3) := dk_180 0 9 (dk_at dksX3_raise_0 15 rfl rfl)
theorem dX3_raise_18 : decode cX3_raise 18 = .ok (.iconst 1, 1) := dk_4 (dk_at dksX3_raise_0 18 rfl rfl)
theorem dX3_raise_19 : decode cX3_raise 19 = .ok (.iaload, 1) := dk_46 (dk_at dksX3_raise_0 19 rfl rfl)
theorem dX3_raise_20 : decode cX3_raise 20 = .ok (.if_icmp .ge 48, 3) := dk_162 0 48 (dk_at dksX3_raise_0 20 rfl rfl)
theorem dX3_raise_23 : decode cX3_raise 23 = .ok (.iload 4, 2) := dk_21 4 (dk_at dksX3_raise_1 0 rfl rfl)
theorem dX3_raise_25 : decode cX3_raise 25 = .ok (.iload_n 2, 1) := dk_28 (dk_at dksX3_raise_1 2 rfl rfl)
theorem dX3_raise_26 : decode cX3_raise 26 = .ok (.if_icmp .eq 34, 3) := dk_159 0 34 (dk_at dksX3_raise_1 3 rfl rfl)
theorem dX3_raise_29 : decode cX3_raise 29 = .ok (.aload_n 0, 1) := dk_42 (dk_at dksX3_raise_1 6 rfl rfl)
theorem dX3_raise_30 : decode cX3_raise 30 = .ok (.iload_n 1, 1) := dk_27 (dk_at dksX3_raise_1 7 rfl rfl)
theorem dX3_raise_31 : decode cX3_raise 31 = .ok (.iload 4, 2) := dk_21 4 (dk_at dksX3_raise_1 8 rfl rfl)
theorem dX3_raise_33 : decode cX3_raise 33 = .ok (.invokevirtual 102, 3) := dk_182 0 102 (dk_at dksX3_raise_1 10 rfl rfl)
theorem dX3_raise_36 : decode cX3_raise 36 = .ok (.ifCond .ne 24, 3) := dk_154 0 24 (dk_at dksX3_raise_1 13 rfl rfl)
theorem dX3_raise_39 : decode cX3_raise 39 = .ok (.aload_n 0, 1) := dk_42 (dk_at dksX3_raise_1 16 rfl rfl)
theorem dX3_raise_40 : decode cX3_raise 40 = .ok (.iload_n 1, 1) := dk_27 (dk_at dksX3_raise_1 17 rfl rfl)
theorem dX3_raise_41 : decode cX3_raise 41 = .ok (.iload 4, 2) := dk_21 4 (dk_at dksX3_raise_1 18 rfl rfl)
theorem dX3_raise_43 : decode cX3_raise 43 = .ok (.invokevirtual 108, 3) := dk_182 0 108 (dk_at dksX3_raise_1 20 rfl rfl)
theorem dX3_raise_46 : decode cX3_raise 46 = .ok (.iload_n 3, 1) := dk_29 (dk_at dksX3_raise_1 23 rfl rfl)
theorem dX3_raise_47 : decode cX3_raise 47 = .ok (.if_icmp .ge 13, 3) := dk_162 0 13 (dk_at dksX3_raise_2 0 rfl rfl)
theorem dX3_raise_50 : decode cX3_raise 50 = .ok (.aload_n 0, 1) := dk_42 (dk_at dksX3_raise_2 3 rfl rfl)
theorem dX3_raise_51 : decode cX3_raise 51 = .ok (.iload_n 1, 1) := dk_27 (dk_at dksX3_raise_2 4 rfl rfl)
theorem dX3_raise_52 : decode cX3_raise 52 = .ok (.iload 4, 2) := dk_21 4 (dk_at dksX3_raise_2 5 rfl rfl)
theorem dX3_raise_54 : decode cX3_raise 54 = .ok (.invokevirtual 108, 3) := dk_182 0 108 (dk_at dksX3_raise_2 7 rfl rfl)
theorem dX3_raise_57 : decode cX3_raise 57 = .ok (.goto 4, 3) := dk_167 0 4 (dk_at dksX3_raise_2 10 rfl rfl)
theorem dX3_raise_60 : decode cX3_raise 60 = .ok (.iload_n 3, 1) := dk_29 (dk_at dksX3_raise_2 13 rfl rfl)
theorem dX3_raise_61 : decode cX3_raise 61 = .ok (.istore_n 3, 1) := dk_62 (dk_at dksX3_raise_2 14 rfl rfl)
theorem dX3_raise_62 : decode cX3_raise 62 = .ok (.iinc 4 1, 3) := dk_132 4 1 (dk_at dksX3_raise_2 15 rfl rfl)
theorem dX3_raise_65 : decode cX3_raise 65 = .ok (.goto (-53), 3) := dk_167 255 203 (dk_at dksX3_raise_2 18 rfl rfl)
theorem dX3_raise_68 : decode cX3_raise 68 = .ok (.iload_n 2, 1) := dk_28 (dk_at dksX3_raise_2 21 rfl rfl)
theorem dX3_raise_69 : decode cX3_raise 69 = .ok (.iconst (-1), 1) := dk_2 (dk_at dksX3_raise_2 22 rfl rfl)
theorem dX3_raise_70 : decode cX3_raise 70 = .ok (.if_icmp .ne 7, 3) := dk_160 0 7 (dk_at dksX3_raise_3 0 rfl rfl)
theorem dX3_raise_73 : decode cX3_raise 73 = .ok (.iconst 0, 1) := dk_3 (dk_at dksX3_raise_3 3 rfl rfl)
theorem dX3_raise_74 : decode cX3_raise 74 = .ok (.goto 24, 3) := dk_167 0 24 (dk_at dksX3_raise_3 4 rfl rfl)
theorem dX3_raise_77 : decode cX3_raise 77 = .ok (.iload_n 3, 1) := dk_29 (dk_at dksX3_raise_3 7 rfl rfl)
theorem dX3_raise_78 : decode cX3_raise 78 = .ok (.ldc 115, 2) := dk_18 115 (dk_at dksX3_raise_3 8 rfl rfl)
theorem dX3_raise_80 : decode cX3_raise 80 = .ok (.if_icmp .ne 8, 3) := dk_160 0 8 (dk_at dksX3_raise_3 10 rfl rfl)
theorem dX3_raise_83 : decode cX3_raise 83 = .ok (.bipush 100, 2) := dk_16 100 (dk_at dksX3_raise_3 13 rfl rfl)
theorem dX3_raise_85 : decode cX3_raise 85 = .ok (.goto 13, 3) := dk_167 0 13 (dk_at dksX3_raise_3 15 rfl rfl)
theorem dX3_raise_88 : decode cX3_raise 88 = .ok (.iconst 1, 1) := dk_4 (dk_at dksX3_raise_3 18 rfl rfl)
theorem dX3_raise_89 : decode cX3_raise 89 = .ok (.iload_n 3, 1) := dk_29 (dk_at dksX3_raise_3 19 rfl rfl)
theorem dX3_raise_90 : decode cX3_raise 90 = .ok (.iadd, 1) := dk_96 (dk_at dksX3_raise_3 20 rfl rfl)
theorem dX3_raise_91 : decode cX3_raise 91 = .ok (.aload_n 0, 1) := dk_42 (dk_at dksX3_raise_3 21 rfl rfl)
theorem dX3_raise_92 : decode cX3_raise 92 = .ok (.iload_n 1, 1) := dk_27 (dk_at dksX3_raise_3 22 rfl rfl)
theorem dX3_raise_93 : decode cX3_raise 93 = .ok (.iload_n 2, 1) := dk_28 (dk_at dksX3_raise_3 23 rfl rfl)
theorem dX3_raise_94 : decode cX3_raise 94 = .ok (.invokevirtual 108, 3) := dk_182 0 108 (dk_at dksX3_raise_4 0 rfl rfl)
theorem dX3_raise_97 : decode cX3_raise 97 = .ok (.isub, 1) := dk_100 (dk_at dksX3_raise_4 3 rfl rfl)
theorem dX3_raise_98 : decode cX3_raise 98 = .ok (.ireturn, 1) := dk_172 (dk_at dksX3_raise_4 4 rfl rfl)
abbrev cX3_bidsNow : ByteArray := prog_23_method_29_code
def yX3_bidsNow : MethodName := ⟨RX3, "bidsNow", "(I)I"⟩
def dkwX3_bidsNow_3 : List UInt8 := [96, 79, 42, 180, 0, 9, 16, 90, 28, 96, 92, 46, 4, 96, 79, 29, 172]
abbrev dktX3_bidsNow_3 : List UInt8 := dkwX3_bidsNow_3 ++ []
def dkwX3_bidsNow_2 : List UInt8 := [7, 92, 46, 4, 96, 79, 42, 180, 0, 9, 16, 84, 27, 96, 28, 79, 42, 180, 0, 9, 6, 92, 46, 4]
abbrev dktX3_bidsNow_2 : List UInt8 := dkwX3_bidsNow_2 ++ dktX3_bidsNow_3
def dkwX3_bidsNow_1 : List UInt8 := [182, 0, 116, 96, 79, 29, 2, 159, 0, 23, 42, 180, 0, 9, 16, 84, 29, 96, 2, 79, 42, 180, 0, 9]
abbrev dktX3_bidsNow_1 : List UInt8 := dkwX3_bidsNow_1 ++ dktX3_bidsNow_2
def dkwX3_bidsNow_0 : List UInt8 := [42, 27, 182, 0, 111, 61, 42, 28, 182, 0, 119, 62, 42, 180, 0, 9, 16, 78, 28, 96, 92, 46, 42, 27]
abbrev dktX3_bidsNow_0 : List UInt8 := dkwX3_bidsNow_0 ++ dktX3_bidsNow_1
theorem dksX3_bidsNow_0 : cX3_bidsNow.data.toList.drop 0 = dktX3_bidsNow_0 := by decide +kernel
theorem dksX3_bidsNow_1 : cX3_bidsNow.data.toList.drop 24 = dktX3_bidsNow_1 := dk_seg dksX3_bidsNow_0 24 rfl rfl
theorem dksX3_bidsNow_2 : cX3_bidsNow.data.toList.drop 48 = dktX3_bidsNow_2 := dk_seg dksX3_bidsNow_1 24 rfl rfl
theorem dksX3_bidsNow_3 : cX3_bidsNow.data.toList.drop 72 = dktX3_bidsNow_3 := dk_seg dksX3_bidsNow_2 24 rfl rfl
theorem dX3_bidsNow_0 : decode cX3_bidsNow 0 = .ok (.aload_n 0, 1) := dk_42 (dk_at dksX3_bidsNow_0 0 rfl rfl)
theorem dX3_bidsNow_1 : decode cX3_bidsNow 1 = .ok (.iload_n 1, 1) := dk_27 (dk_at dksX3_bidsNow_0 1 rfl rfl)
theorem dX3_bidsNow_2 : decode cX3_bidsNow 2 = .ok (.invokevirtual 111, 3) := dk_182 0 111 (dk_at dksX3_bidsNow_0 2 rfl rfl)
theorem dX3_bidsNow_5 : decode cX3_bidsNow 5 = .ok (.istore_n 2, 1) := dk_61 (dk_at dksX3_bidsNow_0 5 rfl rfl)
theorem dX3_bidsNow_6 : decode cX3_bidsNow 6 = .ok (.aload_n 0, 1) := dk_42 (dk_at dksX3_bidsNow_0 6 rfl rfl)
theorem dX3_bidsNow_7 : decode cX3_bidsNow 7 = .ok (.iload_n 2, 1) := dk_28 (dk_at dksX3_bidsNow_0 7 rfl rfl)
theorem dX3_bidsNow_8 : decode cX3_bidsNow 8 = .ok (.invokevirtual 119, 3) := dk_182 0 119 (dk_at dksX3_bidsNow_0 8 rfl rfl)
theorem dX3_bidsNow_11 : decode cX3_bidsNow 11 = .ok (.istore_n 3, 1) := dk_62 (dk_at dksX3_bidsNow_0 11 rfl rfl)
theorem dX3_bidsNow_12 : decode cX3_bidsNow 12 = .ok (.aload_n 0, 1) := dk_42 (dk_at dksX3_bidsNow_0 12 rfl rfl)
theorem dX3_bidsNow_13 : decode cX3_bidsNow 13 = .ok (.getfield 9, 3) := dk_180 0 9 (dk_at dksX3_bidsNow_0 13 rfl rfl)
theorem dX3_bidsNow_16 : decode cX3_bidsNow 16 = .ok (.bipush 78, 2) := dk_16 78 (dk_at dksX3_bidsNow_0 16 rfl rfl)
theorem dX3_bidsNow_18 : decode cX3_bidsNow 18 = .ok (.iload_n 2, 1) := dk_28 (dk_at dksX3_bidsNow_0 18 rfl rfl)
theorem dX3_bidsNow_19 : decode cX3_bidsNow 19 = .ok (.iadd, 1) := dk_96 (dk_at dksX3_bidsNow_0 19 rfl rfl)
theorem dX3_bidsNow_20 : decode cX3_bidsNow 20 = .ok (.dup2, 1) := dk_92 (dk_at dksX3_bidsNow_0 20 rfl rfl)
theorem dX3_bidsNow_21 : decode cX3_bidsNow 21 = .ok (.iaload, 1) := dk_46 (dk_at dksX3_bidsNow_0 21 rfl rfl)
theorem dX3_bidsNow_22 : decode cX3_bidsNow 22 = .ok (.aload_n 0, 1) := dk_42 (dk_at dksX3_bidsNow_0 22 rfl rfl)
theorem dX3_bidsNow_23 : decode cX3_bidsNow 23 = .ok (.iload_n 1, 1) := dk_27 (dk_at dksX3_bidsNow_0 23 rfl rfl)
theorem dX3_bidsNow_24 : decode cX3_bidsNow 24 = .ok (.invokevirtual 116, 3) := dk_182 0 116 (dk_at dksX3_bidsNow_1 0 rfl rfl)
theorem dX3_bidsNow_27 : decode cX3_bidsNow 27 = .ok (.iadd, 1) := dk_96 (dk_at dksX3_bidsNow_1 3 rfl rfl)
theorem dX3_bidsNow_28 : decode cX3_bidsNow 28 = .ok (.iastore, 1) := dk_79 (dk_at dksX3_bidsNow_1 4 rfl rfl)
theorem dX3_bidsNow_29 : decode cX3_bidsNow 29 = .ok (.iload_n 3, 1) := dk_29 (dk_at dksX3_bidsNow_1 5 rfl rfl)
theorem dX3_bidsNow_30 : decode cX3_bidsNow 30 = .ok (.iconst (-1), 1) := dk_2 (dk_at dksX3_bidsNow_1 6 rfl rfl)
theorem dX3_bidsNow_31 : decode cX3_bidsNow 31 = .ok (.if_icmp .eq 23, 3) := dk_159 0 23 (dk_at dksX3_bidsNow_1 7 rfl rfl)
theorem dX3_bidsNow_34 : decode cX3_bidsNow 34 = .ok (.aload_n 0, 1) := dk_42 (dk_at dksX3_bidsNow_1 10 rfl rfl)
theorem dX3_bidsNow_35 : decode cX3_bidsNow 35 = .ok (.getfield 9, 3) := dk_180 0 9 (dk_at dksX3_bidsNow_1 11 rfl rfl)
theorem dX3_bidsNow_38 : decode cX3_bidsNow 38 = .ok (.bipush 84, 2) := dk_16 84 (dk_at dksX3_bidsNow_1 14 rfl rfl)
theorem dX3_bidsNow_40 : decode cX3_bidsNow 40 = .ok (.iload_n 3, 1) := dk_29 (dk_at dksX3_bidsNow_1 16 rfl rfl)
theorem dX3_bidsNow_41 : decode cX3_bidsNow 41 = .ok (.iadd, 1) := dk_96 (dk_at dksX3_bidsNow_1 17 rfl rfl)
theorem dX3_bidsNow_42 : decode cX3_bidsNow 42 = .ok (.iconst (-1), 1) := dk_2 (dk_at dksX3_bidsNow_1 18 rfl rfl)
theorem dX3_bidsNow_43 : decode cX3_bidsNow 43 = .ok (.iastore, 1) := dk_79 (dk_at dksX3_bidsNow_1 19 rfl rfl)
theorem dX3_bidsNow_44 : decode cX3_bidsNow 44 = .ok (.aload_n 0, 1) := dk_42 (dk_at dksX3_bidsNow_1 20 rfl rfl)
theorem dX3_bidsNow_45 : decode cX3_bidsNow 45 = .ok (.getfield 9, 3) := dk_180 0 9 (dk_at dksX3_bidsNow_1 21 rfl rfl)
theorem dX3_bidsNow_48 : decode cX3_bidsNow 48 = .ok (.iconst 4, 1) := dk_7 (dk_at dksX3_bidsNow_2 0 rfl rfl)
theorem dX3_bidsNow_49 : decode cX3_bidsNow 49 = .ok (.dup2, 1) := dk_92 (dk_at dksX3_bidsNow_2 1 rfl rfl)
theorem dX3_bidsNow_50 : decode cX3_bidsNow 50 = .ok (.iaload, 1) := dk_46 (dk_at dksX3_bidsNow_2 2 rfl rfl)
theorem dX3_bidsNow_51 : decode cX3_bidsNow 51 = .ok (.iconst 1, 1) := dk_4 (dk_at dksX3_bidsNow_2 3 rfl rfl)
theorem dX3_bidsNow_52 : decode cX3_bidsNow 52 = .ok (.iadd, 1) := dk_96 (dk_at dksX3_bidsNow_2 4 rfl rfl)
theorem dX3_bidsNow_53 : decode cX3_bidsNow 53 = .ok (.iastore, 1) := dk_79 (dk_at dksX3_bidsNow_2 5 rfl rfl)
theorem dX3_bidsNow_54 : decode cX3_bidsNow 54 = .ok (.aload_n 0, 1) := dk_42 (dk_at dksX3_bidsNow_2 6 rfl rfl)
theorem dX3_bidsNow_55 : decode cX3_bidsNow 55 = .ok (.getfield 9, 3) := dk_180 0 9 (dk_at dksX3_bidsNow_2 7 rfl rfl)
theorem dX3_bidsNow_58 : decode cX3_bidsNow 58 = .ok (.bipush 84, 2) := dk_16 84 (dk_at dksX3_bidsNow_2 10 rfl rfl)
theorem dX3_bidsNow_60 : decode cX3_bidsNow 60 = .ok (.iload_n 1, 1) := dk_27 (dk_at dksX3_bidsNow_2 12 rfl rfl)
theorem dX3_bidsNow_61 : decode cX3_bidsNow 61 = .ok (.iadd, 1) := dk_96 (dk_at dksX3_bidsNow_2 13 rfl rfl)
theorem dX3_bidsNow_62 : decode cX3_bidsNow 62 = .ok (.iload_n 2, 1) := dk_28 (dk_at dksX3_bidsNow_2 14 rfl rfl)
theorem dX3_bidsNow_63 : decode cX3_bidsNow 63 = .ok (.iastore, 1) := dk_79 (dk_at dksX3_bidsNow_2 15 rfl rfl)
theorem dX3_bidsNow_64 : decode cX3_bidsNow 64 = .ok (.aload_n 0, 1) := dk_42 (dk_at dksX3_bidsNow_2 16 rfl rfl)
theorem dX3_bidsNow_65 : decode cX3_bidsNow 65 = .ok (.getfield 9, 3) := dk_180 0 9 (dk_at dksX3_bidsNow_2 17 rfl rfl)
theorem dX3_bidsNow_68 : decode cX3_bidsNow 68 = .ok (.iconst 3, 1) := dk_6 (dk_at dksX3_bidsNow_2 20 rfl rfl)
theorem dX3_bidsNow_69 : decode cX3_bidsNow 69 = .ok (.dup2, 1) := dk_92 (dk_at dksX3_bidsNow_2 21 rfl rfl)
theorem dX3_bidsNow_70 : decode cX3_bidsNow 70 = .ok (.iaload, 1) := dk_46 (dk_at dksX3_bidsNow_2 22 rfl rfl)
theorem dX3_bidsNow_71 : decode cX3_bidsNow 71 = .ok (.iconst 1, 1) := dk_4 (dk_at dksX3_bidsNow_2 23 rfl rfl)
theorem dX3_bidsNow_72 : decode cX3_bidsNow 72 = .ok (.iadd, 1) := dk_96 (dk_at dksX3_bidsNow_3 0 rfl rfl)
theorem dX3_bidsNow_73 : decode cX3_bidsNow 73 = .ok (.iastore, 1) := dk_79 (dk_at dksX3_bidsNow_3 1 rfl rfl)
theorem dX3_bidsNow_74 : decode cX3_bidsNow 74 = .ok (.aload_n 0, 1) := dk_42 (dk_at dksX3_bidsNow_3 2 rfl rfl)
theorem dX3_bidsNow_75 : decode cX3_bidsNow 75 = .ok (.getfield 9, 3) := dk_180 0 9 (dk_at dksX3_bidsNow_3 3 rfl rfl)
theorem dX3_bidsNow_78 : decode cX3_bidsNow 78 = .ok (.bipush 90, 2) := dk_16 90 (dk_at dksX3_bidsNow_3 6 rfl rfl)
theorem dX3_bidsNow_80 : decode cX3_bidsNow 80 = .ok (.iload_n 2, 1) := dk_28 (dk_at dksX3_bidsNow_3 8 rfl rfl)
theorem dX3_bidsNow_81 : decode cX3_bidsNow 81 = .ok (.iadd, 1) := dk_96 (dk_at dksX3_bidsNow_3 9 rfl rfl)
theorem dX3_bidsNow_82 : decode cX3_bidsNow 82 = .ok (.dup2, 1) := dk_92 (dk_at dksX3_bidsNow_3 10 rfl rfl)
theorem dX3_bidsNow_83 : decode cX3_bidsNow 83 = .ok (.iaload, 1) := dk_46 (dk_at dksX3_bidsNow_3 11 rfl rfl)
theorem dX3_bidsNow_84 : decode cX3_bidsNow 84 = .ok (.iconst 1, 1) := dk_4 (dk_at dksX3_bidsNow_3 12 rfl rfl)
theorem dX3_bidsNow_85 : decode cX3_bidsNow 85 = .ok (.iadd, 1) := dk_96 (dk_at dksX3_bidsNow_3 13 rfl rfl)
theorem dX3_bidsNow_86 : decode cX3_bidsNow 86 = .ok (.iastore, 1) := dk_79 (dk_at dksX3_bidsNow_3 14 rfl rfl)
theorem dX3_bidsNow_87 : decode cX3_bidsNow 87 = .ok (.iload_n 3, 1) := dk_29 (dk_at dksX3_bidsNow_3 15 rfl rfl)
theorem dX3_bidsNow_88 : decode cX3_bidsNow 88 = .ok (.ireturn, 1) := dk_172 (dk_at dksX3_bidsNow_3 16 rfl rfl)
abbrev cX3_heldBy : ByteArray := prog_23_method_16_code
def yX3_heldBy : MethodName := ⟨RX3, "heldBy", "(I)I"⟩
def dkwX3_heldBy_1 : List UInt8 := [160, 0, 5, 28, 172, 132, 2, 1, 167, 255, 228, 2, 172]
abbrev dktX3_heldBy_1 : List UInt8 := dkwX3_heldBy_1 ++ []
def dkwX3_heldBy_0 : List UInt8 := [3, 61, 28, 42, 180, 0, 9, 3, 46, 162, 0, 24, 42, 180, 0, 9, 16, 84, 28, 96, 46, 27]
abbrev dktX3_heldBy_0 : List UInt8 := dkwX3_heldBy_0 ++ dktX3_heldBy_1
theorem dksX3_heldBy_0 : cX3_heldBy.data.toList.drop 0 = dktX3_heldBy_0 := by decide +kernel
theorem dksX3_heldBy_1 : cX3_heldBy.data.toList.drop 22 = dktX3_heldBy_1 := dk_seg dksX3_heldBy_0 22 rfl rfl
theorem dX3_heldBy_0 : decode cX3_heldBy 0 = .ok (.iconst 0, 1) := dk_3 (dk_at dksX3_heldBy_0 0 rfl rfl)
theorem dX3_heldBy_1 : decode cX3_heldBy 1 = .ok (.istore_n 2, 1) := dk_61 (dk_at dksX3_heldBy_0 1 rfl rfl)
theorem dX3_heldBy_2 : decode cX3_heldBy 2 = .ok (.iload_n 2, 1) := dk_28 (dk_at dksX3_heldBy_0 2 rfl rfl)
theorem dX3_heldBy_3 : decode cX3_heldBy 3 = .ok (.aload_n 0, 1) := dk_42 (dk_at dksX3_heldBy_0 3 rfl rfl)
theorem dX3_heldBy_4 : decode cX3_heldBy 4 = .ok (.getfield 9, 3) := dk_180 0 9 (dk_at dksX3_heldBy_0 4 rfl rfl)
theorem dX3_heldBy_7 : decode cX3_heldBy 7 = .ok (.iconst 0, 1) := dk_3 (dk_at dksX3_heldBy_0 7 rfl rfl)
theorem dX3_heldBy_8 : decode cX3_heldBy 8 = .ok (.iaload, 1) := dk_46 (dk_at dksX3_heldBy_0 8 rfl rfl)
theorem dX3_heldBy_9 : decode cX3_heldBy 9 = .ok (.if_icmp .ge 24, 3) := dk_162 0 24 (dk_at dksX3_heldBy_0 9 rfl rfl)
theorem dX3_heldBy_12 : decode cX3_heldBy 12 = .ok (.aload_n 0, 1) := dk_42 (dk_at dksX3_heldBy_0 12 rfl rfl)
theorem dX3_heldBy_13 : decode cX3_heldBy 13 = .ok (.getfield 9, 3) := dk_180 0 9 (dk_at dksX3_heldBy_0 13 rfl rfl)
theorem dX3_heldBy_16 : decode cX3_heldBy 16 = .ok (.bipush 84, 2) := dk_16 84 (dk_at dksX3_heldBy_0 16 rfl rfl)
theorem dX3_heldBy_18 : decode cX3_heldBy 18 = .ok (.iload_n 2, 1) := dk_28 (dk_at dksX3_heldBy_0 18 rfl rfl)
theorem dX3_heldBy_19 : decode cX3_heldBy 19 = .ok (.iadd, 1) := dk_96 (dk_at dksX3_heldBy_0 19 rfl rfl)
theorem dX3_heldBy_20 : decode cX3_heldBy 20 = .ok (.iaload, 1) := dk_46 (dk_at dksX3_heldBy_0 20 rfl rfl)
theorem dX3_heldBy_21 : decode cX3_heldBy 21 = .ok (.iload_n 1, 1) := dk_27 (dk_at dksX3_heldBy_0 21 rfl rfl)
theorem dX3_heldBy_22 : decode cX3_heldBy 22 = .ok (.if_icmp .ne 5, 3) := dk_160 0 5 (dk_at dksX3_heldBy_1 0 rfl rfl)
theorem dX3_heldBy_25 : decode cX3_heldBy 25 = .ok (.iload_n 2, 1) := dk_28 (dk_at dksX3_heldBy_1 3 rfl rfl)
theorem dX3_heldBy_26 : decode cX3_heldBy 26 = .ok (.ireturn, 1) := dk_172 (dk_at dksX3_heldBy_1 4 rfl rfl)
theorem dX3_heldBy_27 : decode cX3_heldBy 27 = .ok (.iinc 2 1, 3) := dk_132 2 1 (dk_at dksX3_heldBy_1 5 rfl rfl)
theorem dX3_heldBy_30 : decode cX3_heldBy 30 = .ok (.goto (-28), 3) := dk_167 255 228 (dk_at dksX3_heldBy_1 8 rfl rfl)
theorem dX3_heldBy_33 : decode cX3_heldBy 33 = .ok (.iconst (-1), 1) := dk_2 (dk_at dksX3_heldBy_1 11 rfl rfl)
theorem dX3_heldBy_34 : decode cX3_heldBy 34 = .ok (.ireturn, 1) := dk_172 (dk_at dksX3_heldBy_1 12 rfl rfl)
abbrev cX3_settle : ByteArray := prog_23_method_34_code
def yX3_settle : MethodName := ⟨RX3, "settle", "()I"⟩
def dkwX3_settle_0 : List UInt8 := [42, 182, 0, 85, 42, 42, 182, 0, 148, 4, 182, 0, 91, 172]
abbrev dktX3_settle_0 : List UInt8 := dkwX3_settle_0 ++ []
theorem dksX3_settle_0 : cX3_settle.data.toList.drop 0 = dktX3_settle_0 := by decide +kernel
theorem dX3_settle_0 : decode cX3_settle 0 = .ok (.aload_n 0, 1) := dk_42 (dk_at dksX3_settle_0 0 rfl rfl)
theorem dX3_settle_1 : decode cX3_settle 1 = .ok (.invokevirtual 85, 3) := dk_182 0 85 (dk_at dksX3_settle_0 1 rfl rfl)
theorem dX3_settle_4 : decode cX3_settle 4 = .ok (.aload_n 0, 1) := dk_42 (dk_at dksX3_settle_0 4 rfl rfl)
theorem dX3_settle_5 : decode cX3_settle 5 = .ok (.aload_n 0, 1) := dk_42 (dk_at dksX3_settle_0 5 rfl rfl)
theorem dX3_settle_6 : decode cX3_settle 6 = .ok (.invokevirtual 148, 3) := dk_182 0 148 (dk_at dksX3_settle_0 6 rfl rfl)
theorem dX3_settle_9 : decode cX3_settle 9 = .ok (.iconst 1, 1) := dk_4 (dk_at dksX3_settle_0 9 rfl rfl)
theorem dX3_settle_10 : decode cX3_settle 10 = .ok (.invokevirtual 91, 3) := dk_182 0 91 (dk_at dksX3_settle_0 10 rfl rfl)
theorem dX3_settle_13 : decode cX3_settle 13 = .ok (.ireturn, 1) := dk_172 (dk_at dksX3_settle_0 13 rfl rfl)
abbrev cX3_settlesNow : ByteArray := prog_23_method_33_code
def yX3_settlesNow : MethodName := ⟨RX3, "settlesNow", "()Z"⟩
def dkwX3_settlesNow_2 : List UInt8 := [96, 79, 4, 172]
abbrev dktX3_settlesNow_2 : List UInt8 := dkwX3_settlesNow_2 ++ []
def dkwX3_settlesNow_1 : List UInt8 := [182, 0, 74, 153, 0, 5, 3, 172, 42, 42, 182, 0, 145, 181, 0, 43, 42, 180, 0, 9, 8, 92, 46, 4]
abbrev dktX3_settlesNow_1 : List UInt8 := dkwX3_settlesNow_1 ++ dktX3_settlesNow_2
def dkwX3_settlesNow_0 : List UInt8 := [42, 182, 0, 136, 42, 42, 180, 0, 139, 154, 0, 7, 4, 167, 0, 4, 3, 16, 8, 42, 182, 0, 142]
abbrev dktX3_settlesNow_0 : List UInt8 := dkwX3_settlesNow_0 ++ dktX3_settlesNow_1
theorem dksX3_settlesNow_0 : cX3_settlesNow.data.toList.drop 0 = dktX3_settlesNow_0 := by decide +kernel
theorem dksX3_settlesNow_1 : cX3_settlesNow.data.toList.drop 23 = dktX3_settlesNow_1 := dk_seg dksX3_settlesNow_0 23 rfl rfl
theorem dksX3_settlesNow_2 : cX3_settlesNow.data.toList.drop 47 = dktX3_settlesNow_2 := dk_seg dksX3_settlesNow_1 24 rfl rfl
theorem dX3_settlesNow_0 : decode cX3_settlesNow 0 = .ok (.aload_n 0, 1) := dk_42 (dk_at dksX3_settlesNow_0 0 rfl rfl)
theorem dX3_settlesNow_1 : decode cX3_settlesNow 1 = .ok (.invokevirtual 136, 3) := dk_182 0 136 (dk_at dksX3_settlesNow_0 1 rfl rfl)
theorem dX3_settlesNow_4 : decode cX3_settlesNow 4 = .ok (.aload_n 0, 1) := dk_42 (dk_at dksX3_settlesNow_0 4 rfl rfl)
theorem dX3_settlesNow_5 : decode cX3_settlesNow 5 = .ok (.aload_n 0, 1) := dk_42 (dk_at dksX3_settlesNow_0 5 rfl rfl)
theorem dX3_settlesNow_6 : decode cX3_settlesNow 6 = .ok (.getfield 139, 3) := dk_180 0 139 (dk_at dksX3_settlesNow_0 6 rfl rfl)
theorem dX3_settlesNow_9 : decode cX3_settlesNow 9 = .ok (.ifCond .ne 7, 3) := dk_154 0 7 (dk_at dksX3_settlesNow_0 9 rfl rfl)
theorem dX3_settlesNow_12 : decode cX3_settlesNow 12 = .ok (.iconst 1, 1) := dk_4 (dk_at dksX3_settlesNow_0 12 rfl rfl)
theorem dX3_settlesNow_13 : decode cX3_settlesNow 13 = .ok (.goto 4, 3) := dk_167 0 4 (dk_at dksX3_settlesNow_0 13 rfl rfl)
theorem dX3_settlesNow_16 : decode cX3_settlesNow 16 = .ok (.iconst 0, 1) := dk_3 (dk_at dksX3_settlesNow_0 16 rfl rfl)
theorem dX3_settlesNow_17 : decode cX3_settlesNow 17 = .ok (.bipush 8, 2) := dk_16 8 (dk_at dksX3_settlesNow_0 17 rfl rfl)
theorem dX3_settlesNow_19 : decode cX3_settlesNow 19 = .ok (.aload_n 0, 1) := dk_42 (dk_at dksX3_settlesNow_0 19 rfl rfl)
theorem dX3_settlesNow_20 : decode cX3_settlesNow 20 = .ok (.invokevirtual 142, 3) := dk_182 0 142 (dk_at dksX3_settlesNow_0 20 rfl rfl)
theorem dX3_settlesNow_23 : decode cX3_settlesNow 23 = .ok (.invokevirtual 74, 3) := dk_182 0 74 (dk_at dksX3_settlesNow_1 0 rfl rfl)
theorem dX3_settlesNow_26 : decode cX3_settlesNow 26 = .ok (.ifCond .eq 5, 3) := dk_153 0 5 (dk_at dksX3_settlesNow_1 3 rfl rfl)
theorem dX3_settlesNow_29 : decode cX3_settlesNow 29 = .ok (.iconst 0, 1) := dk_3 (dk_at dksX3_settlesNow_1 6 rfl rfl)
theorem dX3_settlesNow_30 : decode cX3_settlesNow 30 = .ok (.ireturn, 1) := dk_172 (dk_at dksX3_settlesNow_1 7 rfl rfl)
theorem dX3_settlesNow_31 : decode cX3_settlesNow 31 = .ok (.aload_n 0, 1) := dk_42 (dk_at dksX3_settlesNow_1 8 rfl rfl)
theorem dX3_settlesNow_32 : decode cX3_settlesNow 32 = .ok (.aload_n 0, 1) := dk_42 (dk_at dksX3_settlesNow_1 9 rfl rfl)
theorem dX3_settlesNow_33 : decode cX3_settlesNow 33 = .ok (.invokevirtual 145, 3) := dk_182 0 145 (dk_at dksX3_settlesNow_1 10 rfl rfl)
theorem dX3_settlesNow_36 : decode cX3_settlesNow 36 = .ok (.putfield 43, 3) := dk_181 0 43 (dk_at dksX3_settlesNow_1 13 rfl rfl)
theorem dX3_settlesNow_39 : decode cX3_settlesNow 39 = .ok (.aload_n 0, 1) := dk_42 (dk_at dksX3_settlesNow_1 16 rfl rfl)
theorem dX3_settlesNow_40 : decode cX3_settlesNow 40 = .ok (.getfield 9, 3) := dk_180 0 9 (dk_at dksX3_settlesNow_1 17 rfl rfl)
theorem dX3_settlesNow_43 : decode cX3_settlesNow 43 = .ok (.iconst 5, 1) := dk_8 (dk_at dksX3_settlesNow_1 20 rfl rfl)
theorem dX3_settlesNow_44 : decode cX3_settlesNow 44 = .ok (.dup2, 1) := dk_92 (dk_at dksX3_settlesNow_1 21 rfl rfl)
theorem dX3_settlesNow_45 : decode cX3_settlesNow 45 = .ok (.iaload, 1) := dk_46 (dk_at dksX3_settlesNow_1 22 rfl rfl)
theorem dX3_settlesNow_46 : decode cX3_settlesNow 46 = .ok (.iconst 1, 1) := dk_4 (dk_at dksX3_settlesNow_1 23 rfl rfl)
theorem dX3_settlesNow_47 : decode cX3_settlesNow 47 = .ok (.iadd, 1) := dk_96 (dk_at dksX3_settlesNow_2 0 rfl rfl)
theorem dX3_settlesNow_48 : decode cX3_settlesNow 48 = .ok (.iastore, 1) := dk_79 (dk_at dksX3_settlesNow_2 1 rfl rfl)
theorem dX3_settlesNow_49 : decode cX3_settlesNow 49 = .ok (.iconst 1, 1) := dk_4 (dk_at dksX3_settlesNow_2 2 rfl rfl)
theorem dX3_settlesNow_50 : decode cX3_settlesNow 50 = .ok (.ireturn, 1) := dk_172 (dk_at dksX3_settlesNow_2 3 rfl rfl)
abbrev cX3_looks : ByteArray := prog_23_method_44_code
def yX3_looks : MethodName := ⟨RX3, "looks", "()V"⟩
def dkwX3_looks_0 : List UInt8 := [42, 2, 2, 182, 0, 177, 177]
abbrev dktX3_looks_0 : List UInt8 := dkwX3_looks_0 ++ []
theorem dksX3_looks_0 : cX3_looks.data.toList.drop 0 = dktX3_looks_0 := by decide +kernel
theorem dX3_looks_0 : decode cX3_looks 0 = .ok (.aload_n 0, 1) := dk_42 (dk_at dksX3_looks_0 0 rfl rfl)
theorem dX3_looks_1 : decode cX3_looks 1 = .ok (.iconst (-1), 1) := dk_2 (dk_at dksX3_looks_0 1 rfl rfl)
theorem dX3_looks_2 : decode cX3_looks 2 = .ok (.iconst (-1), 1) := dk_2 (dk_at dksX3_looks_0 2 rfl rfl)
theorem dX3_looks_3 : decode cX3_looks 3 = .ok (.invokevirtual 177, 3) := dk_182 0 177 (dk_at dksX3_looks_0 3 rfl rfl)
theorem dX3_looks_6 : decode cX3_looks 6 = .ok (.return_, 1) := dk_177 (dk_at dksX3_looks_0 6 rfl rfl)
abbrev cX3_looksWith : ByteArray := prog_23_method_43_code
def yX3_looksWith : MethodName := ⟨RX3, "looksWith", "(II)V"⟩
def dkwX3_looksWith_1 : List UInt8 := [177]
abbrev dktX3_looksWith_1 : List UInt8 := dkwX3_looksWith_1 ++ []
def dkwX3_looksWith_0 : List UInt8 := [42, 3, 181, 0, 139, 42, 3, 181, 0, 163, 42, 18, 115, 181, 0, 160, 42, 3, 3, 27, 28, 182, 0, 173]
abbrev dktX3_looksWith_0 : List UInt8 := dkwX3_looksWith_0 ++ dktX3_looksWith_1
theorem dksX3_looksWith_0 : cX3_looksWith.data.toList.drop 0 = dktX3_looksWith_0 := by decide +kernel
theorem dksX3_looksWith_1 : cX3_looksWith.data.toList.drop 24 = dktX3_looksWith_1 := dk_seg dksX3_looksWith_0 24 rfl rfl
theorem dX3_looksWith_0 : decode cX3_looksWith 0 = .ok (.aload_n 0, 1) := dk_42 (dk_at dksX3_looksWith_0 0 rfl rfl)
theorem dX3_looksWith_1 : decode cX3_looksWith 1 = .ok (.iconst 0, 1) := dk_3 (dk_at dksX3_looksWith_0 1 rfl rfl)
theorem dX3_looksWith_2 : decode cX3_looksWith 2 = .ok (.putfield 139, 3) := dk_181 0 139 (dk_at dksX3_looksWith_0 2 rfl rfl)
theorem dX3_looksWith_5 : decode cX3_looksWith 5 = .ok (.aload_n 0, 1) := dk_42 (dk_at dksX3_looksWith_0 5 rfl rfl)
theorem dX3_looksWith_6 : decode cX3_looksWith 6 = .ok (.iconst 0, 1) := dk_3 (dk_at dksX3_looksWith_0 6 rfl rfl)
theorem dX3_looksWith_7 : decode cX3_looksWith 7 = .ok (.putfield 163, 3) := dk_181 0 163 (dk_at dksX3_looksWith_0 7 rfl rfl)
theorem dX3_looksWith_10 : decode cX3_looksWith 10 = .ok (.aload_n 0, 1) := dk_42 (dk_at dksX3_looksWith_0 10 rfl rfl)
theorem dX3_looksWith_11 : decode cX3_looksWith 11 = .ok (.ldc 115, 2) := dk_18 115 (dk_at dksX3_looksWith_0 11 rfl rfl)
theorem dX3_looksWith_13 : decode cX3_looksWith 13 = .ok (.putfield 160, 3) := dk_181 0 160 (dk_at dksX3_looksWith_0 13 rfl rfl)
theorem dX3_looksWith_16 : decode cX3_looksWith 16 = .ok (.aload_n 0, 1) := dk_42 (dk_at dksX3_looksWith_0 16 rfl rfl)
theorem dX3_looksWith_17 : decode cX3_looksWith 17 = .ok (.iconst 0, 1) := dk_3 (dk_at dksX3_looksWith_0 17 rfl rfl)
theorem dX3_looksWith_18 : decode cX3_looksWith 18 = .ok (.iconst 0, 1) := dk_3 (dk_at dksX3_looksWith_0 18 rfl rfl)
theorem dX3_looksWith_19 : decode cX3_looksWith 19 = .ok (.iload_n 1, 1) := dk_27 (dk_at dksX3_looksWith_0 19 rfl rfl)
theorem dX3_looksWith_20 : decode cX3_looksWith 20 = .ok (.iload_n 2, 1) := dk_28 (dk_at dksX3_looksWith_0 20 rfl rfl)
theorem dX3_looksWith_21 : decode cX3_looksWith 21 = .ok (.invokevirtual 173, 3) := dk_182 0 173 (dk_at dksX3_looksWith_0 21 rfl rfl)
theorem dX3_looksWith_24 : decode cX3_looksWith 24 = .ok (.return_, 1) := dk_177 (dk_at dksX3_looksWith_1 0 rfl rfl)
abbrev cX3_goes : ByteArray := prog_23_method_42_code
def yX3_goes : MethodName := ⟨RX3, "goes", "(IIII)V"⟩
def dkwX3_goes_4 : List UInt8 := [182, 0, 173, 132, 5, 1, 167, 255, 180, 177]
abbrev dktX3_goes_4 : List UInt8 := dkwX3_goes_4 ++ []
def dkwX3_goes_3 : List UInt8 := [180, 0, 13, 27, 21, 5, 79, 42, 27, 4, 96, 28, 42, 27, 21, 5, 182, 0, 62, 96, 29, 21, 4]
abbrev dktX3_goes_3 : List UInt8 := dkwX3_goes_3 ++ dktX3_goes_4
def dkwX3_goes_2 : List UInt8 := [182, 0, 170, 154, 0, 45, 27, 29, 160, 0, 13, 21, 5, 21, 4, 159, 0, 6, 167, 0, 30, 42]
abbrev dktX3_goes_2 : List UInt8 := dkwX3_goes_2 ++ dktX3_goes_3
def dkwX3_goes_1 : List UInt8 := [180, 0, 9, 4, 46, 162, 0, 71, 42, 27, 21, 5, 182, 0, 102, 154, 0, 55, 42, 27, 21, 5]
abbrev dktX3_goes_1 : List UInt8 := dkwX3_goes_1 ++ dktX3_goes_2
def dkwX3_goes_0 : List UInt8 := [27, 42, 180, 0, 9, 3, 46, 160, 0, 9, 42, 28, 182, 0, 166, 177, 3, 54, 5, 21, 5, 42]
abbrev dktX3_goes_0 : List UInt8 := dkwX3_goes_0 ++ dktX3_goes_1
theorem dksX3_goes_0 : cX3_goes.data.toList.drop 0 = dktX3_goes_0 := by decide +kernel
theorem dksX3_goes_1 : cX3_goes.data.toList.drop 22 = dktX3_goes_1 := dk_seg dksX3_goes_0 22 rfl rfl
theorem dksX3_goes_2 : cX3_goes.data.toList.drop 44 = dktX3_goes_2 := dk_seg dksX3_goes_1 22 rfl rfl
theorem dksX3_goes_3 : cX3_goes.data.toList.drop 66 = dktX3_goes_3 := dk_seg dksX3_goes_2 22 rfl rfl
theorem dksX3_goes_4 : cX3_goes.data.toList.drop 89 = dktX3_goes_4 := dk_seg dksX3_goes_3 23 rfl rfl
theorem dX3_goes_0 : decode cX3_goes 0 = .ok (.iload_n 1, 1) := dk_27 (dk_at dksX3_goes_0 0 rfl rfl)
theorem dX3_goes_1 : decode cX3_goes 1 = .ok (.aload_n 0, 1) := dk_42 (dk_at dksX3_goes_0 1 rfl rfl)
theorem dX3_goes_2 : decode cX3_goes 2 = .ok (.getfield 9, 3) := dk_180 0 9 (dk_at dksX3_goes_0 2 rfl rfl)
theorem dX3_goes_5 : decode cX3_goes 5 = .ok (.iconst 0, 1) := dk_3 (dk_at dksX3_goes_0 5 rfl rfl)
theorem dX3_goes_6 : decode cX3_goes 6 = .ok (.iaload, 1) := dk_46 (dk_at dksX3_goes_0 6 rfl rfl)
theorem dX3_goes_7 : decode cX3_goes 7 = .ok (.if_icmp .ne 9, 3) := dk_160 0 9 (dk_at dksX3_goes_0 7 rfl rfl)
theorem dX3_goes_10 : decode cX3_goes 10 = .ok (.aload_n 0, 1) := dk_42 (dk_at dksX3_goes_0 10 rfl rfl)
theorem dX3_goes_11 : decode cX3_goes 11 = .ok (.iload_n 2, 1) := dk_28 (dk_at dksX3_goes_0 11 rfl rfl)
theorem dX3_goes_12 : decode cX3_goes 12 = .ok (.invokevirtual 166, 3) := dk_182 0 166 (dk_at dksX3_goes_0 12 rfl rfl)
theorem dX3_goes_15 : decode cX3_goes 15 = .ok (.return_, 1) := dk_177 (dk_at dksX3_goes_0 15 rfl rfl)
theorem dX3_goes_16 : decode cX3_goes 16 = .ok (.iconst 0, 1) := dk_3 (dk_at dksX3_goes_0 16 rfl rfl)
theorem dX3_goes_17 : decode cX3_goes 17 = .ok (.istore 5, 2) := dk_54 5 (dk_at dksX3_goes_0 17 rfl rfl)
theorem dX3_goes_19 : decode cX3_goes 19 = .ok (.iload 5, 2) := dk_21 5 (dk_at dksX3_goes_0 19 rfl rfl)
theorem dX3_goes_21 : decode cX3_goes 21 = .ok (.aload_n 0, 1) := dk_42 (dk_at dksX3_goes_0 21 rfl rfl)
theorem dX3_goes_22 : decode cX3_goes 22 = .ok (.getfield 9, 3) := dk_180 0 9 (dk_at dksX3_goes_1 0 rfl rfl)
theorem dX3_goes_25 : decode cX3_goes 25 = .ok (.iconst 1, 1) := dk_4 (dk_at dksX3_goes_1 3 rfl rfl)
theorem dX3_goes_26 : decode cX3_goes 26 = .ok (.iaload, 1) := dk_46 (dk_at dksX3_goes_1 4 rfl rfl)
theorem dX3_goes_27 : decode cX3_goes 27 = .ok (.if_icmp .ge 71, 3) := dk_162 0 71 (dk_at dksX3_goes_1 5 rfl rfl)
theorem dX3_goes_30 : decode cX3_goes 30 = .ok (.aload_n 0, 1) := dk_42 (dk_at dksX3_goes_1 8 rfl rfl)
theorem dX3_goes_31 : decode cX3_goes 31 = .ok (.iload_n 1, 1) := dk_27 (dk_at dksX3_goes_1 9 rfl rfl)
theorem dX3_goes_32 : decode cX3_goes 32 = .ok (.iload 5, 2) := dk_21 5 (dk_at dksX3_goes_1 10 rfl rfl)
theorem dX3_goes_34 : decode cX3_goes 34 = .ok (.invokevirtual 102, 3) := dk_182 0 102 (dk_at dksX3_goes_1 12 rfl rfl)
theorem dX3_goes_37 : decode cX3_goes 37 = .ok (.ifCond .ne 55, 3) := dk_154 0 55 (dk_at dksX3_goes_1 15 rfl rfl)
theorem dX3_goes_40 : decode cX3_goes 40 = .ok (.aload_n 0, 1) := dk_42 (dk_at dksX3_goes_1 18 rfl rfl)
theorem dX3_goes_41 : decode cX3_goes 41 = .ok (.iload_n 1, 1) := dk_27 (dk_at dksX3_goes_1 19 rfl rfl)
theorem dX3_goes_42 : decode cX3_goes 42 = .ok (.iload 5, 2) := dk_21 5 (dk_at dksX3_goes_1 20 rfl rfl)
theorem dX3_goes_44 : decode cX3_goes 44 = .ok (.invokevirtual 170, 3) := dk_182 0 170 (dk_at dksX3_goes_2 0 rfl rfl)
theorem dX3_goes_47 : decode cX3_goes 47 = .ok (.ifCond .ne 45, 3) := dk_154 0 45 (dk_at dksX3_goes_2 3 rfl rfl)
theorem dX3_goes_50 : decode cX3_goes 50 = .ok (.iload_n 1, 1) := dk_27 (dk_at dksX3_goes_2 6 rfl rfl)
theorem dX3_goes_51 : decode cX3_goes 51 = .ok (.iload_n 3, 1) := dk_29 (dk_at dksX3_goes_2 7 rfl rfl)
theorem dX3_goes_52 : decode cX3_goes 52 = .ok (.if_icmp .ne 13, 3) := dk_160 0 13 (dk_at dksX3_goes_2 8 rfl rfl)
theorem dX3_goes_55 : decode cX3_goes 55 = .ok (.iload 5, 2) := dk_21 5 (dk_at dksX3_goes_2 11 rfl rfl)
theorem dX3_goes_57 : decode cX3_goes 57 = .ok (.iload 4, 2) := dk_21 4 (dk_at dksX3_goes_2 13 rfl rfl)
theorem dX3_goes_59 : decode cX3_goes 59 = .ok (.if_icmp .eq 6, 3) := dk_159 0 6 (dk_at dksX3_goes_2 15 rfl rfl)
theorem dX3_goes_62 : decode cX3_goes 62 = .ok (.goto 30, 3) := dk_167 0 30 (dk_at dksX3_goes_2 18 rfl rfl)
theorem dX3_goes_65 : decode cX3_goes 65 = .ok (.aload_n 0, 1) := dk_42 (dk_at dksX3_goes_2 21 rfl rfl)
theorem dX3_goes_66 : decode cX3_goes 66 = .ok (.getfield 13, 3) := dk_180 0 13 (dk_at dksX3_goes_3 0 rfl rfl)
theorem dX3_goes_69 : decode cX3_goes 69 = .ok (.iload_n 1, 1) := dk_27 (dk_at dksX3_goes_3 3 rfl rfl)
theorem dX3_goes_70 : decode cX3_goes 70 = .ok (.iload 5, 2) := dk_21 5 (dk_at dksX3_goes_3 4 rfl rfl)
theorem dX3_goes_72 : decode cX3_goes 72 = .ok (.iastore, 1) := dk_79 (dk_at dksX3_goes_3 6 rfl rfl)
theorem dX3_goes_73 : decode cX3_goes 73 = .ok (.aload_n 0, 1) := dk_42 (dk_at dksX3_goes_3 7 rfl rfl)
theorem dX3_goes_74 : decode cX3_goes 74 = .ok (.iload_n 1, 1) := dk_27 (dk_at dksX3_goes_3 8 rfl rfl)
theorem dX3_goes_75 : decode cX3_goes 75 = .ok (.iconst 1, 1) := dk_4 (dk_at dksX3_goes_3 9 rfl rfl)
theorem dX3_goes_76 : decode cX3_goes 76 = .ok (.iadd, 1) := dk_96 (dk_at dksX3_goes_3 10 rfl rfl)
theorem dX3_goes_77 : decode cX3_goes 77 = .ok (.iload_n 2, 1) := dk_28 (dk_at dksX3_goes_3 11 rfl rfl)
theorem dX3_goes_78 : decode cX3_goes 78 = .ok (.aload_n 0, 1) := dk_42 (dk_at dksX3_goes_3 12 rfl rfl)
theorem dX3_goes_79 : decode cX3_goes 79 = .ok (.iload_n 1, 1) := dk_27 (dk_at dksX3_goes_3 13 rfl rfl)
theorem dX3_goes_80 : decode cX3_goes 80 = .ok (.iload 5, 2) := dk_21 5 (dk_at dksX3_goes_3 14 rfl rfl)
theorem dX3_goes_82 : decode cX3_goes 82 = .ok (.invokevirtual 62, 3) := dk_182 0 62 (dk_at dksX3_goes_3 16 rfl rfl)
theorem dX3_goes_85 : decode cX3_goes 85 = .ok (.iadd, 1) := dk_96 (dk_at dksX3_goes_3 19 rfl rfl)
theorem dX3_goes_86 : decode cX3_goes 86 = .ok (.iload_n 3, 1) := dk_29 (dk_at dksX3_goes_3 20 rfl rfl)
theorem dX3_goes_87 : decode cX3_goes 87 = .ok (.iload 4, 2) := dk_21 4 (dk_at dksX3_goes_3 21 rfl rfl)
theorem dX3_goes_89 : decode cX3_goes 89 = .ok (.invokevirtual 173, 3) := dk_182 0 173 (dk_at dksX3_goes_4 0 rfl rfl)
theorem dX3_goes_92 : decode cX3_goes 92 = .ok (.iinc 5 1, 3) := dk_132 5 1 (dk_at dksX3_goes_4 3 rfl rfl)
theorem dX3_goes_95 : decode cX3_goes 95 = .ok (.goto (-76), 3) := dk_167 255 180 (dk_at dksX3_goes_4 6 rfl rfl)
theorem dX3_goes_98 : decode cX3_goes 98 = .ok (.return_, 1) := dk_177 (dk_at dksX3_goes_4 9 rfl rfl)
abbrev cX3_found : ByteArray := prog_23_method_41_code
def yX3_found : MethodName := ⟨RX3, "found", "(I)V"⟩
def dkwX3_found_3 : List UInt8 := [96, 181, 0, 163, 177]
abbrev dktX3_found_3 : List UInt8 := dkwX3_found_3 ++ []
def dkwX3_found_2 : List UInt8 := [132, 2, 1, 167, 255, 235, 42, 89, 180, 0, 163, 27, 42, 180, 0, 160, 160, 0, 7, 4, 167, 0, 4, 3]
abbrev dktX3_found_2 : List UInt8 := dkwX3_found_2 ++ dktX3_found_3
def dkwX3_found_1 : List UInt8 := [3, 181, 0, 163, 3, 61, 28, 16, 6, 162, 0, 21, 42, 180, 0, 16, 28, 42, 180, 0, 13, 28, 46, 79]
abbrev dktX3_found_1 : List UInt8 := dkwX3_found_1 ++ dktX3_found_2
def dkwX3_found_0 : List UInt8 := [42, 89, 180, 0, 139, 4, 96, 181, 0, 139, 27, 42, 180, 0, 160, 162, 0, 39, 42, 27, 181, 0, 160, 42]
abbrev dktX3_found_0 : List UInt8 := dkwX3_found_0 ++ dktX3_found_1
theorem dksX3_found_0 : cX3_found.data.toList.drop 0 = dktX3_found_0 := by decide +kernel
theorem dksX3_found_1 : cX3_found.data.toList.drop 24 = dktX3_found_1 := dk_seg dksX3_found_0 24 rfl rfl
theorem dksX3_found_2 : cX3_found.data.toList.drop 48 = dktX3_found_2 := dk_seg dksX3_found_1 24 rfl rfl
theorem dksX3_found_3 : cX3_found.data.toList.drop 72 = dktX3_found_3 := dk_seg dksX3_found_2 24 rfl rfl
theorem dX3_found_0 : decode cX3_found 0 = .ok (.aload_n 0, 1) := dk_42 (dk_at dksX3_found_0 0 rfl rfl)
theorem dX3_found_1 : decode cX3_found 1 = .ok (.dup, 1) := dk_89 (dk_at dksX3_found_0 1 rfl rfl)
theorem dX3_found_2 : decode cX3_found 2 = .ok (.getfield 139, 3) := dk_180 0 139 (dk_at dksX3_found_0 2 rfl rfl)
theorem dX3_found_5 : decode cX3_found 5 = .ok (.iconst 1, 1) := dk_4 (dk_at dksX3_found_0 5 rfl rfl)
theorem dX3_found_6 : decode cX3_found 6 = .ok (.iadd, 1) := dk_96 (dk_at dksX3_found_0 6 rfl rfl)
theorem dX3_found_7 : decode cX3_found 7 = .ok (.putfield 139, 3) := dk_181 0 139 (dk_at dksX3_found_0 7 rfl rfl)
theorem dX3_found_10 : decode cX3_found 10 = .ok (.iload_n 1, 1) := dk_27 (dk_at dksX3_found_0 10 rfl rfl)
theorem dX3_found_11 : decode cX3_found 11 = .ok (.aload_n 0, 1) := dk_42 (dk_at dksX3_found_0 11 rfl rfl)
theorem dX3_found_12 : decode cX3_found 12 = .ok (.getfield 160, 3) := dk_180 0 160 (dk_at dksX3_found_0 12 rfl rfl)
theorem dX3_found_15 : decode cX3_found 15 = .ok (.if_icmp .ge 39, 3) := dk_162 0 39 (dk_at dksX3_found_0 15 rfl rfl)
theorem dX3_found_18 : decode cX3_found 18 = .ok (.aload_n 0, 1) := dk_42 (dk_at dksX3_found_0 18 rfl rfl)
theorem dX3_found_19 : decode cX3_found 19 = .ok (.iload_n 1, 1) := dk_27 (dk_at dksX3_found_0 19 rfl rfl)
theorem dX3_found_20 : decode cX3_found 20 = .ok (.putfield 160, 3) := dk_181 0 160 (dk_at dksX3_found_0 20 rfl rfl)
theorem dX3_found_23 : decode cX3_found 23 = .ok (.aload_n 0, 1) := dk_42 (dk_at dksX3_found_0 23 rfl rfl)
theorem dX3_found_24 : decode cX3_found 24 = .ok (.iconst 0, 1) := dk_3 (dk_at dksX3_found_1 0 rfl rfl)
theorem dX3_found_25 : decode cX3_found 25 = .ok (.putfield 163, 3) := dk_181 0 163 (dk_at dksX3_found_1 1 rfl rfl)
theorem dX3_found_28 : decode cX3_found 28 = .ok (.iconst 0, 1) := dk_3 (dk_at dksX3_found_1 4 rfl rfl)
theorem dX3_found_29 : decode cX3_found 29 = .ok (.istore_n 2, 1) := dk_61 (dk_at dksX3_found_1 5 rfl rfl)
theorem dX3_found_30 : decode cX3_found 30 = .ok (.iload_n 2, 1) := dk_28 (dk_at dksX3_found_1 6 rfl rfl)
theorem dX3_found_31 : decode cX3_found 31 = .ok (.bipush 6, 2) := dk_16 6 (dk_at dksX3_found_1 7 rfl rfl)
theorem dX3_found_33 : decode cX3_found 33 = .ok (.if_icmp .ge 21, 3) := dk_162 0 21 (dk_at dksX3_found_1 9 rfl rfl)
theorem dX3_found_36 : decode cX3_found 36 = .ok (.aload_n 0, 1) := dk_42 (dk_at dksX3_found_1 12 rfl rfl)
theorem dX3_found_37 : decode cX3_found 37 = .ok (.getfield 16, 3) := dk_180 0 16 (dk_at dksX3_found_1 13 rfl rfl)
theorem dX3_found_40 : decode cX3_found 40 = .ok (.iload_n 2, 1) := dk_28 (dk_at dksX3_found_1 16 rfl rfl)
theorem dX3_found_41 : decode cX3_found 41 = .ok (.aload_n 0, 1) := dk_42 (dk_at dksX3_found_1 17 rfl rfl)
theorem dX3_found_42 : decode cX3_found 42 = .ok (.getfield 13, 3) := dk_180 0 13 (dk_at dksX3_found_1 18 rfl rfl)
theorem dX3_found_45 : decode cX3_found 45 = .ok (.iload_n 2, 1) := dk_28 (dk_at dksX3_found_1 21 rfl rfl)
theorem dX3_found_46 : decode cX3_found 46 = .ok (.iaload, 1) := dk_46 (dk_at dksX3_found_1 22 rfl rfl)
theorem dX3_found_47 : decode cX3_found 47 = .ok (.iastore, 1) := dk_79 (dk_at dksX3_found_1 23 rfl rfl)
theorem dX3_found_48 : decode cX3_found 48 = .ok (.iinc 2 1, 3) := dk_132 2 1 (dk_at dksX3_found_2 0 rfl rfl)
theorem dX3_found_51 : decode cX3_found 51 = .ok (.goto (-21), 3) := dk_167 255 235 (dk_at dksX3_found_2 3 rfl rfl)
theorem dX3_found_54 : decode cX3_found 54 = .ok (.aload_n 0, 1) := dk_42 (dk_at dksX3_found_2 6 rfl rfl)
theorem dX3_found_55 : decode cX3_found 55 = .ok (.dup, 1) := dk_89 (dk_at dksX3_found_2 7 rfl rfl)
theorem dX3_found_56 : decode cX3_found 56 = .ok (.getfield 163, 3) := dk_180 0 163 (dk_at dksX3_found_2 8 rfl rfl)
theorem dX3_found_59 : decode cX3_found 59 = .ok (.iload_n 1, 1) := dk_27 (dk_at dksX3_found_2 11 rfl rfl)
theorem dX3_found_60 : decode cX3_found 60 = .ok (.aload_n 0, 1) := dk_42 (dk_at dksX3_found_2 12 rfl rfl)
theorem dX3_found_61 : decode cX3_found 61 = .ok (.getfield 160, 3) := dk_180 0 160 (dk_at dksX3_found_2 13 rfl rfl)
theorem dX3_found_64 : decode cX3_found 64 = .ok (.if_icmp .ne 7, 3) := dk_160 0 7 (dk_at dksX3_found_2 16 rfl rfl)
theorem dX3_found_67 : decode cX3_found 67 = .ok (.iconst 1, 1) := dk_4 (dk_at dksX3_found_2 19 rfl rfl)
theorem dX3_found_68 : decode cX3_found 68 = .ok (.goto 4, 3) := dk_167 0 4 (dk_at dksX3_found_2 20 rfl rfl)
theorem dX3_found_71 : decode cX3_found 71 = .ok (.iconst 0, 1) := dk_3 (dk_at dksX3_found_2 23 rfl rfl)
theorem dX3_found_72 : decode cX3_found 72 = .ok (.iadd, 1) := dk_96 (dk_at dksX3_found_3 0 rfl rfl)
theorem dX3_found_73 : decode cX3_found 73 = .ok (.putfield 163, 3) := dk_181 0 163 (dk_at dksX3_found_3 1 rfl rfl)
theorem dX3_found_76 : decode cX3_found 76 = .ok (.return_, 1) := dk_177 (dk_at dksX3_found_3 4 rfl rfl)
abbrev cX3_isTaken : ByteArray := prog_23_method_40_code
def yX3_isTaken : MethodName := ⟨RX3, "isTaken", "(II)Z"⟩
def dkwX3_isTaken_1 : List UInt8 := [167, 255, 236, 3, 172]
abbrev dktX3_isTaken_1 : List UInt8 := dkwX3_isTaken_1 ++ []
def dkwX3_isTaken_0 : List UInt8 := [3, 62, 29, 27, 162, 0, 21, 42, 180, 0, 13, 29, 46, 28, 160, 0, 5, 4, 172, 132, 3, 1]
abbrev dktX3_isTaken_0 : List UInt8 := dkwX3_isTaken_0 ++ dktX3_isTaken_1
theorem dksX3_isTaken_0 : cX3_isTaken.data.toList.drop 0 = dktX3_isTaken_0 := by decide +kernel
theorem dksX3_isTaken_1 : cX3_isTaken.data.toList.drop 22 = dktX3_isTaken_1 := dk_seg dksX3_isTaken_0 22 rfl rfl
theorem dX3_isTaken_0 : decode cX3_isTaken 0 = .ok (.iconst 0, 1) := dk_3 (dk_at dksX3_isTaken_0 0 rfl rfl)
theorem dX3_isTaken_1 : decode cX3_isTaken 1 = .ok (.istore_n 3, 1) := dk_62 (dk_at dksX3_isTaken_0 1 rfl rfl)
theorem dX3_isTaken_2 : decode cX3_isTaken 2 = .ok (.iload_n 3, 1) := dk_29 (dk_at dksX3_isTaken_0 2 rfl rfl)
theorem dX3_isTaken_3 : decode cX3_isTaken 3 = .ok (.iload_n 1, 1) := dk_27 (dk_at dksX3_isTaken_0 3 rfl rfl)
theorem dX3_isTaken_4 : decode cX3_isTaken 4 = .ok (.if_icmp .ge 21, 3) := dk_162 0 21 (dk_at dksX3_isTaken_0 4 rfl rfl)
theorem dX3_isTaken_7 : decode cX3_isTaken 7 = .ok (.aload_n 0, 1) := dk_42 (dk_at dksX3_isTaken_0 7 rfl rfl)
theorem dX3_isTaken_8 : decode cX3_isTaken 8 = .ok (.getfield 13, 3) := dk_180 0 13 (dk_at dksX3_isTaken_0 8 rfl rfl)
theorem dX3_isTaken_11 : decode cX3_isTaken 11 = .ok (.iload_n 3, 1) := dk_29 (dk_at dksX3_isTaken_0 11 rfl rfl)
theorem dX3_isTaken_12 : decode cX3_isTaken 12 = .ok (.iaload, 1) := dk_46 (dk_at dksX3_isTaken_0 12 rfl rfl)
theorem dX3_isTaken_13 : decode cX3_isTaken 13 = .ok (.iload_n 2, 1) := dk_28 (dk_at dksX3_isTaken_0 13 rfl rfl)
theorem dX3_isTaken_14 : decode cX3_isTaken 14 = .ok (.if_icmp .ne 5, 3) := dk_160 0 5 (dk_at dksX3_isTaken_0 14 rfl rfl)
theorem dX3_isTaken_17 : decode cX3_isTaken 17 = .ok (.iconst 1, 1) := dk_4 (dk_at dksX3_isTaken_0 17 rfl rfl)
theorem dX3_isTaken_18 : decode cX3_isTaken 18 = .ok (.ireturn, 1) := dk_172 (dk_at dksX3_isTaken_0 18 rfl rfl)
theorem dX3_isTaken_19 : decode cX3_isTaken 19 = .ok (.iinc 3 1, 3) := dk_132 3 1 (dk_at dksX3_isTaken_0 19 rfl rfl)
theorem dX3_isTaken_22 : decode cX3_isTaken 22 = .ok (.goto (-20), 3) := dk_167 255 236 (dk_at dksX3_isTaken_1 0 rfl rfl)
theorem dX3_isTaken_25 : decode cX3_isTaken 25 = .ok (.iconst 0, 1) := dk_3 (dk_at dksX3_isTaken_1 3 rfl rfl)
theorem dX3_isTaken_26 : decode cX3_isTaken 26 = .ok (.ireturn, 1) := dk_172 (dk_at dksX3_isTaken_1 4 rfl rfl)
abbrev cX3_most0 : ByteArray := prog_23_method_46_code
def yX3_most0 : MethodName := ⟨RX3, "most0", "()I"⟩
def dkwX3_most0_0 : List UInt8 := [42, 3, 3, 182, 0, 180, 172]
abbrev dktX3_most0_0 : List UInt8 := dkwX3_most0_0 ++ []
theorem dksX3_most0_0 : cX3_most0.data.toList.drop 0 = dktX3_most0_0 := by decide +kernel
theorem dX3_most0_0 : decode cX3_most0 0 = .ok (.aload_n 0, 1) := dk_42 (dk_at dksX3_most0_0 0 rfl rfl)
theorem dX3_most0_1 : decode cX3_most0 1 = .ok (.iconst 0, 1) := dk_3 (dk_at dksX3_most0_0 1 rfl rfl)
theorem dX3_most0_2 : decode cX3_most0 2 = .ok (.iconst 0, 1) := dk_3 (dk_at dksX3_most0_0 2 rfl rfl)
theorem dX3_most0_3 : decode cX3_most0 3 = .ok (.invokevirtual 180, 3) := dk_182 0 180 (dk_at dksX3_most0_0 3 rfl rfl)
theorem dX3_most0_6 : decode cX3_most0 6 = .ok (.ireturn, 1) := dk_172 (dk_at dksX3_most0_0 6 rfl rfl)
abbrev cX3_mostFrom : ByteArray := prog_23_method_45_code
def yX3_mostFrom : MethodName := ⟨RX3, "mostFrom", "(II)I"⟩
def dkwX3_mostFrom_3 : List UInt8 := [96, 54, 5, 21, 5, 29, 164, 0, 8, 21, 5, 167, 0, 4, 29, 62, 132, 4, 1, 167, 255, 189, 29, 172]
abbrev dktX3_mostFrom_3 : List UInt8 := dkwX3_mostFrom_3 ++ []
def dkwX3_mostFrom_2 : List UInt8 := [122, 4, 126, 4, 160, 0, 6, 167, 0, 33, 4, 42, 27, 4, 96, 28, 4, 21, 4, 120, 128, 182, 0, 180]
abbrev dktX3_mostFrom_2 : List UInt8 := dkwX3_mostFrom_2 ++ dktX3_mostFrom_3
def dkwX3_mostFrom_1 : List UInt8 := [21, 4, 42, 180, 0, 9, 4, 46, 162, 0, 62, 42, 27, 21, 4, 182, 0, 102, 154, 0, 46, 28, 21, 4]
abbrev dktX3_mostFrom_1 : List UInt8 := dkwX3_mostFrom_1 ++ dktX3_mostFrom_2
def dkwX3_mostFrom_0 : List UInt8 := [27, 42, 180, 0, 9, 3, 46, 160, 0, 5, 3, 172, 42, 27, 4, 96, 28, 182, 0, 180, 62, 3, 54, 4]
abbrev dktX3_mostFrom_0 : List UInt8 := dkwX3_mostFrom_0 ++ dktX3_mostFrom_1
theorem dksX3_mostFrom_0 : cX3_mostFrom.data.toList.drop 0 = dktX3_mostFrom_0 := by decide +kernel
theorem dksX3_mostFrom_1 : cX3_mostFrom.data.toList.drop 24 = dktX3_mostFrom_1 := dk_seg dksX3_mostFrom_0 24 rfl rfl
theorem dksX3_mostFrom_2 : cX3_mostFrom.data.toList.drop 48 = dktX3_mostFrom_2 := dk_seg dksX3_mostFrom_1 24 rfl rfl
theorem dksX3_mostFrom_3 : cX3_mostFrom.data.toList.drop 72 = dktX3_mostFrom_3 := dk_seg dksX3_mostFrom_2 24 rfl rfl
theorem dX3_mostFrom_0 : decode cX3_mostFrom 0 = .ok (.iload_n 1, 1) := dk_27 (dk_at dksX3_mostFrom_0 0 rfl rfl)
theorem dX3_mostFrom_1 : decode cX3_mostFrom 1 = .ok (.aload_n 0, 1) := dk_42 (dk_at dksX3_mostFrom_0 1 rfl rfl)
theorem dX3_mostFrom_2 : decode cX3_mostFrom 2 = .ok (.getfield 9, 3) := dk_180 0 9 (dk_at dksX3_mostFrom_0 2 rfl rfl)
theorem dX3_mostFrom_5 : decode cX3_mostFrom 5 = .ok (.iconst 0, 1) := dk_3 (dk_at dksX3_mostFrom_0 5 rfl rfl)
theorem dX3_mostFrom_6 : decode cX3_mostFrom 6 = .ok (.iaload, 1) := dk_46 (dk_at dksX3_mostFrom_0 6 rfl rfl)
theorem dX3_mostFrom_7 : decode cX3_mostFrom 7 = .ok (.if_icmp .ne 5, 3) := dk_160 0 5 (dk_at dksX3_mostFrom_0 7 rfl rfl)
theorem dX3_mostFrom_10 : decode cX3_mostFrom 10 = .ok (.iconst 0, 1) := dk_3 (dk_at dksX3_mostFrom_0 10 rfl rfl)
theorem dX3_mostFrom_11 : decode cX3_mostFrom 11 = .ok (.ireturn, 1) := dk_172 (dk_at dksX3_mostFrom_0 11 rfl rfl)
theorem dX3_mostFrom_12 : decode cX3_mostFrom 12 = .ok (.aload_n 0, 1) := dk_42 (dk_at dksX3_mostFrom_0 12 rfl rfl)
theorem dX3_mostFrom_13 : decode cX3_mostFrom 13 = .ok (.iload_n 1, 1) := dk_27 (dk_at dksX3_mostFrom_0 13 rfl rfl)
theorem dX3_mostFrom_14 : decode cX3_mostFrom 14 = .ok (.iconst 1, 1) := dk_4 (dk_at dksX3_mostFrom_0 14 rfl rfl)
theorem dX3_mostFrom_15 : decode cX3_mostFrom 15 = .ok (.iadd, 1) := dk_96 (dk_at dksX3_mostFrom_0 15 rfl rfl)
theorem dX3_mostFrom_16 : decode cX3_mostFrom 16 = .ok (.iload_n 2, 1) := dk_28 (dk_at dksX3_mostFrom_0 16 rfl rfl)
theorem dX3_mostFrom_17 : decode cX3_mostFrom 17 = .ok (.invokevirtual 180, 3) := dk_182 0 180 (dk_at dksX3_mostFrom_0 17 rfl rfl)
theorem dX3_mostFrom_20 : decode cX3_mostFrom 20 = .ok (.istore_n 3, 1) := dk_62 (dk_at dksX3_mostFrom_0 20 rfl rfl)
theorem dX3_mostFrom_21 : decode cX3_mostFrom 21 = .ok (.iconst 0, 1) := dk_3 (dk_at dksX3_mostFrom_0 21 rfl rfl)
theorem dX3_mostFrom_22 : decode cX3_mostFrom 22 = .ok (.istore 4, 2) := dk_54 4 (dk_at dksX3_mostFrom_0 22 rfl rfl)
theorem dX3_mostFrom_24 : decode cX3_mostFrom 24 = .ok (.iload 4, 2) := dk_21 4 (dk_at dksX3_mostFrom_1 0 rfl rfl)
theorem dX3_mostFrom_26 : decode cX3_mostFrom 26 = .ok (.aload_n 0, 1) := dk_42 (dk_at dksX3_mostFrom_1 2 rfl rfl)
theorem dX3_mostFrom_27 : decode cX3_mostFrom 27 = .ok (.getfield 9, 3) := dk_180 0 9 (dk_at dksX3_mostFrom_1 3 rfl rfl)
theorem dX3_mostFrom_30 : decode cX3_mostFrom 30 = .ok (.iconst 1, 1) := dk_4 (dk_at dksX3_mostFrom_1 6 rfl rfl)
theorem dX3_mostFrom_31 : decode cX3_mostFrom 31 = .ok (.iaload, 1) := dk_46 (dk_at dksX3_mostFrom_1 7 rfl rfl)
theorem dX3_mostFrom_32 : decode cX3_mostFrom 32 = .ok (.if_icmp .ge 62, 3) := dk_162 0 62 (dk_at dksX3_mostFrom_1 8 rfl rfl)
theorem dX3_mostFrom_35 : decode cX3_mostFrom 35 = .ok (.aload_n 0, 1) := dk_42 (dk_at dksX3_mostFrom_1 11 rfl rfl)
theorem dX3_mostFrom_36 : decode cX3_mostFrom 36 = .ok (.iload_n 1, 1) := dk_27 (dk_at dksX3_mostFrom_1 12 rfl rfl)
theorem dX3_mostFrom_37 : decode cX3_mostFrom 37 = .ok (.iload 4, 2) := dk_21 4 (dk_at dksX3_mostFrom_1 13 rfl rfl)
theorem dX3_mostFrom_39 : decode cX3_mostFrom 39 = .ok (.invokevirtual 102, 3) := dk_182 0 102 (dk_at dksX3_mostFrom_1 15 rfl rfl)
theorem dX3_mostFrom_42 : decode cX3_mostFrom 42 = .ok (.ifCond .ne 46, 3) := dk_154 0 46 (dk_at dksX3_mostFrom_1 18 rfl rfl)
theorem dX3_mostFrom_45 : decode cX3_mostFrom 45 = .ok (.iload_n 2, 1) := dk_28 (dk_at dksX3_mostFrom_1 21 rfl rfl)
theorem dX3_mostFrom_46 : decode cX3_mostFrom 46 = .ok (.iload 4, 2) := dk_21 4 (dk_at dksX3_mostFrom_1 22 rfl rfl)
theorem dX3_mostFrom_48 : decode cX3_mostFrom 48 = .ok (.ishr, 1) := dk_122 (dk_at dksX3_mostFrom_2 0 rfl rfl)
theorem dX3_mostFrom_49 : decode cX3_mostFrom 49 = .ok (.iconst 1, 1) := dk_4 (dk_at dksX3_mostFrom_2 1 rfl rfl)
theorem dX3_mostFrom_50 : decode cX3_mostFrom 50 = .ok (.iand, 1) := dk_126 (dk_at dksX3_mostFrom_2 2 rfl rfl)
theorem dX3_mostFrom_51 : decode cX3_mostFrom 51 = .ok (.iconst 1, 1) := dk_4 (dk_at dksX3_mostFrom_2 3 rfl rfl)
theorem dX3_mostFrom_52 : decode cX3_mostFrom 52 = .ok (.if_icmp .ne 6, 3) := dk_160 0 6 (dk_at dksX3_mostFrom_2 4 rfl rfl)
theorem dX3_mostFrom_55 : decode cX3_mostFrom 55 = .ok (.goto 33, 3) := dk_167 0 33 (dk_at dksX3_mostFrom_2 7 rfl rfl)
theorem dX3_mostFrom_58 : decode cX3_mostFrom 58 = .ok (.iconst 1, 1) := dk_4 (dk_at dksX3_mostFrom_2 10 rfl rfl)
theorem dX3_mostFrom_59 : decode cX3_mostFrom 59 = .ok (.aload_n 0, 1) := dk_42 (dk_at dksX3_mostFrom_2 11 rfl rfl)
theorem dX3_mostFrom_60 : decode cX3_mostFrom 60 = .ok (.iload_n 1, 1) := dk_27 (dk_at dksX3_mostFrom_2 12 rfl rfl)
theorem dX3_mostFrom_61 : decode cX3_mostFrom 61 = .ok (.iconst 1, 1) := dk_4 (dk_at dksX3_mostFrom_2 13 rfl rfl)
theorem dX3_mostFrom_62 : decode cX3_mostFrom 62 = .ok (.iadd, 1) := dk_96 (dk_at dksX3_mostFrom_2 14 rfl rfl)
theorem dX3_mostFrom_63 : decode cX3_mostFrom 63 = .ok (.iload_n 2, 1) := dk_28 (dk_at dksX3_mostFrom_2 15 rfl rfl)
theorem dX3_mostFrom_64 : decode cX3_mostFrom 64 = .ok (.iconst 1, 1) := dk_4 (dk_at dksX3_mostFrom_2 16 rfl rfl)
theorem dX3_mostFrom_65 : decode cX3_mostFrom 65 = .ok (.iload 4, 2) := dk_21 4 (dk_at dksX3_mostFrom_2 17 rfl rfl)
theorem dX3_mostFrom_67 : decode cX3_mostFrom 67 = .ok (.ishl, 1) := dk_120 (dk_at dksX3_mostFrom_2 19 rfl rfl)
theorem dX3_mostFrom_68 : decode cX3_mostFrom 68 = .ok (.ior, 1) := dk_128 (dk_at dksX3_mostFrom_2 20 rfl rfl)
theorem dX3_mostFrom_69 : decode cX3_mostFrom 69 = .ok (.invokevirtual 180, 3) := dk_182 0 180 (dk_at dksX3_mostFrom_2 21 rfl rfl)
theorem dX3_mostFrom_72 : decode cX3_mostFrom 72 = .ok (.iadd, 1) := dk_96 (dk_at dksX3_mostFrom_3 0 rfl rfl)
theorem dX3_mostFrom_73 : decode cX3_mostFrom 73 = .ok (.istore 5, 2) := dk_54 5 (dk_at dksX3_mostFrom_3 1 rfl rfl)
theorem dX3_mostFrom_75 : decode cX3_mostFrom 75 = .ok (.iload 5, 2) := dk_21 5 (dk_at dksX3_mostFrom_3 3 rfl rfl)
theorem dX3_mostFrom_77 : decode cX3_mostFrom 77 = .ok (.iload_n 3, 1) := dk_29 (dk_at dksX3_mostFrom_3 5 rfl rfl)
theorem dX3_mostFrom_78 : decode cX3_mostFrom 78 = .ok (.if_icmp .le 8, 3) := dk_164 0 8 (dk_at dksX3_mostFrom_3 6 rfl rfl)
theorem dX3_mostFrom_81 : decode cX3_mostFrom 81 = .ok (.iload 5, 2) := dk_21 5 (dk_at dksX3_mostFrom_3 9 rfl rfl)
theorem dX3_mostFrom_83 : decode cX3_mostFrom 83 = .ok (.goto 4, 3) := dk_167 0 4 (dk_at dksX3_mostFrom_3 11 rfl rfl)
theorem dX3_mostFrom_86 : decode cX3_mostFrom 86 = .ok (.iload_n 3, 1) := dk_29 (dk_at dksX3_mostFrom_3 14 rfl rfl)
theorem dX3_mostFrom_87 : decode cX3_mostFrom 87 = .ok (.istore_n 3, 1) := dk_62 (dk_at dksX3_mostFrom_3 15 rfl rfl)
theorem dX3_mostFrom_88 : decode cX3_mostFrom 88 = .ok (.iinc 4 1, 3) := dk_132 4 1 (dk_at dksX3_mostFrom_3 16 rfl rfl)
theorem dX3_mostFrom_91 : decode cX3_mostFrom 91 = .ok (.goto (-67), 3) := dk_167 255 189 (dk_at dksX3_mostFrom_3 19 rfl rfl)
theorem dX3_mostFrom_94 : decode cX3_mostFrom 94 = .ok (.iload_n 3, 1) := dk_29 (dk_at dksX3_mostFrom_3 22 rfl rfl)
theorem dX3_mostFrom_95 : decode cX3_mostFrom 95 = .ok (.ireturn, 1) := dk_172 (dk_at dksX3_mostFrom_3 23 rfl rfl)
abbrev cX3_bidsAll : ByteArray := prog_23_method_32_code
def yX3_bidsAll : MethodName := ⟨RX3, "bidsAll", "()I"⟩
def dkwX3_bidsAll_1 : List UInt8 := [132, 1, 1, 42, 182, 0, 122, 61, 167, 255, 237, 27, 172]
abbrev dktX3_bidsAll_1 : List UInt8 := dkwX3_bidsAll_1 ++ []
def dkwX3_bidsAll_0 : List UInt8 := [42, 4, 182, 0, 81, 3, 60, 42, 182, 0, 122, 61, 28, 2, 159, 0, 20, 42, 28, 182, 0, 129, 62]
abbrev dktX3_bidsAll_0 : List UInt8 := dkwX3_bidsAll_0 ++ dktX3_bidsAll_1
theorem dksX3_bidsAll_0 : cX3_bidsAll.data.toList.drop 0 = dktX3_bidsAll_0 := by decide +kernel
theorem dksX3_bidsAll_1 : cX3_bidsAll.data.toList.drop 23 = dktX3_bidsAll_1 := dk_seg dksX3_bidsAll_0 23 rfl rfl
theorem dX3_bidsAll_0 : decode cX3_bidsAll 0 = .ok (.aload_n 0, 1) := dk_42 (dk_at dksX3_bidsAll_0 0 rfl rfl)
theorem dX3_bidsAll_1 : decode cX3_bidsAll 1 = .ok (.iconst 1, 1) := dk_4 (dk_at dksX3_bidsAll_0 1 rfl rfl)
theorem dX3_bidsAll_2 : decode cX3_bidsAll 2 = .ok (.invokevirtual 81, 3) := dk_182 0 81 (dk_at dksX3_bidsAll_0 2 rfl rfl)
theorem dX3_bidsAll_5 : decode cX3_bidsAll 5 = .ok (.iconst 0, 1) := dk_3 (dk_at dksX3_bidsAll_0 5 rfl rfl)
theorem dX3_bidsAll_6 : decode cX3_bidsAll 6 = .ok (.istore_n 1, 1) := dk_60 (dk_at dksX3_bidsAll_0 6 rfl rfl)
theorem dX3_bidsAll_7 : decode cX3_bidsAll 7 = .ok (.aload_n 0, 1) := dk_42 (dk_at dksX3_bidsAll_0 7 rfl rfl)
theorem dX3_bidsAll_8 : decode cX3_bidsAll 8 = .ok (.invokevirtual 122, 3) := dk_182 0 122 (dk_at dksX3_bidsAll_0 8 rfl rfl)
theorem dX3_bidsAll_11 : decode cX3_bidsAll 11 = .ok (.istore_n 2, 1) := dk_61 (dk_at dksX3_bidsAll_0 11 rfl rfl)
theorem dX3_bidsAll_12 : decode cX3_bidsAll 12 = .ok (.iload_n 2, 1) := dk_28 (dk_at dksX3_bidsAll_0 12 rfl rfl)
theorem dX3_bidsAll_13 : decode cX3_bidsAll 13 = .ok (.iconst (-1), 1) := dk_2 (dk_at dksX3_bidsAll_0 13 rfl rfl)
theorem dX3_bidsAll_14 : decode cX3_bidsAll 14 = .ok (.if_icmp .eq 20, 3) := dk_159 0 20 (dk_at dksX3_bidsAll_0 14 rfl rfl)
theorem dX3_bidsAll_17 : decode cX3_bidsAll 17 = .ok (.aload_n 0, 1) := dk_42 (dk_at dksX3_bidsAll_0 17 rfl rfl)
theorem dX3_bidsAll_18 : decode cX3_bidsAll 18 = .ok (.iload_n 2, 1) := dk_28 (dk_at dksX3_bidsAll_0 18 rfl rfl)
theorem dX3_bidsAll_19 : decode cX3_bidsAll 19 = .ok (.invokevirtual 129, 3) := dk_182 0 129 (dk_at dksX3_bidsAll_0 19 rfl rfl)
theorem dX3_bidsAll_22 : decode cX3_bidsAll 22 = .ok (.istore_n 3, 1) := dk_62 (dk_at dksX3_bidsAll_0 22 rfl rfl)
theorem dX3_bidsAll_23 : decode cX3_bidsAll 23 = .ok (.iinc 1 1, 3) := dk_132 1 1 (dk_at dksX3_bidsAll_1 0 rfl rfl)
theorem dX3_bidsAll_26 : decode cX3_bidsAll 26 = .ok (.aload_n 0, 1) := dk_42 (dk_at dksX3_bidsAll_1 3 rfl rfl)
theorem dX3_bidsAll_27 : decode cX3_bidsAll 27 = .ok (.invokevirtual 122, 3) := dk_182 0 122 (dk_at dksX3_bidsAll_1 4 rfl rfl)
theorem dX3_bidsAll_30 : decode cX3_bidsAll 30 = .ok (.istore_n 2, 1) := dk_61 (dk_at dksX3_bidsAll_1 7 rfl rfl)
theorem dX3_bidsAll_31 : decode cX3_bidsAll 31 = .ok (.goto (-19), 3) := dk_167 255 237 (dk_at dksX3_bidsAll_1 8 rfl rfl)
theorem dX3_bidsAll_34 : decode cX3_bidsAll 34 = .ok (.iload_n 1, 1) := dk_27 (dk_at dksX3_bidsAll_1 11 rfl rfl)
theorem dX3_bidsAll_35 : decode cX3_bidsAll 35 = .ok (.ireturn, 1) := dk_172 (dk_at dksX3_bidsAll_1 12 rfl rfl)
abbrev cX3_leave : ByteArray := prog_23_method_36_code
def yX3_leave : MethodName := ⟨RX3, "leave", "(I)I"⟩
def dkwX3_leave_0 : List UInt8 := [42, 182, 0, 85, 42, 42, 27, 182, 0, 151, 4, 182, 0, 91, 172]
abbrev dktX3_leave_0 : List UInt8 := dkwX3_leave_0 ++ []
theorem dksX3_leave_0 : cX3_leave.data.toList.drop 0 = dktX3_leave_0 := by decide +kernel
theorem dX3_leave_0 : decode cX3_leave 0 = .ok (.aload_n 0, 1) := dk_42 (dk_at dksX3_leave_0 0 rfl rfl)
theorem dX3_leave_1 : decode cX3_leave 1 = .ok (.invokevirtual 85, 3) := dk_182 0 85 (dk_at dksX3_leave_0 1 rfl rfl)
theorem dX3_leave_4 : decode cX3_leave 4 = .ok (.aload_n 0, 1) := dk_42 (dk_at dksX3_leave_0 4 rfl rfl)
theorem dX3_leave_5 : decode cX3_leave 5 = .ok (.aload_n 0, 1) := dk_42 (dk_at dksX3_leave_0 5 rfl rfl)
theorem dX3_leave_6 : decode cX3_leave 6 = .ok (.iload_n 1, 1) := dk_27 (dk_at dksX3_leave_0 6 rfl rfl)
theorem dX3_leave_7 : decode cX3_leave 7 = .ok (.invokevirtual 151, 3) := dk_182 0 151 (dk_at dksX3_leave_0 7 rfl rfl)
theorem dX3_leave_10 : decode cX3_leave 10 = .ok (.iconst 1, 1) := dk_4 (dk_at dksX3_leave_0 10 rfl rfl)
theorem dX3_leave_11 : decode cX3_leave 11 = .ok (.invokevirtual 91, 3) := dk_182 0 91 (dk_at dksX3_leave_0 11 rfl rfl)
theorem dX3_leave_14 : decode cX3_leave 14 = .ok (.ireturn, 1) := dk_172 (dk_at dksX3_leave_0 14 rfl rfl)
abbrev cX3_leaves : ByteArray := prog_23_method_35_code
def yX3_leaves : MethodName := ⟨RX3, "leaves", "(I)Z"⟩
def dkwX3_leaves_3 : List UInt8 := [27, 96, 2, 79, 4, 172]
abbrev dktX3_leaves_3 : List UInt8 := dkwX3_leaves_3 ++ []
def dkwX3_leaves_2 : List UInt8 := [153, 0, 5, 3, 172, 42, 42, 180, 0, 9, 16, 84, 27, 96, 46, 181, 0, 43, 42, 180, 0, 9, 16, 84]
abbrev dktX3_leaves_2 : List UInt8 := dkwX3_leaves_2 ++ dktX3_leaves_3
def dkwX3_leaves_1 : List UInt8 := [180, 0, 9, 16, 84, 27, 96, 46, 2, 160, 0, 7, 4, 167, 0, 4, 3, 16, 9, 27, 182, 0, 74]
abbrev dktX3_leaves_1 : List UInt8 := dkwX3_leaves_1 ++ dktX3_leaves_2
def dkwX3_leaves_0 : List UInt8 := [42, 42, 27, 182, 0, 70, 154, 0, 7, 4, 167, 0, 4, 3, 5, 27, 182, 0, 74, 154, 0, 31, 42, 42]
abbrev dktX3_leaves_0 : List UInt8 := dkwX3_leaves_0 ++ dktX3_leaves_1
theorem dksX3_leaves_0 : cX3_leaves.data.toList.drop 0 = dktX3_leaves_0 := by decide +kernel
theorem dksX3_leaves_1 : cX3_leaves.data.toList.drop 24 = dktX3_leaves_1 := dk_seg dksX3_leaves_0 24 rfl rfl
theorem dksX3_leaves_2 : cX3_leaves.data.toList.drop 47 = dktX3_leaves_2 := dk_seg dksX3_leaves_1 23 rfl rfl
theorem dksX3_leaves_3 : cX3_leaves.data.toList.drop 71 = dktX3_leaves_3 := dk_seg dksX3_leaves_2 24 rfl rfl
theorem dX3_leaves_0 : decode cX3_leaves 0 = .ok (.aload_n 0, 1) := dk_42 (dk_at dksX3_leaves_0 0 rfl rfl)
theorem dX3_leaves_1 : decode cX3_leaves 1 = .ok (.aload_n 0, 1) := dk_42 (dk_at dksX3_leaves_0 1 rfl rfl)
theorem dX3_leaves_2 : decode cX3_leaves 2 = .ok (.iload_n 1, 1) := dk_27 (dk_at dksX3_leaves_0 2 rfl rfl)
theorem dX3_leaves_3 : decode cX3_leaves 3 = .ok (.invokevirtual 70, 3) := dk_182 0 70 (dk_at dksX3_leaves_0 3 rfl rfl)
theorem dX3_leaves_6 : decode cX3_leaves 6 = .ok (.ifCond .ne 7, 3) := dk_154 0 7 (dk_at dksX3_leaves_0 6 rfl rfl)
theorem dX3_leaves_9 : decode cX3_leaves 9 = .ok (.iconst 1, 1) := dk_4 (dk_at dksX3_leaves_0 9 rfl rfl)
theorem dX3_leaves_10 : decode cX3_leaves 10 = .ok (.goto 4, 3) := dk_167 0 4 (dk_at dksX3_leaves_0 10 rfl rfl)
theorem dX3_leaves_13 : decode cX3_leaves 13 = .ok (.iconst 0, 1) := dk_3 (dk_at dksX3_leaves_0 13 rfl rfl)
theorem dX3_leaves_14 : decode cX3_leaves 14 = .ok (.iconst 2, 1) := dk_5 (dk_at dksX3_leaves_0 14 rfl rfl)
theorem dX3_leaves_15 : decode cX3_leaves 15 = .ok (.iload_n 1, 1) := dk_27 (dk_at dksX3_leaves_0 15 rfl rfl)
theorem dX3_leaves_16 : decode cX3_leaves 16 = .ok (.invokevirtual 74, 3) := dk_182 0 74 (dk_at dksX3_leaves_0 16 rfl rfl)
theorem dX3_leaves_19 : decode cX3_leaves 19 = .ok (.ifCond .ne 31, 3) := dk_154 0 31 (dk_at dksX3_leaves_0 19 rfl rfl)
theorem dX3_leaves_22 : decode cX3_leaves 22 = .ok (.aload_n 0, 1) := dk_42 (dk_at dksX3_leaves_0 22 rfl rfl)
theorem dX3_leaves_23 : decode cX3_leaves 23 = .ok (.aload_n 0, 1) := dk_42 (dk_at dksX3_leaves_0 23 rfl rfl)
theorem dX3_leaves_24 : decode cX3_leaves 24 = .ok (.getfield 9, 3) := dk_180 0 9 (dk_at dksX3_leaves_1 0 rfl rfl)
theorem dX3_leaves_27 : decode cX3_leaves 27 = .ok (.bipush 84, 2) := dk_16 84 (dk_at dksX3_leaves_1 3 rfl rfl)
theorem dX3_leaves_29 : decode cX3_leaves 29 = .ok (.iload_n 1, 1) := dk_27 (dk_at dksX3_leaves_1 5 rfl rfl)
theorem dX3_leaves_30 : decode cX3_leaves 30 = .ok (.iadd, 1) := dk_96 (dk_at dksX3_leaves_1 6 rfl rfl)
theorem dX3_leaves_31 : decode cX3_leaves 31 = .ok (.iaload, 1) := dk_46 (dk_at dksX3_leaves_1 7 rfl rfl)
theorem dX3_leaves_32 : decode cX3_leaves 32 = .ok (.iconst (-1), 1) := dk_2 (dk_at dksX3_leaves_1 8 rfl rfl)
theorem dX3_leaves_33 : decode cX3_leaves 33 = .ok (.if_icmp .ne 7, 3) := dk_160 0 7 (dk_at dksX3_leaves_1 9 rfl rfl)
theorem dX3_leaves_36 : decode cX3_leaves 36 = .ok (.iconst 1, 1) := dk_4 (dk_at dksX3_leaves_1 12 rfl rfl)
theorem dX3_leaves_37 : decode cX3_leaves 37 = .ok (.goto 4, 3) := dk_167 0 4 (dk_at dksX3_leaves_1 13 rfl rfl)
theorem dX3_leaves_40 : decode cX3_leaves 40 = .ok (.iconst 0, 1) := dk_3 (dk_at dksX3_leaves_1 16 rfl rfl)
theorem dX3_leaves_41 : decode cX3_leaves 41 = .ok (.bipush 9, 2) := dk_16 9 (dk_at dksX3_leaves_1 17 rfl rfl)
theorem dX3_leaves_43 : decode cX3_leaves 43 = .ok (.iload_n 1, 1) := dk_27 (dk_at dksX3_leaves_1 19 rfl rfl)
theorem dX3_leaves_44 : decode cX3_leaves 44 = .ok (.invokevirtual 74, 3) := dk_182 0 74 (dk_at dksX3_leaves_1 20 rfl rfl)
theorem dX3_leaves_47 : decode cX3_leaves 47 = .ok (.ifCond .eq 5, 3) := dk_153 0 5 (dk_at dksX3_leaves_2 0 rfl rfl)
theorem dX3_leaves_50 : decode cX3_leaves 50 = .ok (.iconst 0, 1) := dk_3 (dk_at dksX3_leaves_2 3 rfl rfl)
theorem dX3_leaves_51 : decode cX3_leaves 51 = .ok (.ireturn, 1) := dk_172 (dk_at dksX3_leaves_2 4 rfl rfl)
theorem dX3_leaves_52 : decode cX3_leaves 52 = .ok (.aload_n 0, 1) := dk_42 (dk_at dksX3_leaves_2 5 rfl rfl)
theorem dX3_leaves_53 : decode cX3_leaves 53 = .ok (.aload_n 0, 1) := dk_42 (dk_at dksX3_leaves_2 6 rfl rfl)
theorem dX3_leaves_54 : decode cX3_leaves 54 = .ok (.getfield 9, 3) := dk_180 0 9 (dk_at dksX3_leaves_2 7 rfl rfl)
theorem dX3_leaves_57 : decode cX3_leaves 57 = .ok (.bipush 84, 2) := dk_16 84 (dk_at dksX3_leaves_2 10 rfl rfl)
theorem dX3_leaves_59 : decode cX3_leaves 59 = .ok (.iload_n 1, 1) := dk_27 (dk_at dksX3_leaves_2 12 rfl rfl)
theorem dX3_leaves_60 : decode cX3_leaves 60 = .ok (.iadd, 1) := dk_96 (dk_at dksX3_leaves_2 13 rfl rfl)
theorem dX3_leaves_61 : decode cX3_leaves 61 = .ok (.iaload, 1) := dk_46 (dk_at dksX3_leaves_2 14 rfl rfl)
theorem dX3_leaves_62 : decode cX3_leaves 62 = .ok (.putfield 43, 3) := dk_181 0 43 (dk_at dksX3_leaves_2 15 rfl rfl)
theorem dX3_leaves_65 : decode cX3_leaves 65 = .ok (.aload_n 0, 1) := dk_42 (dk_at dksX3_leaves_2 18 rfl rfl)
theorem dX3_leaves_66 : decode cX3_leaves 66 = .ok (.getfield 9, 3) := dk_180 0 9 (dk_at dksX3_leaves_2 19 rfl rfl)
theorem dX3_leaves_69 : decode cX3_leaves 69 = .ok (.bipush 84, 2) := dk_16 84 (dk_at dksX3_leaves_2 22 rfl rfl)
theorem dX3_leaves_71 : decode cX3_leaves 71 = .ok (.iload_n 1, 1) := dk_27 (dk_at dksX3_leaves_3 0 rfl rfl)
theorem dX3_leaves_72 : decode cX3_leaves 72 = .ok (.iadd, 1) := dk_96 (dk_at dksX3_leaves_3 1 rfl rfl)
theorem dX3_leaves_73 : decode cX3_leaves 73 = .ok (.iconst (-1), 1) := dk_2 (dk_at dksX3_leaves_3 2 rfl rfl)
theorem dX3_leaves_74 : decode cX3_leaves 74 = .ok (.iastore, 1) := dk_79 (dk_at dksX3_leaves_3 3 rfl rfl)
theorem dX3_leaves_75 : decode cX3_leaves 75 = .ok (.iconst 1, 1) := dk_4 (dk_at dksX3_leaves_3 4 rfl rfl)
theorem dX3_leaves_76 : decode cX3_leaves 76 = .ok (.ireturn, 1) := dk_172 (dk_at dksX3_leaves_3 5 rfl rfl)
abbrev cX3_year : ByteArray := prog_23_method_39_code
def yX3_year : MethodName := ⟨RX3, "year", "()I"⟩
def dkwX3_year_0 : List UInt8 := [42, 182, 0, 85, 42, 42, 182, 0, 157, 3, 182, 0, 91, 172]
abbrev dktX3_year_0 : List UInt8 := dkwX3_year_0 ++ []
theorem dksX3_year_0 : cX3_year.data.toList.drop 0 = dktX3_year_0 := by decide +kernel
theorem dX3_year_0 : decode cX3_year 0 = .ok (.aload_n 0, 1) := dk_42 (dk_at dksX3_year_0 0 rfl rfl)
theorem dX3_year_1 : decode cX3_year 1 = .ok (.invokevirtual 85, 3) := dk_182 0 85 (dk_at dksX3_year_0 1 rfl rfl)
theorem dX3_year_4 : decode cX3_year 4 = .ok (.aload_n 0, 1) := dk_42 (dk_at dksX3_year_0 4 rfl rfl)
theorem dX3_year_5 : decode cX3_year 5 = .ok (.aload_n 0, 1) := dk_42 (dk_at dksX3_year_0 5 rfl rfl)
theorem dX3_year_6 : decode cX3_year 6 = .ok (.invokevirtual 157, 3) := dk_182 0 157 (dk_at dksX3_year_0 6 rfl rfl)
theorem dX3_year_9 : decode cX3_year 9 = .ok (.iconst 0, 1) := dk_3 (dk_at dksX3_year_0 9 rfl rfl)
theorem dX3_year_10 : decode cX3_year 10 = .ok (.invokevirtual 91, 3) := dk_182 0 91 (dk_at dksX3_year_0 10 rfl rfl)
theorem dX3_year_13 : decode cX3_year 13 = .ok (.ireturn, 1) := dk_172 (dk_at dksX3_year_0 13 rfl rfl)
abbrev cX3_goesBy : ByteArray := prog_23_method_38_code
def yX3_goesBy : MethodName := ⟨RX3, "goesBy", "()Z"⟩
def dkwX3_goesBy_4 : List UInt8 := [167, 255, 172, 42, 3, 182, 0, 81, 42, 180, 0, 9, 5, 92, 46, 4, 96, 79, 4, 172]
abbrev dktX3_goesBy_4 : List UInt8 := dkwX3_goesBy_4 ++ []
def dkwX3_goesBy_3 : List UInt8 := [182, 0, 62, 154, 0, 7, 3, 167, 0, 11, 42, 27, 28, 182, 0, 62, 4, 100, 79, 132, 1, 1]
abbrev dktX3_goesBy_3 : List UInt8 := dkwX3_goesBy_3 ++ dktX3_goesBy_4
def dkwX3_goesBy_2 : List UInt8 := [96, 28, 96, 92, 46, 4, 96, 79, 42, 180, 0, 9, 16, 6, 16, 6, 27, 104, 96, 28, 96, 42, 27, 28]
abbrev dktX3_goesBy_2 : List UInt8 := dkwX3_goesBy_2 ++ dktX3_goesBy_3
def dkwX3_goesBy_1 : List UInt8 := [16, 84, 27, 96, 46, 61, 28, 2, 160, 0, 6, 167, 0, 56, 42, 180, 0, 9, 16, 42, 16, 6, 27, 104]
abbrev dktX3_goesBy_1 : List UInt8 := dkwX3_goesBy_1 ++ dktX3_goesBy_2
def dkwX3_goesBy_0 : List UInt8 := [42, 42, 182, 0, 154, 181, 0, 43, 3, 60, 27, 42, 180, 0, 9, 3, 46, 162, 0, 80, 42, 180, 0, 9]
abbrev dktX3_goesBy_0 : List UInt8 := dkwX3_goesBy_0 ++ dktX3_goesBy_1
theorem dksX3_goesBy_0 : cX3_goesBy.data.toList.drop 0 = dktX3_goesBy_0 := by decide +kernel
theorem dksX3_goesBy_1 : cX3_goesBy.data.toList.drop 24 = dktX3_goesBy_1 := dk_seg dksX3_goesBy_0 24 rfl rfl
theorem dksX3_goesBy_2 : cX3_goesBy.data.toList.drop 48 = dktX3_goesBy_2 := dk_seg dksX3_goesBy_1 24 rfl rfl
theorem dksX3_goesBy_3 : cX3_goesBy.data.toList.drop 72 = dktX3_goesBy_3 := dk_seg dksX3_goesBy_2 24 rfl rfl
theorem dksX3_goesBy_4 : cX3_goesBy.data.toList.drop 94 = dktX3_goesBy_4 := dk_seg dksX3_goesBy_3 22 rfl rfl
theorem dX3_goesBy_0 : decode cX3_goesBy 0 = .ok (.aload_n 0, 1) := dk_42 (dk_at dksX3_goesBy_0 0 rfl rfl)
theorem dX3_goesBy_1 : decode cX3_goesBy 1 = .ok (.aload_n 0, 1) := dk_42 (dk_at dksX3_goesBy_0 1 rfl rfl)
theorem dX3_goesBy_2 : decode cX3_goesBy 2 = .ok (.invokevirtual 154, 3) := dk_182 0 154 (dk_at dksX3_goesBy_0 2 rfl rfl)
theorem dX3_goesBy_5 : decode cX3_goesBy 5 = .ok (.putfield 43, 3) := dk_181 0 43 (dk_at dksX3_goesBy_0 5 rfl rfl)
theorem dX3_goesBy_8 : decode cX3_goesBy 8 = .ok (.iconst 0, 1) := dk_3 (dk_at dksX3_goesBy_0 8 rfl rfl)
theorem dX3_goesBy_9 : decode cX3_goesBy 9 = .ok (.istore_n 1, 1) := dk_60 (dk_at dksX3_goesBy_0 9 rfl rfl)
theorem dX3_goesBy_10 : decode cX3_goesBy 10 = .ok (.iload_n 1, 1) := dk_27 (dk_at dksX3_goesBy_0 10 rfl rfl)
theorem dX3_goesBy_11 : decode cX3_goesBy 11 = .ok (.aload_n 0, 1) := dk_42 (dk_at dksX3_goesBy_0 11 rfl rfl)
theorem dX3_goesBy_12 : decode cX3_goesBy 12 = .ok (.getfield 9, 3) := dk_180 0 9 (dk_at dksX3_goesBy_0 12 rfl rfl)
theorem dX3_goesBy_15 : decode cX3_goesBy 15 = .ok (.iconst 0, 1) := dk_3 (dk_at dksX3_goesBy_0 15 rfl rfl)
theorem dX3_goesBy_16 : decode cX3_goesBy 16 = .ok (.iaload, 1) := dk_46 (dk_at dksX3_goesBy_0 16 rfl rfl)
theorem dX3_goesBy_17 : decode cX3_goesBy 17 = .ok (.if_icmp .ge 80, 3) := dk_162 0 80 (dk_at dksX3_goesBy_0 17 rfl rfl)
theorem dX3_goesBy_20 : decode cX3_goesBy 20 = .ok (.aload_n 0, 1) := dk_42 (dk_at dksX3_goesBy_0 20 rfl rfl)
theorem dX3_goesBy_21 : decode cX3_goesBy 21 = .ok (.getfield 9, 3) := dk_180 0 9 (dk_at dksX3_goesBy_0 21 rfl rfl)
theorem dX3_goesBy_24 : decode cX3_goesBy 24 = .ok (.bipush 84, 2) := dk_16 84 (dk_at dksX3_goesBy_1 0 rfl rfl)
theorem dX3_goesBy_26 : decode cX3_goesBy 26 = .ok (.iload_n 1, 1) := dk_27 (dk_at dksX3_goesBy_1 2 rfl rfl)
theorem dX3_goesBy_27 : decode cX3_goesBy 27 = .ok (.iadd, 1) := dk_96 (dk_at dksX3_goesBy_1 3 rfl rfl)
theorem dX3_goesBy_28 : decode cX3_goesBy 28 = .ok (.iaload, 1) := dk_46 (dk_at dksX3_goesBy_1 4 rfl rfl)
theorem dX3_goesBy_29 : decode cX3_goesBy 29 = .ok (.istore_n 2, 1) := dk_61 (dk_at dksX3_goesBy_1 5 rfl rfl)
theorem dX3_goesBy_30 : decode cX3_goesBy 30 = .ok (.iload_n 2, 1) := dk_28 (dk_at dksX3_goesBy_1 6 rfl rfl)
theorem dX3_goesBy_31 : decode cX3_goesBy 31 = .ok (.iconst (-1), 1) := dk_2 (dk_at dksX3_goesBy_1 7 rfl rfl)
theorem dX3_goesBy_32 : decode cX3_goesBy 32 = .ok (.if_icmp .ne 6, 3) := dk_160 0 6 (dk_at dksX3_goesBy_1 8 rfl rfl)
theorem dX3_goesBy_35 : decode cX3_goesBy 35 = .ok (.goto 56, 3) := dk_167 0 56 (dk_at dksX3_goesBy_1 11 rfl rfl)
theorem dX3_goesBy_38 : decode cX3_goesBy 38 = .ok (.aload_n 0, 1) := dk_42 (dk_at dksX3_goesBy_1 14 rfl rfl)
theorem dX3_goesBy_39 : decode cX3_goesBy 39 = .ok (.getfield 9, 3) := dk_180 0 9 (dk_at dksX3_goesBy_1 15 rfl rfl)
theorem dX3_goesBy_42 : decode cX3_goesBy 42 = .ok (.bipush 42, 2) := dk_16 42 (dk_at dksX3_goesBy_1 18 rfl rfl)
theorem dX3_goesBy_44 : decode cX3_goesBy 44 = .ok (.bipush 6, 2) := dk_16 6 (dk_at dksX3_goesBy_1 20 rfl rfl)
theorem dX3_goesBy_46 : decode cX3_goesBy 46 = .ok (.iload_n 1, 1) := dk_27 (dk_at dksX3_goesBy_1 22 rfl rfl)
theorem dX3_goesBy_47 : decode cX3_goesBy 47 = .ok (.imul, 1) := dk_104 (dk_at dksX3_goesBy_1 23 rfl rfl)
theorem dX3_goesBy_48 : decode cX3_goesBy 48 = .ok (.iadd, 1) := dk_96 (dk_at dksX3_goesBy_2 0 rfl rfl)
theorem dX3_goesBy_49 : decode cX3_goesBy 49 = .ok (.iload_n 2, 1) := dk_28 (dk_at dksX3_goesBy_2 1 rfl rfl)
theorem dX3_goesBy_50 : decode cX3_goesBy 50 = .ok (.iadd, 1) := dk_96 (dk_at dksX3_goesBy_2 2 rfl rfl)
theorem dX3_goesBy_51 : decode cX3_goesBy 51 = .ok (.dup2, 1) := dk_92 (dk_at dksX3_goesBy_2 3 rfl rfl)
theorem dX3_goesBy_52 : decode cX3_goesBy 52 = .ok (.iaload, 1) := dk_46 (dk_at dksX3_goesBy_2 4 rfl rfl)
theorem dX3_goesBy_53 : decode cX3_goesBy 53 = .ok (.iconst 1, 1) := dk_4 (dk_at dksX3_goesBy_2 5 rfl rfl)
theorem dX3_goesBy_54 : decode cX3_goesBy 54 = .ok (.iadd, 1) := dk_96 (dk_at dksX3_goesBy_2 6 rfl rfl)
theorem dX3_goesBy_55 : decode cX3_goesBy 55 = .ok (.iastore, 1) := dk_79 (dk_at dksX3_goesBy_2 7 rfl rfl)
theorem dX3_goesBy_56 : decode cX3_goesBy 56 = .ok (.aload_n 0, 1) := dk_42 (dk_at dksX3_goesBy_2 8 rfl rfl)
theorem dX3_goesBy_57 : decode cX3_goesBy 57 = .ok (.getfield 9, 3) := dk_180 0 9 (dk_at dksX3_goesBy_2 9 rfl rfl)
theorem dX3_goesBy_60 : decode cX3_goesBy 60 = .ok (.bipush 6, 2) := dk_16 6 (dk_at dksX3_goesBy_2 12 rfl rfl)
theorem dX3_goesBy_62 : decode cX3_goesBy 62 = .ok (.bipush 6, 2) := dk_16 6 (dk_at dksX3_goesBy_2 14 rfl rfl)
theorem dX3_goesBy_64 : decode cX3_goesBy 64 = .ok (.iload_n 1, 1) := dk_27 (dk_at dksX3_goesBy_2 16 rfl rfl)
theorem dX3_goesBy_65 : decode cX3_goesBy 65 = .ok (.imul, 1) := dk_104 (dk_at dksX3_goesBy_2 17 rfl rfl)
theorem dX3_goesBy_66 : decode cX3_goesBy 66 = .ok (.iadd, 1) := dk_96 (dk_at dksX3_goesBy_2 18 rfl rfl)
theorem dX3_goesBy_67 : decode cX3_goesBy 67 = .ok (.iload_n 2, 1) := dk_28 (dk_at dksX3_goesBy_2 19 rfl rfl)
theorem dX3_goesBy_68 : decode cX3_goesBy 68 = .ok (.iadd, 1) := dk_96 (dk_at dksX3_goesBy_2 20 rfl rfl)
theorem dX3_goesBy_69 : decode cX3_goesBy 69 = .ok (.aload_n 0, 1) := dk_42 (dk_at dksX3_goesBy_2 21 rfl rfl)
theorem dX3_goesBy_70 : decode cX3_goesBy 70 = .ok (.iload_n 1, 1) := dk_27 (dk_at dksX3_goesBy_2 22 rfl rfl)
theorem dX3_goesBy_71 : decode cX3_goesBy 71 = .ok (.iload_n 2, 1) := dk_28 (dk_at dksX3_goesBy_2 23 rfl rfl)
theorem dX3_goesBy_72 : decode cX3_goesBy 72 = .ok (.invokevirtual 62, 3) := dk_182 0 62 (dk_at dksX3_goesBy_3 0 rfl rfl)
theorem dX3_goesBy_75 : decode cX3_goesBy 75 = .ok (.ifCond .ne 7, 3) := dk_154 0 7 (dk_at dksX3_goesBy_3 3 rfl rfl)
theorem dX3_goesBy_78 : decode cX3_goesBy 78 = .ok (.iconst 0, 1) := dk_3 (dk_at dksX3_goesBy_3 6 rfl rfl)
theorem dX3_goesBy_79 : decode cX3_goesBy 79 = .ok (.goto 11, 3) := dk_167 0 11 (dk_at dksX3_goesBy_3 7 rfl rfl)
theorem dX3_goesBy_82 : decode cX3_goesBy 82 = .ok (.aload_n 0, 1) := dk_42 (dk_at dksX3_goesBy_3 10 rfl rfl)
theorem dX3_goesBy_83 : decode cX3_goesBy 83 = .ok (.iload_n 1, 1) := dk_27 (dk_at dksX3_goesBy_3 11 rfl rfl)
theorem dX3_goesBy_84 : decode cX3_goesBy 84 = .ok (.iload_n 2, 1) := dk_28 (dk_at dksX3_goesBy_3 12 rfl rfl)
theorem dX3_goesBy_85 : decode cX3_goesBy 85 = .ok (.invokevirtual 62, 3) := dk_182 0 62 (dk_at dksX3_goesBy_3 13 rfl rfl)
theorem dX3_goesBy_88 : decode cX3_goesBy 88 = .ok (.iconst 1, 1) := dk_4 (dk_at dksX3_goesBy_3 16 rfl rfl)
theorem dX3_goesBy_89 : decode cX3_goesBy 89 = .ok (.isub, 1) := dk_100 (dk_at dksX3_goesBy_3 17 rfl rfl)
theorem dX3_goesBy_90 : decode cX3_goesBy 90 = .ok (.iastore, 1) := dk_79 (dk_at dksX3_goesBy_3 18 rfl rfl)
theorem dX3_goesBy_91 : decode cX3_goesBy 91 = .ok (.iinc 1 1, 3) := dk_132 1 1 (dk_at dksX3_goesBy_3 19 rfl rfl)
theorem dX3_goesBy_94 : decode cX3_goesBy 94 = .ok (.goto (-84), 3) := dk_167 255 172 (dk_at dksX3_goesBy_4 0 rfl rfl)
theorem dX3_goesBy_97 : decode cX3_goesBy 97 = .ok (.aload_n 0, 1) := dk_42 (dk_at dksX3_goesBy_4 3 rfl rfl)
theorem dX3_goesBy_98 : decode cX3_goesBy 98 = .ok (.iconst 0, 1) := dk_3 (dk_at dksX3_goesBy_4 4 rfl rfl)
theorem dX3_goesBy_99 : decode cX3_goesBy 99 = .ok (.invokevirtual 81, 3) := dk_182 0 81 (dk_at dksX3_goesBy_4 5 rfl rfl)
theorem dX3_goesBy_102 : decode cX3_goesBy 102 = .ok (.aload_n 0, 1) := dk_42 (dk_at dksX3_goesBy_4 8 rfl rfl)
theorem dX3_goesBy_103 : decode cX3_goesBy 103 = .ok (.getfield 9, 3) := dk_180 0 9 (dk_at dksX3_goesBy_4 9 rfl rfl)
theorem dX3_goesBy_106 : decode cX3_goesBy 106 = .ok (.iconst 2, 1) := dk_5 (dk_at dksX3_goesBy_4 12 rfl rfl)
theorem dX3_goesBy_107 : decode cX3_goesBy 107 = .ok (.dup2, 1) := dk_92 (dk_at dksX3_goesBy_4 13 rfl rfl)
theorem dX3_goesBy_108 : decode cX3_goesBy 108 = .ok (.iaload, 1) := dk_46 (dk_at dksX3_goesBy_4 14 rfl rfl)
theorem dX3_goesBy_109 : decode cX3_goesBy 109 = .ok (.iconst 1, 1) := dk_4 (dk_at dksX3_goesBy_4 15 rfl rfl)
theorem dX3_goesBy_110 : decode cX3_goesBy 110 = .ok (.iadd, 1) := dk_96 (dk_at dksX3_goesBy_4 16 rfl rfl)
theorem dX3_goesBy_111 : decode cX3_goesBy 111 = .ok (.iastore, 1) := dk_79 (dk_at dksX3_goesBy_4 17 rfl rfl)
theorem dX3_goesBy_112 : decode cX3_goesBy 112 = .ok (.iconst 1, 1) := dk_4 (dk_at dksX3_goesBy_4 18 rfl rfl)
theorem dX3_goesBy_113 : decode cX3_goesBy 113 = .ok (.ireturn, 1) := dk_172 (dk_at dksX3_goesBy_4 19 rfl rfl)
abbrev cX3_pairCost : ByteArray := prog_23_method_37_code
def yX3_pairCost : MethodName := ⟨RX3, "pairCost", "()I"⟩
def dkwX3_pairCost_2 : List UInt8 := [132, 2, 1, 167, 255, 209, 27, 172]
abbrev dktX3_pairCost_2 : List UInt8 := dkwX3_pairCost_2 ++ []
def dkwX3_pairCost_1 : List UInt8 := [2, 160, 0, 7, 3, 167, 0, 17, 42, 28, 42, 180, 0, 9, 16, 84, 28, 96, 46, 182, 0, 62, 96, 60]
abbrev dktX3_pairCost_1 : List UInt8 := dkwX3_pairCost_1 ++ dktX3_pairCost_2
def dkwX3_pairCost_0 : List UInt8 := [3, 60, 3, 61, 28, 42, 180, 0, 9, 3, 46, 162, 0, 43, 27, 42, 180, 0, 9, 16, 84, 28, 96, 46]
abbrev dktX3_pairCost_0 : List UInt8 := dkwX3_pairCost_0 ++ dktX3_pairCost_1
theorem dksX3_pairCost_0 : cX3_pairCost.data.toList.drop 0 = dktX3_pairCost_0 := by decide +kernel
theorem dksX3_pairCost_1 : cX3_pairCost.data.toList.drop 24 = dktX3_pairCost_1 := dk_seg dksX3_pairCost_0 24 rfl rfl
theorem dksX3_pairCost_2 : cX3_pairCost.data.toList.drop 48 = dktX3_pairCost_2 := dk_seg dksX3_pairCost_1 24 rfl rfl
theorem dX3_pairCost_0 : decode cX3_pairCost 0 = .ok (.iconst 0, 1) := dk_3 (dk_at dksX3_pairCost_0 0 rfl rfl)
theorem dX3_pairCost_1 : decode cX3_pairCost 1 = .ok (.istore_n 1, 1) := dk_60 (dk_at dksX3_pairCost_0 1 rfl rfl)
theorem dX3_pairCost_2 : decode cX3_pairCost 2 = .ok (.iconst 0, 1) := dk_3 (dk_at dksX3_pairCost_0 2 rfl rfl)
theorem dX3_pairCost_3 : decode cX3_pairCost 3 = .ok (.istore_n 2, 1) := dk_61 (dk_at dksX3_pairCost_0 3 rfl rfl)
theorem dX3_pairCost_4 : decode cX3_pairCost 4 = .ok (.iload_n 2, 1) := dk_28 (dk_at dksX3_pairCost_0 4 rfl rfl)
theorem dX3_pairCost_5 : decode cX3_pairCost 5 = .ok (.aload_n 0, 1) := dk_42 (dk_at dksX3_pairCost_0 5 rfl rfl)
theorem dX3_pairCost_6 : decode cX3_pairCost 6 = .ok (.getfield 9, 3) := dk_180 0 9 (dk_at dksX3_pairCost_0 6 rfl rfl)
theorem dX3_pairCost_9 : decode cX3_pairCost 9 = .ok (.iconst 0, 1) := dk_3 (dk_at dksX3_pairCost_0 9 rfl rfl)
theorem dX3_pairCost_10 : decode cX3_pairCost 10 = .ok (.iaload, 1) := dk_46 (dk_at dksX3_pairCost_0 10 rfl rfl)
theorem dX3_pairCost_11 : decode cX3_pairCost 11 = .ok (.if_icmp .ge 43, 3) := dk_162 0 43 (dk_at dksX3_pairCost_0 11 rfl rfl)
theorem dX3_pairCost_14 : decode cX3_pairCost 14 = .ok (.iload_n 1, 1) := dk_27 (dk_at dksX3_pairCost_0 14 rfl rfl)
theorem dX3_pairCost_15 : decode cX3_pairCost 15 = .ok (.aload_n 0, 1) := dk_42 (dk_at dksX3_pairCost_0 15 rfl rfl)
theorem dX3_pairCost_16 : decode cX3_pairCost 16 = .ok (.getfield 9, 3) := dk_180 0 9 (dk_at dksX3_pairCost_0 16 rfl rfl)
theorem dX3_pairCost_19 : decode cX3_pairCost 19 = .ok (.bipush 84, 2) := dk_16 84 (dk_at dksX3_pairCost_0 19 rfl rfl)
theorem dX3_pairCost_21 : decode cX3_pairCost 21 = .ok (.iload_n 2, 1) := dk_28 (dk_at dksX3_pairCost_0 21 rfl rfl)
theorem dX3_pairCost_22 : decode cX3_pairCost 22 = .ok (.iadd, 1) := dk_96 (dk_at dksX3_pairCost_0 22 rfl rfl)
theorem dX3_pairCost_23 : decode cX3_pairCost 23 = .ok (.iaload, 1) := dk_46 (dk_at dksX3_pairCost_0 23 rfl rfl)
theorem dX3_pairCost_24 : decode cX3_pairCost 24 = .ok (.iconst (-1), 1) := dk_2 (dk_at dksX3_pairCost_1 0 rfl rfl)
theorem dX3_pairCost_25 : decode cX3_pairCost 25 = .ok (.if_icmp .ne 7, 3) := dk_160 0 7 (dk_at dksX3_pairCost_1 1 rfl rfl)
theorem dX3_pairCost_28 : decode cX3_pairCost 28 = .ok (.iconst 0, 1) := dk_3 (dk_at dksX3_pairCost_1 4 rfl rfl)
theorem dX3_pairCost_29 : decode cX3_pairCost 29 = .ok (.goto 17, 3) := dk_167 0 17 (dk_at dksX3_pairCost_1 5 rfl rfl)
theorem dX3_pairCost_32 : decode cX3_pairCost 32 = .ok (.aload_n 0, 1) := dk_42 (dk_at dksX3_pairCost_1 8 rfl rfl)
theorem dX3_pairCost_33 : decode cX3_pairCost 33 = .ok (.iload_n 2, 1) := dk_28 (dk_at dksX3_pairCost_1 9 rfl rfl)
theorem dX3_pairCost_34 : decode cX3_pairCost 34 = .ok (.aload_n 0, 1) := dk_42 (dk_at dksX3_pairCost_1 10 rfl rfl)
theorem dX3_pairCost_35 : decode cX3_pairCost 35 = .ok (.getfield 9, 3) := dk_180 0 9 (dk_at dksX3_pairCost_1 11 rfl rfl)
theorem dX3_pairCost_38 : decode cX3_pairCost 38 = .ok (.bipush 84, 2) := dk_16 84 (dk_at dksX3_pairCost_1 14 rfl rfl)
theorem dX3_pairCost_40 : decode cX3_pairCost 40 = .ok (.iload_n 2, 1) := dk_28 (dk_at dksX3_pairCost_1 16 rfl rfl)
theorem dX3_pairCost_41 : decode cX3_pairCost 41 = .ok (.iadd, 1) := dk_96 (dk_at dksX3_pairCost_1 17 rfl rfl)
theorem dX3_pairCost_42 : decode cX3_pairCost 42 = .ok (.iaload, 1) := dk_46 (dk_at dksX3_pairCost_1 18 rfl rfl)
theorem dX3_pairCost_43 : decode cX3_pairCost 43 = .ok (.invokevirtual 62, 3) := dk_182 0 62 (dk_at dksX3_pairCost_1 19 rfl rfl)
theorem dX3_pairCost_46 : decode cX3_pairCost 46 = .ok (.iadd, 1) := dk_96 (dk_at dksX3_pairCost_1 22 rfl rfl)
theorem dX3_pairCost_47 : decode cX3_pairCost 47 = .ok (.istore_n 1, 1) := dk_60 (dk_at dksX3_pairCost_1 23 rfl rfl)
theorem dX3_pairCost_48 : decode cX3_pairCost 48 = .ok (.iinc 2 1, 3) := dk_132 2 1 (dk_at dksX3_pairCost_2 0 rfl rfl)
theorem dX3_pairCost_51 : decode cX3_pairCost 51 = .ok (.goto (-47), 3) := dk_167 255 209 (dk_at dksX3_pairCost_2 3 rfl rfl)
theorem dX3_pairCost_54 : decode cX3_pairCost 54 = .ok (.iload_n 1, 1) := dk_27 (dk_at dksX3_pairCost_2 6 rfl rfl)
theorem dX3_pairCost_55 : decode cX3_pairCost 55 = .ok (.ireturn, 1) := dk_172 (dk_at dksX3_pairCost_2 7 rfl rfl)
abbrev cX3_costOf : ByteArray := prog_23_method_48_code
def yX3_costOf : MethodName := ⟨RX3, "costOf", "(II)I"⟩
def dkwX3_costOf_0 : List UInt8 := [42, 27, 28, 182, 0, 183, 153, 0, 12, 42, 27, 28, 182, 0, 62, 167, 0, 4, 3, 172]
abbrev dktX3_costOf_0 : List UInt8 := dkwX3_costOf_0 ++ []
theorem dksX3_costOf_0 : cX3_costOf.data.toList.drop 0 = dktX3_costOf_0 := by decide +kernel
theorem dX3_costOf_0 : decode cX3_costOf 0 = .ok (.aload_n 0, 1) := dk_42 (dk_at dksX3_costOf_0 0 rfl rfl)
theorem dX3_costOf_1 : decode cX3_costOf 1 = .ok (.iload_n 1, 1) := dk_27 (dk_at dksX3_costOf_0 1 rfl rfl)
theorem dX3_costOf_2 : decode cX3_costOf 2 = .ok (.iload_n 2, 1) := dk_28 (dk_at dksX3_costOf_0 2 rfl rfl)
theorem dX3_costOf_3 : decode cX3_costOf 3 = .ok (.invokevirtual 183, 3) := dk_182 0 183 (dk_at dksX3_costOf_0 3 rfl rfl)
theorem dX3_costOf_6 : decode cX3_costOf 6 = .ok (.ifCond .eq 12, 3) := dk_153 0 12 (dk_at dksX3_costOf_0 6 rfl rfl)
theorem dX3_costOf_9 : decode cX3_costOf 9 = .ok (.aload_n 0, 1) := dk_42 (dk_at dksX3_costOf_0 9 rfl rfl)
theorem dX3_costOf_10 : decode cX3_costOf 10 = .ok (.iload_n 1, 1) := dk_27 (dk_at dksX3_costOf_0 10 rfl rfl)
theorem dX3_costOf_11 : decode cX3_costOf 11 = .ok (.iload_n 2, 1) := dk_28 (dk_at dksX3_costOf_0 11 rfl rfl)
theorem dX3_costOf_12 : decode cX3_costOf 12 = .ok (.invokevirtual 62, 3) := dk_182 0 62 (dk_at dksX3_costOf_0 12 rfl rfl)
theorem dX3_costOf_15 : decode cX3_costOf 15 = .ok (.goto 4, 3) := dk_167 0 4 (dk_at dksX3_costOf_0 15 rfl rfl)
theorem dX3_costOf_18 : decode cX3_costOf 18 = .ok (.iconst 0, 1) := dk_3 (dk_at dksX3_costOf_0 18 rfl rfl)
theorem dX3_costOf_19 : decode cX3_costOf 19 = .ok (.ireturn, 1) := dk_172 (dk_at dksX3_costOf_0 19 rfl rfl)
abbrev cX3_areThere : ByteArray := prog_23_method_47_code
def yX3_areThere : MethodName := ⟨RX3, "areThere", "(II)Z"⟩
def dkwX3_areThere_1 : List UInt8 := [182, 0, 55, 172]
abbrev dktX3_areThere_1 : List UInt8 := dkwX3_areThere_1 ++ []
def dkwX3_areThere_0 : List UInt8 := [42, 42, 27, 182, 0, 70, 153, 0, 15, 42, 28, 182, 0, 78, 153, 0, 7, 4, 167, 0, 4, 3]
abbrev dktX3_areThere_0 : List UInt8 := dkwX3_areThere_0 ++ dktX3_areThere_1
theorem dksX3_areThere_0 : cX3_areThere.data.toList.drop 0 = dktX3_areThere_0 := by decide +kernel
theorem dksX3_areThere_1 : cX3_areThere.data.toList.drop 22 = dktX3_areThere_1 := dk_seg dksX3_areThere_0 22 rfl rfl
theorem dX3_areThere_0 : decode cX3_areThere 0 = .ok (.aload_n 0, 1) := dk_42 (dk_at dksX3_areThere_0 0 rfl rfl)
theorem dX3_areThere_1 : decode cX3_areThere 1 = .ok (.aload_n 0, 1) := dk_42 (dk_at dksX3_areThere_0 1 rfl rfl)
theorem dX3_areThere_2 : decode cX3_areThere 2 = .ok (.iload_n 1, 1) := dk_27 (dk_at dksX3_areThere_0 2 rfl rfl)
theorem dX3_areThere_3 : decode cX3_areThere 3 = .ok (.invokevirtual 70, 3) := dk_182 0 70 (dk_at dksX3_areThere_0 3 rfl rfl)
theorem dX3_areThere_6 : decode cX3_areThere 6 = .ok (.ifCond .eq 15, 3) := dk_153 0 15 (dk_at dksX3_areThere_0 6 rfl rfl)
theorem dX3_areThere_9 : decode cX3_areThere 9 = .ok (.aload_n 0, 1) := dk_42 (dk_at dksX3_areThere_0 9 rfl rfl)
theorem dX3_areThere_10 : decode cX3_areThere 10 = .ok (.iload_n 2, 1) := dk_28 (dk_at dksX3_areThere_0 10 rfl rfl)
theorem dX3_areThere_11 : decode cX3_areThere 11 = .ok (.invokevirtual 78, 3) := dk_182 0 78 (dk_at dksX3_areThere_0 11 rfl rfl)
theorem dX3_areThere_14 : decode cX3_areThere 14 = .ok (.ifCond .eq 7, 3) := dk_153 0 7 (dk_at dksX3_areThere_0 14 rfl rfl)
theorem dX3_areThere_17 : decode cX3_areThere 17 = .ok (.iconst 1, 1) := dk_4 (dk_at dksX3_areThere_0 17 rfl rfl)
theorem dX3_areThere_18 : decode cX3_areThere 18 = .ok (.goto 4, 3) := dk_167 0 4 (dk_at dksX3_areThere_0 18 rfl rfl)
theorem dX3_areThere_21 : decode cX3_areThere 21 = .ok (.iconst 0, 1) := dk_3 (dk_at dksX3_areThere_0 21 rfl rfl)
theorem dX3_areThere_22 : decode cX3_areThere 22 = .ok (.invokevirtual 55, 3) := dk_182 0 55 (dk_at dksX3_areThere_1 0 rfl rfl)
theorem dX3_areThere_25 : decode cX3_areThere 25 = .ok (.ireturn, 1) := dk_172 (dk_at dksX3_areThere_1 3 rfl rfl)
abbrev cX3_burden : ByteArray := prog_23_method_49_code
def yX3_burden : MethodName := ⟨RX3, "burden", "(II)I"⟩
def dkwX3_burden_2 : List UInt8 := [182, 0, 108, 167, 0, 4, 3, 172]
abbrev dktX3_burden_2 : List UInt8 := dkwX3_burden_2 ++ []
def dkwX3_burden_1 : List UInt8 := [182, 0, 102, 153, 0, 7, 5, 167, 0, 4, 3, 181, 0, 33, 42, 180, 0, 33, 154, 0, 12, 42, 27, 28]
abbrev dktX3_burden_1 : List UInt8 := dkwX3_burden_1 ++ dktX3_burden_2
def dkwX3_burden_0 : List UInt8 := [42, 42, 27, 182, 0, 70, 153, 0, 11, 42, 28, 182, 0, 78, 154, 0, 7, 4, 167, 0, 17, 42, 27, 28]
abbrev dktX3_burden_0 : List UInt8 := dkwX3_burden_0 ++ dktX3_burden_1
theorem dksX3_burden_0 : cX3_burden.data.toList.drop 0 = dktX3_burden_0 := by decide +kernel
theorem dksX3_burden_1 : cX3_burden.data.toList.drop 24 = dktX3_burden_1 := dk_seg dksX3_burden_0 24 rfl rfl
theorem dksX3_burden_2 : cX3_burden.data.toList.drop 48 = dktX3_burden_2 := dk_seg dksX3_burden_1 24 rfl rfl
theorem dX3_burden_0 : decode cX3_burden 0 = .ok (.aload_n 0, 1) := dk_42 (dk_at dksX3_burden_0 0 rfl rfl)
theorem dX3_burden_1 : decode cX3_burden 1 = .ok (.aload_n 0, 1) := dk_42 (dk_at dksX3_burden_0 1 rfl rfl)
theorem dX3_burden_2 : decode cX3_burden 2 = .ok (.iload_n 1, 1) := dk_27 (dk_at dksX3_burden_0 2 rfl rfl)
theorem dX3_burden_3 : decode cX3_burden 3 = .ok (.invokevirtual 70, 3) := dk_182 0 70 (dk_at dksX3_burden_0 3 rfl rfl)
theorem dX3_burden_6 : decode cX3_burden 6 = .ok (.ifCond .eq 11, 3) := dk_153 0 11 (dk_at dksX3_burden_0 6 rfl rfl)
theorem dX3_burden_9 : decode cX3_burden 9 = .ok (.aload_n 0, 1) := dk_42 (dk_at dksX3_burden_0 9 rfl rfl)
theorem dX3_burden_10 : decode cX3_burden 10 = .ok (.iload_n 2, 1) := dk_28 (dk_at dksX3_burden_0 10 rfl rfl)
theorem dX3_burden_11 : decode cX3_burden 11 = .ok (.invokevirtual 78, 3) := dk_182 0 78 (dk_at dksX3_burden_0 11 rfl rfl)
theorem dX3_burden_14 : decode cX3_burden 14 = .ok (.ifCond .ne 7, 3) := dk_154 0 7 (dk_at dksX3_burden_0 14 rfl rfl)
theorem dX3_burden_17 : decode cX3_burden 17 = .ok (.iconst 1, 1) := dk_4 (dk_at dksX3_burden_0 17 rfl rfl)
theorem dX3_burden_18 : decode cX3_burden 18 = .ok (.goto 17, 3) := dk_167 0 17 (dk_at dksX3_burden_0 18 rfl rfl)
theorem dX3_burden_21 : decode cX3_burden 21 = .ok (.aload_n 0, 1) := dk_42 (dk_at dksX3_burden_0 21 rfl rfl)
theorem dX3_burden_22 : decode cX3_burden 22 = .ok (.iload_n 1, 1) := dk_27 (dk_at dksX3_burden_0 22 rfl rfl)
theorem dX3_burden_23 : decode cX3_burden 23 = .ok (.iload_n 2, 1) := dk_28 (dk_at dksX3_burden_0 23 rfl rfl)
theorem dX3_burden_24 : decode cX3_burden 24 = .ok (.invokevirtual 102, 3) := dk_182 0 102 (dk_at dksX3_burden_1 0 rfl rfl)
theorem dX3_burden_27 : decode cX3_burden 27 = .ok (.ifCond .eq 7, 3) := dk_153 0 7 (dk_at dksX3_burden_1 3 rfl rfl)
theorem dX3_burden_30 : decode cX3_burden 30 = .ok (.iconst 2, 1) := dk_5 (dk_at dksX3_burden_1 6 rfl rfl)
theorem dX3_burden_31 : decode cX3_burden 31 = .ok (.goto 4, 3) := dk_167 0 4 (dk_at dksX3_burden_1 7 rfl rfl)
theorem dX3_burden_34 : decode cX3_burden 34 = .ok (.iconst 0, 1) := dk_3 (dk_at dksX3_burden_1 10 rfl rfl)
theorem dX3_burden_35 : decode cX3_burden 35 = .ok (.putfield 33, 3) := dk_181 0 33 (dk_at dksX3_burden_1 11 rfl rfl)
theorem dX3_burden_38 : decode cX3_burden 38 = .ok (.aload_n 0, 1) := dk_42 (dk_at dksX3_burden_1 14 rfl rfl)
theorem dX3_burden_39 : decode cX3_burden 39 = .ok (.getfield 33, 3) := dk_180 0 33 (dk_at dksX3_burden_1 15 rfl rfl)
theorem dX3_burden_42 : decode cX3_burden 42 = .ok (.ifCond .ne 12, 3) := dk_154 0 12 (dk_at dksX3_burden_1 18 rfl rfl)
theorem dX3_burden_45 : decode cX3_burden 45 = .ok (.aload_n 0, 1) := dk_42 (dk_at dksX3_burden_1 21 rfl rfl)
theorem dX3_burden_46 : decode cX3_burden 46 = .ok (.iload_n 1, 1) := dk_27 (dk_at dksX3_burden_1 22 rfl rfl)
theorem dX3_burden_47 : decode cX3_burden 47 = .ok (.iload_n 2, 1) := dk_28 (dk_at dksX3_burden_1 23 rfl rfl)
theorem dX3_burden_48 : decode cX3_burden 48 = .ok (.invokevirtual 108, 3) := dk_182 0 108 (dk_at dksX3_burden_2 0 rfl rfl)
theorem dX3_burden_51 : decode cX3_burden 51 = .ok (.goto 4, 3) := dk_167 0 4 (dk_at dksX3_burden_2 3 rfl rfl)
theorem dX3_burden_54 : decode cX3_burden 54 = .ok (.iconst 0, 1) := dk_3 (dk_at dksX3_burden_2 6 rfl rfl)
theorem dX3_burden_55 : decode cX3_burden 55 = .ok (.ireturn, 1) := dk_172 (dk_at dksX3_burden_2 7 rfl rfl)
abbrev cX3_apprenticeOf : ByteArray := prog_23_method_53_code
def yX3_apprenticeOf : MethodName := ⟨RX3, "apprenticeOf", "(II)I"⟩
def dkwX3_apprenticeOf_4 : List UInt8 := [4, 182, 0, 186, 172, 42, 27, 182, 0, 190, 172, 42, 27, 182, 0, 193, 172]
abbrev dktX3_apprenticeOf_4 : List UInt8 := dkwX3_apprenticeOf_4 ++ []
def dkwX3_apprenticeOf_3 : List UInt8 := [42, 180, 0, 9, 16, 84, 27, 96, 46, 172, 42, 27, 182, 0, 111, 172, 42, 27, 182, 0, 116, 172, 42, 27]
abbrev dktX3_apprenticeOf_3 : List UInt8 := dkwX3_apprenticeOf_3 ++ dktX3_apprenticeOf_4
def dkwX3_apprenticeOf_2 : List UInt8 := [170, 0, 0, 0, 0, 0, 0, 71, 0, 0, 0, 0, 0, 0, 0, 4, 0, 0, 0, 36, 0, 0, 0, 46, 0, 0, 0, 52, 0, 0, 0, 58, 0, 0, 0, 65]
abbrev dktX3_apprenticeOf_2 : List UInt8 := dkwX3_apprenticeOf_2 ++ dktX3_apprenticeOf_3
def dkwX3_apprenticeOf_1 : List UInt8 := [167, 0, 4, 5, 181, 0, 33, 42, 180, 0, 33, 153, 0, 5, 3, 172, 28]
abbrev dktX3_apprenticeOf_1 : List UInt8 := dkwX3_apprenticeOf_1 ++ dktX3_apprenticeOf_2
def dkwX3_apprenticeOf_0 : List UInt8 := [42, 42, 27, 182, 0, 70, 154, 0, 7, 4, 167, 0, 17, 28, 3, 8, 184, 0, 66, 153, 0, 7, 3]
abbrev dktX3_apprenticeOf_0 : List UInt8 := dkwX3_apprenticeOf_0 ++ dktX3_apprenticeOf_1
theorem dksX3_apprenticeOf_0 : cX3_apprenticeOf.data.toList.drop 0 = dktX3_apprenticeOf_0 := by decide +kernel
theorem dksX3_apprenticeOf_1 : cX3_apprenticeOf.data.toList.drop 23 = dktX3_apprenticeOf_1 := dk_seg dksX3_apprenticeOf_0 23 rfl rfl
theorem dksX3_apprenticeOf_2 : cX3_apprenticeOf.data.toList.drop 40 = dktX3_apprenticeOf_2 := dk_seg dksX3_apprenticeOf_1 17 rfl rfl
theorem dksX3_apprenticeOf_3 : cX3_apprenticeOf.data.toList.drop 76 = dktX3_apprenticeOf_3 := dk_seg dksX3_apprenticeOf_2 36 rfl rfl
theorem dksX3_apprenticeOf_4 : cX3_apprenticeOf.data.toList.drop 100 = dktX3_apprenticeOf_4 := dk_seg dksX3_apprenticeOf_3 24 rfl rfl
theorem dX3_apprenticeOf_0 : decode cX3_apprenticeOf 0 = .ok (.aload_n 0, 1) := dk_42 (dk_at dksX3_apprenticeOf_0 0 rfl rfl)
theorem dX3_apprenticeOf_1 : decode cX3_apprenticeOf 1 = .ok (.aload_n 0, 1) := dk_42 (dk_at dksX3_apprenticeOf_0 1 rfl rfl)
theorem dX3_apprenticeOf_2 : decode cX3_apprenticeOf 2 = .ok (.iload_n 1, 1) := dk_27 (dk_at dksX3_apprenticeOf_0 2 rfl rfl)
theorem dX3_apprenticeOf_3 : decode cX3_apprenticeOf 3 = .ok (.invokevirtual 70, 3) := dk_182 0 70 (dk_at dksX3_apprenticeOf_0 3 rfl rfl)
theorem dX3_apprenticeOf_6 : decode cX3_apprenticeOf 6 = .ok (.ifCond .ne 7, 3) := dk_154 0 7 (dk_at dksX3_apprenticeOf_0 6 rfl rfl)
theorem dX3_apprenticeOf_9 : decode cX3_apprenticeOf 9 = .ok (.iconst 1, 1) := dk_4 (dk_at dksX3_apprenticeOf_0 9 rfl rfl)
theorem dX3_apprenticeOf_10 : decode cX3_apprenticeOf 10 = .ok (.goto 17, 3) := dk_167 0 17 (dk_at dksX3_apprenticeOf_0 10 rfl rfl)
theorem dX3_apprenticeOf_13 : decode cX3_apprenticeOf 13 = .ok (.iload_n 2, 1) := dk_28 (dk_at dksX3_apprenticeOf_0 13 rfl rfl)
theorem dX3_apprenticeOf_14 : decode cX3_apprenticeOf 14 = .ok (.iconst 0, 1) := dk_3 (dk_at dksX3_apprenticeOf_0 14 rfl rfl)
theorem dX3_apprenticeOf_15 : decode cX3_apprenticeOf 15 = .ok (.iconst 5, 1) := dk_8 (dk_at dksX3_apprenticeOf_0 15 rfl rfl)
theorem dX3_apprenticeOf_16 : decode cX3_apprenticeOf 16 = .ok (.invokestatic 66, 3) := dk_184 0 66 (dk_at dksX3_apprenticeOf_0 16 rfl rfl)
theorem dX3_apprenticeOf_19 : decode cX3_apprenticeOf 19 = .ok (.ifCond .eq 7, 3) := dk_153 0 7 (dk_at dksX3_apprenticeOf_0 19 rfl rfl)
theorem dX3_apprenticeOf_22 : decode cX3_apprenticeOf 22 = .ok (.iconst 0, 1) := dk_3 (dk_at dksX3_apprenticeOf_0 22 rfl rfl)
theorem dX3_apprenticeOf_23 : decode cX3_apprenticeOf 23 = .ok (.goto 4, 3) := dk_167 0 4 (dk_at dksX3_apprenticeOf_1 0 rfl rfl)
theorem dX3_apprenticeOf_26 : decode cX3_apprenticeOf 26 = .ok (.iconst 2, 1) := dk_5 (dk_at dksX3_apprenticeOf_1 3 rfl rfl)
theorem dX3_apprenticeOf_27 : decode cX3_apprenticeOf 27 = .ok (.putfield 33, 3) := dk_181 0 33 (dk_at dksX3_apprenticeOf_1 4 rfl rfl)
theorem dX3_apprenticeOf_30 : decode cX3_apprenticeOf 30 = .ok (.aload_n 0, 1) := dk_42 (dk_at dksX3_apprenticeOf_1 7 rfl rfl)
theorem dX3_apprenticeOf_31 : decode cX3_apprenticeOf 31 = .ok (.getfield 33, 3) := dk_180 0 33 (dk_at dksX3_apprenticeOf_1 8 rfl rfl)
theorem dX3_apprenticeOf_34 : decode cX3_apprenticeOf 34 = .ok (.ifCond .eq 5, 3) := dk_153 0 5 (dk_at dksX3_apprenticeOf_1 11 rfl rfl)
theorem dX3_apprenticeOf_37 : decode cX3_apprenticeOf 37 = .ok (.iconst 0, 1) := dk_3 (dk_at dksX3_apprenticeOf_1 14 rfl rfl)
theorem dX3_apprenticeOf_38 : decode cX3_apprenticeOf 38 = .ok (.ireturn, 1) := dk_172 (dk_at dksX3_apprenticeOf_1 15 rfl rfl)
theorem dX3_apprenticeOf_39 : decode cX3_apprenticeOf 39 = .ok (.iload_n 2, 1) := dk_28 (dk_at dksX3_apprenticeOf_1 16 rfl rfl)
theorem dX3_apprenticeOf_40 : decode cX3_apprenticeOf 40 = .ok (.tableswitch 71 0 4 #[36, 46, 52, 58, 65], 36) := by decide +kernel
theorem dX3_apprenticeOf_76 : decode cX3_apprenticeOf 76 = .ok (.aload_n 0, 1) := dk_42 (dk_at dksX3_apprenticeOf_3 0 rfl rfl)
theorem dX3_apprenticeOf_77 : decode cX3_apprenticeOf 77 = .ok (.getfield 9, 3) := dk_180 0 9 (dk_at dksX3_apprenticeOf_3 1 rfl rfl)
theorem dX3_apprenticeOf_80 : decode cX3_apprenticeOf 80 = .ok (.bipush 84, 2) := dk_16 84 (dk_at dksX3_apprenticeOf_3 4 rfl rfl)
theorem dX3_apprenticeOf_82 : decode cX3_apprenticeOf 82 = .ok (.iload_n 1, 1) := dk_27 (dk_at dksX3_apprenticeOf_3 6 rfl rfl)
theorem dX3_apprenticeOf_83 : decode cX3_apprenticeOf 83 = .ok (.iadd, 1) := dk_96 (dk_at dksX3_apprenticeOf_3 7 rfl rfl)
theorem dX3_apprenticeOf_84 : decode cX3_apprenticeOf 84 = .ok (.iaload, 1) := dk_46 (dk_at dksX3_apprenticeOf_3 8 rfl rfl)
theorem dX3_apprenticeOf_85 : decode cX3_apprenticeOf 85 = .ok (.ireturn, 1) := dk_172 (dk_at dksX3_apprenticeOf_3 9 rfl rfl)
theorem dX3_apprenticeOf_86 : decode cX3_apprenticeOf 86 = .ok (.aload_n 0, 1) := dk_42 (dk_at dksX3_apprenticeOf_3 10 rfl rfl)
theorem dX3_apprenticeOf_87 : decode cX3_apprenticeOf 87 = .ok (.iload_n 1, 1) := dk_27 (dk_at dksX3_apprenticeOf_3 11 rfl rfl)
theorem dX3_apprenticeOf_88 : decode cX3_apprenticeOf 88 = .ok (.invokevirtual 111, 3) := dk_182 0 111 (dk_at dksX3_apprenticeOf_3 12 rfl rfl)
theorem dX3_apprenticeOf_91 : decode cX3_apprenticeOf 91 = .ok (.ireturn, 1) := dk_172 (dk_at dksX3_apprenticeOf_3 15 rfl rfl)
theorem dX3_apprenticeOf_92 : decode cX3_apprenticeOf 92 = .ok (.aload_n 0, 1) := dk_42 (dk_at dksX3_apprenticeOf_3 16 rfl rfl)
theorem dX3_apprenticeOf_93 : decode cX3_apprenticeOf 93 = .ok (.iload_n 1, 1) := dk_27 (dk_at dksX3_apprenticeOf_3 17 rfl rfl)
theorem dX3_apprenticeOf_94 : decode cX3_apprenticeOf 94 = .ok (.invokevirtual 116, 3) := dk_182 0 116 (dk_at dksX3_apprenticeOf_3 18 rfl rfl)
theorem dX3_apprenticeOf_97 : decode cX3_apprenticeOf 97 = .ok (.ireturn, 1) := dk_172 (dk_at dksX3_apprenticeOf_3 21 rfl rfl)
theorem dX3_apprenticeOf_98 : decode cX3_apprenticeOf 98 = .ok (.aload_n 0, 1) := dk_42 (dk_at dksX3_apprenticeOf_3 22 rfl rfl)
theorem dX3_apprenticeOf_99 : decode cX3_apprenticeOf 99 = .ok (.iload_n 1, 1) := dk_27 (dk_at dksX3_apprenticeOf_3 23 rfl rfl)
theorem dX3_apprenticeOf_100 : decode cX3_apprenticeOf 100 = .ok (.iconst 1, 1) := dk_4 (dk_at dksX3_apprenticeOf_4 0 rfl rfl)
theorem dX3_apprenticeOf_101 : decode cX3_apprenticeOf 101 = .ok (.invokevirtual 186, 3) := dk_182 0 186 (dk_at dksX3_apprenticeOf_4 1 rfl rfl)
theorem dX3_apprenticeOf_104 : decode cX3_apprenticeOf 104 = .ok (.ireturn, 1) := dk_172 (dk_at dksX3_apprenticeOf_4 4 rfl rfl)
theorem dX3_apprenticeOf_105 : decode cX3_apprenticeOf 105 = .ok (.aload_n 0, 1) := dk_42 (dk_at dksX3_apprenticeOf_4 5 rfl rfl)
theorem dX3_apprenticeOf_106 : decode cX3_apprenticeOf 106 = .ok (.iload_n 1, 1) := dk_27 (dk_at dksX3_apprenticeOf_4 6 rfl rfl)
theorem dX3_apprenticeOf_107 : decode cX3_apprenticeOf 107 = .ok (.invokevirtual 190, 3) := dk_182 0 190 (dk_at dksX3_apprenticeOf_4 7 rfl rfl)
theorem dX3_apprenticeOf_110 : decode cX3_apprenticeOf 110 = .ok (.ireturn, 1) := dk_172 (dk_at dksX3_apprenticeOf_4 10 rfl rfl)
theorem dX3_apprenticeOf_111 : decode cX3_apprenticeOf 111 = .ok (.aload_n 0, 1) := dk_42 (dk_at dksX3_apprenticeOf_4 11 rfl rfl)
theorem dX3_apprenticeOf_112 : decode cX3_apprenticeOf 112 = .ok (.iload_n 1, 1) := dk_27 (dk_at dksX3_apprenticeOf_4 12 rfl rfl)
theorem dX3_apprenticeOf_113 : decode cX3_apprenticeOf 113 = .ok (.invokevirtual 193, 3) := dk_182 0 193 (dk_at dksX3_apprenticeOf_4 13 rfl rfl)
theorem dX3_apprenticeOf_116 : decode cX3_apprenticeOf 116 = .ok (.ireturn, 1) := dk_172 (dk_at dksX3_apprenticeOf_4 16 rfl rfl)
abbrev cX3_sumServed : ByteArray := prog_23_method_50_code
def yX3_sumServed : MethodName := ⟨RX3, "sumServed", "(IZ)I"⟩
def dkwX3_sumServed_2 : List UInt8 := [132, 4, 1, 167, 255, 211, 29, 172]
abbrev dktX3_sumServed_2 : List UInt8 := dkwX3_sumServed_2 ++ []
def dkwX3_sumServed_1 : List UInt8 := [16, 6, 27, 104, 96, 21, 4, 96, 167, 0, 13, 16, 42, 16, 6, 21, 4, 104, 96, 27, 96, 46, 96, 62]
abbrev dktX3_sumServed_1 : List UInt8 := dkwX3_sumServed_1 ++ dktX3_sumServed_2
def dkwX3_sumServed_0 : List UInt8 := [3, 62, 3, 54, 4, 21, 4, 16, 6, 162, 0, 44, 29, 42, 180, 0, 9, 28, 153, 0, 16, 16, 42]
abbrev dktX3_sumServed_0 : List UInt8 := dkwX3_sumServed_0 ++ dktX3_sumServed_1
theorem dksX3_sumServed_0 : cX3_sumServed.data.toList.drop 0 = dktX3_sumServed_0 := by decide +kernel
theorem dksX3_sumServed_1 : cX3_sumServed.data.toList.drop 23 = dktX3_sumServed_1 := dk_seg dksX3_sumServed_0 23 rfl rfl
theorem dksX3_sumServed_2 : cX3_sumServed.data.toList.drop 47 = dktX3_sumServed_2 := dk_seg dksX3_sumServed_1 24 rfl rfl
theorem dX3_sumServed_0 : decode cX3_sumServed 0 = .ok (.iconst 0, 1) := dk_3 (dk_at dksX3_sumServed_0 0 rfl rfl)
theorem dX3_sumServed_1 : decode cX3_sumServed 1 = .ok (.istore_n 3, 1) := dk_62 (dk_at dksX3_sumServed_0 1 rfl rfl)
theorem dX3_sumServed_2 : decode cX3_sumServed 2 = .ok (.iconst 0, 1) := dk_3 (dk_at dksX3_sumServed_0 2 rfl rfl)
theorem dX3_sumServed_3 : decode cX3_sumServed 3 = .ok (.istore 4, 2) := dk_54 4 (dk_at dksX3_sumServed_0 3 rfl rfl)
theorem dX3_sumServed_5 : decode cX3_sumServed 5 = .ok (.iload 4, 2) := dk_21 4 (dk_at dksX3_sumServed_0 5 rfl rfl)
theorem dX3_sumServed_7 : decode cX3_sumServed 7 = .ok (.bipush 6, 2) := dk_16 6 (dk_at dksX3_sumServed_0 7 rfl rfl)
theorem dX3_sumServed_9 : decode cX3_sumServed 9 = .ok (.if_icmp .ge 44, 3) := dk_162 0 44 (dk_at dksX3_sumServed_0 9 rfl rfl)
theorem dX3_sumServed_12 : decode cX3_sumServed 12 = .ok (.iload_n 3, 1) := dk_29 (dk_at dksX3_sumServed_0 12 rfl rfl)
theorem dX3_sumServed_13 : decode cX3_sumServed 13 = .ok (.aload_n 0, 1) := dk_42 (dk_at dksX3_sumServed_0 13 rfl rfl)
theorem dX3_sumServed_14 : decode cX3_sumServed 14 = .ok (.getfield 9, 3) := dk_180 0 9 (dk_at dksX3_sumServed_0 14 rfl rfl)
theorem dX3_sumServed_17 : decode cX3_sumServed 17 = .ok (.iload_n 2, 1) := dk_28 (dk_at dksX3_sumServed_0 17 rfl rfl)
theorem dX3_sumServed_18 : decode cX3_sumServed 18 = .ok (.ifCond .eq 16, 3) := dk_153 0 16 (dk_at dksX3_sumServed_0 18 rfl rfl)
theorem dX3_sumServed_21 : decode cX3_sumServed 21 = .ok (.bipush 42, 2) := dk_16 42 (dk_at dksX3_sumServed_0 21 rfl rfl)
theorem dX3_sumServed_23 : decode cX3_sumServed 23 = .ok (.bipush 6, 2) := dk_16 6 (dk_at dksX3_sumServed_1 0 rfl rfl)
theorem dX3_sumServed_25 : decode cX3_sumServed 25 = .ok (.iload_n 1, 1) := dk_27 (dk_at dksX3_sumServed_1 2 rfl rfl)
theorem dX3_sumServed_26 : decode cX3_sumServed 26 = .ok (.imul, 1) := dk_104 (dk_at dksX3_sumServed_1 3 rfl rfl)
theorem dX3_sumServed_27 : decode cX3_sumServed 27 = .ok (.iadd, 1) := dk_96 (dk_at dksX3_sumServed_1 4 rfl rfl)
theorem dX3_sumServed_28 : decode cX3_sumServed 28 = .ok (.iload 4, 2) := dk_21 4 (dk_at dksX3_sumServed_1 5 rfl rfl)
theorem dX3_sumServed_30 : decode cX3_sumServed 30 = .ok (.iadd, 1) := dk_96 (dk_at dksX3_sumServed_1 7 rfl rfl)
theorem dX3_sumServed_31 : decode cX3_sumServed 31 = .ok (.goto 13, 3) := dk_167 0 13 (dk_at dksX3_sumServed_1 8 rfl rfl)
theorem dX3_sumServed_34 : decode cX3_sumServed 34 = .ok (.bipush 42, 2) := dk_16 42 (dk_at dksX3_sumServed_1 11 rfl rfl)
theorem dX3_sumServed_36 : decode cX3_sumServed 36 = .ok (.bipush 6, 2) := dk_16 6 (dk_at dksX3_sumServed_1 13 rfl rfl)
theorem dX3_sumServed_38 : decode cX3_sumServed 38 = .ok (.iload 4, 2) := dk_21 4 (dk_at dksX3_sumServed_1 15 rfl rfl)
theorem dX3_sumServed_40 : decode cX3_sumServed 40 = .ok (.imul, 1) := dk_104 (dk_at dksX3_sumServed_1 17 rfl rfl)
theorem dX3_sumServed_41 : decode cX3_sumServed 41 = .ok (.iadd, 1) := dk_96 (dk_at dksX3_sumServed_1 18 rfl rfl)
theorem dX3_sumServed_42 : decode cX3_sumServed 42 = .ok (.iload_n 1, 1) := dk_27 (dk_at dksX3_sumServed_1 19 rfl rfl)
theorem dX3_sumServed_43 : decode cX3_sumServed 43 = .ok (.iadd, 1) := dk_96 (dk_at dksX3_sumServed_1 20 rfl rfl)
theorem dX3_sumServed_44 : decode cX3_sumServed 44 = .ok (.iaload, 1) := dk_46 (dk_at dksX3_sumServed_1 21 rfl rfl)
theorem dX3_sumServed_45 : decode cX3_sumServed 45 = .ok (.iadd, 1) := dk_96 (dk_at dksX3_sumServed_1 22 rfl rfl)
theorem dX3_sumServed_46 : decode cX3_sumServed 46 = .ok (.istore_n 3, 1) := dk_62 (dk_at dksX3_sumServed_1 23 rfl rfl)
theorem dX3_sumServed_47 : decode cX3_sumServed 47 = .ok (.iinc 4 1, 3) := dk_132 4 1 (dk_at dksX3_sumServed_2 0 rfl rfl)
theorem dX3_sumServed_50 : decode cX3_sumServed 50 = .ok (.goto (-45), 3) := dk_167 255 211 (dk_at dksX3_sumServed_2 3 rfl rfl)
theorem dX3_sumServed_53 : decode cX3_sumServed 53 = .ok (.iload_n 3, 1) := dk_29 (dk_at dksX3_sumServed_2 6 rfl rfl)
theorem dX3_sumServed_54 : decode cX3_sumServed 54 = .ok (.ireturn, 1) := dk_172 (dk_at dksX3_sumServed_2 7 rfl rfl)
abbrev cX3_mayHave : ByteArray := prog_23_method_51_code
def yX3_mayHave : MethodName := ⟨RX3, "mayHave", "(I)I"⟩
def dkwX3_mayHave_1 : List UInt8 := [3, 167, 0, 4, 4, 96, 61, 132, 3, 1, 167, 255, 226, 28, 172]
abbrev dktX3_mayHave_1 : List UInt8 := dkwX3_mayHave_1 ++ []
def dkwX3_mayHave_0 : List UInt8 := [3, 61, 3, 62, 29, 42, 180, 0, 9, 4, 46, 162, 0, 26, 28, 42, 27, 29, 182, 0, 102, 153, 0, 7]
abbrev dktX3_mayHave_0 : List UInt8 := dkwX3_mayHave_0 ++ dktX3_mayHave_1
theorem dksX3_mayHave_0 : cX3_mayHave.data.toList.drop 0 = dktX3_mayHave_0 := by decide +kernel
theorem dksX3_mayHave_1 : cX3_mayHave.data.toList.drop 24 = dktX3_mayHave_1 := dk_seg dksX3_mayHave_0 24 rfl rfl
theorem dX3_mayHave_0 : decode cX3_mayHave 0 = .ok (.iconst 0, 1) := dk_3 (dk_at dksX3_mayHave_0 0 rfl rfl)
theorem dX3_mayHave_1 : decode cX3_mayHave 1 = .ok (.istore_n 2, 1) := dk_61 (dk_at dksX3_mayHave_0 1 rfl rfl)
theorem dX3_mayHave_2 : decode cX3_mayHave 2 = .ok (.iconst 0, 1) := dk_3 (dk_at dksX3_mayHave_0 2 rfl rfl)
theorem dX3_mayHave_3 : decode cX3_mayHave 3 = .ok (.istore_n 3, 1) := dk_62 (dk_at dksX3_mayHave_0 3 rfl rfl)
theorem dX3_mayHave_4 : decode cX3_mayHave 4 = .ok (.iload_n 3, 1) := dk_29 (dk_at dksX3_mayHave_0 4 rfl rfl)
theorem dX3_mayHave_5 : decode cX3_mayHave 5 = .ok (.aload_n 0, 1) := dk_42 (dk_at dksX3_mayHave_0 5 rfl rfl)
theorem dX3_mayHave_6 : decode cX3_mayHave 6 = .ok (.getfield 9, 3) := dk_180 0 9 (dk_at dksX3_mayHave_0 6 rfl rfl)
theorem dX3_mayHave_9 : decode cX3_mayHave 9 = .ok (.iconst 1, 1) := dk_4 (dk_at dksX3_mayHave_0 9 rfl rfl)
theorem dX3_mayHave_10 : decode cX3_mayHave 10 = .ok (.iaload, 1) := dk_46 (dk_at dksX3_mayHave_0 10 rfl rfl)
theorem dX3_mayHave_11 : decode cX3_mayHave 11 = .ok (.if_icmp .ge 26, 3) := dk_162 0 26 (dk_at dksX3_mayHave_0 11 rfl rfl)
theorem dX3_mayHave_14 : decode cX3_mayHave 14 = .ok (.iload_n 2, 1) := dk_28 (dk_at dksX3_mayHave_0 14 rfl rfl)
theorem dX3_mayHave_15 : decode cX3_mayHave 15 = .ok (.aload_n 0, 1) := dk_42 (dk_at dksX3_mayHave_0 15 rfl rfl)
theorem dX3_mayHave_16 : decode cX3_mayHave 16 = .ok (.iload_n 1, 1) := dk_27 (dk_at dksX3_mayHave_0 16 rfl rfl)
theorem dX3_mayHave_17 : decode cX3_mayHave 17 = .ok (.iload_n 3, 1) := dk_29 (dk_at dksX3_mayHave_0 17 rfl rfl)
theorem dX3_mayHave_18 : decode cX3_mayHave 18 = .ok (.invokevirtual 102, 3) := dk_182 0 102 (dk_at dksX3_mayHave_0 18 rfl rfl)
theorem dX3_mayHave_21 : decode cX3_mayHave 21 = .ok (.ifCond .eq 7, 3) := dk_153 0 7 (dk_at dksX3_mayHave_0 21 rfl rfl)
theorem dX3_mayHave_24 : decode cX3_mayHave 24 = .ok (.iconst 0, 1) := dk_3 (dk_at dksX3_mayHave_1 0 rfl rfl)
theorem dX3_mayHave_25 : decode cX3_mayHave 25 = .ok (.goto 4, 3) := dk_167 0 4 (dk_at dksX3_mayHave_1 1 rfl rfl)
theorem dX3_mayHave_28 : decode cX3_mayHave 28 = .ok (.iconst 1, 1) := dk_4 (dk_at dksX3_mayHave_1 4 rfl rfl)
theorem dX3_mayHave_29 : decode cX3_mayHave 29 = .ok (.iadd, 1) := dk_96 (dk_at dksX3_mayHave_1 5 rfl rfl)
theorem dX3_mayHave_30 : decode cX3_mayHave 30 = .ok (.istore_n 2, 1) := dk_61 (dk_at dksX3_mayHave_1 6 rfl rfl)
theorem dX3_mayHave_31 : decode cX3_mayHave 31 = .ok (.iinc 3 1, 3) := dk_132 3 1 (dk_at dksX3_mayHave_1 7 rfl rfl)
theorem dX3_mayHave_34 : decode cX3_mayHave 34 = .ok (.goto (-30), 3) := dk_167 255 226 (dk_at dksX3_mayHave_1 10 rfl rfl)
theorem dX3_mayHave_37 : decode cX3_mayHave 37 = .ok (.iload_n 2, 1) := dk_28 (dk_at dksX3_mayHave_1 13 rfl rfl)
theorem dX3_mayHave_38 : decode cX3_mayHave 38 = .ok (.ireturn, 1) := dk_172 (dk_at dksX3_mayHave_1 14 rfl rfl)
abbrev cX3_inFirst : ByteArray := prog_23_method_52_code
def yX3_inFirst : MethodName := ⟨RX3, "inFirst", "(I)I"⟩
def dkwX3_inFirst_0 : List UInt8 := [42, 182, 0, 136, 42, 180, 0, 139, 154, 0, 7, 2, 167, 0, 9, 42, 180, 0, 16, 27, 46, 172]
abbrev dktX3_inFirst_0 : List UInt8 := dkwX3_inFirst_0 ++ []
theorem dksX3_inFirst_0 : cX3_inFirst.data.toList.drop 0 = dktX3_inFirst_0 := by decide +kernel
theorem dX3_inFirst_0 : decode cX3_inFirst 0 = .ok (.aload_n 0, 1) := dk_42 (dk_at dksX3_inFirst_0 0 rfl rfl)
theorem dX3_inFirst_1 : decode cX3_inFirst 1 = .ok (.invokevirtual 136, 3) := dk_182 0 136 (dk_at dksX3_inFirst_0 1 rfl rfl)
theorem dX3_inFirst_4 : decode cX3_inFirst 4 = .ok (.aload_n 0, 1) := dk_42 (dk_at dksX3_inFirst_0 4 rfl rfl)
theorem dX3_inFirst_5 : decode cX3_inFirst 5 = .ok (.getfield 139, 3) := dk_180 0 139 (dk_at dksX3_inFirst_0 5 rfl rfl)
theorem dX3_inFirst_8 : decode cX3_inFirst 8 = .ok (.ifCond .ne 7, 3) := dk_154 0 7 (dk_at dksX3_inFirst_0 8 rfl rfl)
theorem dX3_inFirst_11 : decode cX3_inFirst 11 = .ok (.iconst (-1), 1) := dk_2 (dk_at dksX3_inFirst_0 11 rfl rfl)
theorem dX3_inFirst_12 : decode cX3_inFirst 12 = .ok (.goto 9, 3) := dk_167 0 9 (dk_at dksX3_inFirst_0 12 rfl rfl)
theorem dX3_inFirst_15 : decode cX3_inFirst 15 = .ok (.aload_n 0, 1) := dk_42 (dk_at dksX3_inFirst_0 15 rfl rfl)
theorem dX3_inFirst_16 : decode cX3_inFirst 16 = .ok (.getfield 16, 3) := dk_180 0 16 (dk_at dksX3_inFirst_0 16 rfl rfl)
theorem dX3_inFirst_19 : decode cX3_inFirst 19 = .ok (.iload_n 1, 1) := dk_27 (dk_at dksX3_inFirst_0 19 rfl rfl)
theorem dX3_inFirst_20 : decode cX3_inFirst 20 = .ok (.iaload, 1) := dk_46 (dk_at dksX3_inFirst_0 20 rfl rfl)
theorem dX3_inFirst_21 : decode cX3_inFirst 21 = .ok (.ireturn, 1) := dk_172 (dk_at dksX3_inFirst_0 21 rfl rfl)
abbrev cX3_masterOf : ByteArray := prog_23_method_55_code
def yX3_masterOf : MethodName := ⟨RX3, "masterOf", "(II)I"⟩
def dkwX3_masterOf_4 : List UInt8 := [46, 172, 42, 27, 3, 182, 0, 186, 172, 42, 27, 182, 0, 196, 172]
abbrev dktX3_masterOf_4 : List UInt8 := dkwX3_masterOf_4 ++ []
def dkwX3_masterOf_3 : List UInt8 := [42, 180, 0, 9, 16, 78, 27, 96, 46, 172, 42, 27, 182, 0, 119, 172, 42, 180, 0, 9, 16, 90, 27, 96]
abbrev dktX3_masterOf_3 : List UInt8 := dkwX3_masterOf_3 ++ dktX3_masterOf_4
def dkwX3_masterOf_2 : List UInt8 := [170, 0, 0, 0, 0, 0, 0, 65, 0, 0, 0, 0, 0, 0, 0, 3, 0, 0, 0, 32, 0, 0, 0, 42, 0, 0, 0, 48, 0, 0, 0, 58]
abbrev dktX3_masterOf_2 : List UInt8 := dkwX3_masterOf_2 ++ dktX3_masterOf_3
def dkwX3_masterOf_1 : List UInt8 := [167, 0, 4, 5, 181, 0, 33, 42, 180, 0, 33, 153, 0, 5, 3, 172, 28]
abbrev dktX3_masterOf_1 : List UInt8 := dkwX3_masterOf_1 ++ dktX3_masterOf_2
def dkwX3_masterOf_0 : List UInt8 := [42, 42, 27, 182, 0, 78, 154, 0, 7, 4, 167, 0, 17, 28, 3, 7, 184, 0, 66, 153, 0, 7, 3]
abbrev dktX3_masterOf_0 : List UInt8 := dkwX3_masterOf_0 ++ dktX3_masterOf_1
theorem dksX3_masterOf_0 : cX3_masterOf.data.toList.drop 0 = dktX3_masterOf_0 := by decide +kernel
theorem dksX3_masterOf_1 : cX3_masterOf.data.toList.drop 23 = dktX3_masterOf_1 := dk_seg dksX3_masterOf_0 23 rfl rfl
theorem dksX3_masterOf_2 : cX3_masterOf.data.toList.drop 40 = dktX3_masterOf_2 := dk_seg dksX3_masterOf_1 17 rfl rfl
theorem dksX3_masterOf_3 : cX3_masterOf.data.toList.drop 72 = dktX3_masterOf_3 := dk_seg dksX3_masterOf_2 32 rfl rfl
theorem dksX3_masterOf_4 : cX3_masterOf.data.toList.drop 96 = dktX3_masterOf_4 := dk_seg dksX3_masterOf_3 24 rfl rfl
theorem dX3_masterOf_0 : decode cX3_masterOf 0 = .ok (.aload_n 0, 1) := dk_42 (dk_at dksX3_masterOf_0 0 rfl rfl)
theorem dX3_masterOf_1 : decode cX3_masterOf 1 = .ok (.aload_n 0, 1) := dk_42 (dk_at dksX3_masterOf_0 1 rfl rfl)
theorem dX3_masterOf_2 : decode cX3_masterOf 2 = .ok (.iload_n 1, 1) := dk_27 (dk_at dksX3_masterOf_0 2 rfl rfl)
theorem dX3_masterOf_3 : decode cX3_masterOf 3 = .ok (.invokevirtual 78, 3) := dk_182 0 78 (dk_at dksX3_masterOf_0 3 rfl rfl)
theorem dX3_masterOf_6 : decode cX3_masterOf 6 = .ok (.ifCond .ne 7, 3) := dk_154 0 7 (dk_at dksX3_masterOf_0 6 rfl rfl)
theorem dX3_masterOf_9 : decode cX3_masterOf 9 = .ok (.iconst 1, 1) := dk_4 (dk_at dksX3_masterOf_0 9 rfl rfl)
theorem dX3_masterOf_10 : decode cX3_masterOf 10 = .ok (.goto 17, 3) := dk_167 0 17 (dk_at dksX3_masterOf_0 10 rfl rfl)
theorem dX3_masterOf_13 : decode cX3_masterOf 13 = .ok (.iload_n 2, 1) := dk_28 (dk_at dksX3_masterOf_0 13 rfl rfl)
theorem dX3_masterOf_14 : decode cX3_masterOf 14 = .ok (.iconst 0, 1) := dk_3 (dk_at dksX3_masterOf_0 14 rfl rfl)
theorem dX3_masterOf_15 : decode cX3_masterOf 15 = .ok (.iconst 4, 1) := dk_7 (dk_at dksX3_masterOf_0 15 rfl rfl)
theorem dX3_masterOf_16 : decode cX3_masterOf 16 = .ok (.invokestatic 66, 3) := dk_184 0 66 (dk_at dksX3_masterOf_0 16 rfl rfl)
theorem dX3_masterOf_19 : decode cX3_masterOf 19 = .ok (.ifCond .eq 7, 3) := dk_153 0 7 (dk_at dksX3_masterOf_0 19 rfl rfl)
theorem dX3_masterOf_22 : decode cX3_masterOf 22 = .ok (.iconst 0, 1) := dk_3 (dk_at dksX3_masterOf_0 22 rfl rfl)
theorem dX3_masterOf_23 : decode cX3_masterOf 23 = .ok (.goto 4, 3) := dk_167 0 4 (dk_at dksX3_masterOf_1 0 rfl rfl)
theorem dX3_masterOf_26 : decode cX3_masterOf 26 = .ok (.iconst 2, 1) := dk_5 (dk_at dksX3_masterOf_1 3 rfl rfl)
theorem dX3_masterOf_27 : decode cX3_masterOf 27 = .ok (.putfield 33, 3) := dk_181 0 33 (dk_at dksX3_masterOf_1 4 rfl rfl)
theorem dX3_masterOf_30 : decode cX3_masterOf 30 = .ok (.aload_n 0, 1) := dk_42 (dk_at dksX3_masterOf_1 7 rfl rfl)
theorem dX3_masterOf_31 : decode cX3_masterOf 31 = .ok (.getfield 33, 3) := dk_180 0 33 (dk_at dksX3_masterOf_1 8 rfl rfl)
theorem dX3_masterOf_34 : decode cX3_masterOf 34 = .ok (.ifCond .eq 5, 3) := dk_153 0 5 (dk_at dksX3_masterOf_1 11 rfl rfl)
theorem dX3_masterOf_37 : decode cX3_masterOf 37 = .ok (.iconst 0, 1) := dk_3 (dk_at dksX3_masterOf_1 14 rfl rfl)
theorem dX3_masterOf_38 : decode cX3_masterOf 38 = .ok (.ireturn, 1) := dk_172 (dk_at dksX3_masterOf_1 15 rfl rfl)
theorem dX3_masterOf_39 : decode cX3_masterOf 39 = .ok (.iload_n 2, 1) := dk_28 (dk_at dksX3_masterOf_1 16 rfl rfl)
theorem dX3_masterOf_40 : decode cX3_masterOf 40 = .ok (.tableswitch 65 0 3 #[32, 42, 48, 58], 32) := by decide +kernel
theorem dX3_masterOf_72 : decode cX3_masterOf 72 = .ok (.aload_n 0, 1) := dk_42 (dk_at dksX3_masterOf_3 0 rfl rfl)
theorem dX3_masterOf_73 : decode cX3_masterOf 73 = .ok (.getfield 9, 3) := dk_180 0 9 (dk_at dksX3_masterOf_3 1 rfl rfl)
theorem dX3_masterOf_76 : decode cX3_masterOf 76 = .ok (.bipush 78, 2) := dk_16 78 (dk_at dksX3_masterOf_3 4 rfl rfl)
theorem dX3_masterOf_78 : decode cX3_masterOf 78 = .ok (.iload_n 1, 1) := dk_27 (dk_at dksX3_masterOf_3 6 rfl rfl)
theorem dX3_masterOf_79 : decode cX3_masterOf 79 = .ok (.iadd, 1) := dk_96 (dk_at dksX3_masterOf_3 7 rfl rfl)
theorem dX3_masterOf_80 : decode cX3_masterOf 80 = .ok (.iaload, 1) := dk_46 (dk_at dksX3_masterOf_3 8 rfl rfl)
theorem dX3_masterOf_81 : decode cX3_masterOf 81 = .ok (.ireturn, 1) := dk_172 (dk_at dksX3_masterOf_3 9 rfl rfl)
theorem dX3_masterOf_82 : decode cX3_masterOf 82 = .ok (.aload_n 0, 1) := dk_42 (dk_at dksX3_masterOf_3 10 rfl rfl)
theorem dX3_masterOf_83 : decode cX3_masterOf 83 = .ok (.iload_n 1, 1) := dk_27 (dk_at dksX3_masterOf_3 11 rfl rfl)
theorem dX3_masterOf_84 : decode cX3_masterOf 84 = .ok (.invokevirtual 119, 3) := dk_182 0 119 (dk_at dksX3_masterOf_3 12 rfl rfl)
theorem dX3_masterOf_87 : decode cX3_masterOf 87 = .ok (.ireturn, 1) := dk_172 (dk_at dksX3_masterOf_3 15 rfl rfl)
theorem dX3_masterOf_88 : decode cX3_masterOf 88 = .ok (.aload_n 0, 1) := dk_42 (dk_at dksX3_masterOf_3 16 rfl rfl)
theorem dX3_masterOf_89 : decode cX3_masterOf 89 = .ok (.getfield 9, 3) := dk_180 0 9 (dk_at dksX3_masterOf_3 17 rfl rfl)
theorem dX3_masterOf_92 : decode cX3_masterOf 92 = .ok (.bipush 90, 2) := dk_16 90 (dk_at dksX3_masterOf_3 20 rfl rfl)
theorem dX3_masterOf_94 : decode cX3_masterOf 94 = .ok (.iload_n 1, 1) := dk_27 (dk_at dksX3_masterOf_3 22 rfl rfl)
theorem dX3_masterOf_95 : decode cX3_masterOf 95 = .ok (.iadd, 1) := dk_96 (dk_at dksX3_masterOf_3 23 rfl rfl)
theorem dX3_masterOf_96 : decode cX3_masterOf 96 = .ok (.iaload, 1) := dk_46 (dk_at dksX3_masterOf_4 0 rfl rfl)
theorem dX3_masterOf_97 : decode cX3_masterOf 97 = .ok (.ireturn, 1) := dk_172 (dk_at dksX3_masterOf_4 1 rfl rfl)
theorem dX3_masterOf_98 : decode cX3_masterOf 98 = .ok (.aload_n 0, 1) := dk_42 (dk_at dksX3_masterOf_4 2 rfl rfl)
theorem dX3_masterOf_99 : decode cX3_masterOf 99 = .ok (.iload_n 1, 1) := dk_27 (dk_at dksX3_masterOf_4 3 rfl rfl)
theorem dX3_masterOf_100 : decode cX3_masterOf 100 = .ok (.iconst 0, 1) := dk_3 (dk_at dksX3_masterOf_4 4 rfl rfl)
theorem dX3_masterOf_101 : decode cX3_masterOf 101 = .ok (.invokevirtual 186, 3) := dk_182 0 186 (dk_at dksX3_masterOf_4 5 rfl rfl)
theorem dX3_masterOf_104 : decode cX3_masterOf 104 = .ok (.ireturn, 1) := dk_172 (dk_at dksX3_masterOf_4 8 rfl rfl)
theorem dX3_masterOf_105 : decode cX3_masterOf 105 = .ok (.aload_n 0, 1) := dk_42 (dk_at dksX3_masterOf_4 9 rfl rfl)
theorem dX3_masterOf_106 : decode cX3_masterOf 106 = .ok (.iload_n 1, 1) := dk_27 (dk_at dksX3_masterOf_4 10 rfl rfl)
theorem dX3_masterOf_107 : decode cX3_masterOf 107 = .ok (.invokevirtual 196, 3) := dk_182 0 196 (dk_at dksX3_masterOf_4 11 rfl rfl)
theorem dX3_masterOf_110 : decode cX3_masterOf 110 = .ok (.ireturn, 1) := dk_172 (dk_at dksX3_masterOf_4 14 rfl rfl)
abbrev cX3_likedBy : ByteArray := prog_23_method_54_code
def yX3_likedBy : MethodName := ⟨RX3, "likedBy", "(I)I"⟩
def dkwX3_likedBy_1 : List UInt8 := [4, 167, 0, 4, 3, 96, 61, 132, 3, 1, 167, 255, 226, 28, 172]
abbrev dktX3_likedBy_1 : List UInt8 := dkwX3_likedBy_1 ++ []
def dkwX3_likedBy_0 : List UInt8 := [3, 61, 3, 62, 29, 42, 180, 0, 9, 3, 46, 162, 0, 26, 28, 42, 29, 182, 0, 111, 27, 160, 0, 7]
abbrev dktX3_likedBy_0 : List UInt8 := dkwX3_likedBy_0 ++ dktX3_likedBy_1
theorem dksX3_likedBy_0 : cX3_likedBy.data.toList.drop 0 = dktX3_likedBy_0 := by decide +kernel
theorem dksX3_likedBy_1 : cX3_likedBy.data.toList.drop 24 = dktX3_likedBy_1 := dk_seg dksX3_likedBy_0 24 rfl rfl
theorem dX3_likedBy_0 : decode cX3_likedBy 0 = .ok (.iconst 0, 1) := dk_3 (dk_at dksX3_likedBy_0 0 rfl rfl)
theorem dX3_likedBy_1 : decode cX3_likedBy 1 = .ok (.istore_n 2, 1) := dk_61 (dk_at dksX3_likedBy_0 1 rfl rfl)
theorem dX3_likedBy_2 : decode cX3_likedBy 2 = .ok (.iconst 0, 1) := dk_3 (dk_at dksX3_likedBy_0 2 rfl rfl)
theorem dX3_likedBy_3 : decode cX3_likedBy 3 = .ok (.istore_n 3, 1) := dk_62 (dk_at dksX3_likedBy_0 3 rfl rfl)
theorem dX3_likedBy_4 : decode cX3_likedBy 4 = .ok (.iload_n 3, 1) := dk_29 (dk_at dksX3_likedBy_0 4 rfl rfl)
theorem dX3_likedBy_5 : decode cX3_likedBy 5 = .ok (.aload_n 0, 1) := dk_42 (dk_at dksX3_likedBy_0 5 rfl rfl)
theorem dX3_likedBy_6 : decode cX3_likedBy 6 = .ok (.getfield 9, 3) := dk_180 0 9 (dk_at dksX3_likedBy_0 6 rfl rfl)
theorem dX3_likedBy_9 : decode cX3_likedBy 9 = .ok (.iconst 0, 1) := dk_3 (dk_at dksX3_likedBy_0 9 rfl rfl)
theorem dX3_likedBy_10 : decode cX3_likedBy 10 = .ok (.iaload, 1) := dk_46 (dk_at dksX3_likedBy_0 10 rfl rfl)
theorem dX3_likedBy_11 : decode cX3_likedBy 11 = .ok (.if_icmp .ge 26, 3) := dk_162 0 26 (dk_at dksX3_likedBy_0 11 rfl rfl)
theorem dX3_likedBy_14 : decode cX3_likedBy 14 = .ok (.iload_n 2, 1) := dk_28 (dk_at dksX3_likedBy_0 14 rfl rfl)
theorem dX3_likedBy_15 : decode cX3_likedBy 15 = .ok (.aload_n 0, 1) := dk_42 (dk_at dksX3_likedBy_0 15 rfl rfl)
theorem dX3_likedBy_16 : decode cX3_likedBy 16 = .ok (.iload_n 3, 1) := dk_29 (dk_at dksX3_likedBy_0 16 rfl rfl)
theorem dX3_likedBy_17 : decode cX3_likedBy 17 = .ok (.invokevirtual 111, 3) := dk_182 0 111 (dk_at dksX3_likedBy_0 17 rfl rfl)
theorem dX3_likedBy_20 : decode cX3_likedBy 20 = .ok (.iload_n 1, 1) := dk_27 (dk_at dksX3_likedBy_0 20 rfl rfl)
theorem dX3_likedBy_21 : decode cX3_likedBy 21 = .ok (.if_icmp .ne 7, 3) := dk_160 0 7 (dk_at dksX3_likedBy_0 21 rfl rfl)
theorem dX3_likedBy_24 : decode cX3_likedBy 24 = .ok (.iconst 1, 1) := dk_4 (dk_at dksX3_likedBy_1 0 rfl rfl)
theorem dX3_likedBy_25 : decode cX3_likedBy 25 = .ok (.goto 4, 3) := dk_167 0 4 (dk_at dksX3_likedBy_1 1 rfl rfl)
theorem dX3_likedBy_28 : decode cX3_likedBy 28 = .ok (.iconst 0, 1) := dk_3 (dk_at dksX3_likedBy_1 4 rfl rfl)
theorem dX3_likedBy_29 : decode cX3_likedBy 29 = .ok (.iadd, 1) := dk_96 (dk_at dksX3_likedBy_1 5 rfl rfl)
theorem dX3_likedBy_30 : decode cX3_likedBy 30 = .ok (.istore_n 2, 1) := dk_61 (dk_at dksX3_likedBy_1 6 rfl rfl)
theorem dX3_likedBy_31 : decode cX3_likedBy 31 = .ok (.iinc 3 1, 3) := dk_132 3 1 (dk_at dksX3_likedBy_1 7 rfl rfl)
theorem dX3_likedBy_34 : decode cX3_likedBy 34 = .ok (.goto (-30), 3) := dk_167 255 226 (dk_at dksX3_likedBy_1 10 rfl rfl)
theorem dX3_likedBy_37 : decode cX3_likedBy 37 = .ok (.iload_n 2, 1) := dk_28 (dk_at dksX3_likedBy_1 13 rfl rfl)
theorem dX3_likedBy_38 : decode cX3_likedBy 38 = .ok (.ireturn, 1) := dk_172 (dk_at dksX3_likedBy_1 14 rfl rfl)
abbrev cX3_served : ByteArray := prog_23_method_56_code
def yX3_served : MethodName := ⟨RX3, "served", "(II)I"⟩
def dkwX3_served_1 : List UInt8 := [167, 0, 4, 3, 172]
abbrev dktX3_served_1 : List UInt8 := dkwX3_served_1 ++ []
def dkwX3_served_0 : List UInt8 := [42, 27, 28, 182, 0, 183, 153, 0, 20, 42, 180, 0, 9, 16, 42, 16, 6, 27, 104, 96, 28, 96, 46]
abbrev dktX3_served_0 : List UInt8 := dkwX3_served_0 ++ dktX3_served_1
theorem dksX3_served_0 : cX3_served.data.toList.drop 0 = dktX3_served_0 := by decide +kernel
theorem dksX3_served_1 : cX3_served.data.toList.drop 23 = dktX3_served_1 := dk_seg dksX3_served_0 23 rfl rfl
theorem dX3_served_0 : decode cX3_served 0 = .ok (.aload_n 0, 1) := dk_42 (dk_at dksX3_served_0 0 rfl rfl)
theorem dX3_served_1 : decode cX3_served 1 = .ok (.iload_n 1, 1) := dk_27 (dk_at dksX3_served_0 1 rfl rfl)
theorem dX3_served_2 : decode cX3_served 2 = .ok (.iload_n 2, 1) := dk_28 (dk_at dksX3_served_0 2 rfl rfl)
theorem dX3_served_3 : decode cX3_served 3 = .ok (.invokevirtual 183, 3) := dk_182 0 183 (dk_at dksX3_served_0 3 rfl rfl)
theorem dX3_served_6 : decode cX3_served 6 = .ok (.ifCond .eq 20, 3) := dk_153 0 20 (dk_at dksX3_served_0 6 rfl rfl)
theorem dX3_served_9 : decode cX3_served 9 = .ok (.aload_n 0, 1) := dk_42 (dk_at dksX3_served_0 9 rfl rfl)
theorem dX3_served_10 : decode cX3_served 10 = .ok (.getfield 9, 3) := dk_180 0 9 (dk_at dksX3_served_0 10 rfl rfl)
theorem dX3_served_13 : decode cX3_served 13 = .ok (.bipush 42, 2) := dk_16 42 (dk_at dksX3_served_0 13 rfl rfl)
theorem dX3_served_15 : decode cX3_served 15 = .ok (.bipush 6, 2) := dk_16 6 (dk_at dksX3_served_0 15 rfl rfl)
theorem dX3_served_17 : decode cX3_served 17 = .ok (.iload_n 1, 1) := dk_27 (dk_at dksX3_served_0 17 rfl rfl)
theorem dX3_served_18 : decode cX3_served 18 = .ok (.imul, 1) := dk_104 (dk_at dksX3_served_0 18 rfl rfl)
theorem dX3_served_19 : decode cX3_served 19 = .ok (.iadd, 1) := dk_96 (dk_at dksX3_served_0 19 rfl rfl)
theorem dX3_served_20 : decode cX3_served 20 = .ok (.iload_n 2, 1) := dk_28 (dk_at dksX3_served_0 20 rfl rfl)
theorem dX3_served_21 : decode cX3_served 21 = .ok (.iadd, 1) := dk_96 (dk_at dksX3_served_0 21 rfl rfl)
theorem dX3_served_22 : decode cX3_served 22 = .ok (.iaload, 1) := dk_46 (dk_at dksX3_served_0 22 rfl rfl)
theorem dX3_served_23 : decode cX3_served 23 = .ok (.goto 4, 3) := dk_167 0 4 (dk_at dksX3_served_1 0 rfl rfl)
theorem dX3_served_26 : decode cX3_served 26 = .ok (.iconst 0, 1) := dk_3 (dk_at dksX3_served_1 3 rfl rfl)
theorem dX3_served_27 : decode cX3_served 27 = .ok (.ireturn, 1) := dk_172 (dk_at dksX3_served_1 4 rfl rfl)
abbrev cX3_least : ByteArray := prog_23_method_57_code
def yX3_least : MethodName := ⟨RX3, "least", "()I"⟩
def dkwX3_least_1 : List UInt8 := [180, 0, 160, 167, 0, 4, 3, 172]
abbrev dktX3_least_1 : List UInt8 := dkwX3_least_1 ++ []
def dkwX3_least_0 : List UInt8 := [42, 182, 0, 136, 42, 42, 180, 0, 139, 158, 0, 7, 4, 167, 0, 4, 3, 182, 0, 55, 153, 0, 10, 42]
abbrev dktX3_least_0 : List UInt8 := dkwX3_least_0 ++ dktX3_least_1
theorem dksX3_least_0 : cX3_least.data.toList.drop 0 = dktX3_least_0 := by decide +kernel
theorem dksX3_least_1 : cX3_least.data.toList.drop 24 = dktX3_least_1 := dk_seg dksX3_least_0 24 rfl rfl
theorem dX3_least_0 : decode cX3_least 0 = .ok (.aload_n 0, 1) := dk_42 (dk_at dksX3_least_0 0 rfl rfl)
theorem dX3_least_1 : decode cX3_least 1 = .ok (.invokevirtual 136, 3) := dk_182 0 136 (dk_at dksX3_least_0 1 rfl rfl)
theorem dX3_least_4 : decode cX3_least 4 = .ok (.aload_n 0, 1) := dk_42 (dk_at dksX3_least_0 4 rfl rfl)
theorem dX3_least_5 : decode cX3_least 5 = .ok (.aload_n 0, 1) := dk_42 (dk_at dksX3_least_0 5 rfl rfl)
theorem dX3_least_6 : decode cX3_least 6 = .ok (.getfield 139, 3) := dk_180 0 139 (dk_at dksX3_least_0 6 rfl rfl)
theorem dX3_least_9 : decode cX3_least 9 = .ok (.ifCond .le 7, 3) := dk_158 0 7 (dk_at dksX3_least_0 9 rfl rfl)
theorem dX3_least_12 : decode cX3_least 12 = .ok (.iconst 1, 1) := dk_4 (dk_at dksX3_least_0 12 rfl rfl)
theorem dX3_least_13 : decode cX3_least 13 = .ok (.goto 4, 3) := dk_167 0 4 (dk_at dksX3_least_0 13 rfl rfl)
theorem dX3_least_16 : decode cX3_least 16 = .ok (.iconst 0, 1) := dk_3 (dk_at dksX3_least_0 16 rfl rfl)
theorem dX3_least_17 : decode cX3_least 17 = .ok (.invokevirtual 55, 3) := dk_182 0 55 (dk_at dksX3_least_0 17 rfl rfl)
theorem dX3_least_20 : decode cX3_least 20 = .ok (.ifCond .eq 10, 3) := dk_153 0 10 (dk_at dksX3_least_0 20 rfl rfl)
theorem dX3_least_23 : decode cX3_least 23 = .ok (.aload_n 0, 1) := dk_42 (dk_at dksX3_least_0 23 rfl rfl)
theorem dX3_least_24 : decode cX3_least 24 = .ok (.getfield 160, 3) := dk_180 0 160 (dk_at dksX3_least_1 0 rfl rfl)
theorem dX3_least_27 : decode cX3_least 27 = .ok (.goto 4, 3) := dk_167 0 4 (dk_at dksX3_least_1 3 rfl rfl)
theorem dX3_least_30 : decode cX3_least 30 = .ok (.iconst 0, 1) := dk_3 (dk_at dksX3_least_1 6 rfl rfl)
theorem dX3_least_31 : decode cX3_least 31 = .ok (.ireturn, 1) := dk_172 (dk_at dksX3_least_1 7 rfl rfl)
abbrev cX3_leastAgain : ByteArray := prog_23_method_58_code
def yX3_leastAgain : MethodName := ⟨RX3, "leastAgain", "()I"⟩
theorem dX3_leastAgain_0 : decode cX3_leastAgain 0 = .ok (.aload_n 0, 1) := by decide +kernel
theorem dX3_leastAgain_1 : decode cX3_leastAgain 1 = .ok (.invokevirtual 199, 3) := by decide +kernel
theorem dX3_leastAgain_4 : decode cX3_leastAgain 4 = .ok (.ireturn, 1) := by decide +kernel
abbrev cX3_with : ByteArray := prog_23_method_59_code
def yX3_with : MethodName := ⟨RX3, "with", "(II)I"⟩
def dkwX3_with_2 : List UInt8 := [167, 0, 4, 3, 172]
abbrev dktX3_with_2 : List UInt8 := dkwX3_with_2 ++ []
def dkwX3_with_1 : List UInt8 := [158, 0, 7, 3, 167, 0, 4, 5, 181, 0, 33, 42, 180, 0, 33, 154, 0, 10, 42, 180, 0, 160]
abbrev dktX3_with_1 : List UInt8 := dkwX3_with_1 ++ dktX3_with_2
def dkwX3_with_0 : List UInt8 := [42, 27, 28, 182, 0, 183, 154, 0, 5, 3, 172, 42, 27, 28, 182, 0, 177, 42, 42, 180, 0, 139]
abbrev dktX3_with_0 : List UInt8 := dkwX3_with_0 ++ dktX3_with_1
theorem dksX3_with_0 : cX3_with.data.toList.drop 0 = dktX3_with_0 := by decide +kernel
theorem dksX3_with_1 : cX3_with.data.toList.drop 22 = dktX3_with_1 := dk_seg dksX3_with_0 22 rfl rfl
theorem dksX3_with_2 : cX3_with.data.toList.drop 44 = dktX3_with_2 := dk_seg dksX3_with_1 22 rfl rfl
theorem dX3_with_0 : decode cX3_with 0 = .ok (.aload_n 0, 1) := dk_42 (dk_at dksX3_with_0 0 rfl rfl)
theorem dX3_with_1 : decode cX3_with 1 = .ok (.iload_n 1, 1) := dk_27 (dk_at dksX3_with_0 1 rfl rfl)
theorem dX3_with_2 : decode cX3_with 2 = .ok (.iload_n 2, 1) := dk_28 (dk_at dksX3_with_0 2 rfl rfl)
theorem dX3_with_3 : decode cX3_with 3 = .ok (.invokevirtual 183, 3) := dk_182 0 183 (dk_at dksX3_with_0 3 rfl rfl)
theorem dX3_with_6 : decode cX3_with 6 = .ok (.ifCond .ne 5, 3) := dk_154 0 5 (dk_at dksX3_with_0 6 rfl rfl)
theorem dX3_with_9 : decode cX3_with 9 = .ok (.iconst 0, 1) := dk_3 (dk_at dksX3_with_0 9 rfl rfl)
theorem dX3_with_10 : decode cX3_with 10 = .ok (.ireturn, 1) := dk_172 (dk_at dksX3_with_0 10 rfl rfl)
theorem dX3_with_11 : decode cX3_with 11 = .ok (.aload_n 0, 1) := dk_42 (dk_at dksX3_with_0 11 rfl rfl)
theorem dX3_with_12 : decode cX3_with 12 = .ok (.iload_n 1, 1) := dk_27 (dk_at dksX3_with_0 12 rfl rfl)
theorem dX3_with_13 : decode cX3_with 13 = .ok (.iload_n 2, 1) := dk_28 (dk_at dksX3_with_0 13 rfl rfl)
theorem dX3_with_14 : decode cX3_with 14 = .ok (.invokevirtual 177, 3) := dk_182 0 177 (dk_at dksX3_with_0 14 rfl rfl)
theorem dX3_with_17 : decode cX3_with 17 = .ok (.aload_n 0, 1) := dk_42 (dk_at dksX3_with_0 17 rfl rfl)
theorem dX3_with_18 : decode cX3_with 18 = .ok (.aload_n 0, 1) := dk_42 (dk_at dksX3_with_0 18 rfl rfl)
theorem dX3_with_19 : decode cX3_with 19 = .ok (.getfield 139, 3) := dk_180 0 139 (dk_at dksX3_with_0 19 rfl rfl)
theorem dX3_with_22 : decode cX3_with 22 = .ok (.ifCond .le 7, 3) := dk_158 0 7 (dk_at dksX3_with_1 0 rfl rfl)
theorem dX3_with_25 : decode cX3_with 25 = .ok (.iconst 0, 1) := dk_3 (dk_at dksX3_with_1 3 rfl rfl)
theorem dX3_with_26 : decode cX3_with 26 = .ok (.goto 4, 3) := dk_167 0 4 (dk_at dksX3_with_1 4 rfl rfl)
theorem dX3_with_29 : decode cX3_with 29 = .ok (.iconst 2, 1) := dk_5 (dk_at dksX3_with_1 7 rfl rfl)
theorem dX3_with_30 : decode cX3_with 30 = .ok (.putfield 33, 3) := dk_181 0 33 (dk_at dksX3_with_1 8 rfl rfl)
theorem dX3_with_33 : decode cX3_with 33 = .ok (.aload_n 0, 1) := dk_42 (dk_at dksX3_with_1 11 rfl rfl)
theorem dX3_with_34 : decode cX3_with 34 = .ok (.getfield 33, 3) := dk_180 0 33 (dk_at dksX3_with_1 12 rfl rfl)
theorem dX3_with_37 : decode cX3_with 37 = .ok (.ifCond .ne 10, 3) := dk_154 0 10 (dk_at dksX3_with_1 15 rfl rfl)
theorem dX3_with_40 : decode cX3_with 40 = .ok (.aload_n 0, 1) := dk_42 (dk_at dksX3_with_1 18 rfl rfl)
theorem dX3_with_41 : decode cX3_with 41 = .ok (.getfield 160, 3) := dk_180 0 160 (dk_at dksX3_with_1 19 rfl rfl)
theorem dX3_with_44 : decode cX3_with 44 = .ok (.goto 4, 3) := dk_167 0 4 (dk_at dksX3_with_2 0 rfl rfl)
theorem dX3_with_47 : decode cX3_with 47 = .ok (.iconst 0, 1) := dk_3 (dk_at dksX3_with_2 3 rfl rfl)
theorem dX3_with_48 : decode cX3_with 48 = .ok (.ireturn, 1) := dk_172 (dk_at dksX3_with_2 4 rfl rfl)
abbrev cX3_isNeeded : ByteArray := prog_23_method_60_code
def yX3_isNeeded : MethodName := ⟨RX3, "isNeeded", "(II)Z"⟩
def dkwX3_isNeeded_2 : List UInt8 := [42, 180, 0, 160, 29, 160, 0, 16, 42, 180, 0, 163, 21, 4, 160, 0, 7, 4, 167, 0, 4, 3, 172]
abbrev dktX3_isNeeded_2 : List UInt8 := dkwX3_isNeeded_2 ++ []
def dkwX3_isNeeded_1 : List UInt8 := [54, 4, 42, 180, 0, 139, 154, 0, 5, 3, 172, 42, 27, 28, 182, 0, 177, 42, 180, 0, 139, 158, 0, 24]
abbrev dktX3_isNeeded_1 : List UInt8 := dkwX3_isNeeded_1 ++ dktX3_isNeeded_2
def dkwX3_isNeeded_0 : List UInt8 := [42, 27, 28, 182, 0, 183, 154, 0, 5, 3, 172, 42, 182, 0, 136, 42, 180, 0, 160, 62, 42, 180, 0, 163]
abbrev dktX3_isNeeded_0 : List UInt8 := dkwX3_isNeeded_0 ++ dktX3_isNeeded_1
theorem dksX3_isNeeded_0 : cX3_isNeeded.data.toList.drop 0 = dktX3_isNeeded_0 := by decide +kernel
theorem dksX3_isNeeded_1 : cX3_isNeeded.data.toList.drop 24 = dktX3_isNeeded_1 := dk_seg dksX3_isNeeded_0 24 rfl rfl
theorem dksX3_isNeeded_2 : cX3_isNeeded.data.toList.drop 48 = dktX3_isNeeded_2 := dk_seg dksX3_isNeeded_1 24 rfl rfl
theorem dX3_isNeeded_0 : decode cX3_isNeeded 0 = .ok (.aload_n 0, 1) := dk_42 (dk_at dksX3_isNeeded_0 0 rfl rfl)
theorem dX3_isNeeded_1 : decode cX3_isNeeded 1 = .ok (.iload_n 1, 1) := dk_27 (dk_at dksX3_isNeeded_0 1 rfl rfl)
theorem dX3_isNeeded_2 : decode cX3_isNeeded 2 = .ok (.iload_n 2, 1) := dk_28 (dk_at dksX3_isNeeded_0 2 rfl rfl)
theorem dX3_isNeeded_3 : decode cX3_isNeeded 3 = .ok (.invokevirtual 183, 3) := dk_182 0 183 (dk_at dksX3_isNeeded_0 3 rfl rfl)
theorem dX3_isNeeded_6 : decode cX3_isNeeded 6 = .ok (.ifCond .ne 5, 3) := dk_154 0 5 (dk_at dksX3_isNeeded_0 6 rfl rfl)
theorem dX3_isNeeded_9 : decode cX3_isNeeded 9 = .ok (.iconst 0, 1) := dk_3 (dk_at dksX3_isNeeded_0 9 rfl rfl)
theorem dX3_isNeeded_10 : decode cX3_isNeeded 10 = .ok (.ireturn, 1) := dk_172 (dk_at dksX3_isNeeded_0 10 rfl rfl)
theorem dX3_isNeeded_11 : decode cX3_isNeeded 11 = .ok (.aload_n 0, 1) := dk_42 (dk_at dksX3_isNeeded_0 11 rfl rfl)
theorem dX3_isNeeded_12 : decode cX3_isNeeded 12 = .ok (.invokevirtual 136, 3) := dk_182 0 136 (dk_at dksX3_isNeeded_0 12 rfl rfl)
theorem dX3_isNeeded_15 : decode cX3_isNeeded 15 = .ok (.aload_n 0, 1) := dk_42 (dk_at dksX3_isNeeded_0 15 rfl rfl)
theorem dX3_isNeeded_16 : decode cX3_isNeeded 16 = .ok (.getfield 160, 3) := dk_180 0 160 (dk_at dksX3_isNeeded_0 16 rfl rfl)
theorem dX3_isNeeded_19 : decode cX3_isNeeded 19 = .ok (.istore_n 3, 1) := dk_62 (dk_at dksX3_isNeeded_0 19 rfl rfl)
theorem dX3_isNeeded_20 : decode cX3_isNeeded 20 = .ok (.aload_n 0, 1) := dk_42 (dk_at dksX3_isNeeded_0 20 rfl rfl)
theorem dX3_isNeeded_21 : decode cX3_isNeeded 21 = .ok (.getfield 163, 3) := dk_180 0 163 (dk_at dksX3_isNeeded_0 21 rfl rfl)
theorem dX3_isNeeded_24 : decode cX3_isNeeded 24 = .ok (.istore 4, 2) := dk_54 4 (dk_at dksX3_isNeeded_1 0 rfl rfl)
theorem dX3_isNeeded_26 : decode cX3_isNeeded 26 = .ok (.aload_n 0, 1) := dk_42 (dk_at dksX3_isNeeded_1 2 rfl rfl)
theorem dX3_isNeeded_27 : decode cX3_isNeeded 27 = .ok (.getfield 139, 3) := dk_180 0 139 (dk_at dksX3_isNeeded_1 3 rfl rfl)
theorem dX3_isNeeded_30 : decode cX3_isNeeded 30 = .ok (.ifCond .ne 5, 3) := dk_154 0 5 (dk_at dksX3_isNeeded_1 6 rfl rfl)
theorem dX3_isNeeded_33 : decode cX3_isNeeded 33 = .ok (.iconst 0, 1) := dk_3 (dk_at dksX3_isNeeded_1 9 rfl rfl)
theorem dX3_isNeeded_34 : decode cX3_isNeeded 34 = .ok (.ireturn, 1) := dk_172 (dk_at dksX3_isNeeded_1 10 rfl rfl)
theorem dX3_isNeeded_35 : decode cX3_isNeeded 35 = .ok (.aload_n 0, 1) := dk_42 (dk_at dksX3_isNeeded_1 11 rfl rfl)
theorem dX3_isNeeded_36 : decode cX3_isNeeded 36 = .ok (.iload_n 1, 1) := dk_27 (dk_at dksX3_isNeeded_1 12 rfl rfl)
theorem dX3_isNeeded_37 : decode cX3_isNeeded 37 = .ok (.iload_n 2, 1) := dk_28 (dk_at dksX3_isNeeded_1 13 rfl rfl)
theorem dX3_isNeeded_38 : decode cX3_isNeeded 38 = .ok (.invokevirtual 177, 3) := dk_182 0 177 (dk_at dksX3_isNeeded_1 14 rfl rfl)
theorem dX3_isNeeded_41 : decode cX3_isNeeded 41 = .ok (.aload_n 0, 1) := dk_42 (dk_at dksX3_isNeeded_1 17 rfl rfl)
theorem dX3_isNeeded_42 : decode cX3_isNeeded 42 = .ok (.getfield 139, 3) := dk_180 0 139 (dk_at dksX3_isNeeded_1 18 rfl rfl)
theorem dX3_isNeeded_45 : decode cX3_isNeeded 45 = .ok (.ifCond .le 24, 3) := dk_158 0 24 (dk_at dksX3_isNeeded_1 21 rfl rfl)
theorem dX3_isNeeded_48 : decode cX3_isNeeded 48 = .ok (.aload_n 0, 1) := dk_42 (dk_at dksX3_isNeeded_2 0 rfl rfl)
theorem dX3_isNeeded_49 : decode cX3_isNeeded 49 = .ok (.getfield 160, 3) := dk_180 0 160 (dk_at dksX3_isNeeded_2 1 rfl rfl)
theorem dX3_isNeeded_52 : decode cX3_isNeeded 52 = .ok (.iload_n 3, 1) := dk_29 (dk_at dksX3_isNeeded_2 4 rfl rfl)
theorem dX3_isNeeded_53 : decode cX3_isNeeded 53 = .ok (.if_icmp .ne 16, 3) := dk_160 0 16 (dk_at dksX3_isNeeded_2 5 rfl rfl)
theorem dX3_isNeeded_56 : decode cX3_isNeeded 56 = .ok (.aload_n 0, 1) := dk_42 (dk_at dksX3_isNeeded_2 8 rfl rfl)
theorem dX3_isNeeded_57 : decode cX3_isNeeded 57 = .ok (.getfield 163, 3) := dk_180 0 163 (dk_at dksX3_isNeeded_2 9 rfl rfl)
theorem dX3_isNeeded_60 : decode cX3_isNeeded 60 = .ok (.iload 4, 2) := dk_21 4 (dk_at dksX3_isNeeded_2 12 rfl rfl)
theorem dX3_isNeeded_62 : decode cX3_isNeeded 62 = .ok (.if_icmp .ne 7, 3) := dk_160 0 7 (dk_at dksX3_isNeeded_2 14 rfl rfl)
theorem dX3_isNeeded_65 : decode cX3_isNeeded 65 = .ok (.iconst 1, 1) := dk_4 (dk_at dksX3_isNeeded_2 17 rfl rfl)
theorem dX3_isNeeded_66 : decode cX3_isNeeded 66 = .ok (.goto 4, 3) := dk_167 0 4 (dk_at dksX3_isNeeded_2 18 rfl rfl)
theorem dX3_isNeeded_69 : decode cX3_isNeeded 69 = .ok (.iconst 0, 1) := dk_3 (dk_at dksX3_isNeeded_2 21 rfl rfl)
theorem dX3_isNeeded_70 : decode cX3_isNeeded 70 = .ok (.ireturn, 1) := dk_172 (dk_at dksX3_isNeeded_2 22 rfl rfl)
abbrev cX3_most : ByteArray := prog_23_method_61_code
def yX3_most : MethodName := ⟨RX3, "most", "()I"⟩
def dkwX3_most_0 : List UInt8 := [42, 3, 181, 0, 33, 42, 182, 0, 142, 172]
abbrev dktX3_most_0 : List UInt8 := dkwX3_most_0 ++ []
theorem dksX3_most_0 : cX3_most.data.toList.drop 0 = dktX3_most_0 := by decide +kernel
theorem dX3_most_0 : decode cX3_most 0 = .ok (.aload_n 0, 1) := dk_42 (dk_at dksX3_most_0 0 rfl rfl)
theorem dX3_most_1 : decode cX3_most 1 = .ok (.iconst 0, 1) := dk_3 (dk_at dksX3_most_0 1 rfl rfl)
theorem dX3_most_2 : decode cX3_most 2 = .ok (.putfield 33, 3) := dk_181 0 33 (dk_at dksX3_most_0 2 rfl rfl)
theorem dX3_most_5 : decode cX3_most 5 = .ok (.aload_n 0, 1) := dk_42 (dk_at dksX3_most_0 5 rfl rfl)
theorem dX3_most_6 : decode cX3_most 6 = .ok (.invokevirtual 142, 3) := dk_182 0 142 (dk_at dksX3_most_0 6 rfl rfl)
theorem dX3_most_9 : decode cX3_most 9 = .ok (.ireturn, 1) := dk_172 (dk_at dksX3_most_0 9 rfl rfl)
abbrev cX3_wouldBid : ByteArray := prog_23_method_62_code
def yX3_wouldBid : MethodName := ⟨RX3, "wouldBid", "()I"⟩
def dkwX3_wouldBid_3 : List UInt8 := [182, 0, 55, 153, 0, 7, 27, 167, 0, 4, 3, 172]
abbrev dktX3_wouldBid_3 : List UInt8 := dkwX3_wouldBid_3 ++ []
def dkwX3_wouldBid_2 : List UInt8 := [182, 0, 122, 62, 167, 255, 222, 42, 16, 11, 3, 182, 0, 36, 42, 28, 154, 0, 7, 4, 167, 0, 4, 3]
abbrev dktX3_wouldBid_2 : List UInt8 := dkwX3_wouldBid_2 ++ dktX3_wouldBid_3
def dkwX3_wouldBid_1 : List UInt8 := [154, 0, 31, 42, 29, 182, 0, 126, 61, 28, 154, 0, 13, 42, 29, 182, 0, 129, 54, 4, 132, 1, 1, 42]
abbrev dktX3_wouldBid_1 : List UInt8 := dkwX3_wouldBid_1 ++ dktX3_wouldBid_2
def dkwX3_wouldBid_0 : List UInt8 := [42, 3, 16, 11, 182, 0, 36, 3, 60, 3, 61, 42, 182, 0, 122, 62, 29, 2, 159, 0, 35, 28]
abbrev dktX3_wouldBid_0 : List UInt8 := dkwX3_wouldBid_0 ++ dktX3_wouldBid_1
theorem dksX3_wouldBid_0 : cX3_wouldBid.data.toList.drop 0 = dktX3_wouldBid_0 := by decide +kernel
theorem dksX3_wouldBid_1 : cX3_wouldBid.data.toList.drop 22 = dktX3_wouldBid_1 := dk_seg dksX3_wouldBid_0 22 rfl rfl
theorem dksX3_wouldBid_2 : cX3_wouldBid.data.toList.drop 46 = dktX3_wouldBid_2 := dk_seg dksX3_wouldBid_1 24 rfl rfl
theorem dksX3_wouldBid_3 : cX3_wouldBid.data.toList.drop 70 = dktX3_wouldBid_3 := dk_seg dksX3_wouldBid_2 24 rfl rfl
theorem dX3_wouldBid_0 : decode cX3_wouldBid 0 = .ok (.aload_n 0, 1) := dk_42 (dk_at dksX3_wouldBid_0 0 rfl rfl)
theorem dX3_wouldBid_1 : decode cX3_wouldBid 1 = .ok (.iconst 0, 1) := dk_3 (dk_at dksX3_wouldBid_0 1 rfl rfl)
theorem dX3_wouldBid_2 : decode cX3_wouldBid 2 = .ok (.bipush 11, 2) := dk_16 11 (dk_at dksX3_wouldBid_0 2 rfl rfl)
theorem dX3_wouldBid_4 : decode cX3_wouldBid 4 = .ok (.invokevirtual 36, 3) := dk_182 0 36 (dk_at dksX3_wouldBid_0 4 rfl rfl)
theorem dX3_wouldBid_7 : decode cX3_wouldBid 7 = .ok (.iconst 0, 1) := dk_3 (dk_at dksX3_wouldBid_0 7 rfl rfl)
theorem dX3_wouldBid_8 : decode cX3_wouldBid 8 = .ok (.istore_n 1, 1) := dk_60 (dk_at dksX3_wouldBid_0 8 rfl rfl)
theorem dX3_wouldBid_9 : decode cX3_wouldBid 9 = .ok (.iconst 0, 1) := dk_3 (dk_at dksX3_wouldBid_0 9 rfl rfl)
theorem dX3_wouldBid_10 : decode cX3_wouldBid 10 = .ok (.istore_n 2, 1) := dk_61 (dk_at dksX3_wouldBid_0 10 rfl rfl)
theorem dX3_wouldBid_11 : decode cX3_wouldBid 11 = .ok (.aload_n 0, 1) := dk_42 (dk_at dksX3_wouldBid_0 11 rfl rfl)
theorem dX3_wouldBid_12 : decode cX3_wouldBid 12 = .ok (.invokevirtual 122, 3) := dk_182 0 122 (dk_at dksX3_wouldBid_0 12 rfl rfl)
theorem dX3_wouldBid_15 : decode cX3_wouldBid 15 = .ok (.istore_n 3, 1) := dk_62 (dk_at dksX3_wouldBid_0 15 rfl rfl)
theorem dX3_wouldBid_16 : decode cX3_wouldBid 16 = .ok (.iload_n 3, 1) := dk_29 (dk_at dksX3_wouldBid_0 16 rfl rfl)
theorem dX3_wouldBid_17 : decode cX3_wouldBid 17 = .ok (.iconst (-1), 1) := dk_2 (dk_at dksX3_wouldBid_0 17 rfl rfl)
theorem dX3_wouldBid_18 : decode cX3_wouldBid 18 = .ok (.if_icmp .eq 35, 3) := dk_159 0 35 (dk_at dksX3_wouldBid_0 18 rfl rfl)
theorem dX3_wouldBid_21 : decode cX3_wouldBid 21 = .ok (.iload_n 2, 1) := dk_28 (dk_at dksX3_wouldBid_0 21 rfl rfl)
theorem dX3_wouldBid_22 : decode cX3_wouldBid 22 = .ok (.ifCond .ne 31, 3) := dk_154 0 31 (dk_at dksX3_wouldBid_1 0 rfl rfl)
theorem dX3_wouldBid_25 : decode cX3_wouldBid 25 = .ok (.aload_n 0, 1) := dk_42 (dk_at dksX3_wouldBid_1 3 rfl rfl)
theorem dX3_wouldBid_26 : decode cX3_wouldBid 26 = .ok (.iload_n 3, 1) := dk_29 (dk_at dksX3_wouldBid_1 4 rfl rfl)
theorem dX3_wouldBid_27 : decode cX3_wouldBid 27 = .ok (.invokevirtual 126, 3) := dk_182 0 126 (dk_at dksX3_wouldBid_1 5 rfl rfl)
theorem dX3_wouldBid_30 : decode cX3_wouldBid 30 = .ok (.istore_n 2, 1) := dk_61 (dk_at dksX3_wouldBid_1 8 rfl rfl)
theorem dX3_wouldBid_31 : decode cX3_wouldBid 31 = .ok (.iload_n 2, 1) := dk_28 (dk_at dksX3_wouldBid_1 9 rfl rfl)
theorem dX3_wouldBid_32 : decode cX3_wouldBid 32 = .ok (.ifCond .ne 13, 3) := dk_154 0 13 (dk_at dksX3_wouldBid_1 10 rfl rfl)
theorem dX3_wouldBid_35 : decode cX3_wouldBid 35 = .ok (.aload_n 0, 1) := dk_42 (dk_at dksX3_wouldBid_1 13 rfl rfl)
theorem dX3_wouldBid_36 : decode cX3_wouldBid 36 = .ok (.iload_n 3, 1) := dk_29 (dk_at dksX3_wouldBid_1 14 rfl rfl)
theorem dX3_wouldBid_37 : decode cX3_wouldBid 37 = .ok (.invokevirtual 129, 3) := dk_182 0 129 (dk_at dksX3_wouldBid_1 15 rfl rfl)
theorem dX3_wouldBid_40 : decode cX3_wouldBid 40 = .ok (.istore 4, 2) := dk_54 4 (dk_at dksX3_wouldBid_1 18 rfl rfl)
theorem dX3_wouldBid_42 : decode cX3_wouldBid 42 = .ok (.iinc 1 1, 3) := dk_132 1 1 (dk_at dksX3_wouldBid_1 20 rfl rfl)
theorem dX3_wouldBid_45 : decode cX3_wouldBid 45 = .ok (.aload_n 0, 1) := dk_42 (dk_at dksX3_wouldBid_1 23 rfl rfl)
theorem dX3_wouldBid_46 : decode cX3_wouldBid 46 = .ok (.invokevirtual 122, 3) := dk_182 0 122 (dk_at dksX3_wouldBid_2 0 rfl rfl)
theorem dX3_wouldBid_49 : decode cX3_wouldBid 49 = .ok (.istore_n 3, 1) := dk_62 (dk_at dksX3_wouldBid_2 3 rfl rfl)
theorem dX3_wouldBid_50 : decode cX3_wouldBid 50 = .ok (.goto (-34), 3) := dk_167 255 222 (dk_at dksX3_wouldBid_2 4 rfl rfl)
theorem dX3_wouldBid_53 : decode cX3_wouldBid 53 = .ok (.aload_n 0, 1) := dk_42 (dk_at dksX3_wouldBid_2 7 rfl rfl)
theorem dX3_wouldBid_54 : decode cX3_wouldBid 54 = .ok (.bipush 11, 2) := dk_16 11 (dk_at dksX3_wouldBid_2 8 rfl rfl)
theorem dX3_wouldBid_56 : decode cX3_wouldBid 56 = .ok (.iconst 0, 1) := dk_3 (dk_at dksX3_wouldBid_2 10 rfl rfl)
theorem dX3_wouldBid_57 : decode cX3_wouldBid 57 = .ok (.invokevirtual 36, 3) := dk_182 0 36 (dk_at dksX3_wouldBid_2 11 rfl rfl)
theorem dX3_wouldBid_60 : decode cX3_wouldBid 60 = .ok (.aload_n 0, 1) := dk_42 (dk_at dksX3_wouldBid_2 14 rfl rfl)
theorem dX3_wouldBid_61 : decode cX3_wouldBid 61 = .ok (.iload_n 2, 1) := dk_28 (dk_at dksX3_wouldBid_2 15 rfl rfl)
theorem dX3_wouldBid_62 : decode cX3_wouldBid 62 = .ok (.ifCond .ne 7, 3) := dk_154 0 7 (dk_at dksX3_wouldBid_2 16 rfl rfl)
theorem dX3_wouldBid_65 : decode cX3_wouldBid 65 = .ok (.iconst 1, 1) := dk_4 (dk_at dksX3_wouldBid_2 19 rfl rfl)
theorem dX3_wouldBid_66 : decode cX3_wouldBid 66 = .ok (.goto 4, 3) := dk_167 0 4 (dk_at dksX3_wouldBid_2 20 rfl rfl)
theorem dX3_wouldBid_69 : decode cX3_wouldBid 69 = .ok (.iconst 0, 1) := dk_3 (dk_at dksX3_wouldBid_2 23 rfl rfl)
theorem dX3_wouldBid_70 : decode cX3_wouldBid 70 = .ok (.invokevirtual 55, 3) := dk_182 0 55 (dk_at dksX3_wouldBid_3 0 rfl rfl)
theorem dX3_wouldBid_73 : decode cX3_wouldBid 73 = .ok (.ifCond .eq 7, 3) := dk_153 0 7 (dk_at dksX3_wouldBid_3 3 rfl rfl)
theorem dX3_wouldBid_76 : decode cX3_wouldBid 76 = .ok (.iload_n 1, 1) := dk_27 (dk_at dksX3_wouldBid_3 6 rfl rfl)
theorem dX3_wouldBid_77 : decode cX3_wouldBid 77 = .ok (.goto 4, 3) := dk_167 0 4 (dk_at dksX3_wouldBid_3 7 rfl rfl)
theorem dX3_wouldBid_80 : decode cX3_wouldBid 80 = .ok (.iconst 0, 1) := dk_3 (dk_at dksX3_wouldBid_3 10 rfl rfl)
theorem dX3_wouldBid_81 : decode cX3_wouldBid 81 = .ok (.ireturn, 1) := dk_172 (dk_at dksX3_wouldBid_3 11 rfl rfl)
abbrev cX3_chain : ByteArray := prog_23_method_63_code
def yX3_chain : MethodName := ⟨RX3, "chain", "(I)I"⟩
def dkwX3_chain_4 : List UInt8 := [21, 5, 2, 159, 0, 7, 4, 167, 0, 4, 3, 182, 0, 55, 153, 0, 8, 21, 5, 167, 0, 4, 3, 172]
abbrev dktX3_chain_4 : List UInt8 := dkwX3_chain_4 ++ []
def dkwX3_chain_3 : List UInt8 := [167, 0, 4, 28, 61, 132, 3, 1, 167, 255, 208, 42, 16, 11, 3, 182, 0, 36, 42, 21, 4, 154, 0, 13]
abbrev dktX3_chain_3 : List UInt8 := dkwX3_chain_3 ++ dktX3_chain_4
def dkwX3_chain_2 : List UInt8 := [167, 0, 5, 21, 5, 54, 5, 42, 28, 182, 0, 126, 54, 4, 21, 4, 154, 0, 11, 42, 28, 182, 0, 129]
abbrev dktX3_chain_2 : List UInt8 := dkwX3_chain_2 ++ dktX3_chain_3
def dkwX3_chain_1 : List UInt8 := [3, 54, 4, 2, 54, 5, 28, 2, 159, 0, 49, 21, 4, 154, 0, 44, 29, 27, 160, 0, 7, 28]
abbrev dktX3_chain_1 : List UInt8 := dkwX3_chain_1 ++ dktX3_chain_2
def dkwX3_chain_0 : List UInt8 := [42, 3, 16, 11, 182, 0, 36, 42, 182, 0, 122, 61, 3, 62, 28, 2, 160, 0, 8, 16, 6, 167, 0, 4]
abbrev dktX3_chain_0 : List UInt8 := dkwX3_chain_0 ++ dktX3_chain_1
theorem dksX3_chain_0 : cX3_chain.data.toList.drop 0 = dktX3_chain_0 := by decide +kernel
theorem dksX3_chain_1 : cX3_chain.data.toList.drop 24 = dktX3_chain_1 := dk_seg dksX3_chain_0 24 rfl rfl
theorem dksX3_chain_2 : cX3_chain.data.toList.drop 46 = dktX3_chain_2 := dk_seg dksX3_chain_1 22 rfl rfl
theorem dksX3_chain_3 : cX3_chain.data.toList.drop 70 = dktX3_chain_3 := dk_seg dksX3_chain_2 24 rfl rfl
theorem dksX3_chain_4 : cX3_chain.data.toList.drop 94 = dktX3_chain_4 := dk_seg dksX3_chain_3 24 rfl rfl
theorem dX3_chain_0 : decode cX3_chain 0 = .ok (.aload_n 0, 1) := dk_42 (dk_at dksX3_chain_0 0 rfl rfl)
theorem dX3_chain_1 : decode cX3_chain 1 = .ok (.iconst 0, 1) := dk_3 (dk_at dksX3_chain_0 1 rfl rfl)
theorem dX3_chain_2 : decode cX3_chain 2 = .ok (.bipush 11, 2) := dk_16 11 (dk_at dksX3_chain_0 2 rfl rfl)
theorem dX3_chain_4 : decode cX3_chain 4 = .ok (.invokevirtual 36, 3) := dk_182 0 36 (dk_at dksX3_chain_0 4 rfl rfl)
theorem dX3_chain_7 : decode cX3_chain 7 = .ok (.aload_n 0, 1) := dk_42 (dk_at dksX3_chain_0 7 rfl rfl)
theorem dX3_chain_8 : decode cX3_chain 8 = .ok (.invokevirtual 122, 3) := dk_182 0 122 (dk_at dksX3_chain_0 8 rfl rfl)
theorem dX3_chain_11 : decode cX3_chain 11 = .ok (.istore_n 2, 1) := dk_61 (dk_at dksX3_chain_0 11 rfl rfl)
theorem dX3_chain_12 : decode cX3_chain 12 = .ok (.iconst 0, 1) := dk_3 (dk_at dksX3_chain_0 12 rfl rfl)
theorem dX3_chain_13 : decode cX3_chain 13 = .ok (.istore_n 3, 1) := dk_62 (dk_at dksX3_chain_0 13 rfl rfl)
theorem dX3_chain_14 : decode cX3_chain 14 = .ok (.iload_n 2, 1) := dk_28 (dk_at dksX3_chain_0 14 rfl rfl)
theorem dX3_chain_15 : decode cX3_chain 15 = .ok (.iconst (-1), 1) := dk_2 (dk_at dksX3_chain_0 15 rfl rfl)
theorem dX3_chain_16 : decode cX3_chain 16 = .ok (.if_icmp .ne 8, 3) := dk_160 0 8 (dk_at dksX3_chain_0 16 rfl rfl)
theorem dX3_chain_19 : decode cX3_chain 19 = .ok (.bipush 6, 2) := dk_16 6 (dk_at dksX3_chain_0 19 rfl rfl)
theorem dX3_chain_21 : decode cX3_chain 21 = .ok (.goto 4, 3) := dk_167 0 4 (dk_at dksX3_chain_0 21 rfl rfl)
theorem dX3_chain_24 : decode cX3_chain 24 = .ok (.iconst 0, 1) := dk_3 (dk_at dksX3_chain_1 0 rfl rfl)
theorem dX3_chain_25 : decode cX3_chain 25 = .ok (.istore 4, 2) := dk_54 4 (dk_at dksX3_chain_1 1 rfl rfl)
theorem dX3_chain_27 : decode cX3_chain 27 = .ok (.iconst (-1), 1) := dk_2 (dk_at dksX3_chain_1 3 rfl rfl)
theorem dX3_chain_28 : decode cX3_chain 28 = .ok (.istore 5, 2) := dk_54 5 (dk_at dksX3_chain_1 4 rfl rfl)
theorem dX3_chain_30 : decode cX3_chain 30 = .ok (.iload_n 2, 1) := dk_28 (dk_at dksX3_chain_1 6 rfl rfl)
theorem dX3_chain_31 : decode cX3_chain 31 = .ok (.iconst (-1), 1) := dk_2 (dk_at dksX3_chain_1 7 rfl rfl)
theorem dX3_chain_32 : decode cX3_chain 32 = .ok (.if_icmp .eq 49, 3) := dk_159 0 49 (dk_at dksX3_chain_1 8 rfl rfl)
theorem dX3_chain_35 : decode cX3_chain 35 = .ok (.iload 4, 2) := dk_21 4 (dk_at dksX3_chain_1 11 rfl rfl)
theorem dX3_chain_37 : decode cX3_chain 37 = .ok (.ifCond .ne 44, 3) := dk_154 0 44 (dk_at dksX3_chain_1 13 rfl rfl)
theorem dX3_chain_40 : decode cX3_chain 40 = .ok (.iload_n 3, 1) := dk_29 (dk_at dksX3_chain_1 16 rfl rfl)
theorem dX3_chain_41 : decode cX3_chain 41 = .ok (.iload_n 1, 1) := dk_27 (dk_at dksX3_chain_1 17 rfl rfl)
theorem dX3_chain_42 : decode cX3_chain 42 = .ok (.if_icmp .ne 7, 3) := dk_160 0 7 (dk_at dksX3_chain_1 18 rfl rfl)
theorem dX3_chain_45 : decode cX3_chain 45 = .ok (.iload_n 2, 1) := dk_28 (dk_at dksX3_chain_1 21 rfl rfl)
theorem dX3_chain_46 : decode cX3_chain 46 = .ok (.goto 5, 3) := dk_167 0 5 (dk_at dksX3_chain_2 0 rfl rfl)
theorem dX3_chain_49 : decode cX3_chain 49 = .ok (.iload 5, 2) := dk_21 5 (dk_at dksX3_chain_2 3 rfl rfl)
theorem dX3_chain_51 : decode cX3_chain 51 = .ok (.istore 5, 2) := dk_54 5 (dk_at dksX3_chain_2 5 rfl rfl)
theorem dX3_chain_53 : decode cX3_chain 53 = .ok (.aload_n 0, 1) := dk_42 (dk_at dksX3_chain_2 7 rfl rfl)
theorem dX3_chain_54 : decode cX3_chain 54 = .ok (.iload_n 2, 1) := dk_28 (dk_at dksX3_chain_2 8 rfl rfl)
theorem dX3_chain_55 : decode cX3_chain 55 = .ok (.invokevirtual 126, 3) := dk_182 0 126 (dk_at dksX3_chain_2 9 rfl rfl)
theorem dX3_chain_58 : decode cX3_chain 58 = .ok (.istore 4, 2) := dk_54 4 (dk_at dksX3_chain_2 12 rfl rfl)
theorem dX3_chain_60 : decode cX3_chain 60 = .ok (.iload 4, 2) := dk_21 4 (dk_at dksX3_chain_2 14 rfl rfl)
theorem dX3_chain_62 : decode cX3_chain 62 = .ok (.ifCond .ne 11, 3) := dk_154 0 11 (dk_at dksX3_chain_2 16 rfl rfl)
theorem dX3_chain_65 : decode cX3_chain 65 = .ok (.aload_n 0, 1) := dk_42 (dk_at dksX3_chain_2 19 rfl rfl)
theorem dX3_chain_66 : decode cX3_chain 66 = .ok (.iload_n 2, 1) := dk_28 (dk_at dksX3_chain_2 20 rfl rfl)
theorem dX3_chain_67 : decode cX3_chain 67 = .ok (.invokevirtual 129, 3) := dk_182 0 129 (dk_at dksX3_chain_2 21 rfl rfl)
theorem dX3_chain_70 : decode cX3_chain 70 = .ok (.goto 4, 3) := dk_167 0 4 (dk_at dksX3_chain_3 0 rfl rfl)
theorem dX3_chain_73 : decode cX3_chain 73 = .ok (.iload_n 2, 1) := dk_28 (dk_at dksX3_chain_3 3 rfl rfl)
theorem dX3_chain_74 : decode cX3_chain 74 = .ok (.istore_n 2, 1) := dk_61 (dk_at dksX3_chain_3 4 rfl rfl)
theorem dX3_chain_75 : decode cX3_chain 75 = .ok (.iinc 3 1, 3) := dk_132 3 1 (dk_at dksX3_chain_3 5 rfl rfl)
theorem dX3_chain_78 : decode cX3_chain 78 = .ok (.goto (-48), 3) := dk_167 255 208 (dk_at dksX3_chain_3 8 rfl rfl)
theorem dX3_chain_81 : decode cX3_chain 81 = .ok (.aload_n 0, 1) := dk_42 (dk_at dksX3_chain_3 11 rfl rfl)
theorem dX3_chain_82 : decode cX3_chain 82 = .ok (.bipush 11, 2) := dk_16 11 (dk_at dksX3_chain_3 12 rfl rfl)
theorem dX3_chain_84 : decode cX3_chain 84 = .ok (.iconst 0, 1) := dk_3 (dk_at dksX3_chain_3 14 rfl rfl)
theorem dX3_chain_85 : decode cX3_chain 85 = .ok (.invokevirtual 36, 3) := dk_182 0 36 (dk_at dksX3_chain_3 15 rfl rfl)
theorem dX3_chain_88 : decode cX3_chain 88 = .ok (.aload_n 0, 1) := dk_42 (dk_at dksX3_chain_3 18 rfl rfl)
theorem dX3_chain_89 : decode cX3_chain 89 = .ok (.iload 4, 2) := dk_21 4 (dk_at dksX3_chain_3 19 rfl rfl)
theorem dX3_chain_91 : decode cX3_chain 91 = .ok (.ifCond .ne 13, 3) := dk_154 0 13 (dk_at dksX3_chain_3 21 rfl rfl)
theorem dX3_chain_94 : decode cX3_chain 94 = .ok (.iload 5, 2) := dk_21 5 (dk_at dksX3_chain_4 0 rfl rfl)
theorem dX3_chain_96 : decode cX3_chain 96 = .ok (.iconst (-1), 1) := dk_2 (dk_at dksX3_chain_4 2 rfl rfl)
theorem dX3_chain_97 : decode cX3_chain 97 = .ok (.if_icmp .eq 7, 3) := dk_159 0 7 (dk_at dksX3_chain_4 3 rfl rfl)
theorem dX3_chain_100 : decode cX3_chain 100 = .ok (.iconst 1, 1) := dk_4 (dk_at dksX3_chain_4 6 rfl rfl)
theorem dX3_chain_101 : decode cX3_chain 101 = .ok (.goto 4, 3) := dk_167 0 4 (dk_at dksX3_chain_4 7 rfl rfl)
theorem dX3_chain_104 : decode cX3_chain 104 = .ok (.iconst 0, 1) := dk_3 (dk_at dksX3_chain_4 10 rfl rfl)
theorem dX3_chain_105 : decode cX3_chain 105 = .ok (.invokevirtual 55, 3) := dk_182 0 55 (dk_at dksX3_chain_4 11 rfl rfl)
theorem dX3_chain_108 : decode cX3_chain 108 = .ok (.ifCond .eq 8, 3) := dk_153 0 8 (dk_at dksX3_chain_4 14 rfl rfl)
theorem dX3_chain_111 : decode cX3_chain 111 = .ok (.iload 5, 2) := dk_21 5 (dk_at dksX3_chain_4 17 rfl rfl)
theorem dX3_chain_113 : decode cX3_chain 113 = .ok (.goto 4, 3) := dk_167 0 4 (dk_at dksX3_chain_4 19 rfl rfl)
theorem dX3_chain_116 : decode cX3_chain 116 = .ok (.iconst 0, 1) := dk_3 (dk_at dksX3_chain_4 22 rfl rfl)
theorem dX3_chain_117 : decode cX3_chain 117 = .ok (.ireturn, 1) := dk_172 (dk_at dksX3_chain_4 23 rfl rfl)
abbrev cX3_ranked : ByteArray := prog_23_method_65_code
def yX3_ranked : MethodName := ⟨RX3, "ranked", "(II)I"⟩
def dkwX3_ranked_5 : List UInt8 := [3, 181, 0, 33, 29, 172, 132, 3, 1, 167, 255, 151, 3, 172]
abbrev dktX3_ranked_5 : List UInt8 := dkwX3_ranked_5 ++ []
def dkwX3_ranked_4 : List UInt8 := [162, 0, 7, 4, 167, 0, 4, 3, 96, 54, 4, 132, 5, 1, 167, 255, 194, 21, 4, 28, 160, 0, 10, 42]
abbrev dktX3_ranked_4 : List UInt8 := dkwX3_ranked_4 ++ dktX3_ranked_5
def dkwX3_ranked_3 : List UInt8 := [163, 0, 25, 42, 27, 21, 5, 182, 0, 203, 42, 27, 29, 182, 0, 203, 160, 0, 13, 21, 5, 29]
abbrev dktX3_ranked_3 : List UInt8 := dkwX3_ranked_3 ++ dktX3_ranked_4
def dkwX3_ranked_2 : List UInt8 := [42, 180, 0, 9, 4, 46, 162, 0, 57, 21, 4, 42, 27, 21, 5, 182, 0, 203, 42, 27, 29, 182, 0, 203]
abbrev dktX3_ranked_2 : List UInt8 := dkwX3_ranked_2 ++ dktX3_ranked_3
def dkwX3_ranked_1 : List UInt8 := [180, 0, 9, 4, 46, 162, 0, 101, 42, 180, 0, 33, 5, 160, 0, 93, 3, 54, 4, 3, 54, 5, 21, 5]
abbrev dktX3_ranked_1 : List UInt8 := dkwX3_ranked_1 ++ dktX3_ranked_2
def dkwX3_ranked_0 : List UInt8 := [42, 27, 3, 5, 184, 0, 66, 153, 0, 7, 5, 167, 0, 4, 4, 181, 0, 33, 3, 62, 29, 42]
abbrev dktX3_ranked_0 : List UInt8 := dkwX3_ranked_0 ++ dktX3_ranked_1
theorem dksX3_ranked_0 : cX3_ranked.data.toList.drop 0 = dktX3_ranked_0 := by decide +kernel
theorem dksX3_ranked_1 : cX3_ranked.data.toList.drop 22 = dktX3_ranked_1 := dk_seg dksX3_ranked_0 22 rfl rfl
theorem dksX3_ranked_2 : cX3_ranked.data.toList.drop 46 = dktX3_ranked_2 := dk_seg dksX3_ranked_1 24 rfl rfl
theorem dksX3_ranked_3 : cX3_ranked.data.toList.drop 70 = dktX3_ranked_3 := dk_seg dksX3_ranked_2 24 rfl rfl
theorem dksX3_ranked_4 : cX3_ranked.data.toList.drop 92 = dktX3_ranked_4 := dk_seg dksX3_ranked_3 22 rfl rfl
theorem dksX3_ranked_5 : cX3_ranked.data.toList.drop 116 = dktX3_ranked_5 := dk_seg dksX3_ranked_4 24 rfl rfl
theorem dX3_ranked_0 : decode cX3_ranked 0 = .ok (.aload_n 0, 1) := dk_42 (dk_at dksX3_ranked_0 0 rfl rfl)
theorem dX3_ranked_1 : decode cX3_ranked 1 = .ok (.iload_n 1, 1) := dk_27 (dk_at dksX3_ranked_0 1 rfl rfl)
theorem dX3_ranked_2 : decode cX3_ranked 2 = .ok (.iconst 0, 1) := dk_3 (dk_at dksX3_ranked_0 2 rfl rfl)
theorem dX3_ranked_3 : decode cX3_ranked 3 = .ok (.iconst 2, 1) := dk_5 (dk_at dksX3_ranked_0 3 rfl rfl)
theorem dX3_ranked_4 : decode cX3_ranked 4 = .ok (.invokestatic 66, 3) := dk_184 0 66 (dk_at dksX3_ranked_0 4 rfl rfl)
theorem dX3_ranked_7 : decode cX3_ranked 7 = .ok (.ifCond .eq 7, 3) := dk_153 0 7 (dk_at dksX3_ranked_0 7 rfl rfl)
theorem dX3_ranked_10 : decode cX3_ranked 10 = .ok (.iconst 2, 1) := dk_5 (dk_at dksX3_ranked_0 10 rfl rfl)
theorem dX3_ranked_11 : decode cX3_ranked 11 = .ok (.goto 4, 3) := dk_167 0 4 (dk_at dksX3_ranked_0 11 rfl rfl)
theorem dX3_ranked_14 : decode cX3_ranked 14 = .ok (.iconst 1, 1) := dk_4 (dk_at dksX3_ranked_0 14 rfl rfl)
theorem dX3_ranked_15 : decode cX3_ranked 15 = .ok (.putfield 33, 3) := dk_181 0 33 (dk_at dksX3_ranked_0 15 rfl rfl)
theorem dX3_ranked_18 : decode cX3_ranked 18 = .ok (.iconst 0, 1) := dk_3 (dk_at dksX3_ranked_0 18 rfl rfl)
theorem dX3_ranked_19 : decode cX3_ranked 19 = .ok (.istore_n 3, 1) := dk_62 (dk_at dksX3_ranked_0 19 rfl rfl)
theorem dX3_ranked_20 : decode cX3_ranked 20 = .ok (.iload_n 3, 1) := dk_29 (dk_at dksX3_ranked_0 20 rfl rfl)
theorem dX3_ranked_21 : decode cX3_ranked 21 = .ok (.aload_n 0, 1) := dk_42 (dk_at dksX3_ranked_0 21 rfl rfl)
theorem dX3_ranked_22 : decode cX3_ranked 22 = .ok (.getfield 9, 3) := dk_180 0 9 (dk_at dksX3_ranked_1 0 rfl rfl)
theorem dX3_ranked_25 : decode cX3_ranked 25 = .ok (.iconst 1, 1) := dk_4 (dk_at dksX3_ranked_1 3 rfl rfl)
theorem dX3_ranked_26 : decode cX3_ranked 26 = .ok (.iaload, 1) := dk_46 (dk_at dksX3_ranked_1 4 rfl rfl)
theorem dX3_ranked_27 : decode cX3_ranked 27 = .ok (.if_icmp .ge 101, 3) := dk_162 0 101 (dk_at dksX3_ranked_1 5 rfl rfl)
theorem dX3_ranked_30 : decode cX3_ranked 30 = .ok (.aload_n 0, 1) := dk_42 (dk_at dksX3_ranked_1 8 rfl rfl)
theorem dX3_ranked_31 : decode cX3_ranked 31 = .ok (.getfield 33, 3) := dk_180 0 33 (dk_at dksX3_ranked_1 9 rfl rfl)
theorem dX3_ranked_34 : decode cX3_ranked 34 = .ok (.iconst 2, 1) := dk_5 (dk_at dksX3_ranked_1 12 rfl rfl)
theorem dX3_ranked_35 : decode cX3_ranked 35 = .ok (.if_icmp .ne 93, 3) := dk_160 0 93 (dk_at dksX3_ranked_1 13 rfl rfl)
theorem dX3_ranked_38 : decode cX3_ranked 38 = .ok (.iconst 0, 1) := dk_3 (dk_at dksX3_ranked_1 16 rfl rfl)
theorem dX3_ranked_39 : decode cX3_ranked 39 = .ok (.istore 4, 2) := dk_54 4 (dk_at dksX3_ranked_1 17 rfl rfl)
theorem dX3_ranked_41 : decode cX3_ranked 41 = .ok (.iconst 0, 1) := dk_3 (dk_at dksX3_ranked_1 19 rfl rfl)
theorem dX3_ranked_42 : decode cX3_ranked 42 = .ok (.istore 5, 2) := dk_54 5 (dk_at dksX3_ranked_1 20 rfl rfl)
theorem dX3_ranked_44 : decode cX3_ranked 44 = .ok (.iload 5, 2) := dk_21 5 (dk_at dksX3_ranked_1 22 rfl rfl)
theorem dX3_ranked_46 : decode cX3_ranked 46 = .ok (.aload_n 0, 1) := dk_42 (dk_at dksX3_ranked_2 0 rfl rfl)
theorem dX3_ranked_47 : decode cX3_ranked 47 = .ok (.getfield 9, 3) := dk_180 0 9 (dk_at dksX3_ranked_2 1 rfl rfl)
theorem dX3_ranked_50 : decode cX3_ranked 50 = .ok (.iconst 1, 1) := dk_4 (dk_at dksX3_ranked_2 4 rfl rfl)
theorem dX3_ranked_51 : decode cX3_ranked 51 = .ok (.iaload, 1) := dk_46 (dk_at dksX3_ranked_2 5 rfl rfl)
theorem dX3_ranked_52 : decode cX3_ranked 52 = .ok (.if_icmp .ge 57, 3) := dk_162 0 57 (dk_at dksX3_ranked_2 6 rfl rfl)
theorem dX3_ranked_55 : decode cX3_ranked 55 = .ok (.iload 4, 2) := dk_21 4 (dk_at dksX3_ranked_2 9 rfl rfl)
theorem dX3_ranked_57 : decode cX3_ranked 57 = .ok (.aload_n 0, 1) := dk_42 (dk_at dksX3_ranked_2 11 rfl rfl)
theorem dX3_ranked_58 : decode cX3_ranked 58 = .ok (.iload_n 1, 1) := dk_27 (dk_at dksX3_ranked_2 12 rfl rfl)
theorem dX3_ranked_59 : decode cX3_ranked 59 = .ok (.iload 5, 2) := dk_21 5 (dk_at dksX3_ranked_2 13 rfl rfl)
theorem dX3_ranked_61 : decode cX3_ranked 61 = .ok (.invokevirtual 203, 3) := dk_182 0 203 (dk_at dksX3_ranked_2 15 rfl rfl)
theorem dX3_ranked_64 : decode cX3_ranked 64 = .ok (.aload_n 0, 1) := dk_42 (dk_at dksX3_ranked_2 18 rfl rfl)
theorem dX3_ranked_65 : decode cX3_ranked 65 = .ok (.iload_n 1, 1) := dk_27 (dk_at dksX3_ranked_2 19 rfl rfl)
theorem dX3_ranked_66 : decode cX3_ranked 66 = .ok (.iload_n 3, 1) := dk_29 (dk_at dksX3_ranked_2 20 rfl rfl)
theorem dX3_ranked_67 : decode cX3_ranked 67 = .ok (.invokevirtual 203, 3) := dk_182 0 203 (dk_at dksX3_ranked_2 21 rfl rfl)
theorem dX3_ranked_70 : decode cX3_ranked 70 = .ok (.if_icmp .gt 25, 3) := dk_163 0 25 (dk_at dksX3_ranked_3 0 rfl rfl)
theorem dX3_ranked_73 : decode cX3_ranked 73 = .ok (.aload_n 0, 1) := dk_42 (dk_at dksX3_ranked_3 3 rfl rfl)
theorem dX3_ranked_74 : decode cX3_ranked 74 = .ok (.iload_n 1, 1) := dk_27 (dk_at dksX3_ranked_3 4 rfl rfl)
theorem dX3_ranked_75 : decode cX3_ranked 75 = .ok (.iload 5, 2) := dk_21 5 (dk_at dksX3_ranked_3 5 rfl rfl)
theorem dX3_ranked_77 : decode cX3_ranked 77 = .ok (.invokevirtual 203, 3) := dk_182 0 203 (dk_at dksX3_ranked_3 7 rfl rfl)
theorem dX3_ranked_80 : decode cX3_ranked 80 = .ok (.aload_n 0, 1) := dk_42 (dk_at dksX3_ranked_3 10 rfl rfl)
theorem dX3_ranked_81 : decode cX3_ranked 81 = .ok (.iload_n 1, 1) := dk_27 (dk_at dksX3_ranked_3 11 rfl rfl)
theorem dX3_ranked_82 : decode cX3_ranked 82 = .ok (.iload_n 3, 1) := dk_29 (dk_at dksX3_ranked_3 12 rfl rfl)
theorem dX3_ranked_83 : decode cX3_ranked 83 = .ok (.invokevirtual 203, 3) := dk_182 0 203 (dk_at dksX3_ranked_3 13 rfl rfl)
theorem dX3_ranked_86 : decode cX3_ranked 86 = .ok (.if_icmp .ne 13, 3) := dk_160 0 13 (dk_at dksX3_ranked_3 16 rfl rfl)
theorem dX3_ranked_89 : decode cX3_ranked 89 = .ok (.iload 5, 2) := dk_21 5 (dk_at dksX3_ranked_3 19 rfl rfl)
theorem dX3_ranked_91 : decode cX3_ranked 91 = .ok (.iload_n 3, 1) := dk_29 (dk_at dksX3_ranked_3 21 rfl rfl)
theorem dX3_ranked_92 : decode cX3_ranked 92 = .ok (.if_icmp .ge 7, 3) := dk_162 0 7 (dk_at dksX3_ranked_4 0 rfl rfl)
theorem dX3_ranked_95 : decode cX3_ranked 95 = .ok (.iconst 1, 1) := dk_4 (dk_at dksX3_ranked_4 3 rfl rfl)
theorem dX3_ranked_96 : decode cX3_ranked 96 = .ok (.goto 4, 3) := dk_167 0 4 (dk_at dksX3_ranked_4 4 rfl rfl)
theorem dX3_ranked_99 : decode cX3_ranked 99 = .ok (.iconst 0, 1) := dk_3 (dk_at dksX3_ranked_4 7 rfl rfl)
theorem dX3_ranked_100 : decode cX3_ranked 100 = .ok (.iadd, 1) := dk_96 (dk_at dksX3_ranked_4 8 rfl rfl)
theorem dX3_ranked_101 : decode cX3_ranked 101 = .ok (.istore 4, 2) := dk_54 4 (dk_at dksX3_ranked_4 9 rfl rfl)
theorem dX3_ranked_103 : decode cX3_ranked 103 = .ok (.iinc 5 1, 3) := dk_132 5 1 (dk_at dksX3_ranked_4 11 rfl rfl)
theorem dX3_ranked_106 : decode cX3_ranked 106 = .ok (.goto (-62), 3) := dk_167 255 194 (dk_at dksX3_ranked_4 14 rfl rfl)
theorem dX3_ranked_109 : decode cX3_ranked 109 = .ok (.iload 4, 2) := dk_21 4 (dk_at dksX3_ranked_4 17 rfl rfl)
theorem dX3_ranked_111 : decode cX3_ranked 111 = .ok (.iload_n 2, 1) := dk_28 (dk_at dksX3_ranked_4 19 rfl rfl)
theorem dX3_ranked_112 : decode cX3_ranked 112 = .ok (.if_icmp .ne 10, 3) := dk_160 0 10 (dk_at dksX3_ranked_4 20 rfl rfl)
theorem dX3_ranked_115 : decode cX3_ranked 115 = .ok (.aload_n 0, 1) := dk_42 (dk_at dksX3_ranked_4 23 rfl rfl)
theorem dX3_ranked_116 : decode cX3_ranked 116 = .ok (.iconst 0, 1) := dk_3 (dk_at dksX3_ranked_5 0 rfl rfl)
theorem dX3_ranked_117 : decode cX3_ranked 117 = .ok (.putfield 33, 3) := dk_181 0 33 (dk_at dksX3_ranked_5 1 rfl rfl)
theorem dX3_ranked_120 : decode cX3_ranked 120 = .ok (.iload_n 3, 1) := dk_29 (dk_at dksX3_ranked_5 4 rfl rfl)
theorem dX3_ranked_121 : decode cX3_ranked 121 = .ok (.ireturn, 1) := dk_172 (dk_at dksX3_ranked_5 5 rfl rfl)
theorem dX3_ranked_122 : decode cX3_ranked 122 = .ok (.iinc 3 1, 3) := dk_132 3 1 (dk_at dksX3_ranked_5 6 rfl rfl)
theorem dX3_ranked_125 : decode cX3_ranked 125 = .ok (.goto (-105), 3) := dk_167 255 151 (dk_at dksX3_ranked_5 9 rfl rfl)
theorem dX3_ranked_128 : decode cX3_ranked 128 = .ok (.iconst 0, 1) := dk_3 (dk_at dksX3_ranked_5 12 rfl rfl)
theorem dX3_ranked_129 : decode cX3_ranked 129 = .ok (.ireturn, 1) := dk_172 (dk_at dksX3_ranked_5 13 rfl rfl)
abbrev cX3_rankBy : ByteArray := prog_23_method_64_code
def yX3_rankBy : MethodName := ⟨RX3, "rankBy", "(II)I"⟩
def dkwX3_rankBy_2 : List UInt8 := [28, 182, 0, 62, 116, 172]
abbrev dktX3_rankBy_2 : List UInt8 := dkwX3_rankBy_2 ++ []
def dkwX3_rankBy_1 : List UInt8 := [160, 0, 12, 42, 28, 3, 182, 0, 186, 167, 0, 20, 29, 2, 160, 0, 8, 18, 202, 167, 0, 10, 42, 29]
abbrev dktX3_rankBy_1 : List UInt8 := dkwX3_rankBy_1 ++ dktX3_rankBy_2
def dkwX3_rankBy_0 : List UInt8 := [42, 28, 182, 0, 119, 62, 27, 154, 0, 15, 42, 180, 0, 9, 16, 78, 28, 96, 46, 167, 0, 34, 27, 4]
abbrev dktX3_rankBy_0 : List UInt8 := dkwX3_rankBy_0 ++ dktX3_rankBy_1
theorem dksX3_rankBy_0 : cX3_rankBy.data.toList.drop 0 = dktX3_rankBy_0 := by decide +kernel
theorem dksX3_rankBy_1 : cX3_rankBy.data.toList.drop 24 = dktX3_rankBy_1 := dk_seg dksX3_rankBy_0 24 rfl rfl
theorem dksX3_rankBy_2 : cX3_rankBy.data.toList.drop 48 = dktX3_rankBy_2 := dk_seg dksX3_rankBy_1 24 rfl rfl
theorem dX3_rankBy_0 : decode cX3_rankBy 0 = .ok (.aload_n 0, 1) := dk_42 (dk_at dksX3_rankBy_0 0 rfl rfl)
theorem dX3_rankBy_1 : decode cX3_rankBy 1 = .ok (.iload_n 2, 1) := dk_28 (dk_at dksX3_rankBy_0 1 rfl rfl)
theorem dX3_rankBy_2 : decode cX3_rankBy 2 = .ok (.invokevirtual 119, 3) := dk_182 0 119 (dk_at dksX3_rankBy_0 2 rfl rfl)
theorem dX3_rankBy_5 : decode cX3_rankBy 5 = .ok (.istore_n 3, 1) := dk_62 (dk_at dksX3_rankBy_0 5 rfl rfl)
theorem dX3_rankBy_6 : decode cX3_rankBy 6 = .ok (.iload_n 1, 1) := dk_27 (dk_at dksX3_rankBy_0 6 rfl rfl)
theorem dX3_rankBy_7 : decode cX3_rankBy 7 = .ok (.ifCond .ne 15, 3) := dk_154 0 15 (dk_at dksX3_rankBy_0 7 rfl rfl)
theorem dX3_rankBy_10 : decode cX3_rankBy 10 = .ok (.aload_n 0, 1) := dk_42 (dk_at dksX3_rankBy_0 10 rfl rfl)
theorem dX3_rankBy_11 : decode cX3_rankBy 11 = .ok (.getfield 9, 3) := dk_180 0 9 (dk_at dksX3_rankBy_0 11 rfl rfl)
theorem dX3_rankBy_14 : decode cX3_rankBy 14 = .ok (.bipush 78, 2) := dk_16 78 (dk_at dksX3_rankBy_0 14 rfl rfl)
theorem dX3_rankBy_16 : decode cX3_rankBy 16 = .ok (.iload_n 2, 1) := dk_28 (dk_at dksX3_rankBy_0 16 rfl rfl)
theorem dX3_rankBy_17 : decode cX3_rankBy 17 = .ok (.iadd, 1) := dk_96 (dk_at dksX3_rankBy_0 17 rfl rfl)
theorem dX3_rankBy_18 : decode cX3_rankBy 18 = .ok (.iaload, 1) := dk_46 (dk_at dksX3_rankBy_0 18 rfl rfl)
theorem dX3_rankBy_19 : decode cX3_rankBy 19 = .ok (.goto 34, 3) := dk_167 0 34 (dk_at dksX3_rankBy_0 19 rfl rfl)
theorem dX3_rankBy_22 : decode cX3_rankBy 22 = .ok (.iload_n 1, 1) := dk_27 (dk_at dksX3_rankBy_0 22 rfl rfl)
theorem dX3_rankBy_23 : decode cX3_rankBy 23 = .ok (.iconst 1, 1) := dk_4 (dk_at dksX3_rankBy_0 23 rfl rfl)
theorem dX3_rankBy_24 : decode cX3_rankBy 24 = .ok (.if_icmp .ne 12, 3) := dk_160 0 12 (dk_at dksX3_rankBy_1 0 rfl rfl)
theorem dX3_rankBy_27 : decode cX3_rankBy 27 = .ok (.aload_n 0, 1) := dk_42 (dk_at dksX3_rankBy_1 3 rfl rfl)
theorem dX3_rankBy_28 : decode cX3_rankBy 28 = .ok (.iload_n 2, 1) := dk_28 (dk_at dksX3_rankBy_1 4 rfl rfl)
theorem dX3_rankBy_29 : decode cX3_rankBy 29 = .ok (.iconst 0, 1) := dk_3 (dk_at dksX3_rankBy_1 5 rfl rfl)
theorem dX3_rankBy_30 : decode cX3_rankBy 30 = .ok (.invokevirtual 186, 3) := dk_182 0 186 (dk_at dksX3_rankBy_1 6 rfl rfl)
theorem dX3_rankBy_33 : decode cX3_rankBy 33 = .ok (.goto 20, 3) := dk_167 0 20 (dk_at dksX3_rankBy_1 9 rfl rfl)
theorem dX3_rankBy_36 : decode cX3_rankBy 36 = .ok (.iload_n 3, 1) := dk_29 (dk_at dksX3_rankBy_1 12 rfl rfl)
theorem dX3_rankBy_37 : decode cX3_rankBy 37 = .ok (.iconst (-1), 1) := dk_2 (dk_at dksX3_rankBy_1 13 rfl rfl)
theorem dX3_rankBy_38 : decode cX3_rankBy 38 = .ok (.if_icmp .ne 8, 3) := dk_160 0 8 (dk_at dksX3_rankBy_1 14 rfl rfl)
theorem dX3_rankBy_41 : decode cX3_rankBy 41 = .ok (.ldc 202, 2) := dk_18 202 (dk_at dksX3_rankBy_1 17 rfl rfl)
theorem dX3_rankBy_43 : decode cX3_rankBy 43 = .ok (.goto 10, 3) := dk_167 0 10 (dk_at dksX3_rankBy_1 19 rfl rfl)
theorem dX3_rankBy_46 : decode cX3_rankBy 46 = .ok (.aload_n 0, 1) := dk_42 (dk_at dksX3_rankBy_1 22 rfl rfl)
theorem dX3_rankBy_47 : decode cX3_rankBy 47 = .ok (.iload_n 3, 1) := dk_29 (dk_at dksX3_rankBy_1 23 rfl rfl)
theorem dX3_rankBy_48 : decode cX3_rankBy 48 = .ok (.iload_n 2, 1) := dk_28 (dk_at dksX3_rankBy_2 0 rfl rfl)
theorem dX3_rankBy_49 : decode cX3_rankBy 49 = .ok (.invokevirtual 62, 3) := dk_182 0 62 (dk_at dksX3_rankBy_2 1 rfl rfl)
theorem dX3_rankBy_52 : decode cX3_rankBy 52 = .ok (.ineg, 1) := dk_116 (dk_at dksX3_rankBy_2 4 rfl rfl)
theorem dX3_rankBy_53 : decode cX3_rankBy 53 = .ok (.ireturn, 1) := dk_172 (dk_at dksX3_rankBy_2 5 rfl rfl)
abbrev cX3_feed : ByteArray := prog_23_method_66_code
def yX3_feed : MethodName := ⟨RX3, "feed", "(C)I"⟩
def dkwX3_feed_1 : List UInt8 := [180, 0, 19, 42, 180, 0, 206, 27, 85, 42, 89, 180, 0, 206, 4, 96, 181, 0, 206, 42, 180, 0, 206, 172]
abbrev dktX3_feed_1 : List UInt8 := dkwX3_feed_1 ++ []
def dkwX3_feed_0 : List UInt8 := [42, 42, 180, 0, 206, 16, 60, 162, 0, 7, 4, 167, 0, 4, 3, 182, 0, 55, 154, 0, 5, 3, 172, 42]
abbrev dktX3_feed_0 : List UInt8 := dkwX3_feed_0 ++ dktX3_feed_1
theorem dksX3_feed_0 : cX3_feed.data.toList.drop 0 = dktX3_feed_0 := by decide +kernel
theorem dksX3_feed_1 : cX3_feed.data.toList.drop 24 = dktX3_feed_1 := dk_seg dksX3_feed_0 24 rfl rfl
theorem dX3_feed_0 : decode cX3_feed 0 = .ok (.aload_n 0, 1) := dk_42 (dk_at dksX3_feed_0 0 rfl rfl)
theorem dX3_feed_1 : decode cX3_feed 1 = .ok (.aload_n 0, 1) := dk_42 (dk_at dksX3_feed_0 1 rfl rfl)
theorem dX3_feed_2 : decode cX3_feed 2 = .ok (.getfield 206, 3) := dk_180 0 206 (dk_at dksX3_feed_0 2 rfl rfl)
theorem dX3_feed_5 : decode cX3_feed 5 = .ok (.bipush 60, 2) := dk_16 60 (dk_at dksX3_feed_0 5 rfl rfl)
theorem dX3_feed_7 : decode cX3_feed 7 = .ok (.if_icmp .ge 7, 3) := dk_162 0 7 (dk_at dksX3_feed_0 7 rfl rfl)
theorem dX3_feed_10 : decode cX3_feed 10 = .ok (.iconst 1, 1) := dk_4 (dk_at dksX3_feed_0 10 rfl rfl)
theorem dX3_feed_11 : decode cX3_feed 11 = .ok (.goto 4, 3) := dk_167 0 4 (dk_at dksX3_feed_0 11 rfl rfl)
theorem dX3_feed_14 : decode cX3_feed 14 = .ok (.iconst 0, 1) := dk_3 (dk_at dksX3_feed_0 14 rfl rfl)
theorem dX3_feed_15 : decode cX3_feed 15 = .ok (.invokevirtual 55, 3) := dk_182 0 55 (dk_at dksX3_feed_0 15 rfl rfl)
theorem dX3_feed_18 : decode cX3_feed 18 = .ok (.ifCond .ne 5, 3) := dk_154 0 5 (dk_at dksX3_feed_0 18 rfl rfl)
theorem dX3_feed_21 : decode cX3_feed 21 = .ok (.iconst 0, 1) := dk_3 (dk_at dksX3_feed_0 21 rfl rfl)
theorem dX3_feed_22 : decode cX3_feed 22 = .ok (.ireturn, 1) := dk_172 (dk_at dksX3_feed_0 22 rfl rfl)
theorem dX3_feed_23 : decode cX3_feed 23 = .ok (.aload_n 0, 1) := dk_42 (dk_at dksX3_feed_0 23 rfl rfl)
theorem dX3_feed_24 : decode cX3_feed 24 = .ok (.getfield 19, 3) := dk_180 0 19 (dk_at dksX3_feed_1 0 rfl rfl)
theorem dX3_feed_27 : decode cX3_feed 27 = .ok (.aload_n 0, 1) := dk_42 (dk_at dksX3_feed_1 3 rfl rfl)
theorem dX3_feed_28 : decode cX3_feed 28 = .ok (.getfield 206, 3) := dk_180 0 206 (dk_at dksX3_feed_1 4 rfl rfl)
theorem dX3_feed_31 : decode cX3_feed 31 = .ok (.iload_n 1, 1) := dk_27 (dk_at dksX3_feed_1 7 rfl rfl)
theorem dX3_feed_32 : decode cX3_feed 32 = .ok (.castore, 1) := dk_85 (dk_at dksX3_feed_1 8 rfl rfl)
theorem dX3_feed_33 : decode cX3_feed 33 = .ok (.aload_n 0, 1) := dk_42 (dk_at dksX3_feed_1 9 rfl rfl)
theorem dX3_feed_34 : decode cX3_feed 34 = .ok (.dup, 1) := dk_89 (dk_at dksX3_feed_1 10 rfl rfl)
theorem dX3_feed_35 : decode cX3_feed 35 = .ok (.getfield 206, 3) := dk_180 0 206 (dk_at dksX3_feed_1 11 rfl rfl)
theorem dX3_feed_38 : decode cX3_feed 38 = .ok (.iconst 1, 1) := dk_4 (dk_at dksX3_feed_1 14 rfl rfl)
theorem dX3_feed_39 : decode cX3_feed 39 = .ok (.iadd, 1) := dk_96 (dk_at dksX3_feed_1 15 rfl rfl)
theorem dX3_feed_40 : decode cX3_feed 40 = .ok (.putfield 206, 3) := dk_181 0 206 (dk_at dksX3_feed_1 16 rfl rfl)
theorem dX3_feed_43 : decode cX3_feed 43 = .ok (.aload_n 0, 1) := dk_42 (dk_at dksX3_feed_1 19 rfl rfl)
theorem dX3_feed_44 : decode cX3_feed 44 = .ok (.getfield 206, 3) := dk_180 0 206 (dk_at dksX3_feed_1 20 rfl rfl)
theorem dX3_feed_47 : decode cX3_feed 47 = .ok (.ireturn, 1) := dk_172 (dk_at dksX3_feed_1 23 rfl rfl)
abbrev cX3_run : ByteArray := prog_23_method_75_code
def yX3_run : MethodName := ⟨RX3, "run", "()I"⟩
def dkwX3_run_5 : List UInt8 := [3, 5, 182, 0, 91, 172]
abbrev dktX3_run_5 : List UInt8 := dkwX3_run_5 ++ []
def dkwX3_run_4 : List UInt8 := [181, 0, 49, 42, 42, 180, 0, 225, 181, 0, 43, 42, 27, 42, 180, 0, 225, 160, 0, 7, 4, 167, 0, 4]
abbrev dktX3_run_4 : List UInt8 := dkwX3_run_4 ++ dktX3_run_5
def dkwX3_run_3 : List UInt8 := [180, 0, 46, 181, 0, 52, 42, 42, 180, 0, 49, 181, 0, 59, 42, 16, 10, 181, 0, 46, 42, 27]
abbrev dktX3_run_3 : List UInt8 := dkwX3_run_3 ++ dktX3_run_4
def dkwX3_run_2 : List UInt8 := [104, 182, 0, 240, 153, 0, 9, 132, 1, 1, 167, 255, 235, 27, 42, 180, 0, 225, 162, 0, 30, 42, 42]
abbrev dktX3_run_2 : List UInt8 := dkwX3_run_2 ++ dktX3_run_3
def dkwX3_run_1 : List UInt8 := [42, 4, 181, 0, 33, 3, 172, 42, 182, 0, 85, 3, 60, 27, 42, 180, 0, 225, 162, 0, 19, 42, 7, 27]
abbrev dktX3_run_1 : List UInt8 := dkwX3_run_1 ++ dktX3_run_2
def dkwX3_run_0 : List UInt8 := [42, 182, 0, 237, 42, 3, 181, 0, 206, 42, 180, 0, 212, 155, 0, 18, 42, 42, 180, 0, 212, 181, 0, 23]
abbrev dktX3_run_0 : List UInt8 := dkwX3_run_0 ++ dktX3_run_1
theorem dksX3_run_0 : cX3_run.data.toList.drop 0 = dktX3_run_0 := by decide +kernel
theorem dksX3_run_1 : cX3_run.data.toList.drop 24 = dktX3_run_1 := dk_seg dksX3_run_0 24 rfl rfl
theorem dksX3_run_2 : cX3_run.data.toList.drop 48 = dktX3_run_2 := dk_seg dksX3_run_1 24 rfl rfl
theorem dksX3_run_3 : cX3_run.data.toList.drop 71 = dktX3_run_3 := dk_seg dksX3_run_2 23 rfl rfl
theorem dksX3_run_4 : cX3_run.data.toList.drop 93 = dktX3_run_4 := dk_seg dksX3_run_3 22 rfl rfl
theorem dksX3_run_5 : cX3_run.data.toList.drop 117 = dktX3_run_5 := dk_seg dksX3_run_4 24 rfl rfl
theorem dX3_run_0 : decode cX3_run 0 = .ok (.aload_n 0, 1) := dk_42 (dk_at dksX3_run_0 0 rfl rfl)
theorem dX3_run_1 : decode cX3_run 1 = .ok (.invokevirtual 237, 3) := dk_182 0 237 (dk_at dksX3_run_0 1 rfl rfl)
theorem dX3_run_4 : decode cX3_run 4 = .ok (.aload_n 0, 1) := dk_42 (dk_at dksX3_run_0 4 rfl rfl)
theorem dX3_run_5 : decode cX3_run 5 = .ok (.iconst 0, 1) := dk_3 (dk_at dksX3_run_0 5 rfl rfl)
theorem dX3_run_6 : decode cX3_run 6 = .ok (.putfield 206, 3) := dk_181 0 206 (dk_at dksX3_run_0 6 rfl rfl)
theorem dX3_run_9 : decode cX3_run 9 = .ok (.aload_n 0, 1) := dk_42 (dk_at dksX3_run_0 9 rfl rfl)
theorem dX3_run_10 : decode cX3_run 10 = .ok (.getfield 212, 3) := dk_180 0 212 (dk_at dksX3_run_0 10 rfl rfl)
theorem dX3_run_13 : decode cX3_run 13 = .ok (.ifCond .lt 18, 3) := dk_155 0 18 (dk_at dksX3_run_0 13 rfl rfl)
theorem dX3_run_16 : decode cX3_run 16 = .ok (.aload_n 0, 1) := dk_42 (dk_at dksX3_run_0 16 rfl rfl)
theorem dX3_run_17 : decode cX3_run 17 = .ok (.aload_n 0, 1) := dk_42 (dk_at dksX3_run_0 17 rfl rfl)
theorem dX3_run_18 : decode cX3_run 18 = .ok (.getfield 212, 3) := dk_180 0 212 (dk_at dksX3_run_0 18 rfl rfl)
theorem dX3_run_21 : decode cX3_run 21 = .ok (.putfield 23, 3) := dk_181 0 23 (dk_at dksX3_run_0 21 rfl rfl)
theorem dX3_run_24 : decode cX3_run 24 = .ok (.aload_n 0, 1) := dk_42 (dk_at dksX3_run_1 0 rfl rfl)
theorem dX3_run_25 : decode cX3_run 25 = .ok (.iconst 1, 1) := dk_4 (dk_at dksX3_run_1 1 rfl rfl)
theorem dX3_run_26 : decode cX3_run 26 = .ok (.putfield 33, 3) := dk_181 0 33 (dk_at dksX3_run_1 2 rfl rfl)
theorem dX3_run_29 : decode cX3_run 29 = .ok (.iconst 0, 1) := dk_3 (dk_at dksX3_run_1 5 rfl rfl)
theorem dX3_run_30 : decode cX3_run 30 = .ok (.ireturn, 1) := dk_172 (dk_at dksX3_run_1 6 rfl rfl)
theorem dX3_run_31 : decode cX3_run 31 = .ok (.aload_n 0, 1) := dk_42 (dk_at dksX3_run_1 7 rfl rfl)
theorem dX3_run_32 : decode cX3_run 32 = .ok (.invokevirtual 85, 3) := dk_182 0 85 (dk_at dksX3_run_1 8 rfl rfl)
theorem dX3_run_35 : decode cX3_run 35 = .ok (.iconst 0, 1) := dk_3 (dk_at dksX3_run_1 11 rfl rfl)
theorem dX3_run_36 : decode cX3_run 36 = .ok (.istore_n 1, 1) := dk_60 (dk_at dksX3_run_1 12 rfl rfl)
theorem dX3_run_37 : decode cX3_run 37 = .ok (.iload_n 1, 1) := dk_27 (dk_at dksX3_run_1 13 rfl rfl)
theorem dX3_run_38 : decode cX3_run 38 = .ok (.aload_n 0, 1) := dk_42 (dk_at dksX3_run_1 14 rfl rfl)
theorem dX3_run_39 : decode cX3_run 39 = .ok (.getfield 225, 3) := dk_180 0 225 (dk_at dksX3_run_1 15 rfl rfl)
theorem dX3_run_42 : decode cX3_run 42 = .ok (.if_icmp .ge 19, 3) := dk_162 0 19 (dk_at dksX3_run_1 18 rfl rfl)
theorem dX3_run_45 : decode cX3_run 45 = .ok (.aload_n 0, 1) := dk_42 (dk_at dksX3_run_1 21 rfl rfl)
theorem dX3_run_46 : decode cX3_run 46 = .ok (.iconst 4, 1) := dk_7 (dk_at dksX3_run_1 22 rfl rfl)
theorem dX3_run_47 : decode cX3_run 47 = .ok (.iload_n 1, 1) := dk_27 (dk_at dksX3_run_1 23 rfl rfl)
theorem dX3_run_48 : decode cX3_run 48 = .ok (.imul, 1) := dk_104 (dk_at dksX3_run_2 0 rfl rfl)
theorem dX3_run_49 : decode cX3_run 49 = .ok (.invokevirtual 240, 3) := dk_182 0 240 (dk_at dksX3_run_2 1 rfl rfl)
theorem dX3_run_52 : decode cX3_run 52 = .ok (.ifCond .eq 9, 3) := dk_153 0 9 (dk_at dksX3_run_2 4 rfl rfl)
theorem dX3_run_55 : decode cX3_run 55 = .ok (.iinc 1 1, 3) := dk_132 1 1 (dk_at dksX3_run_2 7 rfl rfl)
theorem dX3_run_58 : decode cX3_run 58 = .ok (.goto (-21), 3) := dk_167 255 235 (dk_at dksX3_run_2 10 rfl rfl)
theorem dX3_run_61 : decode cX3_run 61 = .ok (.iload_n 1, 1) := dk_27 (dk_at dksX3_run_2 13 rfl rfl)
theorem dX3_run_62 : decode cX3_run 62 = .ok (.aload_n 0, 1) := dk_42 (dk_at dksX3_run_2 14 rfl rfl)
theorem dX3_run_63 : decode cX3_run 63 = .ok (.getfield 225, 3) := dk_180 0 225 (dk_at dksX3_run_2 15 rfl rfl)
theorem dX3_run_66 : decode cX3_run 66 = .ok (.if_icmp .ge 30, 3) := dk_162 0 30 (dk_at dksX3_run_2 18 rfl rfl)
theorem dX3_run_69 : decode cX3_run 69 = .ok (.aload_n 0, 1) := dk_42 (dk_at dksX3_run_2 21 rfl rfl)
theorem dX3_run_70 : decode cX3_run 70 = .ok (.aload_n 0, 1) := dk_42 (dk_at dksX3_run_2 22 rfl rfl)
theorem dX3_run_71 : decode cX3_run 71 = .ok (.getfield 46, 3) := dk_180 0 46 (dk_at dksX3_run_3 0 rfl rfl)
theorem dX3_run_74 : decode cX3_run 74 = .ok (.putfield 52, 3) := dk_181 0 52 (dk_at dksX3_run_3 3 rfl rfl)
theorem dX3_run_77 : decode cX3_run 77 = .ok (.aload_n 0, 1) := dk_42 (dk_at dksX3_run_3 6 rfl rfl)
theorem dX3_run_78 : decode cX3_run 78 = .ok (.aload_n 0, 1) := dk_42 (dk_at dksX3_run_3 7 rfl rfl)
theorem dX3_run_79 : decode cX3_run 79 = .ok (.getfield 49, 3) := dk_180 0 49 (dk_at dksX3_run_3 8 rfl rfl)
theorem dX3_run_82 : decode cX3_run 82 = .ok (.putfield 59, 3) := dk_181 0 59 (dk_at dksX3_run_3 11 rfl rfl)
theorem dX3_run_85 : decode cX3_run 85 = .ok (.aload_n 0, 1) := dk_42 (dk_at dksX3_run_3 14 rfl rfl)
theorem dX3_run_86 : decode cX3_run 86 = .ok (.bipush 10, 2) := dk_16 10 (dk_at dksX3_run_3 15 rfl rfl)
theorem dX3_run_88 : decode cX3_run 88 = .ok (.putfield 46, 3) := dk_181 0 46 (dk_at dksX3_run_3 17 rfl rfl)
theorem dX3_run_91 : decode cX3_run 91 = .ok (.aload_n 0, 1) := dk_42 (dk_at dksX3_run_3 20 rfl rfl)
theorem dX3_run_92 : decode cX3_run 92 = .ok (.iload_n 1, 1) := dk_27 (dk_at dksX3_run_3 21 rfl rfl)
theorem dX3_run_93 : decode cX3_run 93 = .ok (.putfield 49, 3) := dk_181 0 49 (dk_at dksX3_run_4 0 rfl rfl)
theorem dX3_run_96 : decode cX3_run 96 = .ok (.aload_n 0, 1) := dk_42 (dk_at dksX3_run_4 3 rfl rfl)
theorem dX3_run_97 : decode cX3_run 97 = .ok (.aload_n 0, 1) := dk_42 (dk_at dksX3_run_4 4 rfl rfl)
theorem dX3_run_98 : decode cX3_run 98 = .ok (.getfield 225, 3) := dk_180 0 225 (dk_at dksX3_run_4 5 rfl rfl)
theorem dX3_run_101 : decode cX3_run 101 = .ok (.putfield 43, 3) := dk_181 0 43 (dk_at dksX3_run_4 8 rfl rfl)
theorem dX3_run_104 : decode cX3_run 104 = .ok (.aload_n 0, 1) := dk_42 (dk_at dksX3_run_4 11 rfl rfl)
theorem dX3_run_105 : decode cX3_run 105 = .ok (.iload_n 1, 1) := dk_27 (dk_at dksX3_run_4 12 rfl rfl)
theorem dX3_run_106 : decode cX3_run 106 = .ok (.aload_n 0, 1) := dk_42 (dk_at dksX3_run_4 13 rfl rfl)
theorem dX3_run_107 : decode cX3_run 107 = .ok (.getfield 225, 3) := dk_180 0 225 (dk_at dksX3_run_4 14 rfl rfl)
theorem dX3_run_110 : decode cX3_run 110 = .ok (.if_icmp .ne 7, 3) := dk_160 0 7 (dk_at dksX3_run_4 17 rfl rfl)
theorem dX3_run_113 : decode cX3_run 113 = .ok (.iconst 1, 1) := dk_4 (dk_at dksX3_run_4 20 rfl rfl)
theorem dX3_run_114 : decode cX3_run 114 = .ok (.goto 4, 3) := dk_167 0 4 (dk_at dksX3_run_4 21 rfl rfl)
theorem dX3_run_117 : decode cX3_run 117 = .ok (.iconst 0, 1) := dk_3 (dk_at dksX3_run_5 0 rfl rfl)
theorem dX3_run_118 : decode cX3_run 118 = .ok (.iconst 2, 1) := dk_5 (dk_at dksX3_run_5 1 rfl rfl)
theorem dX3_run_119 : decode cX3_run 119 = .ok (.invokevirtual 91, 3) := dk_182 0 91 (dk_at dksX3_run_5 2 rfl rfl)
theorem dX3_run_122 : decode cX3_run 122 = .ok (.ireturn, 1) := dk_172 (dk_at dksX3_run_5 5 rfl rfl)
abbrev cX3_parse : ByteArray := prog_23_method_73_code
def yX3_parse : MethodName := ⟨RX3, "parse", "()V"⟩
def dkwX3_parse_3 : List UInt8 := [42, 42, 180, 0, 209, 181, 0, 212, 177]
abbrev dktX3_parse_3 : List UInt8 := dkwX3_parse_3 ++ []
def dkwX3_parse_2 : List UInt8 := [182, 0, 234, 167, 255, 226, 42, 180, 0, 212, 156, 0, 22, 42, 180, 0, 209, 42, 180, 0, 206, 162, 0, 11]
abbrev dktX3_parse_2 : List UInt8 := dkwX3_parse_2 ++ dktX3_parse_3
def dkwX3_parse_1 : List UInt8 := [156, 0, 29, 42, 182, 0, 215, 16, 59, 160, 0, 20, 42, 89, 180, 0, 209, 4, 96, 181, 0, 209, 42]
abbrev dktX3_parse_1 : List UInt8 := dkwX3_parse_1 ++ dktX3_parse_2
def dkwX3_parse_0 : List UInt8 := [42, 3, 181, 0, 209, 42, 2, 181, 0, 212, 42, 3, 181, 0, 225, 42, 182, 0, 234, 42, 180, 0, 212]
abbrev dktX3_parse_0 : List UInt8 := dkwX3_parse_0 ++ dktX3_parse_1
theorem dksX3_parse_0 : cX3_parse.data.toList.drop 0 = dktX3_parse_0 := by decide +kernel
theorem dksX3_parse_1 : cX3_parse.data.toList.drop 23 = dktX3_parse_1 := dk_seg dksX3_parse_0 23 rfl rfl
theorem dksX3_parse_2 : cX3_parse.data.toList.drop 46 = dktX3_parse_2 := dk_seg dksX3_parse_1 23 rfl rfl
theorem dksX3_parse_3 : cX3_parse.data.toList.drop 70 = dktX3_parse_3 := dk_seg dksX3_parse_2 24 rfl rfl
theorem dX3_parse_0 : decode cX3_parse 0 = .ok (.aload_n 0, 1) := dk_42 (dk_at dksX3_parse_0 0 rfl rfl)
theorem dX3_parse_1 : decode cX3_parse 1 = .ok (.iconst 0, 1) := dk_3 (dk_at dksX3_parse_0 1 rfl rfl)
theorem dX3_parse_2 : decode cX3_parse 2 = .ok (.putfield 209, 3) := dk_181 0 209 (dk_at dksX3_parse_0 2 rfl rfl)
theorem dX3_parse_5 : decode cX3_parse 5 = .ok (.aload_n 0, 1) := dk_42 (dk_at dksX3_parse_0 5 rfl rfl)
theorem dX3_parse_6 : decode cX3_parse 6 = .ok (.iconst (-1), 1) := dk_2 (dk_at dksX3_parse_0 6 rfl rfl)
theorem dX3_parse_7 : decode cX3_parse 7 = .ok (.putfield 212, 3) := dk_181 0 212 (dk_at dksX3_parse_0 7 rfl rfl)
theorem dX3_parse_10 : decode cX3_parse 10 = .ok (.aload_n 0, 1) := dk_42 (dk_at dksX3_parse_0 10 rfl rfl)
theorem dX3_parse_11 : decode cX3_parse 11 = .ok (.iconst 0, 1) := dk_3 (dk_at dksX3_parse_0 11 rfl rfl)
theorem dX3_parse_12 : decode cX3_parse 12 = .ok (.putfield 225, 3) := dk_181 0 225 (dk_at dksX3_parse_0 12 rfl rfl)
theorem dX3_parse_15 : decode cX3_parse 15 = .ok (.aload_n 0, 1) := dk_42 (dk_at dksX3_parse_0 15 rfl rfl)
theorem dX3_parse_16 : decode cX3_parse 16 = .ok (.invokevirtual 234, 3) := dk_182 0 234 (dk_at dksX3_parse_0 16 rfl rfl)
theorem dX3_parse_19 : decode cX3_parse 19 = .ok (.aload_n 0, 1) := dk_42 (dk_at dksX3_parse_0 19 rfl rfl)
theorem dX3_parse_20 : decode cX3_parse 20 = .ok (.getfield 212, 3) := dk_180 0 212 (dk_at dksX3_parse_0 20 rfl rfl)
theorem dX3_parse_23 : decode cX3_parse 23 = .ok (.ifCond .ge 29, 3) := dk_156 0 29 (dk_at dksX3_parse_1 0 rfl rfl)
theorem dX3_parse_26 : decode cX3_parse 26 = .ok (.aload_n 0, 1) := dk_42 (dk_at dksX3_parse_1 3 rfl rfl)
theorem dX3_parse_27 : decode cX3_parse 27 = .ok (.invokevirtual 215, 3) := dk_182 0 215 (dk_at dksX3_parse_1 4 rfl rfl)
theorem dX3_parse_30 : decode cX3_parse 30 = .ok (.bipush 59, 2) := dk_16 59 (dk_at dksX3_parse_1 7 rfl rfl)
theorem dX3_parse_32 : decode cX3_parse 32 = .ok (.if_icmp .ne 20, 3) := dk_160 0 20 (dk_at dksX3_parse_1 9 rfl rfl)
theorem dX3_parse_35 : decode cX3_parse 35 = .ok (.aload_n 0, 1) := dk_42 (dk_at dksX3_parse_1 12 rfl rfl)
theorem dX3_parse_36 : decode cX3_parse 36 = .ok (.dup, 1) := dk_89 (dk_at dksX3_parse_1 13 rfl rfl)
theorem dX3_parse_37 : decode cX3_parse 37 = .ok (.getfield 209, 3) := dk_180 0 209 (dk_at dksX3_parse_1 14 rfl rfl)
theorem dX3_parse_40 : decode cX3_parse 40 = .ok (.iconst 1, 1) := dk_4 (dk_at dksX3_parse_1 17 rfl rfl)
theorem dX3_parse_41 : decode cX3_parse 41 = .ok (.iadd, 1) := dk_96 (dk_at dksX3_parse_1 18 rfl rfl)
theorem dX3_parse_42 : decode cX3_parse 42 = .ok (.putfield 209, 3) := dk_181 0 209 (dk_at dksX3_parse_1 19 rfl rfl)
theorem dX3_parse_45 : decode cX3_parse 45 = .ok (.aload_n 0, 1) := dk_42 (dk_at dksX3_parse_1 22 rfl rfl)
theorem dX3_parse_46 : decode cX3_parse 46 = .ok (.invokevirtual 234, 3) := dk_182 0 234 (dk_at dksX3_parse_2 0 rfl rfl)
theorem dX3_parse_49 : decode cX3_parse 49 = .ok (.goto (-30), 3) := dk_167 255 226 (dk_at dksX3_parse_2 3 rfl rfl)
theorem dX3_parse_52 : decode cX3_parse 52 = .ok (.aload_n 0, 1) := dk_42 (dk_at dksX3_parse_2 6 rfl rfl)
theorem dX3_parse_53 : decode cX3_parse 53 = .ok (.getfield 212, 3) := dk_180 0 212 (dk_at dksX3_parse_2 7 rfl rfl)
theorem dX3_parse_56 : decode cX3_parse 56 = .ok (.ifCond .ge 22, 3) := dk_156 0 22 (dk_at dksX3_parse_2 10 rfl rfl)
theorem dX3_parse_59 : decode cX3_parse 59 = .ok (.aload_n 0, 1) := dk_42 (dk_at dksX3_parse_2 13 rfl rfl)
theorem dX3_parse_60 : decode cX3_parse 60 = .ok (.getfield 209, 3) := dk_180 0 209 (dk_at dksX3_parse_2 14 rfl rfl)
theorem dX3_parse_63 : decode cX3_parse 63 = .ok (.aload_n 0, 1) := dk_42 (dk_at dksX3_parse_2 17 rfl rfl)
theorem dX3_parse_64 : decode cX3_parse 64 = .ok (.getfield 206, 3) := dk_180 0 206 (dk_at dksX3_parse_2 18 rfl rfl)
theorem dX3_parse_67 : decode cX3_parse 67 = .ok (.if_icmp .ge 11, 3) := dk_162 0 11 (dk_at dksX3_parse_2 21 rfl rfl)
theorem dX3_parse_70 : decode cX3_parse 70 = .ok (.aload_n 0, 1) := dk_42 (dk_at dksX3_parse_3 0 rfl rfl)
theorem dX3_parse_71 : decode cX3_parse 71 = .ok (.aload_n 0, 1) := dk_42 (dk_at dksX3_parse_3 1 rfl rfl)
theorem dX3_parse_72 : decode cX3_parse 72 = .ok (.getfield 209, 3) := dk_180 0 209 (dk_at dksX3_parse_3 2 rfl rfl)
theorem dX3_parse_75 : decode cX3_parse 75 = .ok (.putfield 212, 3) := dk_181 0 212 (dk_at dksX3_parse_3 5 rfl rfl)
theorem dX3_parse_78 : decode cX3_parse 78 = .ok (.return_, 1) := dk_177 (dk_at dksX3_parse_3 8 rfl rfl)
abbrev cX3_order : ByteArray := prog_23_method_72_code
def yX3_order : MethodName := ⟨RX3, "order", "()V"⟩
def dkwX3_order_8 : List UInt8 := [160, 0, 22, 42, 16, 61, 182, 0, 218, 42, 180, 0, 27, 27, 6, 96, 42, 5, 182, 0, 231, 79, 177]
abbrev dktX3_order_8 : List UInt8 := dkwX3_order_8 ++ []
def dkwX3_order_7 : List UInt8 := [79, 29, 16, 108, 160, 0, 4, 177, 42, 180, 0, 27, 27, 5, 96, 42, 4, 182, 0, 231, 79, 29, 16, 99]
abbrev dktX3_order_7 : List UInt8 := dkwX3_order_7 ++ dktX3_order_8
def dkwX3_order_6 : List UInt8 := [16, 121, 160, 0, 4, 177, 42, 16, 32, 182, 0, 218, 42, 180, 0, 27, 27, 4, 96, 42, 4, 182, 0, 231]
abbrev dktX3_order_6 : List UInt8 := dkwX3_order_6 ++ dktX3_order_7
def dkwX3_order_5 : List UInt8 := [16, 97, 159, 0, 27, 29, 16, 109, 159, 0, 21, 29, 16, 105, 159, 0, 15, 29, 16, 115, 159, 0, 9, 29]
abbrev dktX3_order_5 : List UInt8 := dkwX3_order_5 ++ dktX3_order_6
def dkwX3_order_4 : List UInt8 := [42, 89, 180, 0, 209, 4, 96, 181, 0, 209, 42, 28, 182, 0, 228, 62, 42, 180, 0, 27, 27, 29, 79, 29]
abbrev dktX3_order_4 : List UInt8 := dkwX3_order_4 ++ dktX3_order_5
def dkwX3_order_3 : List UInt8 := [159, 0, 24, 28, 16, 108, 159, 0, 18, 28, 16, 121, 159, 0, 12, 42, 42, 180, 0, 209, 181, 0, 212, 177]
abbrev dktX3_order_3 : List UInt8 := dkwX3_order_3 ++ dktX3_order_4
def dkwX3_order_2 : List UInt8 := [159, 0, 48, 28, 16, 109, 159, 0, 42, 28, 16, 99, 159, 0, 36, 28, 16, 98, 159, 0, 30, 28, 16, 115]
abbrev dktX3_order_2 : List UInt8 := dkwX3_order_2 ++ dktX3_order_3
def dkwX3_order_1 : List UInt8 := [29, 7, 162, 0, 18, 42, 180, 0, 27, 27, 29, 96, 3, 79, 132, 3, 1, 167, 255, 239, 28, 16, 97]
abbrev dktX3_order_1 : List UInt8 := dkwX3_order_1 ++ dktX3_order_2
def dkwX3_order_0 : List UInt8 := [7, 42, 180, 0, 225, 104, 60, 42, 89, 180, 0, 225, 4, 96, 181, 0, 225, 42, 182, 0, 215, 61, 3, 62]
abbrev dktX3_order_0 : List UInt8 := dkwX3_order_0 ++ dktX3_order_1
theorem dksX3_order_0 : cX3_order.data.toList.drop 0 = dktX3_order_0 := by decide +kernel
theorem dksX3_order_1 : cX3_order.data.toList.drop 24 = dktX3_order_1 := dk_seg dksX3_order_0 24 rfl rfl
theorem dksX3_order_2 : cX3_order.data.toList.drop 47 = dktX3_order_2 := dk_seg dksX3_order_1 23 rfl rfl
theorem dksX3_order_3 : cX3_order.data.toList.drop 71 = dktX3_order_3 := dk_seg dksX3_order_2 24 rfl rfl
theorem dksX3_order_4 : cX3_order.data.toList.drop 95 = dktX3_order_4 := dk_seg dksX3_order_3 24 rfl rfl
theorem dksX3_order_5 : cX3_order.data.toList.drop 119 = dktX3_order_5 := dk_seg dksX3_order_4 24 rfl rfl
theorem dksX3_order_6 : cX3_order.data.toList.drop 143 = dktX3_order_6 := dk_seg dksX3_order_5 24 rfl rfl
theorem dksX3_order_7 : cX3_order.data.toList.drop 167 = dktX3_order_7 := dk_seg dksX3_order_6 24 rfl rfl
theorem dksX3_order_8 : cX3_order.data.toList.drop 191 = dktX3_order_8 := dk_seg dksX3_order_7 24 rfl rfl
theorem dX3_order_0 : decode cX3_order 0 = .ok (.iconst 4, 1) := dk_7 (dk_at dksX3_order_0 0 rfl rfl)
theorem dX3_order_1 : decode cX3_order 1 = .ok (.aload_n 0, 1) := dk_42 (dk_at dksX3_order_0 1 rfl rfl)
theorem dX3_order_2 : decode cX3_order 2 = .ok (.getfield 225, 3) := dk_180 0 225 (dk_at dksX3_order_0 2 rfl rfl)
theorem dX3_order_5 : decode cX3_order 5 = .ok (.imul, 1) := dk_104 (dk_at dksX3_order_0 5 rfl rfl)
theorem dX3_order_6 : decode cX3_order 6 = .ok (.istore_n 1, 1) := dk_60 (dk_at dksX3_order_0 6 rfl rfl)
theorem dX3_order_7 : decode cX3_order 7 = .ok (.aload_n 0, 1) := dk_42 (dk_at dksX3_order_0 7 rfl rfl)
theorem dX3_order_8 : decode cX3_order 8 = .ok (.dup, 1) := dk_89 (dk_at dksX3_order_0 8 rfl rfl)
theorem dX3_order_9 : decode cX3_order 9 = .ok (.getfield 225, 3) := dk_180 0 225 (dk_at dksX3_order_0 9 rfl rfl)
theorem dX3_order_12 : decode cX3_order 12 = .ok (.iconst 1, 1) := dk_4 (dk_at dksX3_order_0 12 rfl rfl)
theorem dX3_order_13 : decode cX3_order 13 = .ok (.iadd, 1) := dk_96 (dk_at dksX3_order_0 13 rfl rfl)
theorem dX3_order_14 : decode cX3_order 14 = .ok (.putfield 225, 3) := dk_181 0 225 (dk_at dksX3_order_0 14 rfl rfl)
theorem dX3_order_17 : decode cX3_order 17 = .ok (.aload_n 0, 1) := dk_42 (dk_at dksX3_order_0 17 rfl rfl)
theorem dX3_order_18 : decode cX3_order 18 = .ok (.invokevirtual 215, 3) := dk_182 0 215 (dk_at dksX3_order_0 18 rfl rfl)
theorem dX3_order_21 : decode cX3_order 21 = .ok (.istore_n 2, 1) := dk_61 (dk_at dksX3_order_0 21 rfl rfl)
theorem dX3_order_22 : decode cX3_order 22 = .ok (.iconst 0, 1) := dk_3 (dk_at dksX3_order_0 22 rfl rfl)
theorem dX3_order_23 : decode cX3_order 23 = .ok (.istore_n 3, 1) := dk_62 (dk_at dksX3_order_0 23 rfl rfl)
theorem dX3_order_24 : decode cX3_order 24 = .ok (.iload_n 3, 1) := dk_29 (dk_at dksX3_order_1 0 rfl rfl)
theorem dX3_order_25 : decode cX3_order 25 = .ok (.iconst 4, 1) := dk_7 (dk_at dksX3_order_1 1 rfl rfl)
theorem dX3_order_26 : decode cX3_order 26 = .ok (.if_icmp .ge 18, 3) := dk_162 0 18 (dk_at dksX3_order_1 2 rfl rfl)
theorem dX3_order_29 : decode cX3_order 29 = .ok (.aload_n 0, 1) := dk_42 (dk_at dksX3_order_1 5 rfl rfl)
theorem dX3_order_30 : decode cX3_order 30 = .ok (.getfield 27, 3) := dk_180 0 27 (dk_at dksX3_order_1 6 rfl rfl)
theorem dX3_order_33 : decode cX3_order 33 = .ok (.iload_n 1, 1) := dk_27 (dk_at dksX3_order_1 9 rfl rfl)
theorem dX3_order_34 : decode cX3_order 34 = .ok (.iload_n 3, 1) := dk_29 (dk_at dksX3_order_1 10 rfl rfl)
theorem dX3_order_35 : decode cX3_order 35 = .ok (.iadd, 1) := dk_96 (dk_at dksX3_order_1 11 rfl rfl)
theorem dX3_order_36 : decode cX3_order 36 = .ok (.iconst 0, 1) := dk_3 (dk_at dksX3_order_1 12 rfl rfl)
theorem dX3_order_37 : decode cX3_order 37 = .ok (.iastore, 1) := dk_79 (dk_at dksX3_order_1 13 rfl rfl)
theorem dX3_order_38 : decode cX3_order 38 = .ok (.iinc 3 1, 3) := dk_132 3 1 (dk_at dksX3_order_1 14 rfl rfl)
theorem dX3_order_41 : decode cX3_order 41 = .ok (.goto (-17), 3) := dk_167 255 239 (dk_at dksX3_order_1 17 rfl rfl)
theorem dX3_order_44 : decode cX3_order 44 = .ok (.iload_n 2, 1) := dk_28 (dk_at dksX3_order_1 20 rfl rfl)
theorem dX3_order_45 : decode cX3_order 45 = .ok (.bipush 97, 2) := dk_16 97 (dk_at dksX3_order_1 21 rfl rfl)
theorem dX3_order_47 : decode cX3_order 47 = .ok (.if_icmp .eq 48, 3) := dk_159 0 48 (dk_at dksX3_order_2 0 rfl rfl)
theorem dX3_order_50 : decode cX3_order 50 = .ok (.iload_n 2, 1) := dk_28 (dk_at dksX3_order_2 3 rfl rfl)
theorem dX3_order_51 : decode cX3_order 51 = .ok (.bipush 109, 2) := dk_16 109 (dk_at dksX3_order_2 4 rfl rfl)
theorem dX3_order_53 : decode cX3_order 53 = .ok (.if_icmp .eq 42, 3) := dk_159 0 42 (dk_at dksX3_order_2 6 rfl rfl)
theorem dX3_order_56 : decode cX3_order 56 = .ok (.iload_n 2, 1) := dk_28 (dk_at dksX3_order_2 9 rfl rfl)
theorem dX3_order_57 : decode cX3_order 57 = .ok (.bipush 99, 2) := dk_16 99 (dk_at dksX3_order_2 10 rfl rfl)
theorem dX3_order_59 : decode cX3_order 59 = .ok (.if_icmp .eq 36, 3) := dk_159 0 36 (dk_at dksX3_order_2 12 rfl rfl)
theorem dX3_order_62 : decode cX3_order 62 = .ok (.iload_n 2, 1) := dk_28 (dk_at dksX3_order_2 15 rfl rfl)
theorem dX3_order_63 : decode cX3_order 63 = .ok (.bipush 98, 2) := dk_16 98 (dk_at dksX3_order_2 16 rfl rfl)
theorem dX3_order_65 : decode cX3_order 65 = .ok (.if_icmp .eq 30, 3) := dk_159 0 30 (dk_at dksX3_order_2 18 rfl rfl)
theorem dX3_order_68 : decode cX3_order 68 = .ok (.iload_n 2, 1) := dk_28 (dk_at dksX3_order_2 21 rfl rfl)
theorem dX3_order_69 : decode cX3_order 69 = .ok (.bipush 115, 2) := dk_16 115 (dk_at dksX3_order_2 22 rfl rfl)
theorem dX3_order_71 : decode cX3_order 71 = .ok (.if_icmp .eq 24, 3) := dk_159 0 24 (dk_at dksX3_order_3 0 rfl rfl)
theorem dX3_order_74 : decode cX3_order 74 = .ok (.iload_n 2, 1) := dk_28 (dk_at dksX3_order_3 3 rfl rfl)
theorem dX3_order_75 : decode cX3_order 75 = .ok (.bipush 108, 2) := dk_16 108 (dk_at dksX3_order_3 4 rfl rfl)
theorem dX3_order_77 : decode cX3_order 77 = .ok (.if_icmp .eq 18, 3) := dk_159 0 18 (dk_at dksX3_order_3 6 rfl rfl)
theorem dX3_order_80 : decode cX3_order 80 = .ok (.iload_n 2, 1) := dk_28 (dk_at dksX3_order_3 9 rfl rfl)
theorem dX3_order_81 : decode cX3_order 81 = .ok (.bipush 121, 2) := dk_16 121 (dk_at dksX3_order_3 10 rfl rfl)
theorem dX3_order_83 : decode cX3_order 83 = .ok (.if_icmp .eq 12, 3) := dk_159 0 12 (dk_at dksX3_order_3 12 rfl rfl)
theorem dX3_order_86 : decode cX3_order 86 = .ok (.aload_n 0, 1) := dk_42 (dk_at dksX3_order_3 15 rfl rfl)
theorem dX3_order_87 : decode cX3_order 87 = .ok (.aload_n 0, 1) := dk_42 (dk_at dksX3_order_3 16 rfl rfl)
theorem dX3_order_88 : decode cX3_order 88 = .ok (.getfield 209, 3) := dk_180 0 209 (dk_at dksX3_order_3 17 rfl rfl)
theorem dX3_order_91 : decode cX3_order 91 = .ok (.putfield 212, 3) := dk_181 0 212 (dk_at dksX3_order_3 20 rfl rfl)
theorem dX3_order_94 : decode cX3_order 94 = .ok (.return_, 1) := dk_177 (dk_at dksX3_order_3 23 rfl rfl)
theorem dX3_order_95 : decode cX3_order 95 = .ok (.aload_n 0, 1) := dk_42 (dk_at dksX3_order_4 0 rfl rfl)
theorem dX3_order_96 : decode cX3_order 96 = .ok (.dup, 1) := dk_89 (dk_at dksX3_order_4 1 rfl rfl)
theorem dX3_order_97 : decode cX3_order 97 = .ok (.getfield 209, 3) := dk_180 0 209 (dk_at dksX3_order_4 2 rfl rfl)
theorem dX3_order_100 : decode cX3_order 100 = .ok (.iconst 1, 1) := dk_4 (dk_at dksX3_order_4 5 rfl rfl)
theorem dX3_order_101 : decode cX3_order 101 = .ok (.iadd, 1) := dk_96 (dk_at dksX3_order_4 6 rfl rfl)
theorem dX3_order_102 : decode cX3_order 102 = .ok (.putfield 209, 3) := dk_181 0 209 (dk_at dksX3_order_4 7 rfl rfl)
theorem dX3_order_105 : decode cX3_order 105 = .ok (.aload_n 0, 1) := dk_42 (dk_at dksX3_order_4 10 rfl rfl)
theorem dX3_order_106 : decode cX3_order 106 = .ok (.iload_n 2, 1) := dk_28 (dk_at dksX3_order_4 11 rfl rfl)
theorem dX3_order_107 : decode cX3_order 107 = .ok (.invokevirtual 228, 3) := dk_182 0 228 (dk_at dksX3_order_4 12 rfl rfl)
theorem dX3_order_110 : decode cX3_order 110 = .ok (.istore_n 3, 1) := dk_62 (dk_at dksX3_order_4 15 rfl rfl)
theorem dX3_order_111 : decode cX3_order 111 = .ok (.aload_n 0, 1) := dk_42 (dk_at dksX3_order_4 16 rfl rfl)
theorem dX3_order_112 : decode cX3_order 112 = .ok (.getfield 27, 3) := dk_180 0 27 (dk_at dksX3_order_4 17 rfl rfl)
theorem dX3_order_115 : decode cX3_order 115 = .ok (.iload_n 1, 1) := dk_27 (dk_at dksX3_order_4 20 rfl rfl)
theorem dX3_order_116 : decode cX3_order 116 = .ok (.iload_n 3, 1) := dk_29 (dk_at dksX3_order_4 21 rfl rfl)
theorem dX3_order_117 : decode cX3_order 117 = .ok (.iastore, 1) := dk_79 (dk_at dksX3_order_4 22 rfl rfl)
theorem dX3_order_118 : decode cX3_order 118 = .ok (.iload_n 3, 1) := dk_29 (dk_at dksX3_order_4 23 rfl rfl)
theorem dX3_order_119 : decode cX3_order 119 = .ok (.bipush 97, 2) := dk_16 97 (dk_at dksX3_order_5 0 rfl rfl)
theorem dX3_order_121 : decode cX3_order 121 = .ok (.if_icmp .eq 27, 3) := dk_159 0 27 (dk_at dksX3_order_5 2 rfl rfl)
theorem dX3_order_124 : decode cX3_order 124 = .ok (.iload_n 3, 1) := dk_29 (dk_at dksX3_order_5 5 rfl rfl)
theorem dX3_order_125 : decode cX3_order 125 = .ok (.bipush 109, 2) := dk_16 109 (dk_at dksX3_order_5 6 rfl rfl)
theorem dX3_order_127 : decode cX3_order 127 = .ok (.if_icmp .eq 21, 3) := dk_159 0 21 (dk_at dksX3_order_5 8 rfl rfl)
theorem dX3_order_130 : decode cX3_order 130 = .ok (.iload_n 3, 1) := dk_29 (dk_at dksX3_order_5 11 rfl rfl)
theorem dX3_order_131 : decode cX3_order 131 = .ok (.bipush 105, 2) := dk_16 105 (dk_at dksX3_order_5 12 rfl rfl)
theorem dX3_order_133 : decode cX3_order 133 = .ok (.if_icmp .eq 15, 3) := dk_159 0 15 (dk_at dksX3_order_5 14 rfl rfl)
theorem dX3_order_136 : decode cX3_order 136 = .ok (.iload_n 3, 1) := dk_29 (dk_at dksX3_order_5 17 rfl rfl)
theorem dX3_order_137 : decode cX3_order 137 = .ok (.bipush 115, 2) := dk_16 115 (dk_at dksX3_order_5 18 rfl rfl)
theorem dX3_order_139 : decode cX3_order 139 = .ok (.if_icmp .eq 9, 3) := dk_159 0 9 (dk_at dksX3_order_5 20 rfl rfl)
theorem dX3_order_142 : decode cX3_order 142 = .ok (.iload_n 3, 1) := dk_29 (dk_at dksX3_order_5 23 rfl rfl)
theorem dX3_order_143 : decode cX3_order 143 = .ok (.bipush 121, 2) := dk_16 121 (dk_at dksX3_order_6 0 rfl rfl)
theorem dX3_order_145 : decode cX3_order 145 = .ok (.if_icmp .ne 4, 3) := dk_160 0 4 (dk_at dksX3_order_6 2 rfl rfl)
theorem dX3_order_148 : decode cX3_order 148 = .ok (.return_, 1) := dk_177 (dk_at dksX3_order_6 5 rfl rfl)
theorem dX3_order_149 : decode cX3_order 149 = .ok (.aload_n 0, 1) := dk_42 (dk_at dksX3_order_6 6 rfl rfl)
theorem dX3_order_150 : decode cX3_order 150 = .ok (.bipush 32, 2) := dk_16 32 (dk_at dksX3_order_6 7 rfl rfl)
theorem dX3_order_152 : decode cX3_order 152 = .ok (.invokevirtual 218, 3) := dk_182 0 218 (dk_at dksX3_order_6 9 rfl rfl)
theorem dX3_order_155 : decode cX3_order 155 = .ok (.aload_n 0, 1) := dk_42 (dk_at dksX3_order_6 12 rfl rfl)
theorem dX3_order_156 : decode cX3_order 156 = .ok (.getfield 27, 3) := dk_180 0 27 (dk_at dksX3_order_6 13 rfl rfl)
theorem dX3_order_159 : decode cX3_order 159 = .ok (.iload_n 1, 1) := dk_27 (dk_at dksX3_order_6 16 rfl rfl)
theorem dX3_order_160 : decode cX3_order 160 = .ok (.iconst 1, 1) := dk_4 (dk_at dksX3_order_6 17 rfl rfl)
theorem dX3_order_161 : decode cX3_order 161 = .ok (.iadd, 1) := dk_96 (dk_at dksX3_order_6 18 rfl rfl)
theorem dX3_order_162 : decode cX3_order 162 = .ok (.aload_n 0, 1) := dk_42 (dk_at dksX3_order_6 19 rfl rfl)
theorem dX3_order_163 : decode cX3_order 163 = .ok (.iconst 1, 1) := dk_4 (dk_at dksX3_order_6 20 rfl rfl)
theorem dX3_order_164 : decode cX3_order 164 = .ok (.invokevirtual 231, 3) := dk_182 0 231 (dk_at dksX3_order_6 21 rfl rfl)
theorem dX3_order_167 : decode cX3_order 167 = .ok (.iastore, 1) := dk_79 (dk_at dksX3_order_7 0 rfl rfl)
theorem dX3_order_168 : decode cX3_order 168 = .ok (.iload_n 3, 1) := dk_29 (dk_at dksX3_order_7 1 rfl rfl)
theorem dX3_order_169 : decode cX3_order 169 = .ok (.bipush 108, 2) := dk_16 108 (dk_at dksX3_order_7 2 rfl rfl)
theorem dX3_order_171 : decode cX3_order 171 = .ok (.if_icmp .ne 4, 3) := dk_160 0 4 (dk_at dksX3_order_7 4 rfl rfl)
theorem dX3_order_174 : decode cX3_order 174 = .ok (.return_, 1) := dk_177 (dk_at dksX3_order_7 7 rfl rfl)
theorem dX3_order_175 : decode cX3_order 175 = .ok (.aload_n 0, 1) := dk_42 (dk_at dksX3_order_7 8 rfl rfl)
theorem dX3_order_176 : decode cX3_order 176 = .ok (.getfield 27, 3) := dk_180 0 27 (dk_at dksX3_order_7 9 rfl rfl)
theorem dX3_order_179 : decode cX3_order 179 = .ok (.iload_n 1, 1) := dk_27 (dk_at dksX3_order_7 12 rfl rfl)
theorem dX3_order_180 : decode cX3_order 180 = .ok (.iconst 2, 1) := dk_5 (dk_at dksX3_order_7 13 rfl rfl)
theorem dX3_order_181 : decode cX3_order 181 = .ok (.iadd, 1) := dk_96 (dk_at dksX3_order_7 14 rfl rfl)
theorem dX3_order_182 : decode cX3_order 182 = .ok (.aload_n 0, 1) := dk_42 (dk_at dksX3_order_7 15 rfl rfl)
theorem dX3_order_183 : decode cX3_order 183 = .ok (.iconst 1, 1) := dk_4 (dk_at dksX3_order_7 16 rfl rfl)
theorem dX3_order_184 : decode cX3_order 184 = .ok (.invokevirtual 231, 3) := dk_182 0 231 (dk_at dksX3_order_7 17 rfl rfl)
theorem dX3_order_187 : decode cX3_order 187 = .ok (.iastore, 1) := dk_79 (dk_at dksX3_order_7 20 rfl rfl)
theorem dX3_order_188 : decode cX3_order 188 = .ok (.iload_n 3, 1) := dk_29 (dk_at dksX3_order_7 21 rfl rfl)
theorem dX3_order_189 : decode cX3_order 189 = .ok (.bipush 99, 2) := dk_16 99 (dk_at dksX3_order_7 22 rfl rfl)
theorem dX3_order_191 : decode cX3_order 191 = .ok (.if_icmp .ne 22, 3) := dk_160 0 22 (dk_at dksX3_order_8 0 rfl rfl)
theorem dX3_order_194 : decode cX3_order 194 = .ok (.aload_n 0, 1) := dk_42 (dk_at dksX3_order_8 3 rfl rfl)
theorem dX3_order_195 : decode cX3_order 195 = .ok (.bipush 61, 2) := dk_16 61 (dk_at dksX3_order_8 4 rfl rfl)
theorem dX3_order_197 : decode cX3_order 197 = .ok (.invokevirtual 218, 3) := dk_182 0 218 (dk_at dksX3_order_8 6 rfl rfl)
theorem dX3_order_200 : decode cX3_order 200 = .ok (.aload_n 0, 1) := dk_42 (dk_at dksX3_order_8 9 rfl rfl)
theorem dX3_order_201 : decode cX3_order 201 = .ok (.getfield 27, 3) := dk_180 0 27 (dk_at dksX3_order_8 10 rfl rfl)
theorem dX3_order_204 : decode cX3_order 204 = .ok (.iload_n 1, 1) := dk_27 (dk_at dksX3_order_8 13 rfl rfl)
theorem dX3_order_205 : decode cX3_order 205 = .ok (.iconst 3, 1) := dk_6 (dk_at dksX3_order_8 14 rfl rfl)
theorem dX3_order_206 : decode cX3_order 206 = .ok (.iadd, 1) := dk_96 (dk_at dksX3_order_8 15 rfl rfl)
theorem dX3_order_207 : decode cX3_order 207 = .ok (.aload_n 0, 1) := dk_42 (dk_at dksX3_order_8 16 rfl rfl)
theorem dX3_order_208 : decode cX3_order 208 = .ok (.iconst 2, 1) := dk_5 (dk_at dksX3_order_8 17 rfl rfl)
theorem dX3_order_209 : decode cX3_order 209 = .ok (.invokevirtual 231, 3) := dk_182 0 231 (dk_at dksX3_order_8 18 rfl rfl)
theorem dX3_order_212 : decode cX3_order 212 = .ok (.iastore, 1) := dk_79 (dk_at dksX3_order_8 21 rfl rfl)
theorem dX3_order_213 : decode cX3_order 213 = .ok (.return_, 1) := dk_177 (dk_at dksX3_order_8 22 rfl rfl)
abbrev cX3_sign : ByteArray := prog_23_method_67_code
def yX3_sign : MethodName := ⟨RX3, "sign", "()I"⟩
def dkwX3_sign_1 : List UInt8 := [172]
abbrev dktX3_sign_1 : List UInt8 := dkwX3_sign_1 ++ []
def dkwX3_sign_0 : List UInt8 := [42, 180, 0, 209, 42, 180, 0, 206, 162, 0, 15, 42, 180, 0, 19, 42, 180, 0, 209, 52, 167, 0, 4, 2]
abbrev dktX3_sign_0 : List UInt8 := dkwX3_sign_0 ++ dktX3_sign_1
theorem dksX3_sign_0 : cX3_sign.data.toList.drop 0 = dktX3_sign_0 := by decide +kernel
theorem dksX3_sign_1 : cX3_sign.data.toList.drop 24 = dktX3_sign_1 := dk_seg dksX3_sign_0 24 rfl rfl
theorem dX3_sign_0 : decode cX3_sign 0 = .ok (.aload_n 0, 1) := dk_42 (dk_at dksX3_sign_0 0 rfl rfl)
theorem dX3_sign_1 : decode cX3_sign 1 = .ok (.getfield 209, 3) := dk_180 0 209 (dk_at dksX3_sign_0 1 rfl rfl)
theorem dX3_sign_4 : decode cX3_sign 4 = .ok (.aload_n 0, 1) := dk_42 (dk_at dksX3_sign_0 4 rfl rfl)
theorem dX3_sign_5 : decode cX3_sign 5 = .ok (.getfield 206, 3) := dk_180 0 206 (dk_at dksX3_sign_0 5 rfl rfl)
theorem dX3_sign_8 : decode cX3_sign 8 = .ok (.if_icmp .ge 15, 3) := dk_162 0 15 (dk_at dksX3_sign_0 8 rfl rfl)
theorem dX3_sign_11 : decode cX3_sign 11 = .ok (.aload_n 0, 1) := dk_42 (dk_at dksX3_sign_0 11 rfl rfl)
theorem dX3_sign_12 : decode cX3_sign 12 = .ok (.getfield 19, 3) := dk_180 0 19 (dk_at dksX3_sign_0 12 rfl rfl)
theorem dX3_sign_15 : decode cX3_sign 15 = .ok (.aload_n 0, 1) := dk_42 (dk_at dksX3_sign_0 15 rfl rfl)
theorem dX3_sign_16 : decode cX3_sign 16 = .ok (.getfield 209, 3) := dk_180 0 209 (dk_at dksX3_sign_0 16 rfl rfl)
theorem dX3_sign_19 : decode cX3_sign 19 = .ok (.caload, 1) := dk_52 (dk_at dksX3_sign_0 19 rfl rfl)
theorem dX3_sign_20 : decode cX3_sign 20 = .ok (.goto 4, 3) := dk_167 0 4 (dk_at dksX3_sign_0 20 rfl rfl)
theorem dX3_sign_23 : decode cX3_sign 23 = .ok (.iconst (-1), 1) := dk_2 (dk_at dksX3_sign_0 23 rfl rfl)
theorem dX3_sign_24 : decode cX3_sign 24 = .ok (.ireturn, 1) := dk_172 (dk_at dksX3_sign_1 0 rfl rfl)
abbrev cX3_word : ByteArray := prog_23_method_71_code
def yX3_word : MethodName := ⟨RX3, "word", "(I)I"⟩
def dkwX3_word_8 : List UInt8 := [16, 114, 3, 182, 0, 221, 27, 172]
abbrev dktX3_word_8 : List UInt8 := dkwX3_word_8 ++ []
def dkwX3_word_7 : List UInt8 := [182, 0, 215, 16, 105, 160, 0, 15, 42, 16, 105, 16, 100, 3, 182, 0, 221, 16, 105, 172, 42, 16, 97]
abbrev dktX3_word_7 : List UInt8 := dkwX3_word_7 ++ dktX3_word_8
def dkwX3_word_6 : List UInt8 := [182, 0, 221, 42, 16, 101, 182, 0, 218, 27, 172, 42, 16, 101, 16, 97, 16, 114, 182, 0, 221, 27, 172, 42]
abbrev dktX3_word_6 : List UInt8 := dkwX3_word_6 ++ dktX3_word_7
def dkwX3_word_5 : List UInt8 := [16, 116, 182, 0, 221, 42, 16, 108, 16, 101, 3, 182, 0, 221, 27, 172, 42, 16, 101, 16, 97, 16, 118]
abbrev dktX3_word_5 : List UInt8 := dkwX3_word_5 ++ dktX3_word_6
def dkwX3_word_4 : List UInt8 := [3, 182, 0, 221, 27, 172, 42, 16, 111, 16, 115, 16, 116, 182, 0, 221, 27, 172, 42, 16, 101, 16, 116]
abbrev dktX3_word_4 : List UInt8 := dkwX3_word_4 ++ dktX3_word_5
def dkwX3_word_3 : List UInt8 := [16, 99, 16, 101, 182, 0, 221, 27, 172, 42, 16, 97, 16, 115, 16, 116, 182, 0, 221, 42, 16, 101, 16, 114]
abbrev dktX3_word_3 : List UInt8 := dkwX3_word_3 ++ dktX3_word_4
def dkwX3_word_2 : List UInt8 := [42, 16, 112, 16, 112, 16, 114, 182, 0, 221, 42, 16, 101, 16, 110, 16, 116, 182, 0, 221, 42, 16, 105]
abbrev dktX3_word_2 : List UInt8 := dkwX3_word_2 ++ dktX3_word_3
def dkwX3_word_1 : List UInt8 := [171, 0, 0, 0, 0, 0, 175, 0, 0, 0, 6, 0, 0, 0, 97, 0, 0, 0, 59, 0, 0, 0, 99, 0, 0, 0, 112, 0, 0, 0, 108, 0, 0, 0, 145, 0, 0, 0, 109, 0, 0, 0, 91, 0, 0, 0, 115, 0, 0, 0, 124, 0, 0, 0, 121, 0, 0, 0, 163]
abbrev dktX3_word_1 : List UInt8 := dkwX3_word_1 ++ dktX3_word_2
def dkwX3_word_0 : List UInt8 := [27]
abbrev dktX3_word_0 : List UInt8 := dkwX3_word_0 ++ dktX3_word_1
theorem dksX3_word_0 : cX3_word.data.toList.drop 0 = dktX3_word_0 := by decide +kernel
theorem dksX3_word_1 : cX3_word.data.toList.drop 1 = dktX3_word_1 := dk_seg dksX3_word_0 1 rfl rfl
theorem dksX3_word_2 : cX3_word.data.toList.drop 60 = dktX3_word_2 := dk_seg dksX3_word_1 59 rfl rfl
theorem dksX3_word_3 : cX3_word.data.toList.drop 83 = dktX3_word_3 := dk_seg dksX3_word_2 23 rfl rfl
theorem dksX3_word_4 : cX3_word.data.toList.drop 107 = dktX3_word_4 := dk_seg dksX3_word_3 24 rfl rfl
theorem dksX3_word_5 : cX3_word.data.toList.drop 130 = dktX3_word_5 := dk_seg dksX3_word_4 23 rfl rfl
theorem dksX3_word_6 : cX3_word.data.toList.drop 153 = dktX3_word_6 := dk_seg dksX3_word_5 23 rfl rfl
theorem dksX3_word_7 : cX3_word.data.toList.drop 177 = dktX3_word_7 := dk_seg dksX3_word_6 24 rfl rfl
theorem dksX3_word_8 : cX3_word.data.toList.drop 200 = dktX3_word_8 := dk_seg dksX3_word_7 23 rfl rfl
theorem dX3_word_0 : decode cX3_word 0 = .ok (.iload_n 1, 1) := dk_27 (dk_at dksX3_word_0 0 rfl rfl)
theorem dX3_word_1 : decode cX3_word 1 = .ok (.lookupswitch 175 #[(97, 59), (99, 112), (108, 145), (109, 91), (115, 124), (121, 163)], 59) := by decide +kernel
theorem dX3_word_60 : decode cX3_word 60 = .ok (.aload_n 0, 1) := dk_42 (dk_at dksX3_word_2 0 rfl rfl)
theorem dX3_word_61 : decode cX3_word 61 = .ok (.bipush 112, 2) := dk_16 112 (dk_at dksX3_word_2 1 rfl rfl)
theorem dX3_word_63 : decode cX3_word 63 = .ok (.bipush 112, 2) := dk_16 112 (dk_at dksX3_word_2 3 rfl rfl)
theorem dX3_word_65 : decode cX3_word 65 = .ok (.bipush 114, 2) := dk_16 114 (dk_at dksX3_word_2 5 rfl rfl)
theorem dX3_word_67 : decode cX3_word 67 = .ok (.invokevirtual 221, 3) := dk_182 0 221 (dk_at dksX3_word_2 7 rfl rfl)
theorem dX3_word_70 : decode cX3_word 70 = .ok (.aload_n 0, 1) := dk_42 (dk_at dksX3_word_2 10 rfl rfl)
theorem dX3_word_71 : decode cX3_word 71 = .ok (.bipush 101, 2) := dk_16 101 (dk_at dksX3_word_2 11 rfl rfl)
theorem dX3_word_73 : decode cX3_word 73 = .ok (.bipush 110, 2) := dk_16 110 (dk_at dksX3_word_2 13 rfl rfl)
theorem dX3_word_75 : decode cX3_word 75 = .ok (.bipush 116, 2) := dk_16 116 (dk_at dksX3_word_2 15 rfl rfl)
theorem dX3_word_77 : decode cX3_word 77 = .ok (.invokevirtual 221, 3) := dk_182 0 221 (dk_at dksX3_word_2 17 rfl rfl)
theorem dX3_word_80 : decode cX3_word 80 = .ok (.aload_n 0, 1) := dk_42 (dk_at dksX3_word_2 20 rfl rfl)
theorem dX3_word_81 : decode cX3_word 81 = .ok (.bipush 105, 2) := dk_16 105 (dk_at dksX3_word_2 21 rfl rfl)
theorem dX3_word_83 : decode cX3_word 83 = .ok (.bipush 99, 2) := dk_16 99 (dk_at dksX3_word_3 0 rfl rfl)
theorem dX3_word_85 : decode cX3_word 85 = .ok (.bipush 101, 2) := dk_16 101 (dk_at dksX3_word_3 2 rfl rfl)
theorem dX3_word_87 : decode cX3_word 87 = .ok (.invokevirtual 221, 3) := dk_182 0 221 (dk_at dksX3_word_3 4 rfl rfl)
theorem dX3_word_90 : decode cX3_word 90 = .ok (.iload_n 1, 1) := dk_27 (dk_at dksX3_word_3 7 rfl rfl)
theorem dX3_word_91 : decode cX3_word 91 = .ok (.ireturn, 1) := dk_172 (dk_at dksX3_word_3 8 rfl rfl)
theorem dX3_word_92 : decode cX3_word 92 = .ok (.aload_n 0, 1) := dk_42 (dk_at dksX3_word_3 9 rfl rfl)
theorem dX3_word_93 : decode cX3_word 93 = .ok (.bipush 97, 2) := dk_16 97 (dk_at dksX3_word_3 10 rfl rfl)
theorem dX3_word_95 : decode cX3_word 95 = .ok (.bipush 115, 2) := dk_16 115 (dk_at dksX3_word_3 12 rfl rfl)
theorem dX3_word_97 : decode cX3_word 97 = .ok (.bipush 116, 2) := dk_16 116 (dk_at dksX3_word_3 14 rfl rfl)
theorem dX3_word_99 : decode cX3_word 99 = .ok (.invokevirtual 221, 3) := dk_182 0 221 (dk_at dksX3_word_3 16 rfl rfl)
theorem dX3_word_102 : decode cX3_word 102 = .ok (.aload_n 0, 1) := dk_42 (dk_at dksX3_word_3 19 rfl rfl)
theorem dX3_word_103 : decode cX3_word 103 = .ok (.bipush 101, 2) := dk_16 101 (dk_at dksX3_word_3 20 rfl rfl)
theorem dX3_word_105 : decode cX3_word 105 = .ok (.bipush 114, 2) := dk_16 114 (dk_at dksX3_word_3 22 rfl rfl)
theorem dX3_word_107 : decode cX3_word 107 = .ok (.iconst 0, 1) := dk_3 (dk_at dksX3_word_4 0 rfl rfl)
theorem dX3_word_108 : decode cX3_word 108 = .ok (.invokevirtual 221, 3) := dk_182 0 221 (dk_at dksX3_word_4 1 rfl rfl)
theorem dX3_word_111 : decode cX3_word 111 = .ok (.iload_n 1, 1) := dk_27 (dk_at dksX3_word_4 4 rfl rfl)
theorem dX3_word_112 : decode cX3_word 112 = .ok (.ireturn, 1) := dk_172 (dk_at dksX3_word_4 5 rfl rfl)
theorem dX3_word_113 : decode cX3_word 113 = .ok (.aload_n 0, 1) := dk_42 (dk_at dksX3_word_4 6 rfl rfl)
theorem dX3_word_114 : decode cX3_word 114 = .ok (.bipush 111, 2) := dk_16 111 (dk_at dksX3_word_4 7 rfl rfl)
theorem dX3_word_116 : decode cX3_word 116 = .ok (.bipush 115, 2) := dk_16 115 (dk_at dksX3_word_4 9 rfl rfl)
theorem dX3_word_118 : decode cX3_word 118 = .ok (.bipush 116, 2) := dk_16 116 (dk_at dksX3_word_4 11 rfl rfl)
theorem dX3_word_120 : decode cX3_word 120 = .ok (.invokevirtual 221, 3) := dk_182 0 221 (dk_at dksX3_word_4 13 rfl rfl)
theorem dX3_word_123 : decode cX3_word 123 = .ok (.iload_n 1, 1) := dk_27 (dk_at dksX3_word_4 16 rfl rfl)
theorem dX3_word_124 : decode cX3_word 124 = .ok (.ireturn, 1) := dk_172 (dk_at dksX3_word_4 17 rfl rfl)
theorem dX3_word_125 : decode cX3_word 125 = .ok (.aload_n 0, 1) := dk_42 (dk_at dksX3_word_4 18 rfl rfl)
theorem dX3_word_126 : decode cX3_word 126 = .ok (.bipush 101, 2) := dk_16 101 (dk_at dksX3_word_4 19 rfl rfl)
theorem dX3_word_128 : decode cX3_word 128 = .ok (.bipush 116, 2) := dk_16 116 (dk_at dksX3_word_4 21 rfl rfl)
theorem dX3_word_130 : decode cX3_word 130 = .ok (.bipush 116, 2) := dk_16 116 (dk_at dksX3_word_5 0 rfl rfl)
theorem dX3_word_132 : decode cX3_word 132 = .ok (.invokevirtual 221, 3) := dk_182 0 221 (dk_at dksX3_word_5 2 rfl rfl)
theorem dX3_word_135 : decode cX3_word 135 = .ok (.aload_n 0, 1) := dk_42 (dk_at dksX3_word_5 5 rfl rfl)
theorem dX3_word_136 : decode cX3_word 136 = .ok (.bipush 108, 2) := dk_16 108 (dk_at dksX3_word_5 6 rfl rfl)
theorem dX3_word_138 : decode cX3_word 138 = .ok (.bipush 101, 2) := dk_16 101 (dk_at dksX3_word_5 8 rfl rfl)
theorem dX3_word_140 : decode cX3_word 140 = .ok (.iconst 0, 1) := dk_3 (dk_at dksX3_word_5 10 rfl rfl)
theorem dX3_word_141 : decode cX3_word 141 = .ok (.invokevirtual 221, 3) := dk_182 0 221 (dk_at dksX3_word_5 11 rfl rfl)
theorem dX3_word_144 : decode cX3_word 144 = .ok (.iload_n 1, 1) := dk_27 (dk_at dksX3_word_5 14 rfl rfl)
theorem dX3_word_145 : decode cX3_word 145 = .ok (.ireturn, 1) := dk_172 (dk_at dksX3_word_5 15 rfl rfl)
theorem dX3_word_146 : decode cX3_word 146 = .ok (.aload_n 0, 1) := dk_42 (dk_at dksX3_word_5 16 rfl rfl)
theorem dX3_word_147 : decode cX3_word 147 = .ok (.bipush 101, 2) := dk_16 101 (dk_at dksX3_word_5 17 rfl rfl)
theorem dX3_word_149 : decode cX3_word 149 = .ok (.bipush 97, 2) := dk_16 97 (dk_at dksX3_word_5 19 rfl rfl)
theorem dX3_word_151 : decode cX3_word 151 = .ok (.bipush 118, 2) := dk_16 118 (dk_at dksX3_word_5 21 rfl rfl)
theorem dX3_word_153 : decode cX3_word 153 = .ok (.invokevirtual 221, 3) := dk_182 0 221 (dk_at dksX3_word_6 0 rfl rfl)
theorem dX3_word_156 : decode cX3_word 156 = .ok (.aload_n 0, 1) := dk_42 (dk_at dksX3_word_6 3 rfl rfl)
theorem dX3_word_157 : decode cX3_word 157 = .ok (.bipush 101, 2) := dk_16 101 (dk_at dksX3_word_6 4 rfl rfl)
theorem dX3_word_159 : decode cX3_word 159 = .ok (.invokevirtual 218, 3) := dk_182 0 218 (dk_at dksX3_word_6 6 rfl rfl)
theorem dX3_word_162 : decode cX3_word 162 = .ok (.iload_n 1, 1) := dk_27 (dk_at dksX3_word_6 9 rfl rfl)
theorem dX3_word_163 : decode cX3_word 163 = .ok (.ireturn, 1) := dk_172 (dk_at dksX3_word_6 10 rfl rfl)
theorem dX3_word_164 : decode cX3_word 164 = .ok (.aload_n 0, 1) := dk_42 (dk_at dksX3_word_6 11 rfl rfl)
theorem dX3_word_165 : decode cX3_word 165 = .ok (.bipush 101, 2) := dk_16 101 (dk_at dksX3_word_6 12 rfl rfl)
theorem dX3_word_167 : decode cX3_word 167 = .ok (.bipush 97, 2) := dk_16 97 (dk_at dksX3_word_6 14 rfl rfl)
theorem dX3_word_169 : decode cX3_word 169 = .ok (.bipush 114, 2) := dk_16 114 (dk_at dksX3_word_6 16 rfl rfl)
theorem dX3_word_171 : decode cX3_word 171 = .ok (.invokevirtual 221, 3) := dk_182 0 221 (dk_at dksX3_word_6 18 rfl rfl)
theorem dX3_word_174 : decode cX3_word 174 = .ok (.iload_n 1, 1) := dk_27 (dk_at dksX3_word_6 21 rfl rfl)
theorem dX3_word_175 : decode cX3_word 175 = .ok (.ireturn, 1) := dk_172 (dk_at dksX3_word_6 22 rfl rfl)
theorem dX3_word_176 : decode cX3_word 176 = .ok (.aload_n 0, 1) := dk_42 (dk_at dksX3_word_6 23 rfl rfl)
theorem dX3_word_177 : decode cX3_word 177 = .ok (.invokevirtual 215, 3) := dk_182 0 215 (dk_at dksX3_word_7 0 rfl rfl)
theorem dX3_word_180 : decode cX3_word 180 = .ok (.bipush 105, 2) := dk_16 105 (dk_at dksX3_word_7 3 rfl rfl)
theorem dX3_word_182 : decode cX3_word 182 = .ok (.if_icmp .ne 15, 3) := dk_160 0 15 (dk_at dksX3_word_7 5 rfl rfl)
theorem dX3_word_185 : decode cX3_word 185 = .ok (.aload_n 0, 1) := dk_42 (dk_at dksX3_word_7 8 rfl rfl)
theorem dX3_word_186 : decode cX3_word 186 = .ok (.bipush 105, 2) := dk_16 105 (dk_at dksX3_word_7 9 rfl rfl)
theorem dX3_word_188 : decode cX3_word 188 = .ok (.bipush 100, 2) := dk_16 100 (dk_at dksX3_word_7 11 rfl rfl)
theorem dX3_word_190 : decode cX3_word 190 = .ok (.iconst 0, 1) := dk_3 (dk_at dksX3_word_7 13 rfl rfl)
theorem dX3_word_191 : decode cX3_word 191 = .ok (.invokevirtual 221, 3) := dk_182 0 221 (dk_at dksX3_word_7 14 rfl rfl)
theorem dX3_word_194 : decode cX3_word 194 = .ok (.bipush 105, 2) := dk_16 105 (dk_at dksX3_word_7 17 rfl rfl)
theorem dX3_word_196 : decode cX3_word 196 = .ok (.ireturn, 1) := dk_172 (dk_at dksX3_word_7 19 rfl rfl)
theorem dX3_word_197 : decode cX3_word 197 = .ok (.aload_n 0, 1) := dk_42 (dk_at dksX3_word_7 20 rfl rfl)
theorem dX3_word_198 : decode cX3_word 198 = .ok (.bipush 97, 2) := dk_16 97 (dk_at dksX3_word_7 21 rfl rfl)
theorem dX3_word_200 : decode cX3_word 200 = .ok (.bipush 114, 2) := dk_16 114 (dk_at dksX3_word_8 0 rfl rfl)
theorem dX3_word_202 : decode cX3_word 202 = .ok (.iconst 0, 1) := dk_3 (dk_at dksX3_word_8 2 rfl rfl)
theorem dX3_word_203 : decode cX3_word 203 = .ok (.invokevirtual 221, 3) := dk_182 0 221 (dk_at dksX3_word_8 3 rfl rfl)
theorem dX3_word_206 : decode cX3_word 206 = .ok (.iload_n 1, 1) := dk_27 (dk_at dksX3_word_8 6 rfl rfl)
theorem dX3_word_207 : decode cX3_word 207 = .ok (.ireturn, 1) := dk_172 (dk_at dksX3_word_8 7 rfl rfl)
abbrev cX3_signs : ByteArray := prog_23_method_69_code
def yX3_signs : MethodName := ⟨RX3, "signs", "(III)V"⟩
def dkwX3_signs_0 : List UInt8 := [42, 27, 182, 0, 218, 42, 28, 182, 0, 218, 29, 153, 0, 8, 42, 29, 182, 0, 218, 177]
abbrev dktX3_signs_0 : List UInt8 := dkwX3_signs_0 ++ []
theorem dksX3_signs_0 : cX3_signs.data.toList.drop 0 = dktX3_signs_0 := by decide +kernel
theorem dX3_signs_0 : decode cX3_signs 0 = .ok (.aload_n 0, 1) := dk_42 (dk_at dksX3_signs_0 0 rfl rfl)
theorem dX3_signs_1 : decode cX3_signs 1 = .ok (.iload_n 1, 1) := dk_27 (dk_at dksX3_signs_0 1 rfl rfl)
theorem dX3_signs_2 : decode cX3_signs 2 = .ok (.invokevirtual 218, 3) := dk_182 0 218 (dk_at dksX3_signs_0 2 rfl rfl)
theorem dX3_signs_5 : decode cX3_signs 5 = .ok (.aload_n 0, 1) := dk_42 (dk_at dksX3_signs_0 5 rfl rfl)
theorem dX3_signs_6 : decode cX3_signs 6 = .ok (.iload_n 2, 1) := dk_28 (dk_at dksX3_signs_0 6 rfl rfl)
theorem dX3_signs_7 : decode cX3_signs 7 = .ok (.invokevirtual 218, 3) := dk_182 0 218 (dk_at dksX3_signs_0 7 rfl rfl)
theorem dX3_signs_10 : decode cX3_signs 10 = .ok (.iload_n 3, 1) := dk_29 (dk_at dksX3_signs_0 10 rfl rfl)
theorem dX3_signs_11 : decode cX3_signs 11 = .ok (.ifCond .eq 8, 3) := dk_153 0 8 (dk_at dksX3_signs_0 11 rfl rfl)
theorem dX3_signs_14 : decode cX3_signs 14 = .ok (.aload_n 0, 1) := dk_42 (dk_at dksX3_signs_0 14 rfl rfl)
theorem dX3_signs_15 : decode cX3_signs 15 = .ok (.iload_n 3, 1) := dk_29 (dk_at dksX3_signs_0 15 rfl rfl)
theorem dX3_signs_16 : decode cX3_signs 16 = .ok (.invokevirtual 218, 3) := dk_182 0 218 (dk_at dksX3_signs_0 16 rfl rfl)
theorem dX3_signs_19 : decode cX3_signs 19 = .ok (.return_, 1) := dk_177 (dk_at dksX3_signs_0 19 rfl rfl)
abbrev cX3_needs : ByteArray := prog_23_method_68_code
def yX3_needs : MethodName := ⟨RX3, "needs", "(I)V"⟩
def dkwX3_needs_1 : List UInt8 := [177, 42, 89, 180, 0, 209, 4, 96, 181, 0, 209, 177]
abbrev dktX3_needs_1 : List UInt8 := dkwX3_needs_1 ++ []
def dkwX3_needs_0 : List UInt8 := [42, 180, 0, 212, 155, 0, 4, 177, 42, 182, 0, 215, 27, 159, 0, 12, 42, 42, 180, 0, 209, 181, 0, 212]
abbrev dktX3_needs_0 : List UInt8 := dkwX3_needs_0 ++ dktX3_needs_1
theorem dksX3_needs_0 : cX3_needs.data.toList.drop 0 = dktX3_needs_0 := by decide +kernel
theorem dksX3_needs_1 : cX3_needs.data.toList.drop 24 = dktX3_needs_1 := dk_seg dksX3_needs_0 24 rfl rfl
theorem dX3_needs_0 : decode cX3_needs 0 = .ok (.aload_n 0, 1) := dk_42 (dk_at dksX3_needs_0 0 rfl rfl)
theorem dX3_needs_1 : decode cX3_needs 1 = .ok (.getfield 212, 3) := dk_180 0 212 (dk_at dksX3_needs_0 1 rfl rfl)
theorem dX3_needs_4 : decode cX3_needs 4 = .ok (.ifCond .lt 4, 3) := dk_155 0 4 (dk_at dksX3_needs_0 4 rfl rfl)
theorem dX3_needs_7 : decode cX3_needs 7 = .ok (.return_, 1) := dk_177 (dk_at dksX3_needs_0 7 rfl rfl)
theorem dX3_needs_8 : decode cX3_needs 8 = .ok (.aload_n 0, 1) := dk_42 (dk_at dksX3_needs_0 8 rfl rfl)
theorem dX3_needs_9 : decode cX3_needs 9 = .ok (.invokevirtual 215, 3) := dk_182 0 215 (dk_at dksX3_needs_0 9 rfl rfl)
theorem dX3_needs_12 : decode cX3_needs 12 = .ok (.iload_n 1, 1) := dk_27 (dk_at dksX3_needs_0 12 rfl rfl)
theorem dX3_needs_13 : decode cX3_needs 13 = .ok (.if_icmp .eq 12, 3) := dk_159 0 12 (dk_at dksX3_needs_0 13 rfl rfl)
theorem dX3_needs_16 : decode cX3_needs 16 = .ok (.aload_n 0, 1) := dk_42 (dk_at dksX3_needs_0 16 rfl rfl)
theorem dX3_needs_17 : decode cX3_needs 17 = .ok (.aload_n 0, 1) := dk_42 (dk_at dksX3_needs_0 17 rfl rfl)
theorem dX3_needs_18 : decode cX3_needs 18 = .ok (.getfield 209, 3) := dk_180 0 209 (dk_at dksX3_needs_0 18 rfl rfl)
theorem dX3_needs_21 : decode cX3_needs 21 = .ok (.putfield 212, 3) := dk_181 0 212 (dk_at dksX3_needs_0 21 rfl rfl)
theorem dX3_needs_24 : decode cX3_needs 24 = .ok (.return_, 1) := dk_177 (dk_at dksX3_needs_1 0 rfl rfl)
theorem dX3_needs_25 : decode cX3_needs 25 = .ok (.aload_n 0, 1) := dk_42 (dk_at dksX3_needs_1 1 rfl rfl)
theorem dX3_needs_26 : decode cX3_needs 26 = .ok (.dup, 1) := dk_89 (dk_at dksX3_needs_1 2 rfl rfl)
theorem dX3_needs_27 : decode cX3_needs 27 = .ok (.getfield 209, 3) := dk_180 0 209 (dk_at dksX3_needs_1 3 rfl rfl)
theorem dX3_needs_30 : decode cX3_needs 30 = .ok (.iconst 1, 1) := dk_4 (dk_at dksX3_needs_1 6 rfl rfl)
theorem dX3_needs_31 : decode cX3_needs 31 = .ok (.iadd, 1) := dk_96 (dk_at dksX3_needs_1 7 rfl rfl)
theorem dX3_needs_32 : decode cX3_needs 32 = .ok (.putfield 209, 3) := dk_181 0 209 (dk_at dksX3_needs_1 8 rfl rfl)
theorem dX3_needs_35 : decode cX3_needs 35 = .ok (.return_, 1) := dk_177 (dk_at dksX3_needs_1 11 rfl rfl)
abbrev cX3_number : ByteArray := prog_23_method_70_code
def yX3_number : MethodName := ⟨RX3, "number", "(I)I"⟩
def dkwX3_number_3 : List UInt8 := [180, 0, 209, 4, 96, 181, 0, 209, 132, 3, 1, 167, 255, 211, 28, 172]
abbrev dktX3_number_3 : List UInt8 := dkwX3_number_3 ++ []
def dkwX3_number_2 : List UInt8 := [16, 57, 184, 0, 66, 153, 0, 32, 16, 10, 28, 104, 42, 182, 0, 215, 96, 16, 48, 100, 61, 42, 89]
abbrev dktX3_number_2 : List UInt8 := dkwX3_number_2 ++ dktX3_number_3
def dkwX3_number_1 : List UInt8 := [42, 180, 0, 209, 181, 0, 212, 3, 172, 3, 61, 3, 62, 29, 27, 162, 0, 46, 42, 182, 0, 215, 16, 48]
abbrev dktX3_number_1 : List UInt8 := dkwX3_number_1 ++ dktX3_number_2
def dkwX3_number_0 : List UInt8 := [42, 180, 0, 212, 155, 0, 5, 3, 172, 42, 182, 0, 215, 16, 48, 16, 57, 184, 0, 66, 154, 0, 13, 42]
abbrev dktX3_number_0 : List UInt8 := dkwX3_number_0 ++ dktX3_number_1
theorem dksX3_number_0 : cX3_number.data.toList.drop 0 = dktX3_number_0 := by decide +kernel
theorem dksX3_number_1 : cX3_number.data.toList.drop 24 = dktX3_number_1 := dk_seg dksX3_number_0 24 rfl rfl
theorem dksX3_number_2 : cX3_number.data.toList.drop 48 = dktX3_number_2 := dk_seg dksX3_number_1 24 rfl rfl
theorem dksX3_number_3 : cX3_number.data.toList.drop 71 = dktX3_number_3 := dk_seg dksX3_number_2 23 rfl rfl
theorem dX3_number_0 : decode cX3_number 0 = .ok (.aload_n 0, 1) := dk_42 (dk_at dksX3_number_0 0 rfl rfl)
theorem dX3_number_1 : decode cX3_number 1 = .ok (.getfield 212, 3) := dk_180 0 212 (dk_at dksX3_number_0 1 rfl rfl)
theorem dX3_number_4 : decode cX3_number 4 = .ok (.ifCond .lt 5, 3) := dk_155 0 5 (dk_at dksX3_number_0 4 rfl rfl)
theorem dX3_number_7 : decode cX3_number 7 = .ok (.iconst 0, 1) := dk_3 (dk_at dksX3_number_0 7 rfl rfl)
theorem dX3_number_8 : decode cX3_number 8 = .ok (.ireturn, 1) := dk_172 (dk_at dksX3_number_0 8 rfl rfl)
theorem dX3_number_9 : decode cX3_number 9 = .ok (.aload_n 0, 1) := dk_42 (dk_at dksX3_number_0 9 rfl rfl)
theorem dX3_number_10 : decode cX3_number 10 = .ok (.invokevirtual 215, 3) := dk_182 0 215 (dk_at dksX3_number_0 10 rfl rfl)
theorem dX3_number_13 : decode cX3_number 13 = .ok (.bipush 48, 2) := dk_16 48 (dk_at dksX3_number_0 13 rfl rfl)
theorem dX3_number_15 : decode cX3_number 15 = .ok (.bipush 57, 2) := dk_16 57 (dk_at dksX3_number_0 15 rfl rfl)
theorem dX3_number_17 : decode cX3_number 17 = .ok (.invokestatic 66, 3) := dk_184 0 66 (dk_at dksX3_number_0 17 rfl rfl)
theorem dX3_number_20 : decode cX3_number 20 = .ok (.ifCond .ne 13, 3) := dk_154 0 13 (dk_at dksX3_number_0 20 rfl rfl)
theorem dX3_number_23 : decode cX3_number 23 = .ok (.aload_n 0, 1) := dk_42 (dk_at dksX3_number_0 23 rfl rfl)
theorem dX3_number_24 : decode cX3_number 24 = .ok (.aload_n 0, 1) := dk_42 (dk_at dksX3_number_1 0 rfl rfl)
theorem dX3_number_25 : decode cX3_number 25 = .ok (.getfield 209, 3) := dk_180 0 209 (dk_at dksX3_number_1 1 rfl rfl)
theorem dX3_number_28 : decode cX3_number 28 = .ok (.putfield 212, 3) := dk_181 0 212 (dk_at dksX3_number_1 4 rfl rfl)
theorem dX3_number_31 : decode cX3_number 31 = .ok (.iconst 0, 1) := dk_3 (dk_at dksX3_number_1 7 rfl rfl)
theorem dX3_number_32 : decode cX3_number 32 = .ok (.ireturn, 1) := dk_172 (dk_at dksX3_number_1 8 rfl rfl)
theorem dX3_number_33 : decode cX3_number 33 = .ok (.iconst 0, 1) := dk_3 (dk_at dksX3_number_1 9 rfl rfl)
theorem dX3_number_34 : decode cX3_number 34 = .ok (.istore_n 2, 1) := dk_61 (dk_at dksX3_number_1 10 rfl rfl)
theorem dX3_number_35 : decode cX3_number 35 = .ok (.iconst 0, 1) := dk_3 (dk_at dksX3_number_1 11 rfl rfl)
theorem dX3_number_36 : decode cX3_number 36 = .ok (.istore_n 3, 1) := dk_62 (dk_at dksX3_number_1 12 rfl rfl)
theorem dX3_number_37 : decode cX3_number 37 = .ok (.iload_n 3, 1) := dk_29 (dk_at dksX3_number_1 13 rfl rfl)
theorem dX3_number_38 : decode cX3_number 38 = .ok (.iload_n 1, 1) := dk_27 (dk_at dksX3_number_1 14 rfl rfl)
theorem dX3_number_39 : decode cX3_number 39 = .ok (.if_icmp .ge 46, 3) := dk_162 0 46 (dk_at dksX3_number_1 15 rfl rfl)
theorem dX3_number_42 : decode cX3_number 42 = .ok (.aload_n 0, 1) := dk_42 (dk_at dksX3_number_1 18 rfl rfl)
theorem dX3_number_43 : decode cX3_number 43 = .ok (.invokevirtual 215, 3) := dk_182 0 215 (dk_at dksX3_number_1 19 rfl rfl)
theorem dX3_number_46 : decode cX3_number 46 = .ok (.bipush 48, 2) := dk_16 48 (dk_at dksX3_number_1 22 rfl rfl)
theorem dX3_number_48 : decode cX3_number 48 = .ok (.bipush 57, 2) := dk_16 57 (dk_at dksX3_number_2 0 rfl rfl)
theorem dX3_number_50 : decode cX3_number 50 = .ok (.invokestatic 66, 3) := dk_184 0 66 (dk_at dksX3_number_2 2 rfl rfl)
theorem dX3_number_53 : decode cX3_number 53 = .ok (.ifCond .eq 32, 3) := dk_153 0 32 (dk_at dksX3_number_2 5 rfl rfl)
theorem dX3_number_56 : decode cX3_number 56 = .ok (.bipush 10, 2) := dk_16 10 (dk_at dksX3_number_2 8 rfl rfl)
theorem dX3_number_58 : decode cX3_number 58 = .ok (.iload_n 2, 1) := dk_28 (dk_at dksX3_number_2 10 rfl rfl)
theorem dX3_number_59 : decode cX3_number 59 = .ok (.imul, 1) := dk_104 (dk_at dksX3_number_2 11 rfl rfl)
theorem dX3_number_60 : decode cX3_number 60 = .ok (.aload_n 0, 1) := dk_42 (dk_at dksX3_number_2 12 rfl rfl)
theorem dX3_number_61 : decode cX3_number 61 = .ok (.invokevirtual 215, 3) := dk_182 0 215 (dk_at dksX3_number_2 13 rfl rfl)
theorem dX3_number_64 : decode cX3_number 64 = .ok (.iadd, 1) := dk_96 (dk_at dksX3_number_2 16 rfl rfl)
theorem dX3_number_65 : decode cX3_number 65 = .ok (.bipush 48, 2) := dk_16 48 (dk_at dksX3_number_2 17 rfl rfl)
theorem dX3_number_67 : decode cX3_number 67 = .ok (.isub, 1) := dk_100 (dk_at dksX3_number_2 19 rfl rfl)
theorem dX3_number_68 : decode cX3_number 68 = .ok (.istore_n 2, 1) := dk_61 (dk_at dksX3_number_2 20 rfl rfl)
theorem dX3_number_69 : decode cX3_number 69 = .ok (.aload_n 0, 1) := dk_42 (dk_at dksX3_number_2 21 rfl rfl)
theorem dX3_number_70 : decode cX3_number 70 = .ok (.dup, 1) := dk_89 (dk_at dksX3_number_2 22 rfl rfl)
theorem dX3_number_71 : decode cX3_number 71 = .ok (.getfield 209, 3) := dk_180 0 209 (dk_at dksX3_number_3 0 rfl rfl)
theorem dX3_number_74 : decode cX3_number 74 = .ok (.iconst 1, 1) := dk_4 (dk_at dksX3_number_3 3 rfl rfl)
theorem dX3_number_75 : decode cX3_number 75 = .ok (.iadd, 1) := dk_96 (dk_at dksX3_number_3 4 rfl rfl)
theorem dX3_number_76 : decode cX3_number 76 = .ok (.putfield 209, 3) := dk_181 0 209 (dk_at dksX3_number_3 5 rfl rfl)
theorem dX3_number_79 : decode cX3_number 79 = .ok (.iinc 3 1, 3) := dk_132 3 1 (dk_at dksX3_number_3 8 rfl rfl)
theorem dX3_number_82 : decode cX3_number 82 = .ok (.goto (-45), 3) := dk_167 255 211 (dk_at dksX3_number_3 11 rfl rfl)
theorem dX3_number_85 : decode cX3_number 85 = .ok (.iload_n 2, 1) := dk_28 (dk_at dksX3_number_3 14 rfl rfl)
theorem dX3_number_86 : decode cX3_number 86 = .ok (.ireturn, 1) := dk_172 (dk_at dksX3_number_3 15 rfl rfl)
abbrev cX3_does : ByteArray := prog_23_method_74_code
def yX3_does : MethodName := ⟨RX3, "does", "(I)Z"⟩
def dkwX3_does_4 : List UInt8 := [182, 0, 151, 172, 42, 182, 0, 157, 172]
abbrev dktX3_does_4 : List UInt8 := dkwX3_does_4 ++ []
def dkwX3_does_3 : List UInt8 := [182, 0, 99, 172, 42, 28, 29, 182, 0, 105, 172, 42, 182, 0, 132, 172, 42, 182, 0, 148, 172, 42, 28]
abbrev dktX3_does_3 : List UInt8 := dkwX3_does_3 ++ dktX3_does_4
def dkwX3_does_2 : List UInt8 := [42, 3, 182, 0, 88, 172, 42, 4, 182, 0, 88, 172, 42, 28, 29, 42, 180, 0, 27, 27, 6, 96, 46]
abbrev dktX3_does_2 : List UInt8 := dkwX3_does_2 ++ dktX3_does_3
def dkwX3_does_1 : List UInt8 := [170, 0, 0, 0, 0, 0, 0, 142, 0, 0, 0, 97, 0, 0, 0, 115, 0, 0, 0, 92, 0, 0, 0, 119, 0, 0, 0, 104, 0, 0, 0, 142, 0, 0, 0, 142, 0, 0, 0, 142, 0, 0, 0, 142, 0, 0, 0, 142, 0, 0, 0, 126, 0, 0, 0, 142, 0, 0, 0, 142, 0, 0, 0, 136, 0, 0, 0, 98, 0, 0, 0, 142, 0, 0, 0, 142, 0, 0, 0, 142, 0, 0, 0, 142, 0, 0, 0, 142, 0, 0, 0, 131]
abbrev dktX3_does_1 : List UInt8 := dkwX3_does_1 ++ dktX3_does_2
def dkwX3_does_0 : List UInt8 := [42, 180, 0, 27, 27, 4, 96, 46, 61, 42, 180, 0, 27, 27, 5, 96, 46, 62, 42, 180, 0, 27, 27, 46]
abbrev dktX3_does_0 : List UInt8 := dkwX3_does_0 ++ dktX3_does_1
theorem dksX3_does_0 : cX3_does.data.toList.drop 0 = dktX3_does_0 := by decide +kernel
theorem dksX3_does_1 : cX3_does.data.toList.drop 24 = dktX3_does_1 := dk_seg dksX3_does_0 24 rfl rfl
theorem dksX3_does_2 : cX3_does.data.toList.drop 116 = dktX3_does_2 := dk_seg dksX3_does_1 92 rfl rfl
theorem dksX3_does_3 : cX3_does.data.toList.drop 139 = dktX3_does_3 := dk_seg dksX3_does_2 23 rfl rfl
theorem dksX3_does_4 : cX3_does.data.toList.drop 162 = dktX3_does_4 := dk_seg dksX3_does_3 23 rfl rfl
theorem dX3_does_0 : decode cX3_does 0 = .ok (.aload_n 0, 1) := dk_42 (dk_at dksX3_does_0 0 rfl rfl)
theorem dX3_does_1 : decode cX3_does 1 = .ok (.getfield 27, 3) := dk_180 0 27 (dk_at dksX3_does_0 1 rfl rfl)
theorem dX3_does_4 : decode cX3_does 4 = .ok (.iload_n 1, 1) := dk_27 (dk_at dksX3_does_0 4 rfl rfl)
theorem dX3_does_5 : decode cX3_does 5 = .ok (.iconst 1, 1) := dk_4 (dk_at dksX3_does_0 5 rfl rfl)
theorem dX3_does_6 : decode cX3_does 6 = .ok (.iadd, 1) := dk_96 (dk_at dksX3_does_0 6 rfl rfl)
theorem dX3_does_7 : decode cX3_does 7 = .ok (.iaload, 1) := dk_46 (dk_at dksX3_does_0 7 rfl rfl)
theorem dX3_does_8 : decode cX3_does 8 = .ok (.istore_n 2, 1) := dk_61 (dk_at dksX3_does_0 8 rfl rfl)
theorem dX3_does_9 : decode cX3_does 9 = .ok (.aload_n 0, 1) := dk_42 (dk_at dksX3_does_0 9 rfl rfl)
theorem dX3_does_10 : decode cX3_does 10 = .ok (.getfield 27, 3) := dk_180 0 27 (dk_at dksX3_does_0 10 rfl rfl)
theorem dX3_does_13 : decode cX3_does 13 = .ok (.iload_n 1, 1) := dk_27 (dk_at dksX3_does_0 13 rfl rfl)
theorem dX3_does_14 : decode cX3_does 14 = .ok (.iconst 2, 1) := dk_5 (dk_at dksX3_does_0 14 rfl rfl)
theorem dX3_does_15 : decode cX3_does 15 = .ok (.iadd, 1) := dk_96 (dk_at dksX3_does_0 15 rfl rfl)
theorem dX3_does_16 : decode cX3_does 16 = .ok (.iaload, 1) := dk_46 (dk_at dksX3_does_0 16 rfl rfl)
theorem dX3_does_17 : decode cX3_does 17 = .ok (.istore_n 3, 1) := dk_62 (dk_at dksX3_does_0 17 rfl rfl)
theorem dX3_does_18 : decode cX3_does 18 = .ok (.aload_n 0, 1) := dk_42 (dk_at dksX3_does_0 18 rfl rfl)
theorem dX3_does_19 : decode cX3_does 19 = .ok (.getfield 27, 3) := dk_180 0 27 (dk_at dksX3_does_0 19 rfl rfl)
theorem dX3_does_22 : decode cX3_does 22 = .ok (.iload_n 1, 1) := dk_27 (dk_at dksX3_does_0 22 rfl rfl)
theorem dX3_does_23 : decode cX3_does 23 = .ok (.iaload, 1) := dk_46 (dk_at dksX3_does_0 23 rfl rfl)
theorem dX3_does_24 : decode cX3_does 24 = .ok (.tableswitch 142 97 115 #[92, 119, 104, 142, 142, 142, 142, 142, 126, 142, 142, 136, 98, 142, 142, 142, 142, 142, 131], 92) := by decide +kernel
theorem dX3_does_116 : decode cX3_does 116 = .ok (.aload_n 0, 1) := dk_42 (dk_at dksX3_does_2 0 rfl rfl)
theorem dX3_does_117 : decode cX3_does 117 = .ok (.iconst 0, 1) := dk_3 (dk_at dksX3_does_2 1 rfl rfl)
theorem dX3_does_118 : decode cX3_does 118 = .ok (.invokevirtual 88, 3) := dk_182 0 88 (dk_at dksX3_does_2 2 rfl rfl)
theorem dX3_does_121 : decode cX3_does 121 = .ok (.ireturn, 1) := dk_172 (dk_at dksX3_does_2 5 rfl rfl)
theorem dX3_does_122 : decode cX3_does 122 = .ok (.aload_n 0, 1) := dk_42 (dk_at dksX3_does_2 6 rfl rfl)
theorem dX3_does_123 : decode cX3_does 123 = .ok (.iconst 1, 1) := dk_4 (dk_at dksX3_does_2 7 rfl rfl)
theorem dX3_does_124 : decode cX3_does 124 = .ok (.invokevirtual 88, 3) := dk_182 0 88 (dk_at dksX3_does_2 8 rfl rfl)
theorem dX3_does_127 : decode cX3_does 127 = .ok (.ireturn, 1) := dk_172 (dk_at dksX3_does_2 11 rfl rfl)
theorem dX3_does_128 : decode cX3_does 128 = .ok (.aload_n 0, 1) := dk_42 (dk_at dksX3_does_2 12 rfl rfl)
theorem dX3_does_129 : decode cX3_does 129 = .ok (.iload_n 2, 1) := dk_28 (dk_at dksX3_does_2 13 rfl rfl)
theorem dX3_does_130 : decode cX3_does 130 = .ok (.iload_n 3, 1) := dk_29 (dk_at dksX3_does_2 14 rfl rfl)
theorem dX3_does_131 : decode cX3_does 131 = .ok (.aload_n 0, 1) := dk_42 (dk_at dksX3_does_2 15 rfl rfl)
theorem dX3_does_132 : decode cX3_does 132 = .ok (.getfield 27, 3) := dk_180 0 27 (dk_at dksX3_does_2 16 rfl rfl)
theorem dX3_does_135 : decode cX3_does 135 = .ok (.iload_n 1, 1) := dk_27 (dk_at dksX3_does_2 19 rfl rfl)
theorem dX3_does_136 : decode cX3_does 136 = .ok (.iconst 3, 1) := dk_6 (dk_at dksX3_does_2 20 rfl rfl)
theorem dX3_does_137 : decode cX3_does 137 = .ok (.iadd, 1) := dk_96 (dk_at dksX3_does_2 21 rfl rfl)
theorem dX3_does_138 : decode cX3_does 138 = .ok (.iaload, 1) := dk_46 (dk_at dksX3_does_2 22 rfl rfl)
theorem dX3_does_139 : decode cX3_does 139 = .ok (.invokevirtual 99, 3) := dk_182 0 99 (dk_at dksX3_does_3 0 rfl rfl)
theorem dX3_does_142 : decode cX3_does 142 = .ok (.ireturn, 1) := dk_172 (dk_at dksX3_does_3 3 rfl rfl)
theorem dX3_does_143 : decode cX3_does 143 = .ok (.aload_n 0, 1) := dk_42 (dk_at dksX3_does_3 4 rfl rfl)
theorem dX3_does_144 : decode cX3_does 144 = .ok (.iload_n 2, 1) := dk_28 (dk_at dksX3_does_3 5 rfl rfl)
theorem dX3_does_145 : decode cX3_does 145 = .ok (.iload_n 3, 1) := dk_29 (dk_at dksX3_does_3 6 rfl rfl)
theorem dX3_does_146 : decode cX3_does 146 = .ok (.invokevirtual 105, 3) := dk_182 0 105 (dk_at dksX3_does_3 7 rfl rfl)
theorem dX3_does_149 : decode cX3_does 149 = .ok (.ireturn, 1) := dk_172 (dk_at dksX3_does_3 10 rfl rfl)
theorem dX3_does_150 : decode cX3_does 150 = .ok (.aload_n 0, 1) := dk_42 (dk_at dksX3_does_3 11 rfl rfl)
theorem dX3_does_151 : decode cX3_does 151 = .ok (.invokevirtual 132, 3) := dk_182 0 132 (dk_at dksX3_does_3 12 rfl rfl)
theorem dX3_does_154 : decode cX3_does 154 = .ok (.ireturn, 1) := dk_172 (dk_at dksX3_does_3 15 rfl rfl)
theorem dX3_does_155 : decode cX3_does 155 = .ok (.aload_n 0, 1) := dk_42 (dk_at dksX3_does_3 16 rfl rfl)
theorem dX3_does_156 : decode cX3_does 156 = .ok (.invokevirtual 148, 3) := dk_182 0 148 (dk_at dksX3_does_3 17 rfl rfl)
theorem dX3_does_159 : decode cX3_does 159 = .ok (.ireturn, 1) := dk_172 (dk_at dksX3_does_3 20 rfl rfl)
theorem dX3_does_160 : decode cX3_does 160 = .ok (.aload_n 0, 1) := dk_42 (dk_at dksX3_does_3 21 rfl rfl)
theorem dX3_does_161 : decode cX3_does 161 = .ok (.iload_n 2, 1) := dk_28 (dk_at dksX3_does_3 22 rfl rfl)
theorem dX3_does_162 : decode cX3_does 162 = .ok (.invokevirtual 151, 3) := dk_182 0 151 (dk_at dksX3_does_4 0 rfl rfl)
theorem dX3_does_165 : decode cX3_does 165 = .ok (.ireturn, 1) := dk_172 (dk_at dksX3_does_4 3 rfl rfl)
theorem dX3_does_166 : decode cX3_does 166 = .ok (.aload_n 0, 1) := dk_42 (dk_at dksX3_does_4 4 rfl rfl)
theorem dX3_does_167 : decode cX3_does 167 = .ok (.invokevirtual 157, 3) := dk_182 0 157 (dk_at dksX3_does_4 5 rfl rfl)
theorem dX3_does_170 : decode cX3_does 170 = .ok (.ireturn, 1) := dk_172 (dk_at dksX3_does_4 8 rfl rfl)
abbrev cX3_faultPosition : ByteArray := prog_23_method_76_code
def yX3_faultPosition : MethodName := ⟨RX3, "faultPosition", "()I"⟩
def dkwX3_faultPosition_1 : List UInt8 := [167, 0, 4, 3, 172]
abbrev dktX3_faultPosition_1 : List UInt8 := dkwX3_faultPosition_1 ++ []
def dkwX3_faultPosition_0 : List UInt8 := [42, 42, 180, 0, 23, 2, 159, 0, 7, 4, 167, 0, 4, 3, 182, 0, 55, 153, 0, 10, 42, 180, 0, 23]
abbrev dktX3_faultPosition_0 : List UInt8 := dkwX3_faultPosition_0 ++ dktX3_faultPosition_1
theorem dksX3_faultPosition_0 : cX3_faultPosition.data.toList.drop 0 = dktX3_faultPosition_0 := by decide +kernel
theorem dksX3_faultPosition_1 : cX3_faultPosition.data.toList.drop 24 = dktX3_faultPosition_1 := dk_seg dksX3_faultPosition_0 24 rfl rfl
theorem dX3_faultPosition_0 : decode cX3_faultPosition 0 = .ok (.aload_n 0, 1) := dk_42 (dk_at dksX3_faultPosition_0 0 rfl rfl)
theorem dX3_faultPosition_1 : decode cX3_faultPosition 1 = .ok (.aload_n 0, 1) := dk_42 (dk_at dksX3_faultPosition_0 1 rfl rfl)
theorem dX3_faultPosition_2 : decode cX3_faultPosition 2 = .ok (.getfield 23, 3) := dk_180 0 23 (dk_at dksX3_faultPosition_0 2 rfl rfl)
theorem dX3_faultPosition_5 : decode cX3_faultPosition 5 = .ok (.iconst (-1), 1) := dk_2 (dk_at dksX3_faultPosition_0 5 rfl rfl)
theorem dX3_faultPosition_6 : decode cX3_faultPosition 6 = .ok (.if_icmp .eq 7, 3) := dk_159 0 7 (dk_at dksX3_faultPosition_0 6 rfl rfl)
theorem dX3_faultPosition_9 : decode cX3_faultPosition 9 = .ok (.iconst 1, 1) := dk_4 (dk_at dksX3_faultPosition_0 9 rfl rfl)
theorem dX3_faultPosition_10 : decode cX3_faultPosition 10 = .ok (.goto 4, 3) := dk_167 0 4 (dk_at dksX3_faultPosition_0 10 rfl rfl)
theorem dX3_faultPosition_13 : decode cX3_faultPosition 13 = .ok (.iconst 0, 1) := dk_3 (dk_at dksX3_faultPosition_0 13 rfl rfl)
theorem dX3_faultPosition_14 : decode cX3_faultPosition 14 = .ok (.invokevirtual 55, 3) := dk_182 0 55 (dk_at dksX3_faultPosition_0 14 rfl rfl)
theorem dX3_faultPosition_17 : decode cX3_faultPosition 17 = .ok (.ifCond .eq 10, 3) := dk_153 0 10 (dk_at dksX3_faultPosition_0 17 rfl rfl)
theorem dX3_faultPosition_20 : decode cX3_faultPosition 20 = .ok (.aload_n 0, 1) := dk_42 (dk_at dksX3_faultPosition_0 20 rfl rfl)
theorem dX3_faultPosition_21 : decode cX3_faultPosition 21 = .ok (.getfield 23, 3) := dk_180 0 23 (dk_at dksX3_faultPosition_0 21 rfl rfl)
theorem dX3_faultPosition_24 : decode cX3_faultPosition 24 = .ok (.goto 4, 3) := dk_167 0 4 (dk_at dksX3_faultPosition_1 0 rfl rfl)
theorem dX3_faultPosition_27 : decode cX3_faultPosition 27 = .ok (.iconst 0, 1) := dk_3 (dk_at dksX3_faultPosition_1 3 rfl rfl)
theorem dX3_faultPosition_28 : decode cX3_faultPosition 28 = .ok (.ireturn, 1) := dk_172 (dk_at dksX3_faultPosition_1 4 rfl rfl)
abbrev cX3_line : ByteArray := prog_23_method_79_code
def yX3_line : MethodName := ⟨RX3, "line", "(I)I"⟩
def dkwX3_line_4 : List UInt8 := [16, 42, 182, 0, 249, 132, 2, 1, 167, 255, 186, 42, 180, 0, 243, 172]
abbrev dktX3_line_4 : List UInt8 := dkwX3_line_4 ++ []
def dkwX3_line_3 : List UInt8 := [42, 27, 28, 182, 0, 62, 182, 0, 246, 42, 180, 0, 9, 16, 84, 27, 96, 46, 28, 160, 0, 9, 42]
abbrev dktX3_line_3 : List UInt8 := dkwX3_line_3 ++ dktX3_line_4
def dkwX3_line_2 : List UInt8 := [16, 32, 182, 0, 249, 42, 27, 28, 182, 0, 102, 153, 0, 12, 42, 16, 45, 182, 0, 249, 167, 0, 13, 42]
abbrev dktX3_line_2 : List UInt8 := dkwX3_line_2 ++ dktX3_line_3
def dkwX3_line_1 : List UInt8 := [42, 16, 58, 182, 0, 249, 3, 61, 28, 42, 180, 0, 9, 4, 46, 162, 0, 66, 28, 158, 0, 9, 42]
abbrev dktX3_line_1 : List UInt8 := dkwX3_line_1 ++ dktX3_line_2
def dkwX3_line_0 : List UInt8 := [42, 42, 27, 182, 0, 70, 182, 0, 55, 154, 0, 5, 3, 172, 42, 3, 181, 0, 243, 42, 27, 182, 0, 246]
abbrev dktX3_line_0 : List UInt8 := dkwX3_line_0 ++ dktX3_line_1
theorem dksX3_line_0 : cX3_line.data.toList.drop 0 = dktX3_line_0 := by decide +kernel
theorem dksX3_line_1 : cX3_line.data.toList.drop 24 = dktX3_line_1 := dk_seg dksX3_line_0 24 rfl rfl
theorem dksX3_line_2 : cX3_line.data.toList.drop 47 = dktX3_line_2 := dk_seg dksX3_line_1 23 rfl rfl
theorem dksX3_line_3 : cX3_line.data.toList.drop 71 = dktX3_line_3 := dk_seg dksX3_line_2 24 rfl rfl
theorem dksX3_line_4 : cX3_line.data.toList.drop 94 = dktX3_line_4 := dk_seg dksX3_line_3 23 rfl rfl
theorem dX3_line_0 : decode cX3_line 0 = .ok (.aload_n 0, 1) := dk_42 (dk_at dksX3_line_0 0 rfl rfl)
theorem dX3_line_1 : decode cX3_line 1 = .ok (.aload_n 0, 1) := dk_42 (dk_at dksX3_line_0 1 rfl rfl)
theorem dX3_line_2 : decode cX3_line 2 = .ok (.iload_n 1, 1) := dk_27 (dk_at dksX3_line_0 2 rfl rfl)
theorem dX3_line_3 : decode cX3_line 3 = .ok (.invokevirtual 70, 3) := dk_182 0 70 (dk_at dksX3_line_0 3 rfl rfl)
theorem dX3_line_6 : decode cX3_line 6 = .ok (.invokevirtual 55, 3) := dk_182 0 55 (dk_at dksX3_line_0 6 rfl rfl)
theorem dX3_line_9 : decode cX3_line 9 = .ok (.ifCond .ne 5, 3) := dk_154 0 5 (dk_at dksX3_line_0 9 rfl rfl)
theorem dX3_line_12 : decode cX3_line 12 = .ok (.iconst 0, 1) := dk_3 (dk_at dksX3_line_0 12 rfl rfl)
theorem dX3_line_13 : decode cX3_line 13 = .ok (.ireturn, 1) := dk_172 (dk_at dksX3_line_0 13 rfl rfl)
theorem dX3_line_14 : decode cX3_line 14 = .ok (.aload_n 0, 1) := dk_42 (dk_at dksX3_line_0 14 rfl rfl)
theorem dX3_line_15 : decode cX3_line 15 = .ok (.iconst 0, 1) := dk_3 (dk_at dksX3_line_0 15 rfl rfl)
theorem dX3_line_16 : decode cX3_line 16 = .ok (.putfield 243, 3) := dk_181 0 243 (dk_at dksX3_line_0 16 rfl rfl)
theorem dX3_line_19 : decode cX3_line 19 = .ok (.aload_n 0, 1) := dk_42 (dk_at dksX3_line_0 19 rfl rfl)
theorem dX3_line_20 : decode cX3_line 20 = .ok (.iload_n 1, 1) := dk_27 (dk_at dksX3_line_0 20 rfl rfl)
theorem dX3_line_21 : decode cX3_line 21 = .ok (.invokevirtual 246, 3) := dk_182 0 246 (dk_at dksX3_line_0 21 rfl rfl)
theorem dX3_line_24 : decode cX3_line 24 = .ok (.aload_n 0, 1) := dk_42 (dk_at dksX3_line_1 0 rfl rfl)
theorem dX3_line_25 : decode cX3_line 25 = .ok (.bipush 58, 2) := dk_16 58 (dk_at dksX3_line_1 1 rfl rfl)
theorem dX3_line_27 : decode cX3_line 27 = .ok (.invokevirtual 249, 3) := dk_182 0 249 (dk_at dksX3_line_1 3 rfl rfl)
theorem dX3_line_30 : decode cX3_line 30 = .ok (.iconst 0, 1) := dk_3 (dk_at dksX3_line_1 6 rfl rfl)
theorem dX3_line_31 : decode cX3_line 31 = .ok (.istore_n 2, 1) := dk_61 (dk_at dksX3_line_1 7 rfl rfl)
theorem dX3_line_32 : decode cX3_line 32 = .ok (.iload_n 2, 1) := dk_28 (dk_at dksX3_line_1 8 rfl rfl)
theorem dX3_line_33 : decode cX3_line 33 = .ok (.aload_n 0, 1) := dk_42 (dk_at dksX3_line_1 9 rfl rfl)
theorem dX3_line_34 : decode cX3_line 34 = .ok (.getfield 9, 3) := dk_180 0 9 (dk_at dksX3_line_1 10 rfl rfl)
theorem dX3_line_37 : decode cX3_line 37 = .ok (.iconst 1, 1) := dk_4 (dk_at dksX3_line_1 13 rfl rfl)
theorem dX3_line_38 : decode cX3_line 38 = .ok (.iaload, 1) := dk_46 (dk_at dksX3_line_1 14 rfl rfl)
theorem dX3_line_39 : decode cX3_line 39 = .ok (.if_icmp .ge 66, 3) := dk_162 0 66 (dk_at dksX3_line_1 15 rfl rfl)
theorem dX3_line_42 : decode cX3_line 42 = .ok (.iload_n 2, 1) := dk_28 (dk_at dksX3_line_1 18 rfl rfl)
theorem dX3_line_43 : decode cX3_line 43 = .ok (.ifCond .le 9, 3) := dk_158 0 9 (dk_at dksX3_line_1 19 rfl rfl)
theorem dX3_line_46 : decode cX3_line 46 = .ok (.aload_n 0, 1) := dk_42 (dk_at dksX3_line_1 22 rfl rfl)
theorem dX3_line_47 : decode cX3_line 47 = .ok (.bipush 32, 2) := dk_16 32 (dk_at dksX3_line_2 0 rfl rfl)
theorem dX3_line_49 : decode cX3_line 49 = .ok (.invokevirtual 249, 3) := dk_182 0 249 (dk_at dksX3_line_2 2 rfl rfl)
theorem dX3_line_52 : decode cX3_line 52 = .ok (.aload_n 0, 1) := dk_42 (dk_at dksX3_line_2 5 rfl rfl)
theorem dX3_line_53 : decode cX3_line 53 = .ok (.iload_n 1, 1) := dk_27 (dk_at dksX3_line_2 6 rfl rfl)
theorem dX3_line_54 : decode cX3_line 54 = .ok (.iload_n 2, 1) := dk_28 (dk_at dksX3_line_2 7 rfl rfl)
theorem dX3_line_55 : decode cX3_line 55 = .ok (.invokevirtual 102, 3) := dk_182 0 102 (dk_at dksX3_line_2 8 rfl rfl)
theorem dX3_line_58 : decode cX3_line 58 = .ok (.ifCond .eq 12, 3) := dk_153 0 12 (dk_at dksX3_line_2 11 rfl rfl)
theorem dX3_line_61 : decode cX3_line 61 = .ok (.aload_n 0, 1) := dk_42 (dk_at dksX3_line_2 14 rfl rfl)
theorem dX3_line_62 : decode cX3_line 62 = .ok (.bipush 45, 2) := dk_16 45 (dk_at dksX3_line_2 15 rfl rfl)
theorem dX3_line_64 : decode cX3_line 64 = .ok (.invokevirtual 249, 3) := dk_182 0 249 (dk_at dksX3_line_2 17 rfl rfl)
theorem dX3_line_67 : decode cX3_line 67 = .ok (.goto 13, 3) := dk_167 0 13 (dk_at dksX3_line_2 20 rfl rfl)
theorem dX3_line_70 : decode cX3_line 70 = .ok (.aload_n 0, 1) := dk_42 (dk_at dksX3_line_2 23 rfl rfl)
theorem dX3_line_71 : decode cX3_line 71 = .ok (.aload_n 0, 1) := dk_42 (dk_at dksX3_line_3 0 rfl rfl)
theorem dX3_line_72 : decode cX3_line 72 = .ok (.iload_n 1, 1) := dk_27 (dk_at dksX3_line_3 1 rfl rfl)
theorem dX3_line_73 : decode cX3_line 73 = .ok (.iload_n 2, 1) := dk_28 (dk_at dksX3_line_3 2 rfl rfl)
theorem dX3_line_74 : decode cX3_line 74 = .ok (.invokevirtual 62, 3) := dk_182 0 62 (dk_at dksX3_line_3 3 rfl rfl)
theorem dX3_line_77 : decode cX3_line 77 = .ok (.invokevirtual 246, 3) := dk_182 0 246 (dk_at dksX3_line_3 6 rfl rfl)
theorem dX3_line_80 : decode cX3_line 80 = .ok (.aload_n 0, 1) := dk_42 (dk_at dksX3_line_3 9 rfl rfl)
theorem dX3_line_81 : decode cX3_line 81 = .ok (.getfield 9, 3) := dk_180 0 9 (dk_at dksX3_line_3 10 rfl rfl)
theorem dX3_line_84 : decode cX3_line 84 = .ok (.bipush 84, 2) := dk_16 84 (dk_at dksX3_line_3 13 rfl rfl)
theorem dX3_line_86 : decode cX3_line 86 = .ok (.iload_n 1, 1) := dk_27 (dk_at dksX3_line_3 15 rfl rfl)
theorem dX3_line_87 : decode cX3_line 87 = .ok (.iadd, 1) := dk_96 (dk_at dksX3_line_3 16 rfl rfl)
theorem dX3_line_88 : decode cX3_line 88 = .ok (.iaload, 1) := dk_46 (dk_at dksX3_line_3 17 rfl rfl)
theorem dX3_line_89 : decode cX3_line 89 = .ok (.iload_n 2, 1) := dk_28 (dk_at dksX3_line_3 18 rfl rfl)
theorem dX3_line_90 : decode cX3_line 90 = .ok (.if_icmp .ne 9, 3) := dk_160 0 9 (dk_at dksX3_line_3 19 rfl rfl)
theorem dX3_line_93 : decode cX3_line 93 = .ok (.aload_n 0, 1) := dk_42 (dk_at dksX3_line_3 22 rfl rfl)
theorem dX3_line_94 : decode cX3_line 94 = .ok (.bipush 42, 2) := dk_16 42 (dk_at dksX3_line_4 0 rfl rfl)
theorem dX3_line_96 : decode cX3_line 96 = .ok (.invokevirtual 249, 3) := dk_182 0 249 (dk_at dksX3_line_4 2 rfl rfl)
theorem dX3_line_99 : decode cX3_line 99 = .ok (.iinc 2 1, 3) := dk_132 2 1 (dk_at dksX3_line_4 5 rfl rfl)
theorem dX3_line_102 : decode cX3_line 102 = .ok (.goto (-70), 3) := dk_167 255 186 (dk_at dksX3_line_4 8 rfl rfl)
theorem dX3_line_105 : decode cX3_line 105 = .ok (.aload_n 0, 1) := dk_42 (dk_at dksX3_line_4 11 rfl rfl)
theorem dX3_line_106 : decode cX3_line 106 = .ok (.getfield 243, 3) := dk_180 0 243 (dk_at dksX3_line_4 12 rfl rfl)
theorem dX3_line_109 : decode cX3_line 109 = .ok (.ireturn, 1) := dk_172 (dk_at dksX3_line_4 15 rfl rfl)
abbrev cX3_writesNumber : ByteArray := prog_23_method_78_code
def yX3_writesNumber : MethodName := ⟨RX3, "writesNumber", "(I)V"⟩
def dkwX3_writesNumber_1 : List UInt8 := [182, 0, 249, 177]
abbrev dktX3_writesNumber_1 : List UInt8 := dkwX3_writesNumber_1 ++ []
def dkwX3_writesNumber_0 : List UInt8 := [27, 16, 9, 164, 0, 11, 42, 27, 16, 10, 108, 182, 0, 246, 42, 16, 48, 27, 16, 10, 112, 96]
abbrev dktX3_writesNumber_0 : List UInt8 := dkwX3_writesNumber_0 ++ dktX3_writesNumber_1
theorem dksX3_writesNumber_0 : cX3_writesNumber.data.toList.drop 0 = dktX3_writesNumber_0 := by decide +kernel
theorem dksX3_writesNumber_1 : cX3_writesNumber.data.toList.drop 22 = dktX3_writesNumber_1 := dk_seg dksX3_writesNumber_0 22 rfl rfl
theorem dX3_writesNumber_0 : decode cX3_writesNumber 0 = .ok (.iload_n 1, 1) := dk_27 (dk_at dksX3_writesNumber_0 0 rfl rfl)
theorem dX3_writesNumber_1 : decode cX3_writesNumber 1 = .ok (.bipush 9, 2) := dk_16 9 (dk_at dksX3_writesNumber_0 1 rfl rfl)
theorem dX3_writesNumber_3 : decode cX3_writesNumber 3 = .ok (.if_icmp .le 11, 3) := dk_164 0 11 (dk_at dksX3_writesNumber_0 3 rfl rfl)
theorem dX3_writesNumber_6 : decode cX3_writesNumber 6 = .ok (.aload_n 0, 1) := dk_42 (dk_at dksX3_writesNumber_0 6 rfl rfl)
theorem dX3_writesNumber_7 : decode cX3_writesNumber 7 = .ok (.iload_n 1, 1) := dk_27 (dk_at dksX3_writesNumber_0 7 rfl rfl)
theorem dX3_writesNumber_8 : decode cX3_writesNumber 8 = .ok (.bipush 10, 2) := dk_16 10 (dk_at dksX3_writesNumber_0 8 rfl rfl)
theorem dX3_writesNumber_10 : decode cX3_writesNumber 10 = .ok (.idiv, 1) := dk_108 (dk_at dksX3_writesNumber_0 10 rfl rfl)
theorem dX3_writesNumber_11 : decode cX3_writesNumber 11 = .ok (.invokevirtual 246, 3) := dk_182 0 246 (dk_at dksX3_writesNumber_0 11 rfl rfl)
theorem dX3_writesNumber_14 : decode cX3_writesNumber 14 = .ok (.aload_n 0, 1) := dk_42 (dk_at dksX3_writesNumber_0 14 rfl rfl)
theorem dX3_writesNumber_15 : decode cX3_writesNumber 15 = .ok (.bipush 48, 2) := dk_16 48 (dk_at dksX3_writesNumber_0 15 rfl rfl)
theorem dX3_writesNumber_17 : decode cX3_writesNumber 17 = .ok (.iload_n 1, 1) := dk_27 (dk_at dksX3_writesNumber_0 17 rfl rfl)
theorem dX3_writesNumber_18 : decode cX3_writesNumber 18 = .ok (.bipush 10, 2) := dk_16 10 (dk_at dksX3_writesNumber_0 18 rfl rfl)
theorem dX3_writesNumber_20 : decode cX3_writesNumber 20 = .ok (.irem, 1) := dk_112 (dk_at dksX3_writesNumber_0 20 rfl rfl)
theorem dX3_writesNumber_21 : decode cX3_writesNumber 21 = .ok (.iadd, 1) := dk_96 (dk_at dksX3_writesNumber_0 21 rfl rfl)
theorem dX3_writesNumber_22 : decode cX3_writesNumber 22 = .ok (.invokevirtual 249, 3) := dk_182 0 249 (dk_at dksX3_writesNumber_1 0 rfl rfl)
theorem dX3_writesNumber_25 : decode cX3_writesNumber 25 = .ok (.return_, 1) := dk_177 (dk_at dksX3_writesNumber_1 3 rfl rfl)
abbrev cX3_writes : ByteArray := prog_23_method_77_code
def yX3_writes : MethodName := ⟨RX3, "writes", "(I)V"⟩
def dkwX3_writes_0 : List UInt8 := [42, 180, 0, 30, 42, 180, 0, 243, 27, 146, 85, 42, 89, 180, 0, 243, 4, 96, 181, 0, 243, 177]
abbrev dktX3_writes_0 : List UInt8 := dkwX3_writes_0 ++ []
theorem dksX3_writes_0 : cX3_writes.data.toList.drop 0 = dktX3_writes_0 := by decide +kernel
theorem dX3_writes_0 : decode cX3_writes 0 = .ok (.aload_n 0, 1) := dk_42 (dk_at dksX3_writes_0 0 rfl rfl)
theorem dX3_writes_1 : decode cX3_writes 1 = .ok (.getfield 30, 3) := dk_180 0 30 (dk_at dksX3_writes_0 1 rfl rfl)
theorem dX3_writes_4 : decode cX3_writes 4 = .ok (.aload_n 0, 1) := dk_42 (dk_at dksX3_writes_0 4 rfl rfl)
theorem dX3_writes_5 : decode cX3_writes 5 = .ok (.getfield 243, 3) := dk_180 0 243 (dk_at dksX3_writes_0 5 rfl rfl)
theorem dX3_writes_8 : decode cX3_writes 8 = .ok (.iload_n 1, 1) := dk_27 (dk_at dksX3_writes_0 8 rfl rfl)
theorem dX3_writes_9 : decode cX3_writes 9 = .ok (.i2c, 1) := dk_146 (dk_at dksX3_writes_0 9 rfl rfl)
theorem dX3_writes_10 : decode cX3_writes 10 = .ok (.castore, 1) := dk_85 (dk_at dksX3_writes_0 10 rfl rfl)
theorem dX3_writes_11 : decode cX3_writes 11 = .ok (.aload_n 0, 1) := dk_42 (dk_at dksX3_writes_0 11 rfl rfl)
theorem dX3_writes_12 : decode cX3_writes 12 = .ok (.dup, 1) := dk_89 (dk_at dksX3_writes_0 12 rfl rfl)
theorem dX3_writes_13 : decode cX3_writes 13 = .ok (.getfield 243, 3) := dk_180 0 243 (dk_at dksX3_writes_0 13 rfl rfl)
theorem dX3_writes_16 : decode cX3_writes 16 = .ok (.iconst 1, 1) := dk_4 (dk_at dksX3_writes_0 16 rfl rfl)
theorem dX3_writes_17 : decode cX3_writes 17 = .ok (.iadd, 1) := dk_96 (dk_at dksX3_writes_0 17 rfl rfl)
theorem dX3_writes_18 : decode cX3_writes 18 = .ok (.putfield 243, 3) := dk_181 0 243 (dk_at dksX3_writes_0 18 rfl rfl)
theorem dX3_writes_21 : decode cX3_writes 21 = .ok (.return_, 1) := dk_177 (dk_at dksX3_writes_0 21 rfl rfl)
abbrev cX3_pairing : ByteArray := prog_23_method_80_code
def yX3_pairing : MethodName := ⟨RX3, "pairing", "()I"⟩
def dkwX3_pairing_3 : List UInt8 := [16, 61, 182, 0, 249, 42, 42, 180, 0, 160, 182, 0, 246, 42, 180, 0, 243, 172]
abbrev dktX3_pairing_3 : List UInt8 := dkwX3_pairing_3 ++ []
def dkwX3_pairing_2 : List UInt8 := [42, 16, 32, 182, 0, 249, 42, 42, 180, 0, 16, 27, 46, 182, 0, 246, 132, 1, 1, 167, 255, 223, 42]
abbrev dktX3_pairing_2 : List UInt8 := dkwX3_pairing_2 ++ dktX3_pairing_3
def dkwX3_pairing_1 : List UInt8 := [182, 0, 249, 42, 180, 0, 243, 172, 3, 60, 27, 42, 180, 0, 9, 3, 46, 162, 0, 29, 27, 158, 0, 9]
abbrev dktX3_pairing_1 : List UInt8 := dkwX3_pairing_1 ++ dktX3_pairing_2
def dkwX3_pairing_0 : List UInt8 := [42, 3, 181, 0, 33, 42, 182, 0, 136, 42, 3, 181, 0, 243, 42, 180, 0, 139, 154, 0, 14, 42, 16, 46]
abbrev dktX3_pairing_0 : List UInt8 := dkwX3_pairing_0 ++ dktX3_pairing_1
theorem dksX3_pairing_0 : cX3_pairing.data.toList.drop 0 = dktX3_pairing_0 := by decide +kernel
theorem dksX3_pairing_1 : cX3_pairing.data.toList.drop 24 = dktX3_pairing_1 := dk_seg dksX3_pairing_0 24 rfl rfl
theorem dksX3_pairing_2 : cX3_pairing.data.toList.drop 48 = dktX3_pairing_2 := dk_seg dksX3_pairing_1 24 rfl rfl
theorem dksX3_pairing_3 : cX3_pairing.data.toList.drop 71 = dktX3_pairing_3 := dk_seg dksX3_pairing_2 23 rfl rfl
theorem dX3_pairing_0 : decode cX3_pairing 0 = .ok (.aload_n 0, 1) := dk_42 (dk_at dksX3_pairing_0 0 rfl rfl)
theorem dX3_pairing_1 : decode cX3_pairing 1 = .ok (.iconst 0, 1) := dk_3 (dk_at dksX3_pairing_0 1 rfl rfl)
theorem dX3_pairing_2 : decode cX3_pairing 2 = .ok (.putfield 33, 3) := dk_181 0 33 (dk_at dksX3_pairing_0 2 rfl rfl)
theorem dX3_pairing_5 : decode cX3_pairing 5 = .ok (.aload_n 0, 1) := dk_42 (dk_at dksX3_pairing_0 5 rfl rfl)
theorem dX3_pairing_6 : decode cX3_pairing 6 = .ok (.invokevirtual 136, 3) := dk_182 0 136 (dk_at dksX3_pairing_0 6 rfl rfl)
theorem dX3_pairing_9 : decode cX3_pairing 9 = .ok (.aload_n 0, 1) := dk_42 (dk_at dksX3_pairing_0 9 rfl rfl)
theorem dX3_pairing_10 : decode cX3_pairing 10 = .ok (.iconst 0, 1) := dk_3 (dk_at dksX3_pairing_0 10 rfl rfl)
theorem dX3_pairing_11 : decode cX3_pairing 11 = .ok (.putfield 243, 3) := dk_181 0 243 (dk_at dksX3_pairing_0 11 rfl rfl)
theorem dX3_pairing_14 : decode cX3_pairing 14 = .ok (.aload_n 0, 1) := dk_42 (dk_at dksX3_pairing_0 14 rfl rfl)
theorem dX3_pairing_15 : decode cX3_pairing 15 = .ok (.getfield 139, 3) := dk_180 0 139 (dk_at dksX3_pairing_0 15 rfl rfl)
theorem dX3_pairing_18 : decode cX3_pairing 18 = .ok (.ifCond .ne 14, 3) := dk_154 0 14 (dk_at dksX3_pairing_0 18 rfl rfl)
theorem dX3_pairing_21 : decode cX3_pairing 21 = .ok (.aload_n 0, 1) := dk_42 (dk_at dksX3_pairing_0 21 rfl rfl)
theorem dX3_pairing_22 : decode cX3_pairing 22 = .ok (.bipush 46, 2) := dk_16 46 (dk_at dksX3_pairing_0 22 rfl rfl)
theorem dX3_pairing_24 : decode cX3_pairing 24 = .ok (.invokevirtual 249, 3) := dk_182 0 249 (dk_at dksX3_pairing_1 0 rfl rfl)
theorem dX3_pairing_27 : decode cX3_pairing 27 = .ok (.aload_n 0, 1) := dk_42 (dk_at dksX3_pairing_1 3 rfl rfl)
theorem dX3_pairing_28 : decode cX3_pairing 28 = .ok (.getfield 243, 3) := dk_180 0 243 (dk_at dksX3_pairing_1 4 rfl rfl)
theorem dX3_pairing_31 : decode cX3_pairing 31 = .ok (.ireturn, 1) := dk_172 (dk_at dksX3_pairing_1 7 rfl rfl)
theorem dX3_pairing_32 : decode cX3_pairing 32 = .ok (.iconst 0, 1) := dk_3 (dk_at dksX3_pairing_1 8 rfl rfl)
theorem dX3_pairing_33 : decode cX3_pairing 33 = .ok (.istore_n 1, 1) := dk_60 (dk_at dksX3_pairing_1 9 rfl rfl)
theorem dX3_pairing_34 : decode cX3_pairing 34 = .ok (.iload_n 1, 1) := dk_27 (dk_at dksX3_pairing_1 10 rfl rfl)
theorem dX3_pairing_35 : decode cX3_pairing 35 = .ok (.aload_n 0, 1) := dk_42 (dk_at dksX3_pairing_1 11 rfl rfl)
theorem dX3_pairing_36 : decode cX3_pairing 36 = .ok (.getfield 9, 3) := dk_180 0 9 (dk_at dksX3_pairing_1 12 rfl rfl)
theorem dX3_pairing_39 : decode cX3_pairing 39 = .ok (.iconst 0, 1) := dk_3 (dk_at dksX3_pairing_1 15 rfl rfl)
theorem dX3_pairing_40 : decode cX3_pairing 40 = .ok (.iaload, 1) := dk_46 (dk_at dksX3_pairing_1 16 rfl rfl)
theorem dX3_pairing_41 : decode cX3_pairing 41 = .ok (.if_icmp .ge 29, 3) := dk_162 0 29 (dk_at dksX3_pairing_1 17 rfl rfl)
theorem dX3_pairing_44 : decode cX3_pairing 44 = .ok (.iload_n 1, 1) := dk_27 (dk_at dksX3_pairing_1 20 rfl rfl)
theorem dX3_pairing_45 : decode cX3_pairing 45 = .ok (.ifCond .le 9, 3) := dk_158 0 9 (dk_at dksX3_pairing_1 21 rfl rfl)
theorem dX3_pairing_48 : decode cX3_pairing 48 = .ok (.aload_n 0, 1) := dk_42 (dk_at dksX3_pairing_2 0 rfl rfl)
theorem dX3_pairing_49 : decode cX3_pairing 49 = .ok (.bipush 32, 2) := dk_16 32 (dk_at dksX3_pairing_2 1 rfl rfl)
theorem dX3_pairing_51 : decode cX3_pairing 51 = .ok (.invokevirtual 249, 3) := dk_182 0 249 (dk_at dksX3_pairing_2 3 rfl rfl)
theorem dX3_pairing_54 : decode cX3_pairing 54 = .ok (.aload_n 0, 1) := dk_42 (dk_at dksX3_pairing_2 6 rfl rfl)
theorem dX3_pairing_55 : decode cX3_pairing 55 = .ok (.aload_n 0, 1) := dk_42 (dk_at dksX3_pairing_2 7 rfl rfl)
theorem dX3_pairing_56 : decode cX3_pairing 56 = .ok (.getfield 16, 3) := dk_180 0 16 (dk_at dksX3_pairing_2 8 rfl rfl)
theorem dX3_pairing_59 : decode cX3_pairing 59 = .ok (.iload_n 1, 1) := dk_27 (dk_at dksX3_pairing_2 11 rfl rfl)
theorem dX3_pairing_60 : decode cX3_pairing 60 = .ok (.iaload, 1) := dk_46 (dk_at dksX3_pairing_2 12 rfl rfl)
theorem dX3_pairing_61 : decode cX3_pairing 61 = .ok (.invokevirtual 246, 3) := dk_182 0 246 (dk_at dksX3_pairing_2 13 rfl rfl)
theorem dX3_pairing_64 : decode cX3_pairing 64 = .ok (.iinc 1 1, 3) := dk_132 1 1 (dk_at dksX3_pairing_2 16 rfl rfl)
theorem dX3_pairing_67 : decode cX3_pairing 67 = .ok (.goto (-33), 3) := dk_167 255 223 (dk_at dksX3_pairing_2 19 rfl rfl)
theorem dX3_pairing_70 : decode cX3_pairing 70 = .ok (.aload_n 0, 1) := dk_42 (dk_at dksX3_pairing_2 22 rfl rfl)
theorem dX3_pairing_71 : decode cX3_pairing 71 = .ok (.bipush 61, 2) := dk_16 61 (dk_at dksX3_pairing_3 0 rfl rfl)
theorem dX3_pairing_73 : decode cX3_pairing 73 = .ok (.invokevirtual 249, 3) := dk_182 0 249 (dk_at dksX3_pairing_3 2 rfl rfl)
theorem dX3_pairing_76 : decode cX3_pairing 76 = .ok (.aload_n 0, 1) := dk_42 (dk_at dksX3_pairing_3 5 rfl rfl)
theorem dX3_pairing_77 : decode cX3_pairing 77 = .ok (.aload_n 0, 1) := dk_42 (dk_at dksX3_pairing_3 6 rfl rfl)
theorem dX3_pairing_78 : decode cX3_pairing 78 = .ok (.getfield 160, 3) := dk_180 0 160 (dk_at dksX3_pairing_3 7 rfl rfl)
theorem dX3_pairing_81 : decode cX3_pairing 81 = .ok (.invokevirtual 246, 3) := dk_182 0 246 (dk_at dksX3_pairing_3 10 rfl rfl)
theorem dX3_pairing_84 : decode cX3_pairing 84 = .ok (.aload_n 0, 1) := dk_42 (dk_at dksX3_pairing_3 13 rfl rfl)
theorem dX3_pairing_85 : decode cX3_pairing 85 = .ok (.getfield 243, 3) := dk_180 0 243 (dk_at dksX3_pairing_3 14 rfl rfl)
theorem dX3_pairing_88 : decode cX3_pairing 88 = .ok (.ireturn, 1) := dk_172 (dk_at dksX3_pairing_3 17 rfl rfl)
abbrev cX3_character : ByteArray := prog_23_method_81_code
def yX3_character : MethodName := ⟨RX3, "character", "(I)C"⟩
def dkwX3_character_1 : List UInt8 := [167, 0, 4, 3, 172]
abbrev dktX3_character_1 : List UInt8 := dkwX3_character_1 ++ []
def dkwX3_character_0 : List UInt8 := [42, 27, 3, 42, 180, 0, 243, 4, 100, 184, 0, 66, 182, 0, 55, 153, 0, 12, 42, 180, 0, 30, 27, 52]
abbrev dktX3_character_0 : List UInt8 := dkwX3_character_0 ++ dktX3_character_1
theorem dksX3_character_0 : cX3_character.data.toList.drop 0 = dktX3_character_0 := by decide +kernel
theorem dksX3_character_1 : cX3_character.data.toList.drop 24 = dktX3_character_1 := dk_seg dksX3_character_0 24 rfl rfl
theorem dX3_character_0 : decode cX3_character 0 = .ok (.aload_n 0, 1) := dk_42 (dk_at dksX3_character_0 0 rfl rfl)
theorem dX3_character_1 : decode cX3_character 1 = .ok (.iload_n 1, 1) := dk_27 (dk_at dksX3_character_0 1 rfl rfl)
theorem dX3_character_2 : decode cX3_character 2 = .ok (.iconst 0, 1) := dk_3 (dk_at dksX3_character_0 2 rfl rfl)
theorem dX3_character_3 : decode cX3_character 3 = .ok (.aload_n 0, 1) := dk_42 (dk_at dksX3_character_0 3 rfl rfl)
theorem dX3_character_4 : decode cX3_character 4 = .ok (.getfield 243, 3) := dk_180 0 243 (dk_at dksX3_character_0 4 rfl rfl)
theorem dX3_character_7 : decode cX3_character 7 = .ok (.iconst 1, 1) := dk_4 (dk_at dksX3_character_0 7 rfl rfl)
theorem dX3_character_8 : decode cX3_character 8 = .ok (.isub, 1) := dk_100 (dk_at dksX3_character_0 8 rfl rfl)
theorem dX3_character_9 : decode cX3_character 9 = .ok (.invokestatic 66, 3) := dk_184 0 66 (dk_at dksX3_character_0 9 rfl rfl)
theorem dX3_character_12 : decode cX3_character 12 = .ok (.invokevirtual 55, 3) := dk_182 0 55 (dk_at dksX3_character_0 12 rfl rfl)
theorem dX3_character_15 : decode cX3_character 15 = .ok (.ifCond .eq 12, 3) := dk_153 0 12 (dk_at dksX3_character_0 15 rfl rfl)
theorem dX3_character_18 : decode cX3_character 18 = .ok (.aload_n 0, 1) := dk_42 (dk_at dksX3_character_0 18 rfl rfl)
theorem dX3_character_19 : decode cX3_character 19 = .ok (.getfield 30, 3) := dk_180 0 30 (dk_at dksX3_character_0 19 rfl rfl)
theorem dX3_character_22 : decode cX3_character 22 = .ok (.iload_n 1, 1) := dk_27 (dk_at dksX3_character_0 22 rfl rfl)
theorem dX3_character_23 : decode cX3_character 23 = .ok (.caload, 1) := dk_52 (dk_at dksX3_character_0 23 rfl rfl)
theorem dX3_character_24 : decode cX3_character 24 = .ok (.goto 4, 3) := dk_167 0 4 (dk_at dksX3_character_1 0 rfl rfl)
theorem dX3_character_27 : decode cX3_character 27 = .ok (.iconst 0, 1) := dk_3 (dk_at dksX3_character_1 3 rfl rfl)
theorem dX3_character_28 : decode cX3_character 28 = .ok (.ireturn, 1) := dk_172 (dk_at dksX3_character_1 4 rfl rfl)
abbrev cX3_meanPrice : ByteArray := prog_23_method_82_code
def yX3_meanPrice : MethodName := ⟨RX3, "meanPrice", "()D"⟩
def dkwX3_meanPrice_2 : List UInt8 := [132, 3, 1, 167, 255, 236, 28, 135, 27, 135, 111, 175]
abbrev dktX3_meanPrice_2 : List UInt8 := dkwX3_meanPrice_2 ++ []
def dkwX3_meanPrice_1 : List UInt8 := [175, 3, 61, 3, 62, 29, 27, 162, 0, 21, 28, 42, 180, 0, 9, 16, 78, 29, 96, 46, 96, 61]
abbrev dktX3_meanPrice_1 : List UInt8 := dkwX3_meanPrice_1 ++ dktX3_meanPrice_2
def dkwX3_meanPrice_0 : List UInt8 := [42, 180, 0, 9, 4, 46, 60, 42, 27, 158, 0, 7, 4, 167, 0, 4, 3, 182, 0, 55, 154, 0, 5, 14]
abbrev dktX3_meanPrice_0 : List UInt8 := dkwX3_meanPrice_0 ++ dktX3_meanPrice_1
theorem dksX3_meanPrice_0 : cX3_meanPrice.data.toList.drop 0 = dktX3_meanPrice_0 := by decide +kernel
theorem dksX3_meanPrice_1 : cX3_meanPrice.data.toList.drop 24 = dktX3_meanPrice_1 := dk_seg dksX3_meanPrice_0 24 rfl rfl
theorem dksX3_meanPrice_2 : cX3_meanPrice.data.toList.drop 46 = dktX3_meanPrice_2 := dk_seg dksX3_meanPrice_1 22 rfl rfl
theorem dX3_meanPrice_0 : decode cX3_meanPrice 0 = .ok (.aload_n 0, 1) := dk_42 (dk_at dksX3_meanPrice_0 0 rfl rfl)
theorem dX3_meanPrice_1 : decode cX3_meanPrice 1 = .ok (.getfield 9, 3) := dk_180 0 9 (dk_at dksX3_meanPrice_0 1 rfl rfl)
theorem dX3_meanPrice_4 : decode cX3_meanPrice 4 = .ok (.iconst 1, 1) := dk_4 (dk_at dksX3_meanPrice_0 4 rfl rfl)
theorem dX3_meanPrice_5 : decode cX3_meanPrice 5 = .ok (.iaload, 1) := dk_46 (dk_at dksX3_meanPrice_0 5 rfl rfl)
theorem dX3_meanPrice_6 : decode cX3_meanPrice 6 = .ok (.istore_n 1, 1) := dk_60 (dk_at dksX3_meanPrice_0 6 rfl rfl)
theorem dX3_meanPrice_7 : decode cX3_meanPrice 7 = .ok (.aload_n 0, 1) := dk_42 (dk_at dksX3_meanPrice_0 7 rfl rfl)
theorem dX3_meanPrice_8 : decode cX3_meanPrice 8 = .ok (.iload_n 1, 1) := dk_27 (dk_at dksX3_meanPrice_0 8 rfl rfl)
theorem dX3_meanPrice_9 : decode cX3_meanPrice 9 = .ok (.ifCond .le 7, 3) := dk_158 0 7 (dk_at dksX3_meanPrice_0 9 rfl rfl)
theorem dX3_meanPrice_12 : decode cX3_meanPrice 12 = .ok (.iconst 1, 1) := dk_4 (dk_at dksX3_meanPrice_0 12 rfl rfl)
theorem dX3_meanPrice_13 : decode cX3_meanPrice 13 = .ok (.goto 4, 3) := dk_167 0 4 (dk_at dksX3_meanPrice_0 13 rfl rfl)
theorem dX3_meanPrice_16 : decode cX3_meanPrice 16 = .ok (.iconst 0, 1) := dk_3 (dk_at dksX3_meanPrice_0 16 rfl rfl)
theorem dX3_meanPrice_17 : decode cX3_meanPrice 17 = .ok (.invokevirtual 55, 3) := dk_182 0 55 (dk_at dksX3_meanPrice_0 17 rfl rfl)
theorem dX3_meanPrice_20 : decode cX3_meanPrice 20 = .ok (.ifCond .ne 5, 3) := dk_154 0 5 (dk_at dksX3_meanPrice_0 20 rfl rfl)
theorem dX3_meanPrice_23 : decode cX3_meanPrice 23 = .ok (.dconst 0, 1) := dk_14 (dk_at dksX3_meanPrice_0 23 rfl rfl)
theorem dX3_meanPrice_24 : decode cX3_meanPrice 24 = .ok (.dreturn, 1) := dk_175 (dk_at dksX3_meanPrice_1 0 rfl rfl)
theorem dX3_meanPrice_25 : decode cX3_meanPrice 25 = .ok (.iconst 0, 1) := dk_3 (dk_at dksX3_meanPrice_1 1 rfl rfl)
theorem dX3_meanPrice_26 : decode cX3_meanPrice 26 = .ok (.istore_n 2, 1) := dk_61 (dk_at dksX3_meanPrice_1 2 rfl rfl)
theorem dX3_meanPrice_27 : decode cX3_meanPrice 27 = .ok (.iconst 0, 1) := dk_3 (dk_at dksX3_meanPrice_1 3 rfl rfl)
theorem dX3_meanPrice_28 : decode cX3_meanPrice 28 = .ok (.istore_n 3, 1) := dk_62 (dk_at dksX3_meanPrice_1 4 rfl rfl)
theorem dX3_meanPrice_29 : decode cX3_meanPrice 29 = .ok (.iload_n 3, 1) := dk_29 (dk_at dksX3_meanPrice_1 5 rfl rfl)
theorem dX3_meanPrice_30 : decode cX3_meanPrice 30 = .ok (.iload_n 1, 1) := dk_27 (dk_at dksX3_meanPrice_1 6 rfl rfl)
theorem dX3_meanPrice_31 : decode cX3_meanPrice 31 = .ok (.if_icmp .ge 21, 3) := dk_162 0 21 (dk_at dksX3_meanPrice_1 7 rfl rfl)
theorem dX3_meanPrice_34 : decode cX3_meanPrice 34 = .ok (.iload_n 2, 1) := dk_28 (dk_at dksX3_meanPrice_1 10 rfl rfl)
theorem dX3_meanPrice_35 : decode cX3_meanPrice 35 = .ok (.aload_n 0, 1) := dk_42 (dk_at dksX3_meanPrice_1 11 rfl rfl)
theorem dX3_meanPrice_36 : decode cX3_meanPrice 36 = .ok (.getfield 9, 3) := dk_180 0 9 (dk_at dksX3_meanPrice_1 12 rfl rfl)
theorem dX3_meanPrice_39 : decode cX3_meanPrice 39 = .ok (.bipush 78, 2) := dk_16 78 (dk_at dksX3_meanPrice_1 15 rfl rfl)
theorem dX3_meanPrice_41 : decode cX3_meanPrice 41 = .ok (.iload_n 3, 1) := dk_29 (dk_at dksX3_meanPrice_1 17 rfl rfl)
theorem dX3_meanPrice_42 : decode cX3_meanPrice 42 = .ok (.iadd, 1) := dk_96 (dk_at dksX3_meanPrice_1 18 rfl rfl)
theorem dX3_meanPrice_43 : decode cX3_meanPrice 43 = .ok (.iaload, 1) := dk_46 (dk_at dksX3_meanPrice_1 19 rfl rfl)
theorem dX3_meanPrice_44 : decode cX3_meanPrice 44 = .ok (.iadd, 1) := dk_96 (dk_at dksX3_meanPrice_1 20 rfl rfl)
theorem dX3_meanPrice_45 : decode cX3_meanPrice 45 = .ok (.istore_n 2, 1) := dk_61 (dk_at dksX3_meanPrice_1 21 rfl rfl)
theorem dX3_meanPrice_46 : decode cX3_meanPrice 46 = .ok (.iinc 3 1, 3) := dk_132 3 1 (dk_at dksX3_meanPrice_2 0 rfl rfl)
theorem dX3_meanPrice_49 : decode cX3_meanPrice 49 = .ok (.goto (-20), 3) := dk_167 255 236 (dk_at dksX3_meanPrice_2 3 rfl rfl)
theorem dX3_meanPrice_52 : decode cX3_meanPrice 52 = .ok (.iload_n 2, 1) := dk_28 (dk_at dksX3_meanPrice_2 6 rfl rfl)
theorem dX3_meanPrice_53 : decode cX3_meanPrice 53 = .ok (.i2d, 1) := dk_135 (dk_at dksX3_meanPrice_2 7 rfl rfl)
theorem dX3_meanPrice_54 : decode cX3_meanPrice 54 = .ok (.iload_n 1, 1) := dk_27 (dk_at dksX3_meanPrice_2 8 rfl rfl)
theorem dX3_meanPrice_55 : decode cX3_meanPrice 55 = .ok (.i2d, 1) := dk_135 (dk_at dksX3_meanPrice_2 9 rfl rfl)
theorem dX3_meanPrice_56 : decode cX3_meanPrice 56 = .ok (.ddiv, 1) := dk_111 (dk_at dksX3_meanPrice_2 10 rfl rfl)
theorem dX3_meanPrice_57 : decode cX3_meanPrice 57 = .ok (.dreturn, 1) := dk_175 (dk_at dksX3_meanPrice_2 11 rfl rfl)
abbrev cX3_likedShare : ByteArray := prog_23_method_83_code
def yX3_likedShare : MethodName := ⟨RX3, "likedShare", "()F"⟩
def dkwX3_likedShare_3 : List UInt8 := [132, 3, 1, 167, 255, 210, 28, 134, 27, 134, 110, 174]
abbrev dktX3_likedShare_3 : List UInt8 := dkwX3_likedShare_3 ++ []
def dkwX3_likedShare_2 : List UInt8 := [42, 180, 0, 9, 16, 84, 29, 96, 46, 42, 29, 182, 0, 111, 160, 0, 7, 4, 167, 0, 4, 3, 96, 61]
abbrev dktX3_likedShare_2 : List UInt8 := dkwX3_likedShare_2 ++ dktX3_likedShare_3
def dkwX3_likedShare_1 : List UInt8 := [174, 3, 61, 3, 62, 29, 27, 162, 0, 47, 28, 42, 180, 0, 9, 16, 84, 29, 96, 46, 2, 159, 0, 24]
abbrev dktX3_likedShare_1 : List UInt8 := dkwX3_likedShare_1 ++ dktX3_likedShare_2
def dkwX3_likedShare_0 : List UInt8 := [42, 180, 0, 9, 3, 46, 60, 42, 27, 158, 0, 7, 4, 167, 0, 4, 3, 182, 0, 55, 154, 0, 5, 11]
abbrev dktX3_likedShare_0 : List UInt8 := dkwX3_likedShare_0 ++ dktX3_likedShare_1
theorem dksX3_likedShare_0 : cX3_likedShare.data.toList.drop 0 = dktX3_likedShare_0 := by decide +kernel
theorem dksX3_likedShare_1 : cX3_likedShare.data.toList.drop 24 = dktX3_likedShare_1 := dk_seg dksX3_likedShare_0 24 rfl rfl
theorem dksX3_likedShare_2 : cX3_likedShare.data.toList.drop 48 = dktX3_likedShare_2 := dk_seg dksX3_likedShare_1 24 rfl rfl
theorem dksX3_likedShare_3 : cX3_likedShare.data.toList.drop 72 = dktX3_likedShare_3 := dk_seg dksX3_likedShare_2 24 rfl rfl
theorem dX3_likedShare_0 : decode cX3_likedShare 0 = .ok (.aload_n 0, 1) := dk_42 (dk_at dksX3_likedShare_0 0 rfl rfl)
theorem dX3_likedShare_1 : decode cX3_likedShare 1 = .ok (.getfield 9, 3) := dk_180 0 9 (dk_at dksX3_likedShare_0 1 rfl rfl)
theorem dX3_likedShare_4 : decode cX3_likedShare 4 = .ok (.iconst 0, 1) := dk_3 (dk_at dksX3_likedShare_0 4 rfl rfl)
theorem dX3_likedShare_5 : decode cX3_likedShare 5 = .ok (.iaload, 1) := dk_46 (dk_at dksX3_likedShare_0 5 rfl rfl)
theorem dX3_likedShare_6 : decode cX3_likedShare 6 = .ok (.istore_n 1, 1) := dk_60 (dk_at dksX3_likedShare_0 6 rfl rfl)
theorem dX3_likedShare_7 : decode cX3_likedShare 7 = .ok (.aload_n 0, 1) := dk_42 (dk_at dksX3_likedShare_0 7 rfl rfl)
theorem dX3_likedShare_8 : decode cX3_likedShare 8 = .ok (.iload_n 1, 1) := dk_27 (dk_at dksX3_likedShare_0 8 rfl rfl)
theorem dX3_likedShare_9 : decode cX3_likedShare 9 = .ok (.ifCond .le 7, 3) := dk_158 0 7 (dk_at dksX3_likedShare_0 9 rfl rfl)
theorem dX3_likedShare_12 : decode cX3_likedShare 12 = .ok (.iconst 1, 1) := dk_4 (dk_at dksX3_likedShare_0 12 rfl rfl)
theorem dX3_likedShare_13 : decode cX3_likedShare 13 = .ok (.goto 4, 3) := dk_167 0 4 (dk_at dksX3_likedShare_0 13 rfl rfl)
theorem dX3_likedShare_16 : decode cX3_likedShare 16 = .ok (.iconst 0, 1) := dk_3 (dk_at dksX3_likedShare_0 16 rfl rfl)
theorem dX3_likedShare_17 : decode cX3_likedShare 17 = .ok (.invokevirtual 55, 3) := dk_182 0 55 (dk_at dksX3_likedShare_0 17 rfl rfl)
theorem dX3_likedShare_20 : decode cX3_likedShare 20 = .ok (.ifCond .ne 5, 3) := dk_154 0 5 (dk_at dksX3_likedShare_0 20 rfl rfl)
theorem dX3_likedShare_23 : decode cX3_likedShare 23 = .ok (.fconst 0, 1) := dk_11 (dk_at dksX3_likedShare_0 23 rfl rfl)
theorem dX3_likedShare_24 : decode cX3_likedShare 24 = .ok (.freturn, 1) := dk_174 (dk_at dksX3_likedShare_1 0 rfl rfl)
theorem dX3_likedShare_25 : decode cX3_likedShare 25 = .ok (.iconst 0, 1) := dk_3 (dk_at dksX3_likedShare_1 1 rfl rfl)
theorem dX3_likedShare_26 : decode cX3_likedShare 26 = .ok (.istore_n 2, 1) := dk_61 (dk_at dksX3_likedShare_1 2 rfl rfl)
theorem dX3_likedShare_27 : decode cX3_likedShare 27 = .ok (.iconst 0, 1) := dk_3 (dk_at dksX3_likedShare_1 3 rfl rfl)
theorem dX3_likedShare_28 : decode cX3_likedShare 28 = .ok (.istore_n 3, 1) := dk_62 (dk_at dksX3_likedShare_1 4 rfl rfl)
theorem dX3_likedShare_29 : decode cX3_likedShare 29 = .ok (.iload_n 3, 1) := dk_29 (dk_at dksX3_likedShare_1 5 rfl rfl)
theorem dX3_likedShare_30 : decode cX3_likedShare 30 = .ok (.iload_n 1, 1) := dk_27 (dk_at dksX3_likedShare_1 6 rfl rfl)
theorem dX3_likedShare_31 : decode cX3_likedShare 31 = .ok (.if_icmp .ge 47, 3) := dk_162 0 47 (dk_at dksX3_likedShare_1 7 rfl rfl)
theorem dX3_likedShare_34 : decode cX3_likedShare 34 = .ok (.iload_n 2, 1) := dk_28 (dk_at dksX3_likedShare_1 10 rfl rfl)
theorem dX3_likedShare_35 : decode cX3_likedShare 35 = .ok (.aload_n 0, 1) := dk_42 (dk_at dksX3_likedShare_1 11 rfl rfl)
theorem dX3_likedShare_36 : decode cX3_likedShare 36 = .ok (.getfield 9, 3) := dk_180 0 9 (dk_at dksX3_likedShare_1 12 rfl rfl)
theorem dX3_likedShare_39 : decode cX3_likedShare 39 = .ok (.bipush 84, 2) := dk_16 84 (dk_at dksX3_likedShare_1 15 rfl rfl)
theorem dX3_likedShare_41 : decode cX3_likedShare 41 = .ok (.iload_n 3, 1) := dk_29 (dk_at dksX3_likedShare_1 17 rfl rfl)
theorem dX3_likedShare_42 : decode cX3_likedShare 42 = .ok (.iadd, 1) := dk_96 (dk_at dksX3_likedShare_1 18 rfl rfl)
theorem dX3_likedShare_43 : decode cX3_likedShare 43 = .ok (.iaload, 1) := dk_46 (dk_at dksX3_likedShare_1 19 rfl rfl)
theorem dX3_likedShare_44 : decode cX3_likedShare 44 = .ok (.iconst (-1), 1) := dk_2 (dk_at dksX3_likedShare_1 20 rfl rfl)
theorem dX3_likedShare_45 : decode cX3_likedShare 45 = .ok (.if_icmp .eq 24, 3) := dk_159 0 24 (dk_at dksX3_likedShare_1 21 rfl rfl)
theorem dX3_likedShare_48 : decode cX3_likedShare 48 = .ok (.aload_n 0, 1) := dk_42 (dk_at dksX3_likedShare_2 0 rfl rfl)
theorem dX3_likedShare_49 : decode cX3_likedShare 49 = .ok (.getfield 9, 3) := dk_180 0 9 (dk_at dksX3_likedShare_2 1 rfl rfl)
theorem dX3_likedShare_52 : decode cX3_likedShare 52 = .ok (.bipush 84, 2) := dk_16 84 (dk_at dksX3_likedShare_2 4 rfl rfl)
theorem dX3_likedShare_54 : decode cX3_likedShare 54 = .ok (.iload_n 3, 1) := dk_29 (dk_at dksX3_likedShare_2 6 rfl rfl)
theorem dX3_likedShare_55 : decode cX3_likedShare 55 = .ok (.iadd, 1) := dk_96 (dk_at dksX3_likedShare_2 7 rfl rfl)
theorem dX3_likedShare_56 : decode cX3_likedShare 56 = .ok (.iaload, 1) := dk_46 (dk_at dksX3_likedShare_2 8 rfl rfl)
theorem dX3_likedShare_57 : decode cX3_likedShare 57 = .ok (.aload_n 0, 1) := dk_42 (dk_at dksX3_likedShare_2 9 rfl rfl)
theorem dX3_likedShare_58 : decode cX3_likedShare 58 = .ok (.iload_n 3, 1) := dk_29 (dk_at dksX3_likedShare_2 10 rfl rfl)
theorem dX3_likedShare_59 : decode cX3_likedShare 59 = .ok (.invokevirtual 111, 3) := dk_182 0 111 (dk_at dksX3_likedShare_2 11 rfl rfl)
theorem dX3_likedShare_62 : decode cX3_likedShare 62 = .ok (.if_icmp .ne 7, 3) := dk_160 0 7 (dk_at dksX3_likedShare_2 14 rfl rfl)
theorem dX3_likedShare_65 : decode cX3_likedShare 65 = .ok (.iconst 1, 1) := dk_4 (dk_at dksX3_likedShare_2 17 rfl rfl)
theorem dX3_likedShare_66 : decode cX3_likedShare 66 = .ok (.goto 4, 3) := dk_167 0 4 (dk_at dksX3_likedShare_2 18 rfl rfl)
theorem dX3_likedShare_69 : decode cX3_likedShare 69 = .ok (.iconst 0, 1) := dk_3 (dk_at dksX3_likedShare_2 21 rfl rfl)
theorem dX3_likedShare_70 : decode cX3_likedShare 70 = .ok (.iadd, 1) := dk_96 (dk_at dksX3_likedShare_2 22 rfl rfl)
theorem dX3_likedShare_71 : decode cX3_likedShare 71 = .ok (.istore_n 2, 1) := dk_61 (dk_at dksX3_likedShare_2 23 rfl rfl)
theorem dX3_likedShare_72 : decode cX3_likedShare 72 = .ok (.iinc 3 1, 3) := dk_132 3 1 (dk_at dksX3_likedShare_3 0 rfl rfl)
theorem dX3_likedShare_75 : decode cX3_likedShare 75 = .ok (.goto (-46), 3) := dk_167 255 210 (dk_at dksX3_likedShare_3 3 rfl rfl)
theorem dX3_likedShare_78 : decode cX3_likedShare 78 = .ok (.iload_n 2, 1) := dk_28 (dk_at dksX3_likedShare_3 6 rfl rfl)
theorem dX3_likedShare_79 : decode cX3_likedShare 79 = .ok (.i2f, 1) := dk_134 (dk_at dksX3_likedShare_3 7 rfl rfl)
theorem dX3_likedShare_80 : decode cX3_likedShare 80 = .ok (.iload_n 1, 1) := dk_27 (dk_at dksX3_likedShare_3 8 rfl rfl)
theorem dX3_likedShare_81 : decode cX3_likedShare 81 = .ok (.i2f, 1) := dk_134 (dk_at dksX3_likedShare_3 9 rfl rfl)
theorem dX3_likedShare_82 : decode cX3_likedShare 82 = .ok (.fdiv, 1) := dk_110 (dk_at dksX3_likedShare_3 10 rfl rfl)
theorem dX3_likedShare_83 : decode cX3_likedShare 83 = .ok (.freturn, 1) := dk_174 (dk_at dksX3_likedShare_3 11 rfl rfl)
abbrev cX3_account : ByteArray := prog_23_method_86_code
def yX3_account : MethodName := ⟨RX3, "account", "(I)I"⟩
def dkwX3_account_5 : List UInt8 := [42, 180, 0, 40, 172]
abbrev dktX3_account_5 : List UInt8 := dkwX3_account_5 ++ []
def dkwX3_account_4 : List UInt8 := [46, 172, 42, 180, 0, 139, 172, 42, 180, 0, 163, 172, 42, 180, 0, 9, 8, 46, 172, 42, 180, 0, 206, 172]
abbrev dktX3_account_4 : List UInt8 := dkwX3_account_4 ++ dktX3_account_5
def dkwX3_account_3 : List UInt8 := [42, 182, 0, 255, 172, 42, 180, 0, 9, 6, 46, 172, 42, 180, 0, 9, 7, 46, 172, 42, 180, 0, 9, 5]
abbrev dktX3_account_3 : List UInt8 := dkwX3_account_3 ++ dktX3_account_4
def dkwX3_account_2 : List UInt8 := [42, 180, 0, 9, 3, 46, 172, 42, 180, 0, 9, 4, 46, 172, 42, 182, 0, 252, 172, 42, 182, 0, 154, 172]
abbrev dktX3_account_2 : List UInt8 := dkwX3_account_2 ++ dktX3_account_3
def dkwX3_account_1 : List UInt8 := [170, 0, 0, 0, 0, 0, 135, 0, 0, 0, 0, 0, 0, 0, 11, 0, 0, 0, 63, 0, 0, 0, 70, 0, 0, 0, 77, 0, 0, 0, 82, 0, 0, 0, 87, 0, 0, 0, 92, 0, 0, 0, 99, 0, 0, 0, 106, 0, 0, 0, 113, 0, 0, 0, 118, 0, 0, 0, 123, 0, 0, 0, 130]
abbrev dktX3_account_1 : List UInt8 := dkwX3_account_1 ++ dktX3_account_2
def dkwX3_account_0 : List UInt8 := [42, 27, 3, 16, 12, 184, 0, 66, 182, 0, 55, 154, 0, 5, 3, 172, 42, 182, 0, 136, 27]
abbrev dktX3_account_0 : List UInt8 := dkwX3_account_0 ++ dktX3_account_1
theorem dksX3_account_0 : cX3_account.data.toList.drop 0 = dktX3_account_0 := by decide +kernel
theorem dksX3_account_1 : cX3_account.data.toList.drop 21 = dktX3_account_1 := dk_seg dksX3_account_0 21 rfl rfl
theorem dksX3_account_2 : cX3_account.data.toList.drop 84 = dktX3_account_2 := dk_seg dksX3_account_1 63 rfl rfl
theorem dksX3_account_3 : cX3_account.data.toList.drop 108 = dktX3_account_3 := dk_seg dksX3_account_2 24 rfl rfl
theorem dksX3_account_4 : cX3_account.data.toList.drop 132 = dktX3_account_4 := dk_seg dksX3_account_3 24 rfl rfl
theorem dksX3_account_5 : cX3_account.data.toList.drop 156 = dktX3_account_5 := dk_seg dksX3_account_4 24 rfl rfl
theorem dX3_account_0 : decode cX3_account 0 = .ok (.aload_n 0, 1) := dk_42 (dk_at dksX3_account_0 0 rfl rfl)
theorem dX3_account_1 : decode cX3_account 1 = .ok (.iload_n 1, 1) := dk_27 (dk_at dksX3_account_0 1 rfl rfl)
theorem dX3_account_2 : decode cX3_account 2 = .ok (.iconst 0, 1) := dk_3 (dk_at dksX3_account_0 2 rfl rfl)
theorem dX3_account_3 : decode cX3_account 3 = .ok (.bipush 12, 2) := dk_16 12 (dk_at dksX3_account_0 3 rfl rfl)
theorem dX3_account_5 : decode cX3_account 5 = .ok (.invokestatic 66, 3) := dk_184 0 66 (dk_at dksX3_account_0 5 rfl rfl)
theorem dX3_account_8 : decode cX3_account 8 = .ok (.invokevirtual 55, 3) := dk_182 0 55 (dk_at dksX3_account_0 8 rfl rfl)
theorem dX3_account_11 : decode cX3_account 11 = .ok (.ifCond .ne 5, 3) := dk_154 0 5 (dk_at dksX3_account_0 11 rfl rfl)
theorem dX3_account_14 : decode cX3_account 14 = .ok (.iconst 0, 1) := dk_3 (dk_at dksX3_account_0 14 rfl rfl)
theorem dX3_account_15 : decode cX3_account 15 = .ok (.ireturn, 1) := dk_172 (dk_at dksX3_account_0 15 rfl rfl)
theorem dX3_account_16 : decode cX3_account 16 = .ok (.aload_n 0, 1) := dk_42 (dk_at dksX3_account_0 16 rfl rfl)
theorem dX3_account_17 : decode cX3_account 17 = .ok (.invokevirtual 136, 3) := dk_182 0 136 (dk_at dksX3_account_0 17 rfl rfl)
theorem dX3_account_20 : decode cX3_account 20 = .ok (.iload_n 1, 1) := dk_27 (dk_at dksX3_account_0 20 rfl rfl)
theorem dX3_account_21 : decode cX3_account 21 = .ok (.tableswitch 135 0 11 #[63, 70, 77, 82, 87, 92, 99, 106, 113, 118, 123, 130], 63) := by decide +kernel
theorem dX3_account_84 : decode cX3_account 84 = .ok (.aload_n 0, 1) := dk_42 (dk_at dksX3_account_2 0 rfl rfl)
theorem dX3_account_85 : decode cX3_account 85 = .ok (.getfield 9, 3) := dk_180 0 9 (dk_at dksX3_account_2 1 rfl rfl)
theorem dX3_account_88 : decode cX3_account 88 = .ok (.iconst 0, 1) := dk_3 (dk_at dksX3_account_2 4 rfl rfl)
theorem dX3_account_89 : decode cX3_account 89 = .ok (.iaload, 1) := dk_46 (dk_at dksX3_account_2 5 rfl rfl)
theorem dX3_account_90 : decode cX3_account 90 = .ok (.ireturn, 1) := dk_172 (dk_at dksX3_account_2 6 rfl rfl)
theorem dX3_account_91 : decode cX3_account 91 = .ok (.aload_n 0, 1) := dk_42 (dk_at dksX3_account_2 7 rfl rfl)
theorem dX3_account_92 : decode cX3_account 92 = .ok (.getfield 9, 3) := dk_180 0 9 (dk_at dksX3_account_2 8 rfl rfl)
theorem dX3_account_95 : decode cX3_account 95 = .ok (.iconst 1, 1) := dk_4 (dk_at dksX3_account_2 11 rfl rfl)
theorem dX3_account_96 : decode cX3_account 96 = .ok (.iaload, 1) := dk_46 (dk_at dksX3_account_2 12 rfl rfl)
theorem dX3_account_97 : decode cX3_account 97 = .ok (.ireturn, 1) := dk_172 (dk_at dksX3_account_2 13 rfl rfl)
theorem dX3_account_98 : decode cX3_account 98 = .ok (.aload_n 0, 1) := dk_42 (dk_at dksX3_account_2 14 rfl rfl)
theorem dX3_account_99 : decode cX3_account 99 = .ok (.invokevirtual 252, 3) := dk_182 0 252 (dk_at dksX3_account_2 15 rfl rfl)
theorem dX3_account_102 : decode cX3_account 102 = .ok (.ireturn, 1) := dk_172 (dk_at dksX3_account_2 18 rfl rfl)
theorem dX3_account_103 : decode cX3_account 103 = .ok (.aload_n 0, 1) := dk_42 (dk_at dksX3_account_2 19 rfl rfl)
theorem dX3_account_104 : decode cX3_account 104 = .ok (.invokevirtual 154, 3) := dk_182 0 154 (dk_at dksX3_account_2 20 rfl rfl)
theorem dX3_account_107 : decode cX3_account 107 = .ok (.ireturn, 1) := dk_172 (dk_at dksX3_account_2 23 rfl rfl)
theorem dX3_account_108 : decode cX3_account 108 = .ok (.aload_n 0, 1) := dk_42 (dk_at dksX3_account_3 0 rfl rfl)
theorem dX3_account_109 : decode cX3_account 109 = .ok (.invokevirtual 255, 3) := dk_182 0 255 (dk_at dksX3_account_3 1 rfl rfl)
theorem dX3_account_112 : decode cX3_account 112 = .ok (.ireturn, 1) := dk_172 (dk_at dksX3_account_3 4 rfl rfl)
theorem dX3_account_113 : decode cX3_account 113 = .ok (.aload_n 0, 1) := dk_42 (dk_at dksX3_account_3 5 rfl rfl)
theorem dX3_account_114 : decode cX3_account 114 = .ok (.getfield 9, 3) := dk_180 0 9 (dk_at dksX3_account_3 6 rfl rfl)
theorem dX3_account_117 : decode cX3_account 117 = .ok (.iconst 3, 1) := dk_6 (dk_at dksX3_account_3 9 rfl rfl)
theorem dX3_account_118 : decode cX3_account 118 = .ok (.iaload, 1) := dk_46 (dk_at dksX3_account_3 10 rfl rfl)
theorem dX3_account_119 : decode cX3_account 119 = .ok (.ireturn, 1) := dk_172 (dk_at dksX3_account_3 11 rfl rfl)
theorem dX3_account_120 : decode cX3_account 120 = .ok (.aload_n 0, 1) := dk_42 (dk_at dksX3_account_3 12 rfl rfl)
theorem dX3_account_121 : decode cX3_account 121 = .ok (.getfield 9, 3) := dk_180 0 9 (dk_at dksX3_account_3 13 rfl rfl)
theorem dX3_account_124 : decode cX3_account 124 = .ok (.iconst 4, 1) := dk_7 (dk_at dksX3_account_3 16 rfl rfl)
theorem dX3_account_125 : decode cX3_account 125 = .ok (.iaload, 1) := dk_46 (dk_at dksX3_account_3 17 rfl rfl)
theorem dX3_account_126 : decode cX3_account 126 = .ok (.ireturn, 1) := dk_172 (dk_at dksX3_account_3 18 rfl rfl)
theorem dX3_account_127 : decode cX3_account 127 = .ok (.aload_n 0, 1) := dk_42 (dk_at dksX3_account_3 19 rfl rfl)
theorem dX3_account_128 : decode cX3_account 128 = .ok (.getfield 9, 3) := dk_180 0 9 (dk_at dksX3_account_3 20 rfl rfl)
theorem dX3_account_131 : decode cX3_account 131 = .ok (.iconst 2, 1) := dk_5 (dk_at dksX3_account_3 23 rfl rfl)
theorem dX3_account_132 : decode cX3_account 132 = .ok (.iaload, 1) := dk_46 (dk_at dksX3_account_4 0 rfl rfl)
theorem dX3_account_133 : decode cX3_account 133 = .ok (.ireturn, 1) := dk_172 (dk_at dksX3_account_4 1 rfl rfl)
theorem dX3_account_134 : decode cX3_account 134 = .ok (.aload_n 0, 1) := dk_42 (dk_at dksX3_account_4 2 rfl rfl)
theorem dX3_account_135 : decode cX3_account 135 = .ok (.getfield 139, 3) := dk_180 0 139 (dk_at dksX3_account_4 3 rfl rfl)
theorem dX3_account_138 : decode cX3_account 138 = .ok (.ireturn, 1) := dk_172 (dk_at dksX3_account_4 6 rfl rfl)
theorem dX3_account_139 : decode cX3_account 139 = .ok (.aload_n 0, 1) := dk_42 (dk_at dksX3_account_4 7 rfl rfl)
theorem dX3_account_140 : decode cX3_account 140 = .ok (.getfield 163, 3) := dk_180 0 163 (dk_at dksX3_account_4 8 rfl rfl)
theorem dX3_account_143 : decode cX3_account 143 = .ok (.ireturn, 1) := dk_172 (dk_at dksX3_account_4 11 rfl rfl)
theorem dX3_account_144 : decode cX3_account 144 = .ok (.aload_n 0, 1) := dk_42 (dk_at dksX3_account_4 12 rfl rfl)
theorem dX3_account_145 : decode cX3_account 145 = .ok (.getfield 9, 3) := dk_180 0 9 (dk_at dksX3_account_4 13 rfl rfl)
theorem dX3_account_148 : decode cX3_account 148 = .ok (.iconst 5, 1) := dk_8 (dk_at dksX3_account_4 16 rfl rfl)
theorem dX3_account_149 : decode cX3_account 149 = .ok (.iaload, 1) := dk_46 (dk_at dksX3_account_4 17 rfl rfl)
theorem dX3_account_150 : decode cX3_account 150 = .ok (.ireturn, 1) := dk_172 (dk_at dksX3_account_4 18 rfl rfl)
theorem dX3_account_151 : decode cX3_account 151 = .ok (.aload_n 0, 1) := dk_42 (dk_at dksX3_account_4 19 rfl rfl)
theorem dX3_account_152 : decode cX3_account 152 = .ok (.getfield 206, 3) := dk_180 0 206 (dk_at dksX3_account_4 20 rfl rfl)
theorem dX3_account_155 : decode cX3_account 155 = .ok (.ireturn, 1) := dk_172 (dk_at dksX3_account_4 23 rfl rfl)
theorem dX3_account_156 : decode cX3_account 156 = .ok (.aload_n 0, 1) := dk_42 (dk_at dksX3_account_5 0 rfl rfl)
theorem dX3_account_157 : decode cX3_account 157 = .ok (.getfield 40, 3) := dk_180 0 40 (dk_at dksX3_account_5 1 rfl rfl)
theorem dX3_account_160 : decode cX3_account 160 = .ok (.ireturn, 1) := dk_172 (dk_at dksX3_account_5 4 rfl rfl)
abbrev cX3_pairs : ByteArray := prog_23_method_84_code
def yX3_pairs : MethodName := ⟨RX3, "pairs", "()I"⟩
def dkwX3_pairs_1 : List UInt8 := [2, 160, 0, 7, 3, 167, 0, 4, 4, 96, 60, 132, 2, 1, 167, 255, 222, 27, 172]
abbrev dktX3_pairs_1 : List UInt8 := dkwX3_pairs_1 ++ []
def dkwX3_pairs_0 : List UInt8 := [3, 60, 3, 61, 28, 42, 180, 0, 9, 3, 46, 162, 0, 30, 27, 42, 180, 0, 9, 16, 84, 28, 96, 46]
abbrev dktX3_pairs_0 : List UInt8 := dkwX3_pairs_0 ++ dktX3_pairs_1
theorem dksX3_pairs_0 : cX3_pairs.data.toList.drop 0 = dktX3_pairs_0 := by decide +kernel
theorem dksX3_pairs_1 : cX3_pairs.data.toList.drop 24 = dktX3_pairs_1 := dk_seg dksX3_pairs_0 24 rfl rfl
theorem dX3_pairs_0 : decode cX3_pairs 0 = .ok (.iconst 0, 1) := dk_3 (dk_at dksX3_pairs_0 0 rfl rfl)
theorem dX3_pairs_1 : decode cX3_pairs 1 = .ok (.istore_n 1, 1) := dk_60 (dk_at dksX3_pairs_0 1 rfl rfl)
theorem dX3_pairs_2 : decode cX3_pairs 2 = .ok (.iconst 0, 1) := dk_3 (dk_at dksX3_pairs_0 2 rfl rfl)
theorem dX3_pairs_3 : decode cX3_pairs 3 = .ok (.istore_n 2, 1) := dk_61 (dk_at dksX3_pairs_0 3 rfl rfl)
theorem dX3_pairs_4 : decode cX3_pairs 4 = .ok (.iload_n 2, 1) := dk_28 (dk_at dksX3_pairs_0 4 rfl rfl)
theorem dX3_pairs_5 : decode cX3_pairs 5 = .ok (.aload_n 0, 1) := dk_42 (dk_at dksX3_pairs_0 5 rfl rfl)
theorem dX3_pairs_6 : decode cX3_pairs 6 = .ok (.getfield 9, 3) := dk_180 0 9 (dk_at dksX3_pairs_0 6 rfl rfl)
theorem dX3_pairs_9 : decode cX3_pairs 9 = .ok (.iconst 0, 1) := dk_3 (dk_at dksX3_pairs_0 9 rfl rfl)
theorem dX3_pairs_10 : decode cX3_pairs 10 = .ok (.iaload, 1) := dk_46 (dk_at dksX3_pairs_0 10 rfl rfl)
theorem dX3_pairs_11 : decode cX3_pairs 11 = .ok (.if_icmp .ge 30, 3) := dk_162 0 30 (dk_at dksX3_pairs_0 11 rfl rfl)
theorem dX3_pairs_14 : decode cX3_pairs 14 = .ok (.iload_n 1, 1) := dk_27 (dk_at dksX3_pairs_0 14 rfl rfl)
theorem dX3_pairs_15 : decode cX3_pairs 15 = .ok (.aload_n 0, 1) := dk_42 (dk_at dksX3_pairs_0 15 rfl rfl)
theorem dX3_pairs_16 : decode cX3_pairs 16 = .ok (.getfield 9, 3) := dk_180 0 9 (dk_at dksX3_pairs_0 16 rfl rfl)
theorem dX3_pairs_19 : decode cX3_pairs 19 = .ok (.bipush 84, 2) := dk_16 84 (dk_at dksX3_pairs_0 19 rfl rfl)
theorem dX3_pairs_21 : decode cX3_pairs 21 = .ok (.iload_n 2, 1) := dk_28 (dk_at dksX3_pairs_0 21 rfl rfl)
theorem dX3_pairs_22 : decode cX3_pairs 22 = .ok (.iadd, 1) := dk_96 (dk_at dksX3_pairs_0 22 rfl rfl)
theorem dX3_pairs_23 : decode cX3_pairs 23 = .ok (.iaload, 1) := dk_46 (dk_at dksX3_pairs_0 23 rfl rfl)
theorem dX3_pairs_24 : decode cX3_pairs 24 = .ok (.iconst (-1), 1) := dk_2 (dk_at dksX3_pairs_1 0 rfl rfl)
theorem dX3_pairs_25 : decode cX3_pairs 25 = .ok (.if_icmp .ne 7, 3) := dk_160 0 7 (dk_at dksX3_pairs_1 1 rfl rfl)
theorem dX3_pairs_28 : decode cX3_pairs 28 = .ok (.iconst 0, 1) := dk_3 (dk_at dksX3_pairs_1 4 rfl rfl)
theorem dX3_pairs_29 : decode cX3_pairs 29 = .ok (.goto 4, 3) := dk_167 0 4 (dk_at dksX3_pairs_1 5 rfl rfl)
theorem dX3_pairs_32 : decode cX3_pairs 32 = .ok (.iconst 1, 1) := dk_4 (dk_at dksX3_pairs_1 8 rfl rfl)
theorem dX3_pairs_33 : decode cX3_pairs 33 = .ok (.iadd, 1) := dk_96 (dk_at dksX3_pairs_1 9 rfl rfl)
theorem dX3_pairs_34 : decode cX3_pairs 34 = .ok (.istore_n 1, 1) := dk_60 (dk_at dksX3_pairs_1 10 rfl rfl)
theorem dX3_pairs_35 : decode cX3_pairs 35 = .ok (.iinc 2 1, 3) := dk_132 2 1 (dk_at dksX3_pairs_1 11 rfl rfl)
theorem dX3_pairs_38 : decode cX3_pairs 38 = .ok (.goto (-34), 3) := dk_167 255 222 (dk_at dksX3_pairs_1 14 rfl rfl)
theorem dX3_pairs_41 : decode cX3_pairs 41 = .ok (.iload_n 1, 1) := dk_27 (dk_at dksX3_pairs_1 17 rfl rfl)
theorem dX3_pairs_42 : decode cX3_pairs 42 = .ok (.ireturn, 1) := dk_172 (dk_at dksX3_pairs_1 18 rfl rfl)
abbrev cX3_barred : ByteArray := prog_23_method_85_code
def yX3_barred : MethodName := ⟨RX3, "barred", "()I"⟩
def dkwX3_barred_1 : List UInt8 := [182, 0, 190, 100, 96, 60, 132, 2, 1, 167, 255, 228, 27, 172]
abbrev dktX3_barred_1 : List UInt8 := dkwX3_barred_1 ++ []
def dkwX3_barred_0 : List UInt8 := [3, 60, 3, 61, 28, 42, 180, 0, 9, 3, 46, 162, 0, 24, 27, 42, 180, 0, 9, 4, 46, 42, 28]
abbrev dktX3_barred_0 : List UInt8 := dkwX3_barred_0 ++ dktX3_barred_1
theorem dksX3_barred_0 : cX3_barred.data.toList.drop 0 = dktX3_barred_0 := by decide +kernel
theorem dksX3_barred_1 : cX3_barred.data.toList.drop 23 = dktX3_barred_1 := dk_seg dksX3_barred_0 23 rfl rfl
theorem dX3_barred_0 : decode cX3_barred 0 = .ok (.iconst 0, 1) := dk_3 (dk_at dksX3_barred_0 0 rfl rfl)
theorem dX3_barred_1 : decode cX3_barred 1 = .ok (.istore_n 1, 1) := dk_60 (dk_at dksX3_barred_0 1 rfl rfl)
theorem dX3_barred_2 : decode cX3_barred 2 = .ok (.iconst 0, 1) := dk_3 (dk_at dksX3_barred_0 2 rfl rfl)
theorem dX3_barred_3 : decode cX3_barred 3 = .ok (.istore_n 2, 1) := dk_61 (dk_at dksX3_barred_0 3 rfl rfl)
theorem dX3_barred_4 : decode cX3_barred 4 = .ok (.iload_n 2, 1) := dk_28 (dk_at dksX3_barred_0 4 rfl rfl)
theorem dX3_barred_5 : decode cX3_barred 5 = .ok (.aload_n 0, 1) := dk_42 (dk_at dksX3_barred_0 5 rfl rfl)
theorem dX3_barred_6 : decode cX3_barred 6 = .ok (.getfield 9, 3) := dk_180 0 9 (dk_at dksX3_barred_0 6 rfl rfl)
theorem dX3_barred_9 : decode cX3_barred 9 = .ok (.iconst 0, 1) := dk_3 (dk_at dksX3_barred_0 9 rfl rfl)
theorem dX3_barred_10 : decode cX3_barred 10 = .ok (.iaload, 1) := dk_46 (dk_at dksX3_barred_0 10 rfl rfl)
theorem dX3_barred_11 : decode cX3_barred 11 = .ok (.if_icmp .ge 24, 3) := dk_162 0 24 (dk_at dksX3_barred_0 11 rfl rfl)
theorem dX3_barred_14 : decode cX3_barred 14 = .ok (.iload_n 1, 1) := dk_27 (dk_at dksX3_barred_0 14 rfl rfl)
theorem dX3_barred_15 : decode cX3_barred 15 = .ok (.aload_n 0, 1) := dk_42 (dk_at dksX3_barred_0 15 rfl rfl)
theorem dX3_barred_16 : decode cX3_barred 16 = .ok (.getfield 9, 3) := dk_180 0 9 (dk_at dksX3_barred_0 16 rfl rfl)
theorem dX3_barred_19 : decode cX3_barred 19 = .ok (.iconst 1, 1) := dk_4 (dk_at dksX3_barred_0 19 rfl rfl)
theorem dX3_barred_20 : decode cX3_barred 20 = .ok (.iaload, 1) := dk_46 (dk_at dksX3_barred_0 20 rfl rfl)
theorem dX3_barred_21 : decode cX3_barred 21 = .ok (.aload_n 0, 1) := dk_42 (dk_at dksX3_barred_0 21 rfl rfl)
theorem dX3_barred_22 : decode cX3_barred 22 = .ok (.iload_n 2, 1) := dk_28 (dk_at dksX3_barred_0 22 rfl rfl)
theorem dX3_barred_23 : decode cX3_barred 23 = .ok (.invokevirtual 190, 3) := dk_182 0 190 (dk_at dksX3_barred_1 0 rfl rfl)
theorem dX3_barred_26 : decode cX3_barred 26 = .ok (.isub, 1) := dk_100 (dk_at dksX3_barred_1 3 rfl rfl)
theorem dX3_barred_27 : decode cX3_barred 27 = .ok (.iadd, 1) := dk_96 (dk_at dksX3_barred_1 4 rfl rfl)
theorem dX3_barred_28 : decode cX3_barred 28 = .ok (.istore_n 1, 1) := dk_60 (dk_at dksX3_barred_1 5 rfl rfl)
theorem dX3_barred_29 : decode cX3_barred 29 = .ok (.iinc 2 1, 3) := dk_132 2 1 (dk_at dksX3_barred_1 6 rfl rfl)
theorem dX3_barred_32 : decode cX3_barred 32 = .ok (.goto (-28), 3) := dk_167 255 228 (dk_at dksX3_barred_1 9 rfl rfl)
theorem dX3_barred_35 : decode cX3_barred 35 = .ok (.iload_n 1, 1) := dk_27 (dk_at dksX3_barred_1 12 rfl rfl)
theorem dX3_barred_36 : decode cX3_barred 36 = .ok (.ireturn, 1) := dk_172 (dk_at dksX3_barred_1 13 rfl rfl)
abbrev cX3_isBalanced : ByteArray := prog_23_method_87_code
def yX3_isBalanced : MethodName := ⟨RX3, "isBalanced", "()Z"⟩
def dkwX3_isBalanced_0 : List UInt8 := [42, 3, 181, 0, 33, 4, 172]
abbrev dktX3_isBalanced_0 : List UInt8 := dkwX3_isBalanced_0 ++ []
theorem dksX3_isBalanced_0 : cX3_isBalanced.data.toList.drop 0 = dktX3_isBalanced_0 := by decide +kernel
theorem dX3_isBalanced_0 : decode cX3_isBalanced 0 = .ok (.aload_n 0, 1) := dk_42 (dk_at dksX3_isBalanced_0 0 rfl rfl)
theorem dX3_isBalanced_1 : decode cX3_isBalanced 1 = .ok (.iconst 0, 1) := dk_3 (dk_at dksX3_isBalanced_0 1 rfl rfl)
theorem dX3_isBalanced_2 : decode cX3_isBalanced 2 = .ok (.putfield 33, 3) := dk_181 0 33 (dk_at dksX3_isBalanced_0 2 rfl rfl)
theorem dX3_isBalanced_5 : decode cX3_isBalanced 5 = .ok (.iconst 1, 1) := dk_4 (dk_at dksX3_isBalanced_0 5 rfl rfl)
theorem dX3_isBalanced_6 : decode cX3_isBalanced 6 = .ok (.ireturn, 1) := dk_172 (dk_at dksX3_isBalanced_0 6 rfl rfl)
abbrev cX3_undo : ByteArray := prog_23_method_88_code
def yX3_undo : MethodName := ⟨RX3, "undo", "()I"⟩
def dkwX3_undo_1 : List UInt8 := [180, 0, 40, 3, 182, 0, 36, 42, 89, 180, 0, 40, 4, 100, 181, 0, 40, 42, 180, 0, 40, 172]
abbrev dktX3_undo_1 : List UInt8 := dkwX3_undo_1 ++ []
def dkwX3_undo_0 : List UInt8 := [42, 42, 180, 0, 40, 158, 0, 7, 4, 167, 0, 4, 3, 182, 0, 55, 154, 0, 5, 3, 172, 42, 42]
abbrev dktX3_undo_0 : List UInt8 := dkwX3_undo_0 ++ dktX3_undo_1
theorem dksX3_undo_0 : cX3_undo.data.toList.drop 0 = dktX3_undo_0 := by decide +kernel
theorem dksX3_undo_1 : cX3_undo.data.toList.drop 23 = dktX3_undo_1 := dk_seg dksX3_undo_0 23 rfl rfl
theorem dX3_undo_0 : decode cX3_undo 0 = .ok (.aload_n 0, 1) := dk_42 (dk_at dksX3_undo_0 0 rfl rfl)
theorem dX3_undo_1 : decode cX3_undo 1 = .ok (.aload_n 0, 1) := dk_42 (dk_at dksX3_undo_0 1 rfl rfl)
theorem dX3_undo_2 : decode cX3_undo 2 = .ok (.getfield 40, 3) := dk_180 0 40 (dk_at dksX3_undo_0 2 rfl rfl)
theorem dX3_undo_5 : decode cX3_undo 5 = .ok (.ifCond .le 7, 3) := dk_158 0 7 (dk_at dksX3_undo_0 5 rfl rfl)
theorem dX3_undo_8 : decode cX3_undo 8 = .ok (.iconst 1, 1) := dk_4 (dk_at dksX3_undo_0 8 rfl rfl)
theorem dX3_undo_9 : decode cX3_undo 9 = .ok (.goto 4, 3) := dk_167 0 4 (dk_at dksX3_undo_0 9 rfl rfl)
theorem dX3_undo_12 : decode cX3_undo 12 = .ok (.iconst 0, 1) := dk_3 (dk_at dksX3_undo_0 12 rfl rfl)
theorem dX3_undo_13 : decode cX3_undo 13 = .ok (.invokevirtual 55, 3) := dk_182 0 55 (dk_at dksX3_undo_0 13 rfl rfl)
theorem dX3_undo_16 : decode cX3_undo 16 = .ok (.ifCond .ne 5, 3) := dk_154 0 5 (dk_at dksX3_undo_0 16 rfl rfl)
theorem dX3_undo_19 : decode cX3_undo 19 = .ok (.iconst 0, 1) := dk_3 (dk_at dksX3_undo_0 19 rfl rfl)
theorem dX3_undo_20 : decode cX3_undo 20 = .ok (.ireturn, 1) := dk_172 (dk_at dksX3_undo_0 20 rfl rfl)
theorem dX3_undo_21 : decode cX3_undo 21 = .ok (.aload_n 0, 1) := dk_42 (dk_at dksX3_undo_0 21 rfl rfl)
theorem dX3_undo_22 : decode cX3_undo 22 = .ok (.aload_n 0, 1) := dk_42 (dk_at dksX3_undo_0 22 rfl rfl)
theorem dX3_undo_23 : decode cX3_undo 23 = .ok (.getfield 40, 3) := dk_180 0 40 (dk_at dksX3_undo_1 0 rfl rfl)
theorem dX3_undo_26 : decode cX3_undo 26 = .ok (.iconst 0, 1) := dk_3 (dk_at dksX3_undo_1 3 rfl rfl)
theorem dX3_undo_27 : decode cX3_undo 27 = .ok (.invokevirtual 36, 3) := dk_182 0 36 (dk_at dksX3_undo_1 4 rfl rfl)
theorem dX3_undo_30 : decode cX3_undo 30 = .ok (.aload_n 0, 1) := dk_42 (dk_at dksX3_undo_1 7 rfl rfl)
theorem dX3_undo_31 : decode cX3_undo 31 = .ok (.dup, 1) := dk_89 (dk_at dksX3_undo_1 8 rfl rfl)
theorem dX3_undo_32 : decode cX3_undo 32 = .ok (.getfield 40, 3) := dk_180 0 40 (dk_at dksX3_undo_1 9 rfl rfl)
theorem dX3_undo_35 : decode cX3_undo 35 = .ok (.iconst 1, 1) := dk_4 (dk_at dksX3_undo_1 12 rfl rfl)
theorem dX3_undo_36 : decode cX3_undo 36 = .ok (.isub, 1) := dk_100 (dk_at dksX3_undo_1 13 rfl rfl)
theorem dX3_undo_37 : decode cX3_undo 37 = .ok (.putfield 40, 3) := dk_181 0 40 (dk_at dksX3_undo_1 14 rfl rfl)
theorem dX3_undo_40 : decode cX3_undo 40 = .ok (.aload_n 0, 1) := dk_42 (dk_at dksX3_undo_1 17 rfl rfl)
theorem dX3_undo_41 : decode cX3_undo 41 = .ok (.getfield 40, 3) := dk_180 0 40 (dk_at dksX3_undo_1 18 rfl rfl)
theorem dX3_undo_44 : decode cX3_undo 44 = .ok (.ireturn, 1) := dk_172 (dk_at dksX3_undo_1 21 rfl rfl)
abbrev cX3_save : ByteArray := prog_23_method_89_code
def yX3_save : MethodName := ⟨RX3, "save", "()I"⟩
def dkwX3_save_0 : List UInt8 := [42, 3, 181, 0, 33, 42, 4, 181, 1, 2, 42, 3, 16, 9, 182, 0, 36, 42, 182, 0, 252, 172]
abbrev dktX3_save_0 : List UInt8 := dkwX3_save_0 ++ []
theorem dksX3_save_0 : cX3_save.data.toList.drop 0 = dktX3_save_0 := by decide +kernel
theorem dX3_save_0 : decode cX3_save 0 = .ok (.aload_n 0, 1) := dk_42 (dk_at dksX3_save_0 0 rfl rfl)
theorem dX3_save_1 : decode cX3_save 1 = .ok (.iconst 0, 1) := dk_3 (dk_at dksX3_save_0 1 rfl rfl)
theorem dX3_save_2 : decode cX3_save 2 = .ok (.putfield 33, 3) := dk_181 0 33 (dk_at dksX3_save_0 2 rfl rfl)
theorem dX3_save_5 : decode cX3_save 5 = .ok (.aload_n 0, 1) := dk_42 (dk_at dksX3_save_0 5 rfl rfl)
theorem dX3_save_6 : decode cX3_save 6 = .ok (.iconst 1, 1) := dk_4 (dk_at dksX3_save_0 6 rfl rfl)
theorem dX3_save_7 : decode cX3_save 7 = .ok (.putfield 258, 3) := dk_181 1 2 (dk_at dksX3_save_0 7 rfl rfl)
theorem dX3_save_10 : decode cX3_save 10 = .ok (.aload_n 0, 1) := dk_42 (dk_at dksX3_save_0 10 rfl rfl)
theorem dX3_save_11 : decode cX3_save 11 = .ok (.iconst 0, 1) := dk_3 (dk_at dksX3_save_0 11 rfl rfl)
theorem dX3_save_12 : decode cX3_save 12 = .ok (.bipush 9, 2) := dk_16 9 (dk_at dksX3_save_0 12 rfl rfl)
theorem dX3_save_14 : decode cX3_save 14 = .ok (.invokevirtual 36, 3) := dk_182 0 36 (dk_at dksX3_save_0 14 rfl rfl)
theorem dX3_save_17 : decode cX3_save 17 = .ok (.aload_n 0, 1) := dk_42 (dk_at dksX3_save_0 17 rfl rfl)
theorem dX3_save_18 : decode cX3_save 18 = .ok (.invokevirtual 252, 3) := dk_182 0 252 (dk_at dksX3_save_0 18 rfl rfl)
theorem dX3_save_21 : decode cX3_save 21 = .ok (.ireturn, 1) := dk_172 (dk_at dksX3_save_0 21 rfl rfl)
abbrev cX3_restore : ByteArray := prog_23_method_90_code
def yX3_restore : MethodName := ⟨RX3, "restore", "()I"⟩
def dkwX3_restore_1 : List UInt8 := [181, 0, 40, 42, 182, 0, 252, 172]
abbrev dktX3_restore_1 : List UInt8 := dkwX3_restore_1 ++ []
def dkwX3_restore_0 : List UInt8 := [42, 42, 180, 1, 2, 182, 0, 55, 154, 0, 5, 3, 172, 42, 16, 9, 3, 182, 0, 36, 42, 3]
abbrev dktX3_restore_0 : List UInt8 := dkwX3_restore_0 ++ dktX3_restore_1
theorem dksX3_restore_0 : cX3_restore.data.toList.drop 0 = dktX3_restore_0 := by decide +kernel
theorem dksX3_restore_1 : cX3_restore.data.toList.drop 22 = dktX3_restore_1 := dk_seg dksX3_restore_0 22 rfl rfl
theorem dX3_restore_0 : decode cX3_restore 0 = .ok (.aload_n 0, 1) := dk_42 (dk_at dksX3_restore_0 0 rfl rfl)
theorem dX3_restore_1 : decode cX3_restore 1 = .ok (.aload_n 0, 1) := dk_42 (dk_at dksX3_restore_0 1 rfl rfl)
theorem dX3_restore_2 : decode cX3_restore 2 = .ok (.getfield 258, 3) := dk_180 1 2 (dk_at dksX3_restore_0 2 rfl rfl)
theorem dX3_restore_5 : decode cX3_restore 5 = .ok (.invokevirtual 55, 3) := dk_182 0 55 (dk_at dksX3_restore_0 5 rfl rfl)
theorem dX3_restore_8 : decode cX3_restore 8 = .ok (.ifCond .ne 5, 3) := dk_154 0 5 (dk_at dksX3_restore_0 8 rfl rfl)
theorem dX3_restore_11 : decode cX3_restore 11 = .ok (.iconst 0, 1) := dk_3 (dk_at dksX3_restore_0 11 rfl rfl)
theorem dX3_restore_12 : decode cX3_restore 12 = .ok (.ireturn, 1) := dk_172 (dk_at dksX3_restore_0 12 rfl rfl)
theorem dX3_restore_13 : decode cX3_restore 13 = .ok (.aload_n 0, 1) := dk_42 (dk_at dksX3_restore_0 13 rfl rfl)
theorem dX3_restore_14 : decode cX3_restore 14 = .ok (.bipush 9, 2) := dk_16 9 (dk_at dksX3_restore_0 14 rfl rfl)
theorem dX3_restore_16 : decode cX3_restore 16 = .ok (.iconst 0, 1) := dk_3 (dk_at dksX3_restore_0 16 rfl rfl)
theorem dX3_restore_17 : decode cX3_restore 17 = .ok (.invokevirtual 36, 3) := dk_182 0 36 (dk_at dksX3_restore_0 17 rfl rfl)
theorem dX3_restore_20 : decode cX3_restore 20 = .ok (.aload_n 0, 1) := dk_42 (dk_at dksX3_restore_0 20 rfl rfl)
theorem dX3_restore_21 : decode cX3_restore 21 = .ok (.iconst 0, 1) := dk_3 (dk_at dksX3_restore_0 21 rfl rfl)
theorem dX3_restore_22 : decode cX3_restore 22 = .ok (.putfield 40, 3) := dk_181 0 40 (dk_at dksX3_restore_1 0 rfl rfl)
theorem dX3_restore_25 : decode cX3_restore 25 = .ok (.aload_n 0, 1) := dk_42 (dk_at dksX3_restore_1 3 rfl rfl)
theorem dX3_restore_26 : decode cX3_restore 26 = .ok (.invokevirtual 252, 3) := dk_182 0 252 (dk_at dksX3_restore_1 4 rfl rfl)
theorem dX3_restore_29 : decode cX3_restore 29 = .ok (.ireturn, 1) := dk_172 (dk_at dksX3_restore_1 7 rfl rfl)
theorem q101 : (Jvm.Cond.initialized "MasterPricesModel") ∈ lw_all := lw_g (lw_at lw_m1 9 rfl) rfl
theorem q627 : (Jvm.Cond.selects "MasterPricesModel" ({ cls := "java/lang/Object", name := "getClass", desc := "()Ljava/lang/Class;" } : Jvm.MethodName) ({ cls := "java/lang/Object", name := "getClass", desc := "()Ljava/lang/Class;" } : Jvm.MethodName)) ∈ lw_all := lw_g (lw_at lw_m3 55 rfl) rfl
theorem q1860 : (Jvm.Cond.instantiable "MasterPricesModel" (23 : Nat)) ∈ lw_all := lw_g (lw_at lw_m8 88 rfl) rfl
theorem q1862 : (Jvm.Cond.instanceMethod ({ cls := "MasterPricesModel", name := "<init>", desc := "()V" } : Jvm.MethodName)) ∈ lw_all := lw_g (lw_at lw_m8 90 rfl) rfl
theorem q1863 : (Jvm.Cond.code ({ cls := "MasterPricesModel", name := "<init>", desc := "()V" } : Jvm.MethodName) prog_23_method_1_code (2 : Nat) (Option.none : Option Jvm.ClassFile.FieldType)) ∈ lw_all := lw_g (lw_at lw_m8 91 rfl) rfl
theorem q1864 : (Jvm.Cond.methodLink "MasterPricesModel" (1 : Nat) ({ cls := "java/lang/Object", name := "<init>", desc := "()V" } : Jvm.MethodName)) ∈ lw_all := lw_g (lw_at lw_m8 92 rfl) rfl
theorem q1865 : (Jvm.Cond.fieldLink "MasterPricesModel" (33 : Nat) "MasterPricesModel" "thrown" "I") ∈ lw_all := lw_g (lw_at lw_m8 93 rfl) rfl
theorem q1866 : (Jvm.Cond.fieldLink "MasterPricesModel" (9 : Nat) "MasterPricesModel" "all" "[I") ∈ lw_all := lw_g (lw_at lw_m8 94 rfl) rfl
theorem q1867 : (Jvm.Cond.fieldLink "MasterPricesModel" (40 : Nat) "MasterPricesModel" "changes" "I") ∈ lw_all := lw_g (lw_at lw_m8 95 rfl) rfl
theorem q1868 : (Jvm.Cond.fieldLink "MasterPricesModel" (258 : Nat) "MasterPricesModel" "isSaved" "Z") ∈ lw_all := lw_g (lw_at lw_m8 96 rfl) rfl
theorem q1869 : (Jvm.Cond.fieldLink "MasterPricesModel" (43 : Nat) "MasterPricesModel" "result" "I") ∈ lw_all := lw_g (lw_at lw_m8 97 rfl) rfl
theorem q1870 : (Jvm.Cond.fieldLink "MasterPricesModel" (46 : Nat) "MasterPricesModel" "why" "I") ∈ lw_all := lw_g (lw_at lw_m8 98 rfl) rfl
theorem q1871 : (Jvm.Cond.fieldLink "MasterPricesModel" (49 : Nat) "MasterPricesModel" "detail" "I") ∈ lw_all := lw_g (lw_at lw_m8 99 rfl) rfl
theorem q1872 : (Jvm.Cond.fieldLink "MasterPricesModel" (52 : Nat) "MasterPricesModel" "lies" "I") ∈ lw_all := lw_g (lw_at lw_m8 100 rfl) rfl
theorem q1873 : (Jvm.Cond.fieldLink "MasterPricesModel" (59 : Nat) "MasterPricesModel" "liesDetail" "I") ∈ lw_all := lw_g (lw_at lw_m8 101 rfl) rfl
theorem q1874 : (Jvm.Cond.fieldLink "MasterPricesModel" (13 : Nat) "MasterPricesModel" "row" "[I") ∈ lw_all := lw_g (lw_at lw_m8 102 rfl) rfl
theorem q1875 : (Jvm.Cond.fieldLink "MasterPricesModel" (16 : Nat) "MasterPricesModel" "firstRow" "[I") ∈ lw_all := lw_g (lw_at lw_m8 103 rfl) rfl
theorem q1876 : (Jvm.Cond.fieldLink "MasterPricesModel" (139 : Nat) "MasterPricesModel" "pairingMany" "I") ∈ lw_all := lw_g (lw_at lw_m8 104 rfl) rfl
theorem q1877 : (Jvm.Cond.fieldLink "MasterPricesModel" (163 : Nat) "MasterPricesModel" "leastMany" "I") ∈ lw_all := lw_g (lw_at lw_m8 105 rfl) rfl
theorem q1878 : (Jvm.Cond.fieldLink "MasterPricesModel" (160 : Nat) "MasterPricesModel" "leastCost" "I") ∈ lw_all := lw_g (lw_at lw_m8 106 rfl) rfl
theorem q1879 : (Jvm.Cond.fieldLink "MasterPricesModel" (19 : Nat) "MasterPricesModel" "tape" "[C") ∈ lw_all := lw_g (lw_at lw_m8 107 rfl) rfl
theorem q1880 : (Jvm.Cond.fieldLink "MasterPricesModel" (206 : Nat) "MasterPricesModel" "fed" "I") ∈ lw_all := lw_g (lw_at lw_m8 108 rfl) rfl
theorem q1881 : (Jvm.Cond.fieldLink "MasterPricesModel" (209 : Nat) "MasterPricesModel" "here" "I") ∈ lw_all := lw_g (lw_at lw_m8 109 rfl) rfl
theorem q1882 : (Jvm.Cond.fieldLink "MasterPricesModel" (212 : Nat) "MasterPricesModel" "fault" "I") ∈ lw_all := lw_g (lw_at lw_m8 110 rfl) rfl
theorem q1883 : (Jvm.Cond.fieldLink "MasterPricesModel" (23 : Nat) "MasterPricesModel" "faultAt" "I") ∈ lw_all := lw_g (lw_at lw_m8 111 rfl) rfl
theorem q1884 : (Jvm.Cond.fieldLink "MasterPricesModel" (27 : Nat) "MasterPricesModel" "orders" "[I") ∈ lw_all := lw_g (lw_at lw_m8 112 rfl) rfl
theorem q1885 : (Jvm.Cond.fieldLink "MasterPricesModel" (225 : Nat) "MasterPricesModel" "orderMany" "I") ∈ lw_all := lw_g (lw_at lw_m8 113 rfl) rfl
theorem q1886 : (Jvm.Cond.fieldLink "MasterPricesModel" (30 : Nat) "MasterPricesModel" "laid" "[C") ∈ lw_all := lw_g (lw_at lw_m8 114 rfl) rfl
theorem q1887 : (Jvm.Cond.fieldLink "MasterPricesModel" (243 : Nat) "MasterPricesModel" "lineSize" "I") ∈ lw_all := lw_g (lw_at lw_m8 115 rfl) rfl
theorem q1888 : (Jvm.Cond.lays "MasterPricesModel" "MasterPricesModel" "thrown" "I") ∈ lw_all := lw_g (lw_at lw_m8 116 rfl) rfl
theorem q1889 : (Jvm.Cond.soleField "MasterPricesModel" "thrown") ∈ lw_all := lw_g (lw_at lw_m8 117 rfl) rfl
theorem q1890 : (Jvm.Cond.laysFinal "MasterPricesModel" "MasterPricesModel" "all" "[I") ∈ lw_all := lw_g (lw_at lw_m8 118 rfl) rfl
theorem q1891 : (Jvm.Cond.soleField "MasterPricesModel" "all") ∈ lw_all := lw_g (lw_at lw_m8 119 rfl) rfl
theorem q1892 : (Jvm.Cond.lays "MasterPricesModel" "MasterPricesModel" "changes" "I") ∈ lw_all := lw_g (lw_at lw_m8 120 rfl) rfl
theorem q1893 : (Jvm.Cond.soleField "MasterPricesModel" "changes") ∈ lw_all := lw_g (lw_at lw_m8 121 rfl) rfl
theorem q1894 : (Jvm.Cond.lays "MasterPricesModel" "MasterPricesModel" "isSaved" "Z") ∈ lw_all := lw_g (lw_at lw_m8 122 rfl) rfl
theorem q1895 : (Jvm.Cond.soleField "MasterPricesModel" "isSaved") ∈ lw_all := lw_g (lw_at lw_m8 123 rfl) rfl
theorem q1896 : (Jvm.Cond.lays "MasterPricesModel" "MasterPricesModel" "result" "I") ∈ lw_all := lw_g (lw_at lw_m8 124 rfl) rfl
theorem q1897 : (Jvm.Cond.soleField "MasterPricesModel" "result") ∈ lw_all := lw_g (lw_at lw_m8 125 rfl) rfl
theorem q1898 : (Jvm.Cond.lays "MasterPricesModel" "MasterPricesModel" "why" "I") ∈ lw_all := lw_g (lw_at lw_m8 126 rfl) rfl
theorem q1899 : (Jvm.Cond.soleField "MasterPricesModel" "why") ∈ lw_all := lw_g (lw_at lw_m8 127 rfl) rfl
theorem q1900 : (Jvm.Cond.lays "MasterPricesModel" "MasterPricesModel" "detail" "I") ∈ lw_all := lw_g (lw_at lw_m8 128 rfl) rfl
theorem q1901 : (Jvm.Cond.soleField "MasterPricesModel" "detail") ∈ lw_all := lw_g (lw_at lw_m8 129 rfl) rfl
theorem q1902 : (Jvm.Cond.lays "MasterPricesModel" "MasterPricesModel" "lies" "I") ∈ lw_all := lw_g (lw_at lw_m8 130 rfl) rfl
theorem q1903 : (Jvm.Cond.soleField "MasterPricesModel" "lies") ∈ lw_all := lw_g (lw_at lw_m8 131 rfl) rfl
theorem q1904 : (Jvm.Cond.lays "MasterPricesModel" "MasterPricesModel" "liesDetail" "I") ∈ lw_all := lw_g (lw_at lw_m8 132 rfl) rfl
theorem q1905 : (Jvm.Cond.soleField "MasterPricesModel" "liesDetail") ∈ lw_all := lw_g (lw_at lw_m8 133 rfl) rfl
theorem q1906 : (Jvm.Cond.laysFinal "MasterPricesModel" "MasterPricesModel" "row" "[I") ∈ lw_all := lw_g (lw_at lw_m8 134 rfl) rfl
theorem q1907 : (Jvm.Cond.soleField "MasterPricesModel" "row") ∈ lw_all := lw_g (lw_at lw_m8 135 rfl) rfl
theorem q1908 : (Jvm.Cond.laysFinal "MasterPricesModel" "MasterPricesModel" "firstRow" "[I") ∈ lw_all := lw_g (lw_at lw_m8 136 rfl) rfl
theorem q1909 : (Jvm.Cond.soleField "MasterPricesModel" "firstRow") ∈ lw_all := lw_g (lw_at lw_m8 137 rfl) rfl
theorem q1910 : (Jvm.Cond.lays "MasterPricesModel" "MasterPricesModel" "pairingMany" "I") ∈ lw_all := lw_g (lw_at lw_m8 138 rfl) rfl
theorem q1911 : (Jvm.Cond.soleField "MasterPricesModel" "pairingMany") ∈ lw_all := lw_g (lw_at lw_m8 139 rfl) rfl
theorem q1912 : (Jvm.Cond.lays "MasterPricesModel" "MasterPricesModel" "leastMany" "I") ∈ lw_all := lw_g (lw_at lw_m8 140 rfl) rfl
theorem q1913 : (Jvm.Cond.soleField "MasterPricesModel" "leastMany") ∈ lw_all := lw_g (lw_at lw_m8 141 rfl) rfl
theorem q1914 : (Jvm.Cond.lays "MasterPricesModel" "MasterPricesModel" "leastCost" "I") ∈ lw_all := lw_g (lw_at lw_m8 142 rfl) rfl
theorem q1915 : (Jvm.Cond.soleField "MasterPricesModel" "leastCost") ∈ lw_all := lw_g (lw_at lw_m8 143 rfl) rfl
theorem q1916 : (Jvm.Cond.laysFinal "MasterPricesModel" "MasterPricesModel" "tape" "[C") ∈ lw_all := lw_g (lw_at lw_m8 144 rfl) rfl
theorem q1917 : (Jvm.Cond.soleField "MasterPricesModel" "tape") ∈ lw_all := lw_g (lw_at lw_m8 145 rfl) rfl
theorem q1918 : (Jvm.Cond.lays "MasterPricesModel" "MasterPricesModel" "fed" "I") ∈ lw_all := lw_g (lw_at lw_m8 146 rfl) rfl
theorem q1919 : (Jvm.Cond.soleField "MasterPricesModel" "fed") ∈ lw_all := lw_g (lw_at lw_m8 147 rfl) rfl
theorem q1920 : (Jvm.Cond.lays "MasterPricesModel" "MasterPricesModel" "here" "I") ∈ lw_all := lw_g (lw_at lw_m8 148 rfl) rfl
theorem q1921 : (Jvm.Cond.soleField "MasterPricesModel" "here") ∈ lw_all := lw_g (lw_at lw_m8 149 rfl) rfl
theorem q1922 : (Jvm.Cond.lays "MasterPricesModel" "MasterPricesModel" "fault" "I") ∈ lw_all := lw_g (lw_at lw_m8 150 rfl) rfl
theorem q1923 : (Jvm.Cond.soleField "MasterPricesModel" "fault") ∈ lw_all := lw_g (lw_at lw_m8 151 rfl) rfl
theorem q1924 : (Jvm.Cond.lays "MasterPricesModel" "MasterPricesModel" "faultAt" "I") ∈ lw_all := lw_g (lw_at lw_m8 152 rfl) rfl
theorem q1925 : (Jvm.Cond.soleField "MasterPricesModel" "faultAt") ∈ lw_all := lw_g (lw_at lw_m8 153 rfl) rfl
theorem q1926 : (Jvm.Cond.laysFinal "MasterPricesModel" "MasterPricesModel" "orders" "[I") ∈ lw_all := lw_g (lw_at lw_m8 154 rfl) rfl
theorem q1927 : (Jvm.Cond.soleField "MasterPricesModel" "orders") ∈ lw_all := lw_g (lw_at lw_m8 155 rfl) rfl
theorem q1928 : (Jvm.Cond.lays "MasterPricesModel" "MasterPricesModel" "orderMany" "I") ∈ lw_all := lw_g (lw_at lw_m8 156 rfl) rfl
theorem q1929 : (Jvm.Cond.soleField "MasterPricesModel" "orderMany") ∈ lw_all := lw_g (lw_at lw_m8 157 rfl) rfl
theorem q1930 : (Jvm.Cond.laysFinal "MasterPricesModel" "MasterPricesModel" "laid" "[C") ∈ lw_all := lw_g (lw_at lw_m8 158 rfl) rfl
theorem q1931 : (Jvm.Cond.soleField "MasterPricesModel" "laid") ∈ lw_all := lw_g (lw_at lw_m8 159 rfl) rfl
theorem q1932 : (Jvm.Cond.lays "MasterPricesModel" "MasterPricesModel" "lineSize" "I") ∈ lw_all := lw_g (lw_at lw_m8 160 rfl) rfl
theorem q1933 : (Jvm.Cond.soleField "MasterPricesModel" "lineSize") ∈ lw_all := lw_g (lw_at lw_m8 161 rfl) rfl
theorem q1934 : (Jvm.Cond.superclass "MasterPricesModel" "java/lang/Object") ∈ lw_all := lw_g (lw_at lw_m8 162 rfl) rfl
theorem q1937 : (Jvm.Cond.instanceMethod ({ cls := "MasterPricesModel", name := "thrown", desc := "()I" } : Jvm.MethodName)) ∈ lw_all := lw_g (lw_at lw_m8 165 rfl) rfl
theorem q1938 : (Jvm.Cond.selects "MasterPricesModel" ({ cls := "MasterPricesModel", name := "thrown", desc := "()I" } : Jvm.MethodName) ({ cls := "MasterPricesModel", name := "thrown", desc := "()I" } : Jvm.MethodName)) ∈ lw_all := lw_g (lw_at lw_m8 166 rfl) rfl
theorem q1939 : (Jvm.Cond.code ({ cls := "MasterPricesModel", name := "thrown", desc := "()I" } : Jvm.MethodName) prog_23_method_2_code (1 : Nat) (Option.some Jvm.ClassFile.FieldType.int)) ∈ lw_all := lw_g (lw_at lw_m8 167 rfl) rfl
theorem q1941 : (Jvm.Cond.instanceMethod ({ cls := "MasterPricesModel", name := "reason", desc := "(ZZ)I" } : Jvm.MethodName)) ∈ lw_all := lw_g (lw_at lw_m8 169 rfl) rfl
theorem q1942 : (Jvm.Cond.selects "MasterPricesModel" ({ cls := "MasterPricesModel", name := "reason", desc := "(ZZ)I" } : Jvm.MethodName) ({ cls := "MasterPricesModel", name := "reason", desc := "(ZZ)I" } : Jvm.MethodName)) ∈ lw_all := lw_g (lw_at lw_m8 170 rfl) rfl
theorem q1943 : (Jvm.Cond.code ({ cls := "MasterPricesModel", name := "reason", desc := "(ZZ)I" } : Jvm.MethodName) prog_23_method_9_code (3 : Nat) (Option.some Jvm.ClassFile.FieldType.int)) ∈ lw_all := lw_g (lw_at lw_m8 171 rfl) rfl
theorem q1944 : (Jvm.Cond.methodLink "MasterPricesModel" (55 : Nat) ({ cls := "MasterPricesModel", name := "isThere", desc := "(Z)Z" } : Jvm.MethodName)) ∈ lw_all := lw_g (lw_at lw_m8 172 rfl) rfl
theorem q1945 : (Jvm.Cond.privateMethod ({ cls := "MasterPricesModel", name := "isThere", desc := "(Z)Z" } : Jvm.MethodName)) ∈ lw_tbl := lw_at lw_m8 173 rfl
theorem q1946 : (Jvm.Cond.instanceMethod ({ cls := "MasterPricesModel", name := "isThere", desc := "(Z)Z" } : Jvm.MethodName)) ∈ lw_all := lw_g (lw_at lw_m8 174 rfl) rfl
theorem q1947 : (Jvm.Cond.code ({ cls := "MasterPricesModel", name := "isThere", desc := "(Z)Z" } : Jvm.MethodName) prog_23_method_8_code (2 : Nat) (Option.some Jvm.ClassFile.FieldType.boolean)) ∈ lw_all := lw_g (lw_at lw_m8 175 rfl) rfl
theorem q1949 : (Jvm.Cond.instanceMethod ({ cls := "MasterPricesModel", name := "apprentice", desc := "()I" } : Jvm.MethodName)) ∈ lw_all := lw_g (lw_at lw_m8 177 rfl) rfl
theorem q1950 : (Jvm.Cond.selects "MasterPricesModel" ({ cls := "MasterPricesModel", name := "apprentice", desc := "()I" } : Jvm.MethodName) ({ cls := "MasterPricesModel", name := "apprentice", desc := "()I" } : Jvm.MethodName)) ∈ lw_all := lw_g (lw_at lw_m8 178 rfl) rfl
theorem q1951 : (Jvm.Cond.code ({ cls := "MasterPricesModel", name := "apprentice", desc := "()I" } : Jvm.MethodName) prog_23_method_19_code (1 : Nat) (Option.some Jvm.ClassFile.FieldType.int)) ∈ lw_all := lw_g (lw_at lw_m8 179 rfl) rfl
theorem q1952 : (Jvm.Cond.methodLink "MasterPricesModel" (85 : Nat) ({ cls := "MasterPricesModel", name := "begins", desc := "()V" } : Jvm.MethodName)) ∈ lw_all := lw_g (lw_at lw_m8 180 rfl) rfl
theorem q1953 : (Jvm.Cond.privateMethod ({ cls := "MasterPricesModel", name := "begins", desc := "()V" } : Jvm.MethodName)) ∈ lw_tbl := lw_at lw_m8 181 rfl
theorem q1954 : (Jvm.Cond.instanceMethod ({ cls := "MasterPricesModel", name := "begins", desc := "()V" } : Jvm.MethodName)) ∈ lw_all := lw_g (lw_at lw_m8 182 rfl) rfl
theorem q1955 : (Jvm.Cond.code ({ cls := "MasterPricesModel", name := "begins", desc := "()V" } : Jvm.MethodName) prog_23_method_5_code (1 : Nat) (Option.none : Option Jvm.ClassFile.FieldType)) ∈ lw_all := lw_g (lw_at lw_m8 183 rfl) rfl
theorem q1956 : (Jvm.Cond.methodLink "MasterPricesModel" (36 : Nat) ({ cls := "MasterPricesModel", name := "copies", desc := "(II)V" } : Jvm.MethodName)) ∈ lw_all := lw_g (lw_at lw_m8 184 rfl) rfl
theorem q1957 : (Jvm.Cond.privateMethod ({ cls := "MasterPricesModel", name := "copies", desc := "(II)V" } : Jvm.MethodName)) ∈ lw_tbl := lw_at lw_m8 185 rfl
theorem q1958 : (Jvm.Cond.instanceMethod ({ cls := "MasterPricesModel", name := "copies", desc := "(II)V" } : Jvm.MethodName)) ∈ lw_all := lw_g (lw_at lw_m8 186 rfl) rfl
theorem q1959 : (Jvm.Cond.code ({ cls := "MasterPricesModel", name := "copies", desc := "(II)V" } : Jvm.MethodName) prog_23_method_4_code (4 : Nat) (Option.none : Option Jvm.ClassFile.FieldType)) ∈ lw_all := lw_g (lw_at lw_m8 187 rfl) rfl
theorem q1960 : (Jvm.Cond.methodLink "MasterPricesModel" (88 : Nat) ({ cls := "MasterPricesModel", name := "comes", desc := "(I)Z" } : Jvm.MethodName)) ∈ lw_all := lw_g (lw_at lw_m8 188 rfl) rfl
theorem q1961 : (Jvm.Cond.privateMethod ({ cls := "MasterPricesModel", name := "comes", desc := "(I)Z" } : Jvm.MethodName)) ∈ lw_tbl := lw_at lw_m8 189 rfl
theorem q1962 : (Jvm.Cond.instanceMethod ({ cls := "MasterPricesModel", name := "comes", desc := "(I)Z" } : Jvm.MethodName)) ∈ lw_all := lw_g (lw_at lw_m8 190 rfl) rfl
theorem q1963 : (Jvm.Cond.code ({ cls := "MasterPricesModel", name := "comes", desc := "(I)Z" } : Jvm.MethodName) prog_23_method_18_code (4 : Nat) (Option.some Jvm.ClassFile.FieldType.boolean)) ∈ lw_all := lw_g (lw_at lw_m8 191 rfl) rfl
theorem q1964 : (Jvm.Cond.methodLink "MasterPricesModel" (74 : Nat) ({ cls := "MasterPricesModel", name := "refuses", desc := "(ZII)Z" } : Jvm.MethodName)) ∈ lw_all := lw_g (lw_at lw_m8 192 rfl) rfl
theorem q1965 : (Jvm.Cond.privateMethod ({ cls := "MasterPricesModel", name := "refuses", desc := "(ZII)Z" } : Jvm.MethodName)) ∈ lw_tbl := lw_at lw_m8 193 rfl
theorem q1966 : (Jvm.Cond.instanceMethod ({ cls := "MasterPricesModel", name := "refuses", desc := "(ZII)Z" } : Jvm.MethodName)) ∈ lw_all := lw_g (lw_at lw_m8 194 rfl) rfl
theorem q1967 : (Jvm.Cond.code ({ cls := "MasterPricesModel", name := "refuses", desc := "(ZII)Z" } : Jvm.MethodName) prog_23_method_7_code (4 : Nat) (Option.some Jvm.ClassFile.FieldType.boolean)) ∈ lw_all := lw_g (lw_at lw_m8 195 rfl) rfl
theorem q1968 : (Jvm.Cond.methodLink "MasterPricesModel" (81 : Nat) ({ cls := "MasterPricesModel", name := "allFree", desc := "(Z)V" } : Jvm.MethodName)) ∈ lw_all := lw_g (lw_at lw_m8 196 rfl) rfl
theorem q1969 : (Jvm.Cond.privateMethod ({ cls := "MasterPricesModel", name := "allFree", desc := "(Z)V" } : Jvm.MethodName)) ∈ lw_tbl := lw_at lw_m8 197 rfl
theorem q1970 : (Jvm.Cond.instanceMethod ({ cls := "MasterPricesModel", name := "allFree", desc := "(Z)V" } : Jvm.MethodName)) ∈ lw_all := lw_g (lw_at lw_m8 198 rfl) rfl
theorem q1971 : (Jvm.Cond.code ({ cls := "MasterPricesModel", name := "allFree", desc := "(Z)V" } : Jvm.MethodName) prog_23_method_17_code (3 : Nat) (Option.none : Option Jvm.ClassFile.FieldType)) ∈ lw_all := lw_g (lw_at lw_m8 199 rfl) rfl
theorem q1972 : (Jvm.Cond.methodLink "MasterPricesModel" (91 : Nat) ({ cls := "MasterPricesModel", name := "ends", desc := "(ZI)I" } : Jvm.MethodName)) ∈ lw_all := lw_g (lw_at lw_m8 200 rfl) rfl
theorem q1973 : (Jvm.Cond.privateMethod ({ cls := "MasterPricesModel", name := "ends", desc := "(ZI)I" } : Jvm.MethodName)) ∈ lw_tbl := lw_at lw_m8 201 rfl
theorem q1974 : (Jvm.Cond.instanceMethod ({ cls := "MasterPricesModel", name := "ends", desc := "(ZI)I" } : Jvm.MethodName)) ∈ lw_all := lw_g (lw_at lw_m8 202 rfl) rfl
theorem q1975 : (Jvm.Cond.code ({ cls := "MasterPricesModel", name := "ends", desc := "(ZI)I" } : Jvm.MethodName) prog_23_method_6_code (4 : Nat) (Option.some Jvm.ClassFile.FieldType.int)) ∈ lw_all := lw_g (lw_at lw_m8 203 rfl) rfl
theorem q1977 : (Jvm.Cond.instanceMethod ({ cls := "MasterPricesModel", name := "master", desc := "()I" } : Jvm.MethodName)) ∈ lw_all := lw_g (lw_at lw_m8 205 rfl) rfl
theorem q1978 : (Jvm.Cond.selects "MasterPricesModel" ({ cls := "MasterPricesModel", name := "master", desc := "()I" } : Jvm.MethodName) ({ cls := "MasterPricesModel", name := "master", desc := "()I" } : Jvm.MethodName)) ∈ lw_all := lw_g (lw_at lw_m8 206 rfl) rfl
theorem q1979 : (Jvm.Cond.code ({ cls := "MasterPricesModel", name := "master", desc := "()I" } : Jvm.MethodName) prog_23_method_20_code (1 : Nat) (Option.some Jvm.ClassFile.FieldType.int)) ∈ lw_all := lw_g (lw_at lw_m8 207 rfl) rfl
theorem q1981 : (Jvm.Cond.instanceMethod ({ cls := "MasterPricesModel", name := "cost", desc := "(III)I" } : Jvm.MethodName)) ∈ lw_all := lw_g (lw_at lw_m8 209 rfl) rfl
theorem q1982 : (Jvm.Cond.selects "MasterPricesModel" ({ cls := "MasterPricesModel", name := "cost", desc := "(III)I" } : Jvm.MethodName) ({ cls := "MasterPricesModel", name := "cost", desc := "(III)I" } : Jvm.MethodName)) ∈ lw_all := lw_g (lw_at lw_m8 210 rfl) rfl
theorem q1983 : (Jvm.Cond.code ({ cls := "MasterPricesModel", name := "cost", desc := "(III)I" } : Jvm.MethodName) prog_23_method_22_code (4 : Nat) (Option.some Jvm.ClassFile.FieldType.int)) ∈ lw_all := lw_g (lw_at lw_m8 211 rfl) rfl
theorem q1984 : (Jvm.Cond.methodLink "MasterPricesModel" (99 : Nat) ({ cls := "MasterPricesModel", name := "costs", desc := "(III)Z" } : Jvm.MethodName)) ∈ lw_all := lw_g (lw_at lw_m8 212 rfl) rfl
theorem q1985 : (Jvm.Cond.privateMethod ({ cls := "MasterPricesModel", name := "costs", desc := "(III)Z" } : Jvm.MethodName)) ∈ lw_tbl := lw_at lw_m8 213 rfl
theorem q1986 : (Jvm.Cond.instanceMethod ({ cls := "MasterPricesModel", name := "costs", desc := "(III)Z" } : Jvm.MethodName)) ∈ lw_all := lw_g (lw_at lw_m8 214 rfl) rfl
theorem q1987 : (Jvm.Cond.code ({ cls := "MasterPricesModel", name := "costs", desc := "(III)Z" } : Jvm.MethodName) prog_23_method_21_code (4 : Nat) (Option.some Jvm.ClassFile.FieldType.boolean)) ∈ lw_all := lw_g (lw_at lw_m8 215 rfl) rfl
theorem q1988 : (Jvm.Cond.methodLink "MasterPricesModel" (95 : Nat) ({ cls := "MasterPricesModel", name := "isNone", desc := "(II)Z" } : Jvm.MethodName)) ∈ lw_all := lw_g (lw_at lw_m8 216 rfl) rfl
theorem q1989 : (Jvm.Cond.privateMethod ({ cls := "MasterPricesModel", name := "isNone", desc := "(II)Z" } : Jvm.MethodName)) ∈ lw_tbl := lw_at lw_m8 217 rfl
theorem q1990 : (Jvm.Cond.instanceMethod ({ cls := "MasterPricesModel", name := "isNone", desc := "(II)Z" } : Jvm.MethodName)) ∈ lw_all := lw_g (lw_at lw_m8 218 rfl) rfl
theorem q1991 : (Jvm.Cond.code ({ cls := "MasterPricesModel", name := "isNone", desc := "(II)Z" } : Jvm.MethodName) prog_23_method_14_code (3 : Nat) (Option.some Jvm.ClassFile.FieldType.boolean)) ∈ lw_all := lw_g (lw_at lw_m8 219 rfl) rfl
theorem q1992 : (Jvm.Cond.methodLink "MasterPricesModel" (70 : Nat) ({ cls := "MasterPricesModel", name := "isApprentice", desc := "(I)Z" } : Jvm.MethodName)) ∈ lw_all := lw_g (lw_at lw_m8 220 rfl) rfl
theorem q1993 : (Jvm.Cond.privateMethod ({ cls := "MasterPricesModel", name := "isApprentice", desc := "(I)Z" } : Jvm.MethodName)) ∈ lw_tbl := lw_at lw_m8 221 rfl
theorem q1994 : (Jvm.Cond.instanceMethod ({ cls := "MasterPricesModel", name := "isApprentice", desc := "(I)Z" } : Jvm.MethodName)) ∈ lw_all := lw_g (lw_at lw_m8 222 rfl) rfl
theorem q1995 : (Jvm.Cond.code ({ cls := "MasterPricesModel", name := "isApprentice", desc := "(I)Z" } : Jvm.MethodName) prog_23_method_12_code (2 : Nat) (Option.some Jvm.ClassFile.FieldType.boolean)) ∈ lw_all := lw_g (lw_at lw_m8 223 rfl) rfl
theorem q1996 : (Jvm.Cond.methodLink "MasterPricesModel" (66 : Nat) ({ cls := "MasterPricesModel", name := "in", desc := "(III)Z" } : Jvm.MethodName)) ∈ lw_all := lw_g (lw_at lw_m8 224 rfl) rfl
theorem q1997 : (Jvm.Cond.static ({ cls := "MasterPricesModel", name := "in", desc := "(III)Z" } : Jvm.MethodName)) ∈ lw_all := lw_g (lw_at lw_m8 225 rfl) rfl
theorem q1998 : (Jvm.Cond.code ({ cls := "MasterPricesModel", name := "in", desc := "(III)Z" } : Jvm.MethodName) prog_23_method_3_code (3 : Nat) (Option.some Jvm.ClassFile.FieldType.boolean)) ∈ lw_all := lw_g (lw_at lw_m8 226 rfl) rfl
theorem q1999 : (Jvm.Cond.methodLink "MasterPricesModel" (78 : Nat) ({ cls := "MasterPricesModel", name := "isMaster", desc := "(I)Z" } : Jvm.MethodName)) ∈ lw_all := lw_g (lw_at lw_m8 227 rfl) rfl
theorem q2000 : (Jvm.Cond.privateMethod ({ cls := "MasterPricesModel", name := "isMaster", desc := "(I)Z" } : Jvm.MethodName)) ∈ lw_tbl := lw_at lw_m8 228 rfl
theorem q2001 : (Jvm.Cond.instanceMethod ({ cls := "MasterPricesModel", name := "isMaster", desc := "(I)Z" } : Jvm.MethodName)) ∈ lw_all := lw_g (lw_at lw_m8 229 rfl) rfl
theorem q2002 : (Jvm.Cond.code ({ cls := "MasterPricesModel", name := "isMaster", desc := "(I)Z" } : Jvm.MethodName) prog_23_method_13_code (2 : Nat) (Option.some Jvm.ClassFile.FieldType.boolean)) ∈ lw_all := lw_g (lw_at lw_m8 230 rfl) rfl
theorem q2003 : (Jvm.Cond.methodLink "MasterPricesModel" (62 : Nat) ({ cls := "MasterPricesModel", name := "c", desc := "(II)I" } : Jvm.MethodName)) ∈ lw_all := lw_g (lw_at lw_m8 231 rfl) rfl
theorem q2004 : (Jvm.Cond.privateMethod ({ cls := "MasterPricesModel", name := "c", desc := "(II)I" } : Jvm.MethodName)) ∈ lw_tbl := lw_at lw_m8 232 rfl
theorem q2005 : (Jvm.Cond.instanceMethod ({ cls := "MasterPricesModel", name := "c", desc := "(II)I" } : Jvm.MethodName)) ∈ lw_all := lw_g (lw_at lw_m8 233 rfl) rfl
theorem q2006 : (Jvm.Cond.code ({ cls := "MasterPricesModel", name := "c", desc := "(II)I" } : Jvm.MethodName) prog_23_method_10_code (3 : Nat) (Option.some Jvm.ClassFile.FieldType.int)) ∈ lw_all := lw_g (lw_at lw_m8 234 rfl) rfl
theorem q2008 : (Jvm.Cond.instanceMethod ({ cls := "MasterPricesModel", name := "bar", desc := "(II)I" } : Jvm.MethodName)) ∈ lw_all := lw_g (lw_at lw_m8 236 rfl) rfl
theorem q2009 : (Jvm.Cond.selects "MasterPricesModel" ({ cls := "MasterPricesModel", name := "bar", desc := "(II)I" } : Jvm.MethodName) ({ cls := "MasterPricesModel", name := "bar", desc := "(II)I" } : Jvm.MethodName)) ∈ lw_all := lw_g (lw_at lw_m8 237 rfl) rfl
theorem q2010 : (Jvm.Cond.code ({ cls := "MasterPricesModel", name := "bar", desc := "(II)I" } : Jvm.MethodName) prog_23_method_24_code (3 : Nat) (Option.some Jvm.ClassFile.FieldType.int)) ∈ lw_all := lw_g (lw_at lw_m8 238 rfl) rfl
theorem q2011 : (Jvm.Cond.methodLink "MasterPricesModel" (105 : Nat) ({ cls := "MasterPricesModel", name := "bars", desc := "(II)Z" } : Jvm.MethodName)) ∈ lw_all := lw_g (lw_at lw_m8 239 rfl) rfl
theorem q2012 : (Jvm.Cond.privateMethod ({ cls := "MasterPricesModel", name := "bars", desc := "(II)Z" } : Jvm.MethodName)) ∈ lw_tbl := lw_at lw_m9 0 rfl
theorem q2013 : (Jvm.Cond.instanceMethod ({ cls := "MasterPricesModel", name := "bars", desc := "(II)Z" } : Jvm.MethodName)) ∈ lw_all := lw_g (lw_at lw_m9 1 rfl) rfl
theorem q2014 : (Jvm.Cond.code ({ cls := "MasterPricesModel", name := "bars", desc := "(II)Z" } : Jvm.MethodName) prog_23_method_23_code (3 : Nat) (Option.some Jvm.ClassFile.FieldType.boolean)) ∈ lw_all := lw_g (lw_at lw_m9 2 rfl) rfl
theorem q2015 : (Jvm.Cond.methodLink "MasterPricesModel" (102 : Nat) ({ cls := "MasterPricesModel", name := "isBarred", desc := "(II)Z" } : Jvm.MethodName)) ∈ lw_all := lw_g (lw_at lw_m9 3 rfl) rfl
theorem q2016 : (Jvm.Cond.privateMethod ({ cls := "MasterPricesModel", name := "isBarred", desc := "(II)Z" } : Jvm.MethodName)) ∈ lw_tbl := lw_at lw_m9 4 rfl
theorem q2017 : (Jvm.Cond.instanceMethod ({ cls := "MasterPricesModel", name := "isBarred", desc := "(II)Z" } : Jvm.MethodName)) ∈ lw_all := lw_g (lw_at lw_m9 5 rfl) rfl
theorem q2018 : (Jvm.Cond.code ({ cls := "MasterPricesModel", name := "isBarred", desc := "(II)Z" } : Jvm.MethodName) prog_23_method_11_code (3 : Nat) (Option.some Jvm.ClassFile.FieldType.boolean)) ∈ lw_all := lw_g (lw_at lw_m9 6 rfl) rfl
theorem q2020 : (Jvm.Cond.instanceMethod ({ cls := "MasterPricesModel", name := "bid", desc := "()I" } : Jvm.MethodName)) ∈ lw_all := lw_g (lw_at lw_m9 8 rfl) rfl
theorem q2021 : (Jvm.Cond.selects "MasterPricesModel" ({ cls := "MasterPricesModel", name := "bid", desc := "()I" } : Jvm.MethodName) ({ cls := "MasterPricesModel", name := "bid", desc := "()I" } : Jvm.MethodName)) ∈ lw_all := lw_g (lw_at lw_m9 9 rfl) rfl
theorem q2022 : (Jvm.Cond.code ({ cls := "MasterPricesModel", name := "bid", desc := "()I" } : Jvm.MethodName) prog_23_method_31_code (1 : Nat) (Option.some Jvm.ClassFile.FieldType.int)) ∈ lw_all := lw_g (lw_at lw_m9 10 rfl) rfl
theorem q2023 : (Jvm.Cond.methodLink "MasterPricesModel" (132 : Nat) ({ cls := "MasterPricesModel", name := "bidsOnce", desc := "()Z" } : Jvm.MethodName)) ∈ lw_all := lw_g (lw_at lw_m9 11 rfl) rfl
theorem q2024 : (Jvm.Cond.privateMethod ({ cls := "MasterPricesModel", name := "bidsOnce", desc := "()Z" } : Jvm.MethodName)) ∈ lw_tbl := lw_at lw_m9 12 rfl
theorem q2025 : (Jvm.Cond.instanceMethod ({ cls := "MasterPricesModel", name := "bidsOnce", desc := "()Z" } : Jvm.MethodName)) ∈ lw_all := lw_g (lw_at lw_m9 13 rfl) rfl
theorem q2026 : (Jvm.Cond.code ({ cls := "MasterPricesModel", name := "bidsOnce", desc := "()Z" } : Jvm.MethodName) prog_23_method_30_code (4 : Nat) (Option.some Jvm.ClassFile.FieldType.boolean)) ∈ lw_all := lw_g (lw_at lw_m9 14 rfl) rfl
theorem q2027 : (Jvm.Cond.methodLink "MasterPricesModel" (122 : Nat) ({ cls := "MasterPricesModel", name := "firstFree", desc := "()I" } : Jvm.MethodName)) ∈ lw_all := lw_g (lw_at lw_m9 15 rfl) rfl
theorem q2028 : (Jvm.Cond.privateMethod ({ cls := "MasterPricesModel", name := "firstFree", desc := "()I" } : Jvm.MethodName)) ∈ lw_tbl := lw_at lw_m9 16 rfl
theorem q2029 : (Jvm.Cond.instanceMethod ({ cls := "MasterPricesModel", name := "firstFree", desc := "()I" } : Jvm.MethodName)) ∈ lw_all := lw_g (lw_at lw_m9 17 rfl) rfl
theorem q2030 : (Jvm.Cond.code ({ cls := "MasterPricesModel", name := "firstFree", desc := "()I" } : Jvm.MethodName) prog_23_method_27_code (2 : Nat) (Option.some Jvm.ClassFile.FieldType.int)) ∈ lw_all := lw_g (lw_at lw_m9 18 rfl) rfl
theorem q2031 : (Jvm.Cond.methodLink "MasterPricesModel" (126 : Nat) ({ cls := "MasterPricesModel", name := "whyNot", desc := "(I)I" } : Jvm.MethodName)) ∈ lw_all := lw_g (lw_at lw_m9 19 rfl) rfl
theorem q2032 : (Jvm.Cond.privateMethod ({ cls := "MasterPricesModel", name := "whyNot", desc := "(I)I" } : Jvm.MethodName)) ∈ lw_tbl := lw_at lw_m9 20 rfl
theorem q2033 : (Jvm.Cond.instanceMethod ({ cls := "MasterPricesModel", name := "whyNot", desc := "(I)I" } : Jvm.MethodName)) ∈ lw_all := lw_g (lw_at lw_m9 21 rfl) rfl
theorem q2034 : (Jvm.Cond.code ({ cls := "MasterPricesModel", name := "whyNot", desc := "(I)I" } : Jvm.MethodName) prog_23_method_28_code (3 : Nat) (Option.some Jvm.ClassFile.FieldType.int)) ∈ lw_all := lw_g (lw_at lw_m9 22 rfl) rfl
theorem q2035 : (Jvm.Cond.methodLink "MasterPricesModel" (111 : Nat) ({ cls := "MasterPricesModel", name := "likes", desc := "(I)I" } : Jvm.MethodName)) ∈ lw_all := lw_g (lw_at lw_m9 23 rfl) rfl
theorem q2036 : (Jvm.Cond.privateMethod ({ cls := "MasterPricesModel", name := "likes", desc := "(I)I" } : Jvm.MethodName)) ∈ lw_tbl := lw_at lw_m9 24 rfl
theorem q2037 : (Jvm.Cond.instanceMethod ({ cls := "MasterPricesModel", name := "likes", desc := "(I)I" } : Jvm.MethodName)) ∈ lw_all := lw_g (lw_at lw_m9 25 rfl) rfl
theorem q2038 : (Jvm.Cond.code ({ cls := "MasterPricesModel", name := "likes", desc := "(I)I" } : Jvm.MethodName) prog_23_method_25_code (4 : Nat) (Option.some Jvm.ClassFile.FieldType.int)) ∈ lw_all := lw_g (lw_at lw_m9 26 rfl) rfl
theorem q2039 : (Jvm.Cond.methodLink "MasterPricesModel" (108 : Nat) ({ cls := "MasterPricesModel", name := "heavy", desc := "(II)I" } : Jvm.MethodName)) ∈ lw_all := lw_g (lw_at lw_m9 27 rfl) rfl
theorem q2040 : (Jvm.Cond.privateMethod ({ cls := "MasterPricesModel", name := "heavy", desc := "(II)I" } : Jvm.MethodName)) ∈ lw_tbl := lw_at lw_m9 28 rfl
theorem q2041 : (Jvm.Cond.instanceMethod ({ cls := "MasterPricesModel", name := "heavy", desc := "(II)I" } : Jvm.MethodName)) ∈ lw_all := lw_g (lw_at lw_m9 29 rfl) rfl
theorem q2042 : (Jvm.Cond.code ({ cls := "MasterPricesModel", name := "heavy", desc := "(II)I" } : Jvm.MethodName) prog_23_method_15_code (3 : Nat) (Option.some Jvm.ClassFile.FieldType.int)) ∈ lw_all := lw_g (lw_at lw_m9 30 rfl) rfl
theorem q2043 : (Jvm.Cond.methodLink "MasterPricesModel" (116 : Nat) ({ cls := "MasterPricesModel", name := "raise", desc := "(I)I" } : Jvm.MethodName)) ∈ lw_all := lw_g (lw_at lw_m9 31 rfl) rfl
theorem q2044 : (Jvm.Cond.privateMethod ({ cls := "MasterPricesModel", name := "raise", desc := "(I)I" } : Jvm.MethodName)) ∈ lw_tbl := lw_at lw_m9 32 rfl
theorem q2045 : (Jvm.Cond.instanceMethod ({ cls := "MasterPricesModel", name := "raise", desc := "(I)I" } : Jvm.MethodName)) ∈ lw_all := lw_g (lw_at lw_m9 33 rfl) rfl
theorem q2046 : (Jvm.Cond.code ({ cls := "MasterPricesModel", name := "raise", desc := "(I)I" } : Jvm.MethodName) prog_23_method_26_code (5 : Nat) (Option.some Jvm.ClassFile.FieldType.int)) ∈ lw_all := lw_g (lw_at lw_m9 34 rfl) rfl
theorem q2047 : (Jvm.Cond.constant "MasterPricesModel" (115 : Nat) (1000000 : Int32)) ∈ lw_all := lw_g (lw_at lw_m9 35 rfl) rfl
theorem q2048 : (Jvm.Cond.methodLink "MasterPricesModel" (129 : Nat) ({ cls := "MasterPricesModel", name := "bidsNow", desc := "(I)I" } : Jvm.MethodName)) ∈ lw_all := lw_g (lw_at lw_m9 36 rfl) rfl
theorem q2049 : (Jvm.Cond.privateMethod ({ cls := "MasterPricesModel", name := "bidsNow", desc := "(I)I" } : Jvm.MethodName)) ∈ lw_tbl := lw_at lw_m9 37 rfl
theorem q2050 : (Jvm.Cond.instanceMethod ({ cls := "MasterPricesModel", name := "bidsNow", desc := "(I)I" } : Jvm.MethodName)) ∈ lw_all := lw_g (lw_at lw_m9 38 rfl) rfl
theorem q2051 : (Jvm.Cond.code ({ cls := "MasterPricesModel", name := "bidsNow", desc := "(I)I" } : Jvm.MethodName) prog_23_method_29_code (4 : Nat) (Option.some Jvm.ClassFile.FieldType.int)) ∈ lw_all := lw_g (lw_at lw_m9 39 rfl) rfl
theorem q2052 : (Jvm.Cond.methodLink "MasterPricesModel" (119 : Nat) ({ cls := "MasterPricesModel", name := "heldBy", desc := "(I)I" } : Jvm.MethodName)) ∈ lw_all := lw_g (lw_at lw_m9 40 rfl) rfl
theorem q2053 : (Jvm.Cond.privateMethod ({ cls := "MasterPricesModel", name := "heldBy", desc := "(I)I" } : Jvm.MethodName)) ∈ lw_tbl := lw_at lw_m9 41 rfl
theorem q2054 : (Jvm.Cond.instanceMethod ({ cls := "MasterPricesModel", name := "heldBy", desc := "(I)I" } : Jvm.MethodName)) ∈ lw_all := lw_g (lw_at lw_m9 42 rfl) rfl
theorem q2055 : (Jvm.Cond.code ({ cls := "MasterPricesModel", name := "heldBy", desc := "(I)I" } : Jvm.MethodName) prog_23_method_16_code (3 : Nat) (Option.some Jvm.ClassFile.FieldType.int)) ∈ lw_all := lw_g (lw_at lw_m9 43 rfl) rfl
theorem q2057 : (Jvm.Cond.instanceMethod ({ cls := "MasterPricesModel", name := "settle", desc := "()I" } : Jvm.MethodName)) ∈ lw_all := lw_g (lw_at lw_m9 45 rfl) rfl
theorem q2058 : (Jvm.Cond.selects "MasterPricesModel" ({ cls := "MasterPricesModel", name := "settle", desc := "()I" } : Jvm.MethodName) ({ cls := "MasterPricesModel", name := "settle", desc := "()I" } : Jvm.MethodName)) ∈ lw_all := lw_g (lw_at lw_m9 46 rfl) rfl
theorem q2059 : (Jvm.Cond.code ({ cls := "MasterPricesModel", name := "settle", desc := "()I" } : Jvm.MethodName) prog_23_method_34_code (1 : Nat) (Option.some Jvm.ClassFile.FieldType.int)) ∈ lw_all := lw_g (lw_at lw_m9 47 rfl) rfl
theorem q2060 : (Jvm.Cond.methodLink "MasterPricesModel" (148 : Nat) ({ cls := "MasterPricesModel", name := "settlesNow", desc := "()Z" } : Jvm.MethodName)) ∈ lw_all := lw_g (lw_at lw_m9 48 rfl) rfl
theorem q2061 : (Jvm.Cond.privateMethod ({ cls := "MasterPricesModel", name := "settlesNow", desc := "()Z" } : Jvm.MethodName)) ∈ lw_tbl := lw_at lw_m9 49 rfl
theorem q2062 : (Jvm.Cond.instanceMethod ({ cls := "MasterPricesModel", name := "settlesNow", desc := "()Z" } : Jvm.MethodName)) ∈ lw_all := lw_g (lw_at lw_m9 50 rfl) rfl
theorem q2063 : (Jvm.Cond.code ({ cls := "MasterPricesModel", name := "settlesNow", desc := "()Z" } : Jvm.MethodName) prog_23_method_33_code (1 : Nat) (Option.some Jvm.ClassFile.FieldType.boolean)) ∈ lw_all := lw_g (lw_at lw_m9 51 rfl) rfl
theorem q2064 : (Jvm.Cond.methodLink "MasterPricesModel" (136 : Nat) ({ cls := "MasterPricesModel", name := "looks", desc := "()V" } : Jvm.MethodName)) ∈ lw_all := lw_g (lw_at lw_m9 52 rfl) rfl
theorem q2065 : (Jvm.Cond.privateMethod ({ cls := "MasterPricesModel", name := "looks", desc := "()V" } : Jvm.MethodName)) ∈ lw_tbl := lw_at lw_m9 53 rfl
theorem q2066 : (Jvm.Cond.instanceMethod ({ cls := "MasterPricesModel", name := "looks", desc := "()V" } : Jvm.MethodName)) ∈ lw_all := lw_g (lw_at lw_m9 54 rfl) rfl
theorem q2067 : (Jvm.Cond.code ({ cls := "MasterPricesModel", name := "looks", desc := "()V" } : Jvm.MethodName) prog_23_method_44_code (1 : Nat) (Option.none : Option Jvm.ClassFile.FieldType)) ∈ lw_all := lw_g (lw_at lw_m9 55 rfl) rfl
theorem q2068 : (Jvm.Cond.methodLink "MasterPricesModel" (177 : Nat) ({ cls := "MasterPricesModel", name := "looksWith", desc := "(II)V" } : Jvm.MethodName)) ∈ lw_all := lw_g (lw_at lw_m9 56 rfl) rfl
theorem q2069 : (Jvm.Cond.privateMethod ({ cls := "MasterPricesModel", name := "looksWith", desc := "(II)V" } : Jvm.MethodName)) ∈ lw_tbl := lw_at lw_m9 57 rfl
theorem q2070 : (Jvm.Cond.instanceMethod ({ cls := "MasterPricesModel", name := "looksWith", desc := "(II)V" } : Jvm.MethodName)) ∈ lw_all := lw_g (lw_at lw_m9 58 rfl) rfl
theorem q2071 : (Jvm.Cond.code ({ cls := "MasterPricesModel", name := "looksWith", desc := "(II)V" } : Jvm.MethodName) prog_23_method_43_code (3 : Nat) (Option.none : Option Jvm.ClassFile.FieldType)) ∈ lw_all := lw_g (lw_at lw_m9 59 rfl) rfl
theorem q2072 : (Jvm.Cond.methodLink "MasterPricesModel" (173 : Nat) ({ cls := "MasterPricesModel", name := "goes", desc := "(IIII)V" } : Jvm.MethodName)) ∈ lw_all := lw_g (lw_at lw_m9 60 rfl) rfl
theorem q2073 : (Jvm.Cond.privateMethod ({ cls := "MasterPricesModel", name := "goes", desc := "(IIII)V" } : Jvm.MethodName)) ∈ lw_tbl := lw_at lw_m9 61 rfl
theorem q2074 : (Jvm.Cond.instanceMethod ({ cls := "MasterPricesModel", name := "goes", desc := "(IIII)V" } : Jvm.MethodName)) ∈ lw_all := lw_g (lw_at lw_m9 62 rfl) rfl
theorem q2075 : (Jvm.Cond.code ({ cls := "MasterPricesModel", name := "goes", desc := "(IIII)V" } : Jvm.MethodName) prog_23_method_42_code (6 : Nat) (Option.none : Option Jvm.ClassFile.FieldType)) ∈ lw_all := lw_g (lw_at lw_m9 63 rfl) rfl
theorem q2076 : (Jvm.Cond.methodLink "MasterPricesModel" (166 : Nat) ({ cls := "MasterPricesModel", name := "found", desc := "(I)V" } : Jvm.MethodName)) ∈ lw_all := lw_g (lw_at lw_m9 64 rfl) rfl
theorem q2077 : (Jvm.Cond.privateMethod ({ cls := "MasterPricesModel", name := "found", desc := "(I)V" } : Jvm.MethodName)) ∈ lw_tbl := lw_at lw_m9 65 rfl
theorem q2078 : (Jvm.Cond.instanceMethod ({ cls := "MasterPricesModel", name := "found", desc := "(I)V" } : Jvm.MethodName)) ∈ lw_all := lw_g (lw_at lw_m9 66 rfl) rfl
theorem q2079 : (Jvm.Cond.code ({ cls := "MasterPricesModel", name := "found", desc := "(I)V" } : Jvm.MethodName) prog_23_method_41_code (3 : Nat) (Option.none : Option Jvm.ClassFile.FieldType)) ∈ lw_all := lw_g (lw_at lw_m9 67 rfl) rfl
theorem q2080 : (Jvm.Cond.methodLink "MasterPricesModel" (170 : Nat) ({ cls := "MasterPricesModel", name := "isTaken", desc := "(II)Z" } : Jvm.MethodName)) ∈ lw_all := lw_g (lw_at lw_m9 68 rfl) rfl
theorem q2081 : (Jvm.Cond.privateMethod ({ cls := "MasterPricesModel", name := "isTaken", desc := "(II)Z" } : Jvm.MethodName)) ∈ lw_tbl := lw_at lw_m9 69 rfl
theorem q2082 : (Jvm.Cond.instanceMethod ({ cls := "MasterPricesModel", name := "isTaken", desc := "(II)Z" } : Jvm.MethodName)) ∈ lw_all := lw_g (lw_at lw_m9 70 rfl) rfl
theorem q2083 : (Jvm.Cond.code ({ cls := "MasterPricesModel", name := "isTaken", desc := "(II)Z" } : Jvm.MethodName) prog_23_method_40_code (4 : Nat) (Option.some Jvm.ClassFile.FieldType.boolean)) ∈ lw_all := lw_g (lw_at lw_m9 71 rfl) rfl
theorem q2084 : (Jvm.Cond.methodLink "MasterPricesModel" (142 : Nat) ({ cls := "MasterPricesModel", name := "most0", desc := "()I" } : Jvm.MethodName)) ∈ lw_all := lw_g (lw_at lw_m9 72 rfl) rfl
theorem q2085 : (Jvm.Cond.privateMethod ({ cls := "MasterPricesModel", name := "most0", desc := "()I" } : Jvm.MethodName)) ∈ lw_tbl := lw_at lw_m9 73 rfl
theorem q2086 : (Jvm.Cond.instanceMethod ({ cls := "MasterPricesModel", name := "most0", desc := "()I" } : Jvm.MethodName)) ∈ lw_all := lw_g (lw_at lw_m9 74 rfl) rfl
theorem q2087 : (Jvm.Cond.code ({ cls := "MasterPricesModel", name := "most0", desc := "()I" } : Jvm.MethodName) prog_23_method_46_code (1 : Nat) (Option.some Jvm.ClassFile.FieldType.int)) ∈ lw_all := lw_g (lw_at lw_m9 75 rfl) rfl
theorem q2088 : (Jvm.Cond.methodLink "MasterPricesModel" (180 : Nat) ({ cls := "MasterPricesModel", name := "mostFrom", desc := "(II)I" } : Jvm.MethodName)) ∈ lw_all := lw_g (lw_at lw_m9 76 rfl) rfl
theorem q2089 : (Jvm.Cond.privateMethod ({ cls := "MasterPricesModel", name := "mostFrom", desc := "(II)I" } : Jvm.MethodName)) ∈ lw_tbl := lw_at lw_m9 77 rfl
theorem q2090 : (Jvm.Cond.instanceMethod ({ cls := "MasterPricesModel", name := "mostFrom", desc := "(II)I" } : Jvm.MethodName)) ∈ lw_all := lw_g (lw_at lw_m9 78 rfl) rfl
theorem q2091 : (Jvm.Cond.code ({ cls := "MasterPricesModel", name := "mostFrom", desc := "(II)I" } : Jvm.MethodName) prog_23_method_45_code (6 : Nat) (Option.some Jvm.ClassFile.FieldType.int)) ∈ lw_all := lw_g (lw_at lw_m9 79 rfl) rfl
theorem q2092 : (Jvm.Cond.methodLink "MasterPricesModel" (145 : Nat) ({ cls := "MasterPricesModel", name := "bidsAll", desc := "()I" } : Jvm.MethodName)) ∈ lw_all := lw_g (lw_at lw_m9 80 rfl) rfl
theorem q2093 : (Jvm.Cond.privateMethod ({ cls := "MasterPricesModel", name := "bidsAll", desc := "()I" } : Jvm.MethodName)) ∈ lw_tbl := lw_at lw_m9 81 rfl
theorem q2094 : (Jvm.Cond.instanceMethod ({ cls := "MasterPricesModel", name := "bidsAll", desc := "()I" } : Jvm.MethodName)) ∈ lw_all := lw_g (lw_at lw_m9 82 rfl) rfl
theorem q2095 : (Jvm.Cond.code ({ cls := "MasterPricesModel", name := "bidsAll", desc := "()I" } : Jvm.MethodName) prog_23_method_32_code (4 : Nat) (Option.some Jvm.ClassFile.FieldType.int)) ∈ lw_all := lw_g (lw_at lw_m9 83 rfl) rfl
theorem q2097 : (Jvm.Cond.instanceMethod ({ cls := "MasterPricesModel", name := "leave", desc := "(I)I" } : Jvm.MethodName)) ∈ lw_all := lw_g (lw_at lw_m9 85 rfl) rfl
theorem q2098 : (Jvm.Cond.selects "MasterPricesModel" ({ cls := "MasterPricesModel", name := "leave", desc := "(I)I" } : Jvm.MethodName) ({ cls := "MasterPricesModel", name := "leave", desc := "(I)I" } : Jvm.MethodName)) ∈ lw_all := lw_g (lw_at lw_m9 86 rfl) rfl
theorem q2099 : (Jvm.Cond.code ({ cls := "MasterPricesModel", name := "leave", desc := "(I)I" } : Jvm.MethodName) prog_23_method_36_code (2 : Nat) (Option.some Jvm.ClassFile.FieldType.int)) ∈ lw_all := lw_g (lw_at lw_m9 87 rfl) rfl
theorem q2100 : (Jvm.Cond.methodLink "MasterPricesModel" (151 : Nat) ({ cls := "MasterPricesModel", name := "leaves", desc := "(I)Z" } : Jvm.MethodName)) ∈ lw_all := lw_g (lw_at lw_m9 88 rfl) rfl
theorem q2101 : (Jvm.Cond.privateMethod ({ cls := "MasterPricesModel", name := "leaves", desc := "(I)Z" } : Jvm.MethodName)) ∈ lw_tbl := lw_at lw_m9 89 rfl
theorem q2102 : (Jvm.Cond.instanceMethod ({ cls := "MasterPricesModel", name := "leaves", desc := "(I)Z" } : Jvm.MethodName)) ∈ lw_all := lw_g (lw_at lw_m9 90 rfl) rfl
theorem q2103 : (Jvm.Cond.code ({ cls := "MasterPricesModel", name := "leaves", desc := "(I)Z" } : Jvm.MethodName) prog_23_method_35_code (2 : Nat) (Option.some Jvm.ClassFile.FieldType.boolean)) ∈ lw_all := lw_g (lw_at lw_m9 91 rfl) rfl
theorem q2105 : (Jvm.Cond.instanceMethod ({ cls := "MasterPricesModel", name := "year", desc := "()I" } : Jvm.MethodName)) ∈ lw_all := lw_g (lw_at lw_m9 93 rfl) rfl
theorem q2106 : (Jvm.Cond.selects "MasterPricesModel" ({ cls := "MasterPricesModel", name := "year", desc := "()I" } : Jvm.MethodName) ({ cls := "MasterPricesModel", name := "year", desc := "()I" } : Jvm.MethodName)) ∈ lw_all := lw_g (lw_at lw_m9 94 rfl) rfl
theorem q2107 : (Jvm.Cond.code ({ cls := "MasterPricesModel", name := "year", desc := "()I" } : Jvm.MethodName) prog_23_method_39_code (1 : Nat) (Option.some Jvm.ClassFile.FieldType.int)) ∈ lw_all := lw_g (lw_at lw_m9 95 rfl) rfl
theorem q2108 : (Jvm.Cond.methodLink "MasterPricesModel" (157 : Nat) ({ cls := "MasterPricesModel", name := "goesBy", desc := "()Z" } : Jvm.MethodName)) ∈ lw_all := lw_g (lw_at lw_m9 96 rfl) rfl
theorem q2109 : (Jvm.Cond.privateMethod ({ cls := "MasterPricesModel", name := "goesBy", desc := "()Z" } : Jvm.MethodName)) ∈ lw_tbl := lw_at lw_m9 97 rfl
theorem q2110 : (Jvm.Cond.instanceMethod ({ cls := "MasterPricesModel", name := "goesBy", desc := "()Z" } : Jvm.MethodName)) ∈ lw_all := lw_g (lw_at lw_m9 98 rfl) rfl
theorem q2111 : (Jvm.Cond.code ({ cls := "MasterPricesModel", name := "goesBy", desc := "()Z" } : Jvm.MethodName) prog_23_method_38_code (3 : Nat) (Option.some Jvm.ClassFile.FieldType.boolean)) ∈ lw_all := lw_g (lw_at lw_m9 99 rfl) rfl
theorem q2112 : (Jvm.Cond.methodLink "MasterPricesModel" (154 : Nat) ({ cls := "MasterPricesModel", name := "pairCost", desc := "()I" } : Jvm.MethodName)) ∈ lw_all := lw_g (lw_at lw_m9 100 rfl) rfl
theorem q2113 : (Jvm.Cond.privateMethod ({ cls := "MasterPricesModel", name := "pairCost", desc := "()I" } : Jvm.MethodName)) ∈ lw_tbl := lw_at lw_m9 101 rfl
theorem q2114 : (Jvm.Cond.instanceMethod ({ cls := "MasterPricesModel", name := "pairCost", desc := "()I" } : Jvm.MethodName)) ∈ lw_all := lw_g (lw_at lw_m9 102 rfl) rfl
theorem q2115 : (Jvm.Cond.code ({ cls := "MasterPricesModel", name := "pairCost", desc := "()I" } : Jvm.MethodName) prog_23_method_37_code (3 : Nat) (Option.some Jvm.ClassFile.FieldType.int)) ∈ lw_all := lw_g (lw_at lw_m9 103 rfl) rfl
theorem q2117 : (Jvm.Cond.instanceMethod ({ cls := "MasterPricesModel", name := "costOf", desc := "(II)I" } : Jvm.MethodName)) ∈ lw_all := lw_g (lw_at lw_m9 105 rfl) rfl
theorem q2118 : (Jvm.Cond.selects "MasterPricesModel" ({ cls := "MasterPricesModel", name := "costOf", desc := "(II)I" } : Jvm.MethodName) ({ cls := "MasterPricesModel", name := "costOf", desc := "(II)I" } : Jvm.MethodName)) ∈ lw_all := lw_g (lw_at lw_m9 106 rfl) rfl
theorem q2119 : (Jvm.Cond.code ({ cls := "MasterPricesModel", name := "costOf", desc := "(II)I" } : Jvm.MethodName) prog_23_method_48_code (3 : Nat) (Option.some Jvm.ClassFile.FieldType.int)) ∈ lw_all := lw_g (lw_at lw_m9 107 rfl) rfl
theorem q2120 : (Jvm.Cond.methodLink "MasterPricesModel" (183 : Nat) ({ cls := "MasterPricesModel", name := "areThere", desc := "(II)Z" } : Jvm.MethodName)) ∈ lw_all := lw_g (lw_at lw_m9 108 rfl) rfl
theorem q2121 : (Jvm.Cond.privateMethod ({ cls := "MasterPricesModel", name := "areThere", desc := "(II)Z" } : Jvm.MethodName)) ∈ lw_tbl := lw_at lw_m9 109 rfl
theorem q2122 : (Jvm.Cond.instanceMethod ({ cls := "MasterPricesModel", name := "areThere", desc := "(II)Z" } : Jvm.MethodName)) ∈ lw_all := lw_g (lw_at lw_m9 110 rfl) rfl
theorem q2123 : (Jvm.Cond.code ({ cls := "MasterPricesModel", name := "areThere", desc := "(II)Z" } : Jvm.MethodName) prog_23_method_47_code (3 : Nat) (Option.some Jvm.ClassFile.FieldType.boolean)) ∈ lw_all := lw_g (lw_at lw_m9 111 rfl) rfl
theorem q2125 : (Jvm.Cond.instanceMethod ({ cls := "MasterPricesModel", name := "burden", desc := "(II)I" } : Jvm.MethodName)) ∈ lw_all := lw_g (lw_at lw_m9 113 rfl) rfl
theorem q2126 : (Jvm.Cond.selects "MasterPricesModel" ({ cls := "MasterPricesModel", name := "burden", desc := "(II)I" } : Jvm.MethodName) ({ cls := "MasterPricesModel", name := "burden", desc := "(II)I" } : Jvm.MethodName)) ∈ lw_all := lw_g (lw_at lw_m9 114 rfl) rfl
theorem q2127 : (Jvm.Cond.code ({ cls := "MasterPricesModel", name := "burden", desc := "(II)I" } : Jvm.MethodName) prog_23_method_49_code (3 : Nat) (Option.some Jvm.ClassFile.FieldType.int)) ∈ lw_all := lw_g (lw_at lw_m9 115 rfl) rfl
theorem q2129 : (Jvm.Cond.instanceMethod ({ cls := "MasterPricesModel", name := "apprenticeOf", desc := "(II)I" } : Jvm.MethodName)) ∈ lw_all := lw_g (lw_at lw_m9 117 rfl) rfl
theorem q2130 : (Jvm.Cond.selects "MasterPricesModel" ({ cls := "MasterPricesModel", name := "apprenticeOf", desc := "(II)I" } : Jvm.MethodName) ({ cls := "MasterPricesModel", name := "apprenticeOf", desc := "(II)I" } : Jvm.MethodName)) ∈ lw_all := lw_g (lw_at lw_m9 118 rfl) rfl
theorem q2131 : (Jvm.Cond.code ({ cls := "MasterPricesModel", name := "apprenticeOf", desc := "(II)I" } : Jvm.MethodName) prog_23_method_53_code (3 : Nat) (Option.some Jvm.ClassFile.FieldType.int)) ∈ lw_all := lw_g (lw_at lw_m9 119 rfl) rfl
theorem q2132 : (Jvm.Cond.methodLink "MasterPricesModel" (186 : Nat) ({ cls := "MasterPricesModel", name := "sumServed", desc := "(IZ)I" } : Jvm.MethodName)) ∈ lw_all := lw_g (lw_at lw_m9 120 rfl) rfl
theorem q2133 : (Jvm.Cond.privateMethod ({ cls := "MasterPricesModel", name := "sumServed", desc := "(IZ)I" } : Jvm.MethodName)) ∈ lw_tbl := lw_at lw_m9 121 rfl
theorem q2134 : (Jvm.Cond.instanceMethod ({ cls := "MasterPricesModel", name := "sumServed", desc := "(IZ)I" } : Jvm.MethodName)) ∈ lw_all := lw_g (lw_at lw_m9 122 rfl) rfl
theorem q2135 : (Jvm.Cond.code ({ cls := "MasterPricesModel", name := "sumServed", desc := "(IZ)I" } : Jvm.MethodName) prog_23_method_50_code (5 : Nat) (Option.some Jvm.ClassFile.FieldType.int)) ∈ lw_all := lw_g (lw_at lw_m9 123 rfl) rfl
theorem q2136 : (Jvm.Cond.methodLink "MasterPricesModel" (190 : Nat) ({ cls := "MasterPricesModel", name := "mayHave", desc := "(I)I" } : Jvm.MethodName)) ∈ lw_all := lw_g (lw_at lw_m9 124 rfl) rfl
theorem q2137 : (Jvm.Cond.privateMethod ({ cls := "MasterPricesModel", name := "mayHave", desc := "(I)I" } : Jvm.MethodName)) ∈ lw_tbl := lw_at lw_m9 125 rfl
theorem q2138 : (Jvm.Cond.instanceMethod ({ cls := "MasterPricesModel", name := "mayHave", desc := "(I)I" } : Jvm.MethodName)) ∈ lw_all := lw_g (lw_at lw_m9 126 rfl) rfl
theorem q2139 : (Jvm.Cond.code ({ cls := "MasterPricesModel", name := "mayHave", desc := "(I)I" } : Jvm.MethodName) prog_23_method_51_code (4 : Nat) (Option.some Jvm.ClassFile.FieldType.int)) ∈ lw_all := lw_g (lw_at lw_m9 127 rfl) rfl
theorem q2140 : (Jvm.Cond.methodLink "MasterPricesModel" (193 : Nat) ({ cls := "MasterPricesModel", name := "inFirst", desc := "(I)I" } : Jvm.MethodName)) ∈ lw_all := lw_g (lw_at lw_m9 128 rfl) rfl
theorem q2141 : (Jvm.Cond.privateMethod ({ cls := "MasterPricesModel", name := "inFirst", desc := "(I)I" } : Jvm.MethodName)) ∈ lw_tbl := lw_at lw_m9 129 rfl
theorem q2142 : (Jvm.Cond.instanceMethod ({ cls := "MasterPricesModel", name := "inFirst", desc := "(I)I" } : Jvm.MethodName)) ∈ lw_all := lw_g (lw_at lw_m9 130 rfl) rfl
theorem q2143 : (Jvm.Cond.code ({ cls := "MasterPricesModel", name := "inFirst", desc := "(I)I" } : Jvm.MethodName) prog_23_method_52_code (2 : Nat) (Option.some Jvm.ClassFile.FieldType.int)) ∈ lw_all := lw_g (lw_at lw_m9 131 rfl) rfl
theorem q2145 : (Jvm.Cond.instanceMethod ({ cls := "MasterPricesModel", name := "masterOf", desc := "(II)I" } : Jvm.MethodName)) ∈ lw_all := lw_g (lw_at lw_m9 133 rfl) rfl
theorem q2146 : (Jvm.Cond.selects "MasterPricesModel" ({ cls := "MasterPricesModel", name := "masterOf", desc := "(II)I" } : Jvm.MethodName) ({ cls := "MasterPricesModel", name := "masterOf", desc := "(II)I" } : Jvm.MethodName)) ∈ lw_all := lw_g (lw_at lw_m9 134 rfl) rfl
theorem q2147 : (Jvm.Cond.code ({ cls := "MasterPricesModel", name := "masterOf", desc := "(II)I" } : Jvm.MethodName) prog_23_method_55_code (3 : Nat) (Option.some Jvm.ClassFile.FieldType.int)) ∈ lw_all := lw_g (lw_at lw_m9 135 rfl) rfl
theorem q2148 : (Jvm.Cond.methodLink "MasterPricesModel" (196 : Nat) ({ cls := "MasterPricesModel", name := "likedBy", desc := "(I)I" } : Jvm.MethodName)) ∈ lw_all := lw_g (lw_at lw_m9 136 rfl) rfl
theorem q2149 : (Jvm.Cond.privateMethod ({ cls := "MasterPricesModel", name := "likedBy", desc := "(I)I" } : Jvm.MethodName)) ∈ lw_tbl := lw_at lw_m9 137 rfl
theorem q2150 : (Jvm.Cond.instanceMethod ({ cls := "MasterPricesModel", name := "likedBy", desc := "(I)I" } : Jvm.MethodName)) ∈ lw_all := lw_g (lw_at lw_m9 138 rfl) rfl
theorem q2151 : (Jvm.Cond.code ({ cls := "MasterPricesModel", name := "likedBy", desc := "(I)I" } : Jvm.MethodName) prog_23_method_54_code (4 : Nat) (Option.some Jvm.ClassFile.FieldType.int)) ∈ lw_all := lw_g (lw_at lw_m9 139 rfl) rfl
theorem q2153 : (Jvm.Cond.instanceMethod ({ cls := "MasterPricesModel", name := "served", desc := "(II)I" } : Jvm.MethodName)) ∈ lw_all := lw_g (lw_at lw_m9 141 rfl) rfl
theorem q2154 : (Jvm.Cond.selects "MasterPricesModel" ({ cls := "MasterPricesModel", name := "served", desc := "(II)I" } : Jvm.MethodName) ({ cls := "MasterPricesModel", name := "served", desc := "(II)I" } : Jvm.MethodName)) ∈ lw_all := lw_g (lw_at lw_m9 142 rfl) rfl
theorem q2155 : (Jvm.Cond.code ({ cls := "MasterPricesModel", name := "served", desc := "(II)I" } : Jvm.MethodName) prog_23_method_56_code (3 : Nat) (Option.some Jvm.ClassFile.FieldType.int)) ∈ lw_all := lw_g (lw_at lw_m9 143 rfl) rfl
theorem q2157 : (Jvm.Cond.instanceMethod ({ cls := "MasterPricesModel", name := "least", desc := "()I" } : Jvm.MethodName)) ∈ lw_all := lw_g (lw_at lw_m9 145 rfl) rfl
theorem q2158 : (Jvm.Cond.selects "MasterPricesModel" ({ cls := "MasterPricesModel", name := "least", desc := "()I" } : Jvm.MethodName) ({ cls := "MasterPricesModel", name := "least", desc := "()I" } : Jvm.MethodName)) ∈ lw_all := lw_g (lw_at lw_m9 146 rfl) rfl
theorem q2159 : (Jvm.Cond.code ({ cls := "MasterPricesModel", name := "least", desc := "()I" } : Jvm.MethodName) prog_23_method_57_code (1 : Nat) (Option.some Jvm.ClassFile.FieldType.int)) ∈ lw_all := lw_g (lw_at lw_m9 147 rfl) rfl
theorem q2161 : (Jvm.Cond.instanceMethod ({ cls := "MasterPricesModel", name := "leastAgain", desc := "()I" } : Jvm.MethodName)) ∈ lw_all := lw_g (lw_at lw_m9 149 rfl) rfl
theorem q2162 : (Jvm.Cond.selects "MasterPricesModel" ({ cls := "MasterPricesModel", name := "leastAgain", desc := "()I" } : Jvm.MethodName) ({ cls := "MasterPricesModel", name := "leastAgain", desc := "()I" } : Jvm.MethodName)) ∈ lw_all := lw_g (lw_at lw_m9 150 rfl) rfl
theorem q2163 : (Jvm.Cond.code ({ cls := "MasterPricesModel", name := "leastAgain", desc := "()I" } : Jvm.MethodName) prog_23_method_58_code (1 : Nat) (Option.some Jvm.ClassFile.FieldType.int)) ∈ lw_all := lw_g (lw_at lw_m9 151 rfl) rfl
theorem q2164 : (Jvm.Cond.methodLink "MasterPricesModel" (199 : Nat) ({ cls := "MasterPricesModel", name := "least", desc := "()I" } : Jvm.MethodName)) ∈ lw_all := lw_g (lw_at lw_m9 152 rfl) rfl
theorem q2166 : (Jvm.Cond.instanceMethod ({ cls := "MasterPricesModel", name := "with", desc := "(II)I" } : Jvm.MethodName)) ∈ lw_all := lw_g (lw_at lw_m9 154 rfl) rfl
theorem q2167 : (Jvm.Cond.selects "MasterPricesModel" ({ cls := "MasterPricesModel", name := "with", desc := "(II)I" } : Jvm.MethodName) ({ cls := "MasterPricesModel", name := "with", desc := "(II)I" } : Jvm.MethodName)) ∈ lw_all := lw_g (lw_at lw_m9 155 rfl) rfl
theorem q2168 : (Jvm.Cond.code ({ cls := "MasterPricesModel", name := "with", desc := "(II)I" } : Jvm.MethodName) prog_23_method_59_code (3 : Nat) (Option.some Jvm.ClassFile.FieldType.int)) ∈ lw_all := lw_g (lw_at lw_m9 156 rfl) rfl
theorem q2170 : (Jvm.Cond.instanceMethod ({ cls := "MasterPricesModel", name := "isNeeded", desc := "(II)Z" } : Jvm.MethodName)) ∈ lw_all := lw_g (lw_at lw_m9 158 rfl) rfl
theorem q2171 : (Jvm.Cond.selects "MasterPricesModel" ({ cls := "MasterPricesModel", name := "isNeeded", desc := "(II)Z" } : Jvm.MethodName) ({ cls := "MasterPricesModel", name := "isNeeded", desc := "(II)Z" } : Jvm.MethodName)) ∈ lw_all := lw_g (lw_at lw_m9 159 rfl) rfl
theorem q2172 : (Jvm.Cond.code ({ cls := "MasterPricesModel", name := "isNeeded", desc := "(II)Z" } : Jvm.MethodName) prog_23_method_60_code (5 : Nat) (Option.some Jvm.ClassFile.FieldType.boolean)) ∈ lw_all := lw_g (lw_at lw_m9 160 rfl) rfl
theorem q2174 : (Jvm.Cond.instanceMethod ({ cls := "MasterPricesModel", name := "most", desc := "()I" } : Jvm.MethodName)) ∈ lw_all := lw_g (lw_at lw_m9 162 rfl) rfl
theorem q2175 : (Jvm.Cond.selects "MasterPricesModel" ({ cls := "MasterPricesModel", name := "most", desc := "()I" } : Jvm.MethodName) ({ cls := "MasterPricesModel", name := "most", desc := "()I" } : Jvm.MethodName)) ∈ lw_all := lw_g (lw_at lw_m9 163 rfl) rfl
theorem q2176 : (Jvm.Cond.code ({ cls := "MasterPricesModel", name := "most", desc := "()I" } : Jvm.MethodName) prog_23_method_61_code (1 : Nat) (Option.some Jvm.ClassFile.FieldType.int)) ∈ lw_all := lw_g (lw_at lw_m9 164 rfl) rfl
theorem q2178 : (Jvm.Cond.instanceMethod ({ cls := "MasterPricesModel", name := "wouldBid", desc := "()I" } : Jvm.MethodName)) ∈ lw_all := lw_g (lw_at lw_m9 166 rfl) rfl
theorem q2179 : (Jvm.Cond.selects "MasterPricesModel" ({ cls := "MasterPricesModel", name := "wouldBid", desc := "()I" } : Jvm.MethodName) ({ cls := "MasterPricesModel", name := "wouldBid", desc := "()I" } : Jvm.MethodName)) ∈ lw_all := lw_g (lw_at lw_m9 167 rfl) rfl
theorem q2180 : (Jvm.Cond.code ({ cls := "MasterPricesModel", name := "wouldBid", desc := "()I" } : Jvm.MethodName) prog_23_method_62_code (5 : Nat) (Option.some Jvm.ClassFile.FieldType.int)) ∈ lw_all := lw_g (lw_at lw_m9 168 rfl) rfl
theorem q2182 : (Jvm.Cond.instanceMethod ({ cls := "MasterPricesModel", name := "chain", desc := "(I)I" } : Jvm.MethodName)) ∈ lw_all := lw_g (lw_at lw_m9 170 rfl) rfl
theorem q2183 : (Jvm.Cond.selects "MasterPricesModel" ({ cls := "MasterPricesModel", name := "chain", desc := "(I)I" } : Jvm.MethodName) ({ cls := "MasterPricesModel", name := "chain", desc := "(I)I" } : Jvm.MethodName)) ∈ lw_all := lw_g (lw_at lw_m9 171 rfl) rfl
theorem q2184 : (Jvm.Cond.code ({ cls := "MasterPricesModel", name := "chain", desc := "(I)I" } : Jvm.MethodName) prog_23_method_63_code (6 : Nat) (Option.some Jvm.ClassFile.FieldType.int)) ∈ lw_all := lw_g (lw_at lw_m9 172 rfl) rfl
theorem q2186 : (Jvm.Cond.instanceMethod ({ cls := "MasterPricesModel", name := "ranked", desc := "(II)I" } : Jvm.MethodName)) ∈ lw_all := lw_g (lw_at lw_m9 174 rfl) rfl
theorem q2187 : (Jvm.Cond.selects "MasterPricesModel" ({ cls := "MasterPricesModel", name := "ranked", desc := "(II)I" } : Jvm.MethodName) ({ cls := "MasterPricesModel", name := "ranked", desc := "(II)I" } : Jvm.MethodName)) ∈ lw_all := lw_g (lw_at lw_m9 175 rfl) rfl
theorem q2188 : (Jvm.Cond.code ({ cls := "MasterPricesModel", name := "ranked", desc := "(II)I" } : Jvm.MethodName) prog_23_method_65_code (6 : Nat) (Option.some Jvm.ClassFile.FieldType.int)) ∈ lw_all := lw_g (lw_at lw_m9 176 rfl) rfl
theorem q2189 : (Jvm.Cond.methodLink "MasterPricesModel" (203 : Nat) ({ cls := "MasterPricesModel", name := "rankBy", desc := "(II)I" } : Jvm.MethodName)) ∈ lw_all := lw_g (lw_at lw_m9 177 rfl) rfl
theorem q2190 : (Jvm.Cond.privateMethod ({ cls := "MasterPricesModel", name := "rankBy", desc := "(II)I" } : Jvm.MethodName)) ∈ lw_tbl := lw_at lw_m9 178 rfl
theorem q2191 : (Jvm.Cond.instanceMethod ({ cls := "MasterPricesModel", name := "rankBy", desc := "(II)I" } : Jvm.MethodName)) ∈ lw_all := lw_g (lw_at lw_m9 179 rfl) rfl
theorem q2192 : (Jvm.Cond.code ({ cls := "MasterPricesModel", name := "rankBy", desc := "(II)I" } : Jvm.MethodName) prog_23_method_64_code (4 : Nat) (Option.some Jvm.ClassFile.FieldType.int)) ∈ lw_all := lw_g (lw_at lw_m9 180 rfl) rfl
theorem q2193 : (Jvm.Cond.constant "MasterPricesModel" (202 : Nat) (-1000000 : Int32)) ∈ lw_all := lw_g (lw_at lw_m9 181 rfl) rfl
theorem q2195 : (Jvm.Cond.instanceMethod ({ cls := "MasterPricesModel", name := "feed", desc := "(C)I" } : Jvm.MethodName)) ∈ lw_all := lw_g (lw_at lw_m9 183 rfl) rfl
theorem q2196 : (Jvm.Cond.selects "MasterPricesModel" ({ cls := "MasterPricesModel", name := "feed", desc := "(C)I" } : Jvm.MethodName) ({ cls := "MasterPricesModel", name := "feed", desc := "(C)I" } : Jvm.MethodName)) ∈ lw_all := lw_g (lw_at lw_m9 184 rfl) rfl
theorem q2197 : (Jvm.Cond.code ({ cls := "MasterPricesModel", name := "feed", desc := "(C)I" } : Jvm.MethodName) prog_23_method_66_code (2 : Nat) (Option.some Jvm.ClassFile.FieldType.int)) ∈ lw_all := lw_g (lw_at lw_m9 185 rfl) rfl
theorem q2199 : (Jvm.Cond.instanceMethod ({ cls := "MasterPricesModel", name := "run", desc := "()I" } : Jvm.MethodName)) ∈ lw_all := lw_g (lw_at lw_m9 187 rfl) rfl
theorem q2200 : (Jvm.Cond.selects "MasterPricesModel" ({ cls := "MasterPricesModel", name := "run", desc := "()I" } : Jvm.MethodName) ({ cls := "MasterPricesModel", name := "run", desc := "()I" } : Jvm.MethodName)) ∈ lw_all := lw_g (lw_at lw_m9 188 rfl) rfl
theorem q2201 : (Jvm.Cond.code ({ cls := "MasterPricesModel", name := "run", desc := "()I" } : Jvm.MethodName) prog_23_method_75_code (2 : Nat) (Option.some Jvm.ClassFile.FieldType.int)) ∈ lw_all := lw_g (lw_at lw_m9 189 rfl) rfl
theorem q2202 : (Jvm.Cond.methodLink "MasterPricesModel" (237 : Nat) ({ cls := "MasterPricesModel", name := "parse", desc := "()V" } : Jvm.MethodName)) ∈ lw_all := lw_g (lw_at lw_m9 190 rfl) rfl
theorem q2203 : (Jvm.Cond.privateMethod ({ cls := "MasterPricesModel", name := "parse", desc := "()V" } : Jvm.MethodName)) ∈ lw_tbl := lw_at lw_m9 191 rfl
theorem q2204 : (Jvm.Cond.instanceMethod ({ cls := "MasterPricesModel", name := "parse", desc := "()V" } : Jvm.MethodName)) ∈ lw_all := lw_g (lw_at lw_m9 192 rfl) rfl
theorem q2205 : (Jvm.Cond.code ({ cls := "MasterPricesModel", name := "parse", desc := "()V" } : Jvm.MethodName) prog_23_method_73_code (1 : Nat) (Option.none : Option Jvm.ClassFile.FieldType)) ∈ lw_all := lw_g (lw_at lw_m9 193 rfl) rfl
theorem q2206 : (Jvm.Cond.methodLink "MasterPricesModel" (234 : Nat) ({ cls := "MasterPricesModel", name := "order", desc := "()V" } : Jvm.MethodName)) ∈ lw_all := lw_g (lw_at lw_m9 194 rfl) rfl
theorem q2207 : (Jvm.Cond.privateMethod ({ cls := "MasterPricesModel", name := "order", desc := "()V" } : Jvm.MethodName)) ∈ lw_tbl := lw_at lw_m9 195 rfl
theorem q2208 : (Jvm.Cond.instanceMethod ({ cls := "MasterPricesModel", name := "order", desc := "()V" } : Jvm.MethodName)) ∈ lw_all := lw_g (lw_at lw_m9 196 rfl) rfl
theorem q2209 : (Jvm.Cond.code ({ cls := "MasterPricesModel", name := "order", desc := "()V" } : Jvm.MethodName) prog_23_method_72_code (4 : Nat) (Option.none : Option Jvm.ClassFile.FieldType)) ∈ lw_all := lw_g (lw_at lw_m9 197 rfl) rfl
theorem q2210 : (Jvm.Cond.methodLink "MasterPricesModel" (215 : Nat) ({ cls := "MasterPricesModel", name := "sign", desc := "()I" } : Jvm.MethodName)) ∈ lw_all := lw_g (lw_at lw_m9 198 rfl) rfl
theorem q2211 : (Jvm.Cond.privateMethod ({ cls := "MasterPricesModel", name := "sign", desc := "()I" } : Jvm.MethodName)) ∈ lw_tbl := lw_at lw_m9 199 rfl
theorem q2212 : (Jvm.Cond.instanceMethod ({ cls := "MasterPricesModel", name := "sign", desc := "()I" } : Jvm.MethodName)) ∈ lw_all := lw_g (lw_at lw_m9 200 rfl) rfl
theorem q2213 : (Jvm.Cond.code ({ cls := "MasterPricesModel", name := "sign", desc := "()I" } : Jvm.MethodName) prog_23_method_67_code (1 : Nat) (Option.some Jvm.ClassFile.FieldType.int)) ∈ lw_all := lw_g (lw_at lw_m9 201 rfl) rfl
theorem q2214 : (Jvm.Cond.methodLink "MasterPricesModel" (228 : Nat) ({ cls := "MasterPricesModel", name := "word", desc := "(I)I" } : Jvm.MethodName)) ∈ lw_all := lw_g (lw_at lw_m9 202 rfl) rfl
theorem q2215 : (Jvm.Cond.privateMethod ({ cls := "MasterPricesModel", name := "word", desc := "(I)I" } : Jvm.MethodName)) ∈ lw_tbl := lw_at lw_m9 203 rfl
theorem q2216 : (Jvm.Cond.instanceMethod ({ cls := "MasterPricesModel", name := "word", desc := "(I)I" } : Jvm.MethodName)) ∈ lw_all := lw_g (lw_at lw_m9 204 rfl) rfl
theorem q2217 : (Jvm.Cond.code ({ cls := "MasterPricesModel", name := "word", desc := "(I)I" } : Jvm.MethodName) prog_23_method_71_code (2 : Nat) (Option.some Jvm.ClassFile.FieldType.int)) ∈ lw_all := lw_g (lw_at lw_m9 205 rfl) rfl
theorem q2218 : (Jvm.Cond.methodLink "MasterPricesModel" (221 : Nat) ({ cls := "MasterPricesModel", name := "signs", desc := "(III)V" } : Jvm.MethodName)) ∈ lw_all := lw_g (lw_at lw_m9 206 rfl) rfl
theorem q2219 : (Jvm.Cond.privateMethod ({ cls := "MasterPricesModel", name := "signs", desc := "(III)V" } : Jvm.MethodName)) ∈ lw_tbl := lw_at lw_m9 207 rfl
theorem q2220 : (Jvm.Cond.instanceMethod ({ cls := "MasterPricesModel", name := "signs", desc := "(III)V" } : Jvm.MethodName)) ∈ lw_all := lw_g (lw_at lw_m9 208 rfl) rfl
theorem q2221 : (Jvm.Cond.code ({ cls := "MasterPricesModel", name := "signs", desc := "(III)V" } : Jvm.MethodName) prog_23_method_69_code (4 : Nat) (Option.none : Option Jvm.ClassFile.FieldType)) ∈ lw_all := lw_g (lw_at lw_m9 209 rfl) rfl
theorem q2222 : (Jvm.Cond.methodLink "MasterPricesModel" (218 : Nat) ({ cls := "MasterPricesModel", name := "needs", desc := "(I)V" } : Jvm.MethodName)) ∈ lw_all := lw_g (lw_at lw_m9 210 rfl) rfl
theorem q2223 : (Jvm.Cond.privateMethod ({ cls := "MasterPricesModel", name := "needs", desc := "(I)V" } : Jvm.MethodName)) ∈ lw_tbl := lw_at lw_m9 211 rfl
theorem q2224 : (Jvm.Cond.instanceMethod ({ cls := "MasterPricesModel", name := "needs", desc := "(I)V" } : Jvm.MethodName)) ∈ lw_all := lw_g (lw_at lw_m9 212 rfl) rfl
theorem q2225 : (Jvm.Cond.code ({ cls := "MasterPricesModel", name := "needs", desc := "(I)V" } : Jvm.MethodName) prog_23_method_68_code (2 : Nat) (Option.none : Option Jvm.ClassFile.FieldType)) ∈ lw_all := lw_g (lw_at lw_m9 213 rfl) rfl
theorem q2226 : (Jvm.Cond.methodLink "MasterPricesModel" (231 : Nat) ({ cls := "MasterPricesModel", name := "number", desc := "(I)I" } : Jvm.MethodName)) ∈ lw_all := lw_g (lw_at lw_m9 214 rfl) rfl
theorem q2227 : (Jvm.Cond.privateMethod ({ cls := "MasterPricesModel", name := "number", desc := "(I)I" } : Jvm.MethodName)) ∈ lw_tbl := lw_at lw_m9 215 rfl
theorem q2228 : (Jvm.Cond.instanceMethod ({ cls := "MasterPricesModel", name := "number", desc := "(I)I" } : Jvm.MethodName)) ∈ lw_all := lw_g (lw_at lw_m9 216 rfl) rfl
theorem q2229 : (Jvm.Cond.code ({ cls := "MasterPricesModel", name := "number", desc := "(I)I" } : Jvm.MethodName) prog_23_method_70_code (4 : Nat) (Option.some Jvm.ClassFile.FieldType.int)) ∈ lw_all := lw_g (lw_at lw_m9 217 rfl) rfl
theorem q2230 : (Jvm.Cond.methodLink "MasterPricesModel" (240 : Nat) ({ cls := "MasterPricesModel", name := "does", desc := "(I)Z" } : Jvm.MethodName)) ∈ lw_all := lw_g (lw_at lw_m9 218 rfl) rfl
theorem q2231 : (Jvm.Cond.privateMethod ({ cls := "MasterPricesModel", name := "does", desc := "(I)Z" } : Jvm.MethodName)) ∈ lw_tbl := lw_at lw_m9 219 rfl
theorem q2232 : (Jvm.Cond.instanceMethod ({ cls := "MasterPricesModel", name := "does", desc := "(I)Z" } : Jvm.MethodName)) ∈ lw_all := lw_g (lw_at lw_m9 220 rfl) rfl
theorem q2233 : (Jvm.Cond.code ({ cls := "MasterPricesModel", name := "does", desc := "(I)Z" } : Jvm.MethodName) prog_23_method_74_code (4 : Nat) (Option.some Jvm.ClassFile.FieldType.boolean)) ∈ lw_all := lw_g (lw_at lw_m9 221 rfl) rfl
theorem q2235 : (Jvm.Cond.instanceMethod ({ cls := "MasterPricesModel", name := "faultPosition", desc := "()I" } : Jvm.MethodName)) ∈ lw_all := lw_g (lw_at lw_m9 223 rfl) rfl
theorem q2236 : (Jvm.Cond.selects "MasterPricesModel" ({ cls := "MasterPricesModel", name := "faultPosition", desc := "()I" } : Jvm.MethodName) ({ cls := "MasterPricesModel", name := "faultPosition", desc := "()I" } : Jvm.MethodName)) ∈ lw_all := lw_g (lw_at lw_m9 224 rfl) rfl
theorem q2237 : (Jvm.Cond.code ({ cls := "MasterPricesModel", name := "faultPosition", desc := "()I" } : Jvm.MethodName) prog_23_method_76_code (1 : Nat) (Option.some Jvm.ClassFile.FieldType.int)) ∈ lw_all := lw_g (lw_at lw_m9 225 rfl) rfl
theorem q2239 : (Jvm.Cond.instanceMethod ({ cls := "MasterPricesModel", name := "line", desc := "(I)I" } : Jvm.MethodName)) ∈ lw_all := lw_g (lw_at lw_m9 227 rfl) rfl
theorem q2240 : (Jvm.Cond.selects "MasterPricesModel" ({ cls := "MasterPricesModel", name := "line", desc := "(I)I" } : Jvm.MethodName) ({ cls := "MasterPricesModel", name := "line", desc := "(I)I" } : Jvm.MethodName)) ∈ lw_all := lw_g (lw_at lw_m9 228 rfl) rfl
theorem q2241 : (Jvm.Cond.code ({ cls := "MasterPricesModel", name := "line", desc := "(I)I" } : Jvm.MethodName) prog_23_method_79_code (3 : Nat) (Option.some Jvm.ClassFile.FieldType.int)) ∈ lw_all := lw_g (lw_at lw_m9 229 rfl) rfl
theorem q2242 : (Jvm.Cond.methodLink "MasterPricesModel" (246 : Nat) ({ cls := "MasterPricesModel", name := "writesNumber", desc := "(I)V" } : Jvm.MethodName)) ∈ lw_all := lw_g (lw_at lw_m9 230 rfl) rfl
theorem q2243 : (Jvm.Cond.privateMethod ({ cls := "MasterPricesModel", name := "writesNumber", desc := "(I)V" } : Jvm.MethodName)) ∈ lw_tbl := lw_at lw_m9 231 rfl
theorem q2244 : (Jvm.Cond.instanceMethod ({ cls := "MasterPricesModel", name := "writesNumber", desc := "(I)V" } : Jvm.MethodName)) ∈ lw_all := lw_g (lw_at lw_m9 232 rfl) rfl
theorem q2245 : (Jvm.Cond.code ({ cls := "MasterPricesModel", name := "writesNumber", desc := "(I)V" } : Jvm.MethodName) prog_23_method_78_code (2 : Nat) (Option.none : Option Jvm.ClassFile.FieldType)) ∈ lw_all := lw_g (lw_at lw_m9 233 rfl) rfl
theorem q2246 : (Jvm.Cond.methodLink "MasterPricesModel" (249 : Nat) ({ cls := "MasterPricesModel", name := "writes", desc := "(I)V" } : Jvm.MethodName)) ∈ lw_all := lw_g (lw_at lw_m9 234 rfl) rfl
theorem q2247 : (Jvm.Cond.privateMethod ({ cls := "MasterPricesModel", name := "writes", desc := "(I)V" } : Jvm.MethodName)) ∈ lw_tbl := lw_at lw_m9 235 rfl
theorem q2248 : (Jvm.Cond.instanceMethod ({ cls := "MasterPricesModel", name := "writes", desc := "(I)V" } : Jvm.MethodName)) ∈ lw_all := lw_g (lw_at lw_m9 236 rfl) rfl
theorem q2249 : (Jvm.Cond.code ({ cls := "MasterPricesModel", name := "writes", desc := "(I)V" } : Jvm.MethodName) prog_23_method_77_code (2 : Nat) (Option.none : Option Jvm.ClassFile.FieldType)) ∈ lw_all := lw_g (lw_at lw_m9 237 rfl) rfl
theorem q2251 : (Jvm.Cond.instanceMethod ({ cls := "MasterPricesModel", name := "pairing", desc := "()I" } : Jvm.MethodName)) ∈ lw_all := lw_g (lw_at lw_m9 239 rfl) rfl
theorem q2252 : (Jvm.Cond.selects "MasterPricesModel" ({ cls := "MasterPricesModel", name := "pairing", desc := "()I" } : Jvm.MethodName) ({ cls := "MasterPricesModel", name := "pairing", desc := "()I" } : Jvm.MethodName)) ∈ lw_all := lw_g (lw_at lw_m10 0 rfl) rfl
theorem q2253 : (Jvm.Cond.code ({ cls := "MasterPricesModel", name := "pairing", desc := "()I" } : Jvm.MethodName) prog_23_method_80_code (2 : Nat) (Option.some Jvm.ClassFile.FieldType.int)) ∈ lw_all := lw_g (lw_at lw_m10 1 rfl) rfl
theorem q2255 : (Jvm.Cond.instanceMethod ({ cls := "MasterPricesModel", name := "character", desc := "(I)C" } : Jvm.MethodName)) ∈ lw_all := lw_g (lw_at lw_m10 3 rfl) rfl
theorem q2256 : (Jvm.Cond.selects "MasterPricesModel" ({ cls := "MasterPricesModel", name := "character", desc := "(I)C" } : Jvm.MethodName) ({ cls := "MasterPricesModel", name := "character", desc := "(I)C" } : Jvm.MethodName)) ∈ lw_all := lw_g (lw_at lw_m10 4 rfl) rfl
theorem q2257 : (Jvm.Cond.code ({ cls := "MasterPricesModel", name := "character", desc := "(I)C" } : Jvm.MethodName) prog_23_method_81_code (2 : Nat) (Option.some Jvm.ClassFile.FieldType.char)) ∈ lw_all := lw_g (lw_at lw_m10 5 rfl) rfl
theorem q2259 : (Jvm.Cond.instanceMethod ({ cls := "MasterPricesModel", name := "meanPrice", desc := "()D" } : Jvm.MethodName)) ∈ lw_all := lw_g (lw_at lw_m10 7 rfl) rfl
theorem q2260 : (Jvm.Cond.selects "MasterPricesModel" ({ cls := "MasterPricesModel", name := "meanPrice", desc := "()D" } : Jvm.MethodName) ({ cls := "MasterPricesModel", name := "meanPrice", desc := "()D" } : Jvm.MethodName)) ∈ lw_all := lw_g (lw_at lw_m10 8 rfl) rfl
theorem q2261 : (Jvm.Cond.code ({ cls := "MasterPricesModel", name := "meanPrice", desc := "()D" } : Jvm.MethodName) prog_23_method_82_code (4 : Nat) (Option.some Jvm.ClassFile.FieldType.double)) ∈ lw_all := lw_g (lw_at lw_m10 9 rfl) rfl
theorem q2263 : (Jvm.Cond.instanceMethod ({ cls := "MasterPricesModel", name := "likedShare", desc := "()F" } : Jvm.MethodName)) ∈ lw_all := lw_g (lw_at lw_m10 11 rfl) rfl
theorem q2264 : (Jvm.Cond.selects "MasterPricesModel" ({ cls := "MasterPricesModel", name := "likedShare", desc := "()F" } : Jvm.MethodName) ({ cls := "MasterPricesModel", name := "likedShare", desc := "()F" } : Jvm.MethodName)) ∈ lw_all := lw_g (lw_at lw_m10 12 rfl) rfl
theorem q2265 : (Jvm.Cond.code ({ cls := "MasterPricesModel", name := "likedShare", desc := "()F" } : Jvm.MethodName) prog_23_method_83_code (4 : Nat) (Option.some Jvm.ClassFile.FieldType.float)) ∈ lw_all := lw_g (lw_at lw_m10 13 rfl) rfl
theorem q2267 : (Jvm.Cond.instanceMethod ({ cls := "MasterPricesModel", name := "account", desc := "(I)I" } : Jvm.MethodName)) ∈ lw_all := lw_g (lw_at lw_m10 15 rfl) rfl
theorem q2268 : (Jvm.Cond.selects "MasterPricesModel" ({ cls := "MasterPricesModel", name := "account", desc := "(I)I" } : Jvm.MethodName) ({ cls := "MasterPricesModel", name := "account", desc := "(I)I" } : Jvm.MethodName)) ∈ lw_all := lw_g (lw_at lw_m10 16 rfl) rfl
theorem q2269 : (Jvm.Cond.code ({ cls := "MasterPricesModel", name := "account", desc := "(I)I" } : Jvm.MethodName) prog_23_method_86_code (2 : Nat) (Option.some Jvm.ClassFile.FieldType.int)) ∈ lw_all := lw_g (lw_at lw_m10 17 rfl) rfl
theorem q2270 : (Jvm.Cond.methodLink "MasterPricesModel" (252 : Nat) ({ cls := "MasterPricesModel", name := "pairs", desc := "()I" } : Jvm.MethodName)) ∈ lw_all := lw_g (lw_at lw_m10 18 rfl) rfl
theorem q2271 : (Jvm.Cond.privateMethod ({ cls := "MasterPricesModel", name := "pairs", desc := "()I" } : Jvm.MethodName)) ∈ lw_tbl := lw_at lw_m10 19 rfl
theorem q2272 : (Jvm.Cond.instanceMethod ({ cls := "MasterPricesModel", name := "pairs", desc := "()I" } : Jvm.MethodName)) ∈ lw_all := lw_g (lw_at lw_m10 20 rfl) rfl
theorem q2273 : (Jvm.Cond.code ({ cls := "MasterPricesModel", name := "pairs", desc := "()I" } : Jvm.MethodName) prog_23_method_84_code (3 : Nat) (Option.some Jvm.ClassFile.FieldType.int)) ∈ lw_all := lw_g (lw_at lw_m10 21 rfl) rfl
theorem q2274 : (Jvm.Cond.methodLink "MasterPricesModel" (255 : Nat) ({ cls := "MasterPricesModel", name := "barred", desc := "()I" } : Jvm.MethodName)) ∈ lw_all := lw_g (lw_at lw_m10 22 rfl) rfl
theorem q2275 : (Jvm.Cond.privateMethod ({ cls := "MasterPricesModel", name := "barred", desc := "()I" } : Jvm.MethodName)) ∈ lw_tbl := lw_at lw_m10 23 rfl
theorem q2276 : (Jvm.Cond.instanceMethod ({ cls := "MasterPricesModel", name := "barred", desc := "()I" } : Jvm.MethodName)) ∈ lw_all := lw_g (lw_at lw_m10 24 rfl) rfl
theorem q2277 : (Jvm.Cond.code ({ cls := "MasterPricesModel", name := "barred", desc := "()I" } : Jvm.MethodName) prog_23_method_85_code (3 : Nat) (Option.some Jvm.ClassFile.FieldType.int)) ∈ lw_all := lw_g (lw_at lw_m10 25 rfl) rfl
theorem q2279 : (Jvm.Cond.instanceMethod ({ cls := "MasterPricesModel", name := "isBalanced", desc := "()Z" } : Jvm.MethodName)) ∈ lw_all := lw_g (lw_at lw_m10 27 rfl) rfl
theorem q2280 : (Jvm.Cond.selects "MasterPricesModel" ({ cls := "MasterPricesModel", name := "isBalanced", desc := "()Z" } : Jvm.MethodName) ({ cls := "MasterPricesModel", name := "isBalanced", desc := "()Z" } : Jvm.MethodName)) ∈ lw_all := lw_g (lw_at lw_m10 28 rfl) rfl
theorem q2281 : (Jvm.Cond.code ({ cls := "MasterPricesModel", name := "isBalanced", desc := "()Z" } : Jvm.MethodName) prog_23_method_87_code (1 : Nat) (Option.some Jvm.ClassFile.FieldType.boolean)) ∈ lw_all := lw_g (lw_at lw_m10 29 rfl) rfl
theorem q2283 : (Jvm.Cond.instanceMethod ({ cls := "MasterPricesModel", name := "undo", desc := "()I" } : Jvm.MethodName)) ∈ lw_all := lw_g (lw_at lw_m10 31 rfl) rfl
theorem q2284 : (Jvm.Cond.selects "MasterPricesModel" ({ cls := "MasterPricesModel", name := "undo", desc := "()I" } : Jvm.MethodName) ({ cls := "MasterPricesModel", name := "undo", desc := "()I" } : Jvm.MethodName)) ∈ lw_all := lw_g (lw_at lw_m10 32 rfl) rfl
theorem q2285 : (Jvm.Cond.code ({ cls := "MasterPricesModel", name := "undo", desc := "()I" } : Jvm.MethodName) prog_23_method_88_code (1 : Nat) (Option.some Jvm.ClassFile.FieldType.int)) ∈ lw_all := lw_g (lw_at lw_m10 33 rfl) rfl
theorem q2287 : (Jvm.Cond.instanceMethod ({ cls := "MasterPricesModel", name := "save", desc := "()I" } : Jvm.MethodName)) ∈ lw_all := lw_g (lw_at lw_m10 35 rfl) rfl
theorem q2288 : (Jvm.Cond.selects "MasterPricesModel" ({ cls := "MasterPricesModel", name := "save", desc := "()I" } : Jvm.MethodName) ({ cls := "MasterPricesModel", name := "save", desc := "()I" } : Jvm.MethodName)) ∈ lw_all := lw_g (lw_at lw_m10 36 rfl) rfl
theorem q2289 : (Jvm.Cond.code ({ cls := "MasterPricesModel", name := "save", desc := "()I" } : Jvm.MethodName) prog_23_method_89_code (1 : Nat) (Option.some Jvm.ClassFile.FieldType.int)) ∈ lw_all := lw_g (lw_at lw_m10 37 rfl) rfl
theorem q2291 : (Jvm.Cond.instanceMethod ({ cls := "MasterPricesModel", name := "restore", desc := "()I" } : Jvm.MethodName)) ∈ lw_all := lw_g (lw_at lw_m10 39 rfl) rfl
theorem q2292 : (Jvm.Cond.selects "MasterPricesModel" ({ cls := "MasterPricesModel", name := "restore", desc := "()I" } : Jvm.MethodName) ({ cls := "MasterPricesModel", name := "restore", desc := "()I" } : Jvm.MethodName)) ∈ lw_all := lw_g (lw_at lw_m10 40 rfl) rfl
theorem q2293 : (Jvm.Cond.code ({ cls := "MasterPricesModel", name := "restore", desc := "()I" } : Jvm.MethodName) prog_23_method_90_code (1 : Nat) (Option.some Jvm.ClassFile.FieldType.int)) ∈ lw_all := lw_g (lw_at lw_m10 41 rfl) rfl
theorem q2328 : (Jvm.Cond.castable "MasterPricesModel" "java/lang/Object") ∈ lw_tbl := lw_at lw_m10 76 rfl
